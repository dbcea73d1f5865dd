set_option maxRecDepth 100000
/-! what a change makes of a book -/
def m_a4 (ns : List Int32) (kd one two tr : Nat) : Prop := ns = [nI kd, nI one, nI two, nI tr] ∧ (97 ≤ kd ∧ kd ≤ 102) ∧ one ≤ 9 ∧ two ≤ 9 ∧ 1 ≤ tr ∧ tr ≤ 100
def m_no3 (C : CC) (kd one two : Nat) : Prop := ∀ y : CF, y ∈ C.2.1 → ¬ (nI (y.2.1 1) = nI kd ∧ nI (y.2.1 2) = nI one ∧ nI (y.2.1 3) = nI two)
def m_is3 (C : CC) (kd one two i : Nat) (y : CF) : Prop := C.2.1[i]? = some y ∧ (nI (y.2.1 1) = nI kd ∧ nI (y.2.1 2) = nI one ∧ nI (y.2.1 3) = nI two) ∧ ∀ (j : Nat) (z : CF), j < i → C.2.1[j]? = some z → ¬ (nI (z.2.1 1) = nI kd ∧ nI (z.2.1 2) = nI one ∧ nI (z.2.1 3) = nI two)
def m_tr (tr : Nat) : UInt32 := FP.fdiv (FP.i2f (nI tr)) 1120403456
def m_ok (C : CC) (sg : Nat) (ns : List Int32) (ro : Option (Nat × (Nat → Nat))) (C' : CC) (v : Int32) : Prop :=
  (sg = 43 ∧ ∃ kd one two tr, m_a4 ns kd one two tr ∧ ((∃ i y, m_is3 C kd one two i y ∧ y.2.1 4 = 0 ∧ C' = (C.1, C.2.1.set i (y.1, c_st y.2.1 4 1, y.2.2.1, y.2.2.2), C.2.2) ∧ v = nI (y.2.1 0)) ∨ (m_no3 C kd one two ∧ C.2.1.length < 20 ∧ ∃ a, C' = c_tell C a kd one two (m_tr tr) ∧ v = nI (C.2.2 0)))) ∨
  (sg = 45 ∧ ∃ n i y D, ns = [n] ∧ o_fnd C n i y ∧ y.2.1 4 = 1 ∧ c_dep (c_untold C i) D ∧ C' = (c_los D (c_untold C i)).1 ∧ v = nI (c_los D (c_untold C i)).2) ∨
  (sg = 58 ∧ ∃ y, ro = some y ∧ C.1.length < 8 ∧ C' = (C.1 ++ [y], C.2.1, C.2.2) ∧ v = nI C.1.length) ∨
  (sg = 102 ∧ ∃ most c, ns = [nI most] ∧ most ≤ 30 ∧ c_runs most C C' c ∧ c ≤ most ∧ v = nI c) ∨
  (sg = 120 ∧ ∃ i x1 D, ns = [nI i] ∧ C.1[i]? = some x1 ∧ c_dep (c_dropR C i x1.1) D ∧ C' = (c_los D (c_dropR C i x1.1)).1 ∧ v = nI (c_los D (c_dropR C i x1.1)).2) ∨
  (sg = 33 ∧ ∃ made, c_step C C' made ∧ v = nO made)
def m_ref (C : CC) (sg : Nat) (ns : List Int32) (ro : Option (Nat × (Nat → Nat))) (r d : Int32) : Prop :=
  (sg = 43 ∧ ∃ kd one two tr, m_a4 ns kd one two tr ∧ ((∃ i y, m_is3 C kd one two i y ∧ y.2.1 4 = 1 ∧ r = 2 ∧ d = nI (y.2.1 0)) ∨ (m_no3 C kd one two ∧ C.2.1.length = 20 ∧ r = 1 ∧ d = 20))) ∨
  (sg = 45 ∧ ∃ n, ns = [n] ∧ ((o_no C n ∧ r = 3 ∧ d = n) ∨ ∃ i y, o_fnd C n i y ∧ y.2.1 4 = 0 ∧ r = 4 ∧ d = nI y.2.2.1.length)) ∨
  (sg = 58 ∧ ∃ y, ro = some y ∧ C.1.length = 8 ∧ r = 1 ∧ d = 8) ∨
  (sg = 120 ∧ ∃ n, ns = [n] ∧ (∀ i, i < C.1.length → n ≠ nI i) ∧ r = 3 ∧ d = n) ∨
  (sg = 33 ∧ c_quiet C ∧ r = 5 ∧ d = nI (C.2.2 2))
def m_ill (sg : Nat) (ns : List Int32) : Prop := (sg = 43 ∧ ¬ ((97 ≤ (ns.getD 0 0).toInt ∧ (ns.getD 0 0).toInt ≤ 102) ∧ (0 ≤ (ns.getD 1 0).toInt ∧ (ns.getD 1 0).toInt ≤ 9) ∧ (0 ≤ (ns.getD 2 0).toInt ∧ (ns.getD 2 0).toInt ≤ 9) ∧ (1 ≤ (ns.getD 3 0).toInt ∧ (ns.getD 3 0).toInt ≤ 100))) ∨ (sg = 102 ∧ ¬ (0 ≤ (ns.getD 0 0).toInt ∧ (ns.getD 0 0).toInt ≤ 30))
def m_wf (sg : Nat) (ns : List Int32) (ro : Option (Nat × (Nat → Nat))) : Prop := (sg = 43 ∧ ∃ k a b c, k < 65536 ∧ ns = [nI k, a, b, c]) ∨ (sg = 45 ∧ ∃ a, ns = [a]) ∨ (sg = 58 ∧ ∃ y, ro = some y ∧ c_rw y.2) ∨ (sg = 102 ∧ ∃ a, ns = [a]) ∨ (sg = 120 ∧ ∃ a, ns = [a]) ∨ sg = 33
section MAKE
variable {G : GG} {h h' : HH} {ρ ρ' : RO} {k b w p t : Nat} {C : CC} {n : Nat}
theorem t_c65 {c : Nat} (hc : c < 65536) : (((Int32.toUInt32 (nI c)) % 65536).toInt32) = nI c := by
  apply Int32.toBitVec_inj.mp
  apply BitVec.eq_of_toNat_eq
  show ((Int32.toUInt32 (nI c)) % 65536).toNat = (nI c).toBitVec.toNat
  rw [UInt32.toNat_mod]
  have h1 : (Int32.toUInt32 (nI c)).toNat = c := by
    show (nI c).toBitVec.toNat = c
    unfold nI
    rw [Int32.toBitVec_ofNat', BitVec.toNat_ofNat, Nat.mod_eq_of_lt (by omega)]
  have h2 : (nI c).toBitVec.toNat = c := h1
  rw [h1, h2]
  exact Nat.mod_eq_of_lt hc
theorem sp_X5_make {a sg mc ms : Nat} {ns : List Int32} {ro : Option (Nat × (Nat → Nat))} {Q : Int32 → HH → Prop} {X : String → Nat → HH → Prop} (hB : q_B G h ρ k b w p t C) (hk : 10 ≤ k) (hJ : c_J C n) (hn : n + 30 < 3900) (hch : q_ch G h ρ a sg ns ro) (hwf : m_wf sg ns ro)
    (hm : 2700 + 40 * n ≤ mc) (hs : 10000 + 160 * n ≤ ms)
    (hQ : ∀ h' ρ' C' v, m_ok C sg ns ro C' v → q_dm h h' → q_ex h ρ ρ' → q_sp (fun c => (ρ c).1 = k) h h' → q_B G h' ρ' k b w p t C' → Q v h')
    (hXr : ∀ q h' r d, m_ref C sg ns ro r d → h q = none → q_dm h h' → q_sp (fun c => (ρ c).1 = k) h h' → q_B G h' ρ k b w p t C → q_rf h' q r d → X "MatchmakerRules$Refused" q h')
    (hXi : ∀ q, m_ill sg ns → h q = none → X "java/lang/IllegalArgumentException" q h) : wp_X5_make G mc ms h a (some b) Q X := by
  obtain ⟨-, arr, f, -, ha, harr, hf, hrl⟩ := hch
  have hl := hJ.ok.2.2.2.1
  have hr := hJ.2.2.2.1
  obtain ⟨lr, lf, g1, -⟩ := hB.1.len
  have isb : ∀ {P : Prop}, P → w_is h b 2 P := fun hp => w_is_of g1 hp
  have up : ∀ {h' : HH}, q_sp q_no h h' → q_dm h h' ∧ q_sp (fun c => (ρ c).1 = k) h h' ∧ q_B G h' ρ k b w p t C := fun hs => ⟨fun c e hc => ⟨e, hs c e hc q_no.not⟩, hs.mono (fun _ z => z.elim), hB.no hs⟩
  have upn : ∀ {h' : HH} {q : Nat}, h q = none → (∀ c, c ≠ q → h' c = h c) → q_sp q_no h h' := fun hq hh => q_sp.nw hq hh
  have ld : ∀ {j : Nat} {v0 : Int32} {P : Int32 → Prop}, j < ns.length → ns.length < 2 ^ 31 → ns.getD j 0 = v0 → P v0 → w_ild G h arr (nI j) P := fun {j v0 P} hj hl2 e hp => by
    refine w_ild_of harr hj hl2 ?_
    rw [hf j hj, e]
    exact hp
  have hn1 : C.2.2 0 < 100000 := by have := hJ.1.2.2.2.2.1; omega
  have hnum : ∀ y ∈ C.2.1, y.2.1 0 < C.2.2 0 := fun y hy => (hJ.fw y hy).2.2.2.2.2
  unfold wp_X5_make
  refine w_geti_of ha rfl ?_
  rcases hwf with ⟨rfl, kd, v1, v2, v3, hkd, rfl⟩ | ⟨rfl, v0, rfl⟩ | ⟨rfl, y, rfl, hrw⟩ | ⟨rfl, v0, rfl⟩ | ⟨rfl, v0, rfl⟩ | rfl
  · refine br_t rfl <| w_geta_of ha rfl <| w_nn_of <| ld (j := 0) (v0 := nI kd) (Nat.le_of_ble_eq_true rfl) (Nat.le_of_ble_eq_true rfl) rfl <| w_geta_of ha rfl <| w_nn_of <| ld (j := 1) (v0 := v1) (Nat.le_of_ble_eq_true rfl) (Nat.le_of_ble_eq_true rfl) rfl <| w_geta_of ha rfl <| w_nn_of <| ld (j := 2) (v0 := v2) (Nat.le_of_ble_eq_true rfl) (Nat.le_of_ble_eq_true rfl) rfl <| w_geta_of ha rfl <| w_nn_of <| ld (j := 3) (v0 := v3) (Nat.le_of_ble_eq_true rfl) (Nat.le_of_ble_eq_true rfl) rfl <| w_nn_of ⟨20, 120, by omega, by omega, isb ?_⟩
    rw [t_c65 hkd]
    refine sp_X2_tell hB hk hJ.ok hJ.t4 hnum hn1 (by omega) (by omega) (fun hno q hq => hXi q (Or.inl ⟨rfl, hno⟩) hq) ?_ ?_ ?_ ?_
    · intro kd' one two tr i y h' ρ' e1 e2 e3 e4 b1 b2 b3 b4 b5 b6 hy m1 m2 m3 hno y4 a1 a2 a3 a4
      exact hQ h' ρ' _ _ (Or.inl ⟨rfl, kd', one, two, tr, ⟨by rw [e1, e2, e3, e4], ⟨b1, b2⟩, b3, b4, b5, b6⟩, Or.inl ⟨i, y, ⟨hy, ⟨m1, m2, m3⟩, hno⟩, y4, rfl, rfl⟩⟩) a1 a2 a3 a4
    · intro kd' one two tr i y q h' e1 e2 e3 e4 b1 b2 b3 b4 b5 b6 hy m1 m2 m3 hno y4 hq hs' hrf
      obtain ⟨u1, u2, u3⟩ := up hs'
      exact hXr q h' _ _ (Or.inl ⟨rfl, kd', one, two, tr, ⟨by rw [e1, e2, e3, e4], ⟨b1, b2⟩, b3, b4, b5, b6⟩, Or.inl ⟨i, y, ⟨hy, ⟨m1, m2, m3⟩, hno⟩, y4, rfl, rfl⟩⟩) hq u1 u2 u3 hrf
    · intro kd' one two tr q h' e1 e2 e3 e4 b1 b2 b3 b4 b5 b6 hno hl20 hq hs' hrf
      obtain ⟨u1, u2, u3⟩ := up hs'
      exact hXr q h' _ _ (Or.inl ⟨rfl, kd', one, two, tr, ⟨by rw [e1, e2, e3, e4], ⟨b1, b2⟩, b3, b4, b5, b6⟩, Or.inr ⟨hno, hl20, rfl, rfl⟩⟩) hq u1 u2 u3 hrf
    · intro kd' one two tr q h' ρ' e1 e2 e3 e4 b1 b2 b3 b4 b5 b6 hno hl20 hq a1 a2 a3 a4
      exact hQ h' ρ' _ _ (Or.inl ⟨rfl, kd', one, two, tr, ⟨by rw [e1, e2, e3, e4], ⟨b1, b2⟩, b3, b4, b5, b6⟩, Or.inr ⟨hno, hl20, q, rfl, rfl⟩⟩) a1 a2 a3 a4
  · refine br_f (by decide) <| br_t rfl <| w_geta_of ha rfl <| w_nn_of <| ld (j := 0) (v0 := v0) (Nat.le_of_ble_eq_true rfl) (Nat.le_of_ble_eq_true rfl) rfl <| w_nn_of ⟨2400 + 40 * n, 8000 + 160 * n, by omega, by omega, isb ?_⟩
    refine sp_X2_untell hB hk hJ.ok hJ.cl hJ.t4 (by omega) (by omega) ?_ ?_ ?_
    · intro hno q h' hq hs' hrf
      obtain ⟨u1, u2, u3⟩ := up hs'
      exact hXr q h' _ _ (Or.inr (Or.inl ⟨rfl, v0, rfl, Or.inl ⟨hno, rfl, rfl⟩⟩)) hq u1 u2 u3 hrf
    · intro i y q h' hy e y4 hq hs' hrf
      obtain ⟨u1, u2, u3⟩ := up hs'
      exact hXr q h' _ _ (Or.inr (Or.inl ⟨rfl, v0, rfl, Or.inr ⟨i, y, ⟨hy, e⟩, y4, rfl, rfl⟩⟩)) hq u1 u2 u3 hrf
    · intro i y h' ρ' D hy e y4 a1 a2 a3 hd a4
      have eu : (C.1, C.2.1.set i (y.1, c_st y.2.1 4 0, y.2.2.1, y.2.2.2), C.2.2) = c_untold C i := by
        unfold c_untold
        rw [hy]
      rw [eu] at hd a4 ⊢
      exact hQ h' ρ' _ _ (Or.inr (Or.inl ⟨rfl, v0, i, y, D, rfl, ⟨hy, e⟩, y4, hd, rfl, rfl⟩)) a1 a2 a3 a4
  · refine br_f (by decide) <| br_f (by decide) <| br_t rfl <| w_geta_of ha rfl <| w_nn_of ⟨3, 50, by omega, by omega, isb ?_⟩
    refine sp_X2_add hB hk hJ.ok (hrl y rfl) (by omega) (by omega) ?_ ?_
    · intro e8 q h' hq hs' hrf
      obtain ⟨u1, u2, u3⟩ := up hs'
      exact hXr q h' _ _ (Or.inr (Or.inr (Or.inl ⟨rfl, y, rfl, e8, rfl, rfl⟩))) hq u1 u2 u3 hrf
    · intro h' ρ' l8 a1 a2 a3 a4
      exact hQ h' ρ' _ _ (Or.inr (Or.inr (Or.inl ⟨rfl, y, rfl, l8, rfl, rfl⟩))) a1 a2 a3 a4
  · refine br_f (by decide) <| br_f (by decide) <| br_f (by decide) <| br_t rfl <| w_geta_of ha rfl <| w_nn_of <| ld (j := 0) (v0 := v0) (Nat.le_of_ble_eq_true rfl) (Nat.le_of_ble_eq_true rfl) rfl <| w_nn_of ⟨340, 30 * (4 * (n + 30) + 140) + 10, by omega, by omega, isb ?_⟩
    refine sp_X2_run hB hk hJ.1 (by omega) (by omega) (by omega) (fun hno q hq => hXi q (Or.inr ⟨rfl, hno⟩) hq) ?_
    intro most C' c h' ρ' e1 e2 e3 e4 e5 e6 a1 a2 a3 a4
    exact hQ h' ρ' _ _ (Or.inr (Or.inr (Or.inr (Or.inl ⟨rfl, most, c, by rw [e1], e2, e3, e4, rfl⟩)))) a1 a2 a3 a4
  · refine br_f (by decide) <| br_f (by decide) <| br_f (by decide) <| br_f (by decide) <| br_t rfl <| w_geta_of ha rfl <| w_nn_of <| ld (j := 0) (v0 := v0) (Nat.le_of_ble_eq_true rfl) (Nat.le_of_ble_eq_true rfl) rfl <| w_nn_of ⟨2400 + 40 * n, 8000 + 160 * n, by omega, by omega, isb ?_⟩
    refine sp_X2_drop hB hk hJ.ok hJ.cl hJ.t4 (by omega) (by omega) ?_ ?_
    · intro i x1 h' ρ' D e1 e2 a1 a2 a3 hd a4
      exact hQ h' ρ' _ _ (Or.inr (Or.inr (Or.inr (Or.inr (Or.inl ⟨rfl, i, x1, D, by rw [e1], e2, hd, rfl, rfl⟩))))) a1 a2 a3 a4
    · intro hno q h' hq hh hrf
      obtain ⟨u1, u2, u3⟩ := up (upn hq hh)
      exact hXr q h' _ _ (Or.inr (Or.inr (Or.inr (Or.inl ⟨rfl, v0, rfl, hno, rfl, rfl⟩)))) hq u1 u2 u3 hrf
  · refine br_f (by decide) <| br_f (by decide) <| br_f (by decide) <| br_f (by decide) <| br_f (by decide) <| w_nn_of ⟨20, 4 * n + 150, by omega, by omega, isb ?_⟩
    refine sp_X2_fireFirst hB hk hJ.1 (by omega) (by omega) (by omega) ?_ ?_
    · intro hq0 q h' hq a1 a2 a3 hrf
      exact hXr q h' _ _ (Or.inr (Or.inr (Or.inr (Or.inr ⟨rfl, hq0, rfl, rfl⟩)))) hq a1 a2 a3 hrf
    · intro h' ρ' C' made hst hI' e1 a1 a2 a3 a4
      exact hQ h' ρ' _ _ (Or.inr (Or.inr (Or.inr (Or.inr (Or.inr ⟨rfl, made, hst, rfl⟩))))) a1 a2 a3 a4
end MAKE
