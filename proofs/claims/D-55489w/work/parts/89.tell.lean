set_option maxRecDepth 100000
/-! a fact comes; to tell one, to tell it no more; to add a rule -/
/-- a trust: not negative, not above 1.0f -/
def q_tr (v : UInt32) : Prop := v ≤ 1065353216
theorem q_tr.n {v : UInt32} (h : q_tr v) : vf_n32 v := by
  unfold vf_n32
  have h1 : v.toNat ≤ 1065353216 := by
    have := UInt32.le_iff_toNat_le.mp h
    exact this
  have h2 : (v &&& 2147483647).toNat ≤ v.toNat := by
    rw [UInt32.toNat_and]
    exact Nat.and_le_left
  show v &&& 2147483647 ≤ 2139095040
  rw [UInt32.le_iff_toNat_le]
  have : (2139095040 : UInt32).toNat = 2139095040 := by decide
  omega
theorem q_tr_100 : ∀ n, 1 ≤ n → n ≤ 100 → q_tr (FP.fdiv (FP.i2f (nI n)) 1120403456) := by
  have h : (List.range 100).all (fun i => decide (FP.fdiv (FP.i2f (Int32.ofNat (i + 1))) 1120403456 ≤ 1065353216)) = true := by decide +kernel
  intro n h1 h2
  have := List.all_eq_true.mp h (n - 1) (List.mem_range.mpr (by omega))
  rw [show n - 1 + 1 = n by omega] at this
  have h3 : FP.fdiv (FP.i2f (Int32.ofNat n)) 1120403456 ≤ 1065353216 := of_decide_eq_true this
  exact h3
def c_st (F : Nat → Nat) (j v : Nat) : Nat → Nat := fun i => if i = j then v else F i
def c_newF (C : CC) (kd one two : Nat) (tr : UInt32) : Nat → Nat := fun j => match j with
  | 0 => C.2.2 0
  | 1 => kd
  | 2 => one
  | 3 => two
  | 5 => tr.toNat
  | 6 => C.2.2 2
  | _ => 0
def c_come (C : CC) (a kd one two : Nat) (tr : UInt32) : CC := (C.1, C.2.1 ++ [(a, c_newF C kd one two tr, [], [])], c_st C.2.2 0 (C.2.2 0 + 1))
section COME
variable {G : GG} {h h' : HH} {ρ ρ' : RO} {k b w p t : Nat} {C : CC}
theorem sp_X10_init {mc ms a kd : Nat} {v1 v3 v4 v6 : Int32} {v5 : UInt32} {Q : HH → Prop} (hm : 2 ≤ mc) (hs : 6 ≤ ms) (ha : h a = some (.inr (14, df_X10))) (hkd : kd < 65536)
    (hQ : ∀ h' l1 l2, h l1 = none → h l2 = none → l1 ≠ l2 → (∀ c, c ≠ a → c ≠ l1 → c ≠ l2 → h' c = h c) → h' a = some (.inr (14, [.int v1, .int (nI kd), .int v3, .int v4, .float v5, .int v6, .int 0, .ref l1, .ref l2])) → h' l1 = some (.inr (4, [.int 0, .ref (G.2.2 0), .int 0])) → h' l2 = some (.inr (4, [.int 0, .ref (G.2.2 0), .int 0])) → Q h') : wp_X10_init G mc ms h a v1 (nI kd) v3 v4 v5 v6 Q := by
  unfold wp_X10_init
  refine ⟨by omega, by omega, fun l1 hl1 => sp_J2_init q_h_same ?_⟩
  rw [q_h_up]
  have n1 : a ≠ l1 := q_new_ne hl1 ha
  refine w_put_of (by rw [q_h_ne n1]; exact ha) (by decide) rfl ⟨by omega, by omega, fun l2 hl2 => sp_J2_init q_h_same ?_⟩
  rw [q_h_up]
  have n2 : a ≠ l2 := q_new_ne hl2 q_h_same
  have hl2' : va_up h l1 (some (.inr (4, [.int 0, .ref (G.2.2 0), .int 0]))) l2 = none := by
    rw [q_h_ne (Ne.symm n2)] at hl2
    exact hl2
  have n3 : l1 ≠ l2 := q_new_ne hl2' q_h_same
  have hl20 : h l2 = none := by
    rw [q_h_ne (Ne.symm n3)] at hl2'
    exact hl2'
  refine w_put_of (by rw [q_h_ne n2]; exact q_h_same) (Nat.le_of_ble_eq_true rfl) rfl <| w_put_of q_h_same (Nat.le_of_ble_eq_true rfl) rfl ⟨pk_charN hkd, w_put_of q_h_same (Nat.le_of_ble_eq_true rfl) rfl <| w_put_of q_h_same (Nat.le_of_ble_eq_true rfl) rfl <| w_put_of q_h_same (Nat.le_of_ble_eq_true rfl) rfl <| w_put_of q_h_same (Nat.le_of_ble_eq_true rfl) rfl <| w_put_of q_h_same (Nat.le_of_ble_eq_true rfl) rfl ?_⟩
  simp only [q_h_up]
  refine hQ _ l1 l2 hl1 hl20 n3 (fun c c1 c2 c3 => ?_) q_h_same ?_ ?_
  · rw [q_h_ne c1, q_h_ne c3, q_h_ne c1, q_h_ne c2]
  · rw [q_h_ne (Ne.symm n1), q_h_ne n3, q_h_ne (Ne.symm n1)]
    exact q_h_same
  · rw [q_h_ne (Ne.symm n2)]
    exact q_h_same
theorem sp_X2_come {mc ms kd one two : Nat} {tr : UInt32} {Q : Option Nat → HH → Prop} (hB : q_B G h ρ k b w p t C) (hk : 10 ≤ k) (hok : c_ok C) (hnum : ∀ y ∈ C.2.1, y.2.1 0 < C.2.2 0) (hkd : kd < 65536) (hm : 4 ≤ mc) (hs : 65 ≤ ms)
    (hQ : ∀ h' ρ' a, h a = none → q_dm h h' → q_ex h ρ ρ' → q_sp (fun c => (ρ c).1 = k) h h' → q_B G h' ρ' k b w p t (c_come C a kd one two tr) → Q (some a) h') : wp_X2_come G mc ms h b (nI kd) (nI one) (nI two) tr Q := by
  obtain ⟨lr, lf, g1, g3, g2, ⟨fs3, g5⟩, ⟨fs4, g4⟩⟩ := hB.1.len
  have hρb := hB.1.1
  have hl20 := hok.2.2.2.1
  unfold wp_X2_come
  refine ⟨by omega, by omega, fun a ha => ?_⟩
  have hba : b ≠ a := q_new_ne ha g1
  refine w_geti_of (by rw [q_h_ne hba]; exact g1) rfl <| w_geti_of (by rw [q_h_ne hba]; exact g1) rfl ⟨2, 6, by omega, by omega, sp_X10_init (by omega) (by omega) q_h_same hkd (fun h2 l1 l2 hl1 hl2 n12 hh hca hcl1 hcl2 => ?_)⟩
  have na1 : a ≠ l1 := q_new_ne hl1 q_h_same
  have na2 : a ≠ l2 := q_new_ne hl2 q_h_same
  have hl10 : h l1 = none := by rw [q_h_ne (Ne.symm na1)] at hl1; exact hl1
  have hl20' : h l2 = none := by rw [q_h_ne (Ne.symm na2)] at hl2; exact hl2
  have hh2 : ∀ c e, h c = some e → h2 c = some e := fun c e hc => by
    rw [hh c (q_new_ne ha hc) (q_new_ne hl10 hc) (q_new_ne hl20' hc), q_h_ne (q_new_ne ha hc)]
    exact hc
  refine w_geti_of (hh2 b _ g1) rfl <| w_put_of (hh2 b _ g1) (Nat.le_of_ble_eq_true rfl) rfl <| w_geta_of q_h_same rfl <| w_nn_of ⟨1, 50, by omega, by omega, ?_⟩
  have e1 : nI (C.2.2 0) + 1 = nI (C.2.2 0 + 1) := nI_1 _
  rw [e1]
  let n := C.2.2 0
  let ρ1 : RO := q_up (q_up (q_up ρ a (k, 8 + 5 * n)) l1 (k, 8 + 5 * n + 1)) l2 (k, 8 + 5 * n + 3)
  have hρ1 : ∀ c e, h c = some e → ρ1 c = ρ c := fun c e hc => by
    show q_up (q_up (q_up ρ a _) l1 _) l2 _ c = _
    rw [q_up_ne (q_new_ne hl20' hc), q_up_ne (q_new_ne hl10 hc), q_up_ne (q_new_ne ha hc)]
  have ra : ρ1 a = (k, 8 + 5 * n) := by
    show q_up (q_up (q_up ρ a _) l1 _) l2 _ a = _
    rw [q_up_ne na2, q_up_ne na1, q_up_same]
  have r1 : ρ1 l1 = (k, 8 + 5 * n + 1) := by
    show q_up (q_up (q_up ρ a _) l1 _) l2 _ l1 = _
    rw [q_up_ne n12, q_up_same]
  have r2 : ρ1 l2 = (k, 8 + 5 * n + 3) := q_up_same
  have hB2 : q_B G h2 ρ1 k b w p t C := hB.ro (hB.1.kp ⟨hρ1, fun c e hc _ _ => hh2 c e hc⟩) (hB.2.1.S (S := q_no) (fun c e hc _ => hh2 c e hc) q_no.not q_no.not q_no.not) hρ1
  have hb2 := hh2 b _ g1
  have hB3 : q_B G (va_up h2 b (some (.inr (2, q_bv w lr lf (c_st C.2.2 0 (C.2.2 0 + 1)))))) ρ1 k b w p t (C.1, C.2.1, c_st C.2.2 0 (C.2.2 0 + 1)) := hB2.cnt (by omega) hb2 (fun c hc => q_h_ne hc) q_h_same
  obtain ⟨lr9, lf9, q1, q3, q2, -, ⟨fs9, q9⟩⟩ := hB3.1.len
  rw [q_h_same] at q1
  cases q1
  have hab : a ≠ b := Ne.symm hba
  have h1b : l1 ≠ b := fun z => by rw [z, g1] at hl10; cases hl10
  have h2b : l2 ≠ b := fun z => by rw [z, g1] at hl20'; cases hl20'
  have hca3 : va_up h2 b (some (.inr (2, q_bv w lr lf (c_st C.2.2 0 (C.2.2 0 + 1))))) a = _ := (q_h_ne hab).trans hca
  have hel : ∀ z ∈ C.2.1.map Prod.fst, ∃ e, va_up h2 b (some (.inr (2, q_bv w lr lf (c_st C.2.2 0 (C.2.2 0 + 1))))) z = some e ∧ hv_ob G e := by
    intro z hz
    obtain ⟨z', hz', rfl⟩ := List.mem_map.mp hz
    obtain ⟨iz, hiz⟩ := List.getElem?_of_mem hz'
    obtain ⟨l1, l2, hcz⟩ := hB3.cell hiz
    exact q_fv_ob hcz
  refine w_is_of q9 <| sp_J2_add q2 ⟨_, hca3, Or.inl ⟨14, _, by decide, rfl⟩⟩ hel (by omega) (by simp only [List.length_map]; omega) (by simp only [List.length_map]; omega) (fun h4 ρ4 hdm4 hex4 hfr4 hl4 => ?_)
  have ne4 : ∀ {c : Nat} {e : va_E} {j : Nat}, va_up h2 b (some (.inr (2, q_bv w lr lf (c_st C.2.2 0 (C.2.2 0 + 1))))) c = some e → ρ1 c = (k, j) → j ≠ 6 → j ≠ 7 → h4 c = some e ∧ ρ4 c = (k, j) := by
    intro c e j hc hj h6 h7
    refine ⟨hfr4 c e hc (fun z => ?_), by rw [hex4 c e hc]; exact hj⟩
    rw [hj] at z
    rcases z with z | z
    · exact h6 (congrArg Prod.snd z)
    · exact h7 (congrArg Prod.snd z)
  have hnewft : q_ft G h4 ρ4 k (a, c_newF C kd one two tr, [], []) := by
    obtain ⟨u1, u2⟩ := ne4 hca3 ra (by omega) (by omega)
    obtain ⟨u3, u4⟩ := ne4 ((q_h_ne h1b).trans hcl1) r1 (by omega) (by omega)
    obtain ⟨u5, u6⟩ := ne4 ((q_h_ne h2b).trans hcl2) r2 (by omega) (by omega)
    refine ⟨u2, l1, l2, ?_, ⟨[], ⟨u4, by decide, 0, _, u3, Or.inl ⟨rfl, rfl⟩⟩, rfl, fun i x1 fi hx => by cases hx⟩, ⟨[], ⟨u6, by decide, 0, _, u5, Or.inl ⟨rfl, rfl⟩⟩, rfl, fun i x1 fi hx => by cases hx⟩⟩
    rw [u1]
    unfold q_fv
    have e5 : q_tb (c_newF C kd one two tr 5) = tr := by
      show UInt32.ofNat tr.toNat = tr
      exact UInt32.ofNat_toNat
    rw [e5]
    rfl
  have hB4 : q_B G h4 ρ4 k b w p t (c_come C a kd one two tr) := hB3.facts (by omega) q_h_same hex4 (fun c e hc hS => hfr4 c e hc hS) (by rw [List.map_append]; exact hl4) (fun y hy => by
    rcases List.mem_append.mp hy with z | z
    · exact Or.inl z
    · rw [List.mem_singleton.mp z]
      exact Or.inr hnewft)
  have hdm2 : q_dm h h2 := fun c e hc => ⟨e, hh2 c e hc⟩
  have hdm3 : q_dm h2 (va_up h2 b (some (.inr (2, q_bv w lr lf (c_st C.2.2 0 (C.2.2 0 + 1)))))) := q_dm.rf.up
  refine hQ h4 ρ4 a ha ((hdm2.tr hdm3).tr hdm4) (q_ex.tr (hdm2.tr hdm3) hρ1 hex4) (fun c e hc hS => ?_) hB4
  have c1 := hh2 c e hc
  have cb : c ≠ b := fun z => hS (show (ρ c).1 = k by rw [z, hρb])
  have c2 : va_up h2 b (some (.inr (2, q_bv w lr lf (c_st C.2.2 0 (C.2.2 0 + 1))))) c = some e := (q_h_ne cb).trans c1
  refine hfr4 c e c2 (fun z => hS ?_)
  show (ρ c).1 = k
  rw [hρ1 c e hc] at z
  rcases z with z | z <;> rw [z]
/-- what a fact says of being told is put -/
theorem q_B.told {i v l1 l2 : Nat} {y : CF} (hB : q_B G h ρ k b w p t C) (hk : 10 ≤ k) (hok : c_ok C) (hy : C.2.1[i]? = some y) (hc : h y.1 = some (.inr (14, q_fv y.2.1 l1 l2))) : q_B G (va_up h y.1 (some (.inr (14, q_fv (c_st y.2.1 4 v) l1 l2)))) ρ k b w p t (C.1, C.2.1.set i (y.1, c_st y.2.1 4 v, y.2.2.1, y.2.2.2), C.2.2) := by
  have hry := (hB.1.fact hy).1.1
  have hkR : q_kR G (fun r => r ≠ (k, 8 + 5 * y.2.1 0)) h ρ (va_up h y.1 (some (.inr (14, q_fv (c_st y.2.1 4 v) l1 l2)))) ρ := ⟨fun _ _ _ => rfl, fun c e hc _ hr => by
    rw [q_h_ne (fun z => hr (by rw [z]; exact hry))]
    exact hc⟩
  have hkj : ∀ j, j ≠ 8 + 5 * y.2.1 0 → ((k, j) : Nat × Nat) ≠ (k, 8 + 5 * y.2.1 0) := fun j hj z => hj (congrArg Prod.snd z)
  have h00 : ((0, 0) : Nat × Nat) ≠ (k, 8 + 5 * y.2.1 0) := fun z => by have := congrArg Prod.fst z; simp only at this; omega
  obtain ⟨e1, lr1, lf1, e2, e3, e4⟩ := (hB.1.fact hy).1
  rw [hc] at e2
  cases e2
  have hw : ∀ {c j}, ρ c = (k, j) → j < 8 → ¬ c = y.1 := fun e1 e2 z => by
    rw [z, hry] at e1
    have := congrArg Prod.snd e1
    simp only at this
    omega
  refine ⟨hB.1.set hok hy (hkR.mono (fun r hr => ?_)) ⟨e1, l1, l2, q_h_same, e3.kR hkR h00 (hkj _ (by omega)) (hkj _ (by omega)), e4.kR hkR h00 (hkj _ (by omega)) (hkj _ (by omega))⟩ rfl, hB.2.1.S (S := fun c => c = y.1) (q_sp.up rfl) (hw hB.2.2.1 (by decide)) (hw hB.2.2.2.1 (by decide)) (hw hB.2.2.2.2 (by decide)), hB.2.2⟩
  rcases hr with hr | ⟨hr1, hr2⟩
  · intro z
    rw [z] at hr
    simp only at hr
    omega
  · intro z
    refine hr2 ?_
    rw [z]
    simp only
    omega
end COME
theorem q_sp_none {h h' : HH} {a : Nat} (hs : q_sp q_no h h') (ha : h' a = none) : h a = none := by
  cases e : h a with
  | none => rfl
  | some x1 =>
    rw [hs a x1 e q_no.not] at ha
    cases ha
theorem q_nat {v : Int32} {a c : Nat} (h1 : (a : Int) ≤ v.toInt) (h2 : v.toInt ≤ c) : ∃ n, v = nI n ∧ a ≤ n ∧ n ≤ c := by
  obtain ⟨j, hj, rfl⟩ := nI_of (x := v) (fun z => by
    rw [Int32.lt_iff_toInt_lt] at z
    have : (0 : Int32).toInt = 0 := by decide
    omega)
  rw [nI_toInt hj] at h1 h2
  exact ⟨j, rfl, by omega, by omega⟩
theorem sp_X1_checkArgument {G : GG} {mc ms : Nat} {h : HH} {c : Int32} {Q : HH → Prop} {X : String → Nat → HH → Prop} (hm : 1 ≤ mc) (hs : 6 ≤ ms) (hQ : c ≠ 0 → Q h) (hX : c = 0 → ∀ q, h q = none → X "java/lang/IllegalArgumentException" q h) : wp_X1_checkArgument G mc ms h c Q X :=
  ⟨hQ, fun z => ⟨by omega, by omega, hX z⟩⟩
section TELL
variable {G : GG} {h h' : HH} {ρ ρ' : RO} {k b w p t : Nat} {C : CC}
def c_tell (C : CC) (a kd one two : Nat) (tr : UInt32) : CC := (C.1, C.2.1 ++ [(a, c_st (c_newF C kd one two tr) 4 1, [], [])], c_st C.2.2 0 (C.2.2 0 + 1))
theorem c_come_ok {a kd one two : Nat} {tr : UInt32} (hok : c_ok C) (hnum : ∀ y ∈ C.2.1, y.2.1 0 < C.2.2 0) (hn : C.2.2 0 < 100000) (hl : C.2.1.length < 20) : c_ok (c_come C a kd one two tr) := by
  obtain ⟨k1, k2, k3, k4, k5, k6, k7⟩ := hok
  refine ⟨k1, k2, k3, by simp only [c_come, List.length_append, List.length_singleton]; omega, fun i j y z hy hz hij => ?_, fun y hy => ?_, fun y hy => ?_⟩
  · simp only [c_come] at hy hz
    have hj := (List.getElem?_eq_some_iff.mp hz).1
    simp only [List.length_append, List.length_singleton] at hj
    rw [List.getElem?_append_left (by omega)] at hy
    by_cases q : j < C.2.1.length
    · rw [List.getElem?_append_left q] at hz
      exact k5 i j y z hy hz hij
    · have : j = C.2.1.length := by omega
      subst this
      rw [List.getElem?_append_right (Nat.le_refl _), Nat.sub_self] at hz
      cases hz
      exact hnum y (List.mem_of_getElem? hy)
  · rcases List.mem_append.mp hy with z | z
    · exact k6 y z
    · rw [List.mem_singleton.mp z]
      exact hn
  · rcases List.mem_append.mp hy with z | z
    · exact k7 y z
    · rw [List.mem_singleton.mp z]
      exact ⟨fun fi hfi => (by cases hfi), fun fi hfi => (by cases hfi)⟩
theorem sp_X2_tell {mc ms : Nat} {v1 v2 v3 v4 : Int32} {Q : Int32 → HH → Prop} {X : String → Nat → HH → Prop} (hB : q_B G h ρ k b w p t C) (hk : 10 ≤ k) (hok : c_ok C) (h41 : ∀ y ∈ C.2.1, y.2.1 4 ≤ 1) (hnum : ∀ y ∈ C.2.1, y.2.1 0 < C.2.2 0) (hn : C.2.2 0 < 100000) (hm : 20 ≤ mc) (hs : 120 ≤ ms)
    (hXa : ¬ ((97 ≤ v1.toInt ∧ v1.toInt ≤ 102) ∧ (0 ≤ v2.toInt ∧ v2.toInt ≤ 9) ∧ (0 ≤ v3.toInt ∧ v3.toInt ≤ 9) ∧ (1 ≤ v4.toInt ∧ v4.toInt ≤ 100)) → ∀ q, h q = none → X "java/lang/IllegalArgumentException" q h)
    (hQ1 : ∀ kd one two tr (i : Nat) (y : CF) h' ρ', v1 = nI kd → v2 = nI one → v3 = nI two → v4 = nI tr → 97 ≤ kd → kd ≤ 102 → one ≤ 9 → two ≤ 9 → 1 ≤ tr → tr ≤ 100 → C.2.1[i]? = some y → nI (y.2.1 1) = nI kd → nI (y.2.1 2) = nI one → nI (y.2.1 3) = nI two → (∀ (j : Nat) (z : CF), j < i → C.2.1[j]? = some z → ¬ (nI (z.2.1 1) = nI kd ∧ nI (z.2.1 2) = nI one ∧ nI (z.2.1 3) = nI two)) → y.2.1 4 = 0 → q_dm h h' → q_ex h ρ ρ' → q_sp (fun c => (ρ c).1 = k) h h' → q_B G h' ρ' k b w p t (C.1, C.2.1.set i (y.1, c_st y.2.1 4 1, y.2.2.1, y.2.2.2), C.2.2) → Q (nI (y.2.1 0)) h')
    (hX2 : ∀ kd one two tr (i : Nat) (y : CF) a h', v1 = nI kd → v2 = nI one → v3 = nI two → v4 = nI tr → 97 ≤ kd → kd ≤ 102 → one ≤ 9 → two ≤ 9 → 1 ≤ tr → tr ≤ 100 → C.2.1[i]? = some y → nI (y.2.1 1) = nI kd → nI (y.2.1 2) = nI one → nI (y.2.1 3) = nI two → (∀ (j : Nat) (z : CF), j < i → C.2.1[j]? = some z → ¬ (nI (z.2.1 1) = nI kd ∧ nI (z.2.1 2) = nI one ∧ nI (z.2.1 3) = nI two)) → y.2.1 4 = 1 → h a = none → q_sp q_no h h' → q_rf h' a 2 (nI (y.2.1 0)) → X "MatchmakerRules$Refused" a h')
    (hX1 : ∀ kd one two tr a h', v1 = nI kd → v2 = nI one → v3 = nI two → v4 = nI tr → 97 ≤ kd → kd ≤ 102 → one ≤ 9 → two ≤ 9 → 1 ≤ tr → tr ≤ 100 → (∀ y : CF, y ∈ C.2.1 → ¬ (nI (y.2.1 1) = nI kd ∧ nI (y.2.1 2) = nI one ∧ nI (y.2.1 3) = nI two)) → C.2.1.length = 20 → h a = none → q_sp q_no h h' → q_rf h' a 1 20 → X "MatchmakerRules$Refused" a h')
    (hQ2 : ∀ kd one two tr a h' ρ', v1 = nI kd → v2 = nI one → v3 = nI two → v4 = nI tr → 97 ≤ kd → kd ≤ 102 → one ≤ 9 → two ≤ 9 → 1 ≤ tr → tr ≤ 100 → (∀ y : CF, y ∈ C.2.1 → ¬ (nI (y.2.1 1) = nI kd ∧ nI (y.2.1 2) = nI one ∧ nI (y.2.1 3) = nI two)) → C.2.1.length < 20 → h a = none → q_dm h h' → q_ex h ρ ρ' → q_sp (fun c => (ρ c).1 = k) h h' → q_B G h' ρ' k b w p t (c_tell C a kd one two (FP.fdiv (FP.i2f (nI tr)) 1120403456)) → Q (nI (C.2.2 0)) h') : wp_X2_tell G mc ms h b v1 v2 v3 v4 Q X := by
  have hl20 := hok.2.2.2.1
  have bad : ¬ ((97 ≤ v1.toInt ∧ v1.toInt ≤ 102) ∧ (0 ≤ v2.toInt ∧ v2.toInt ≤ 9) ∧ (0 ≤ v3.toInt ∧ v3.toInt ≤ 9)) → wp_X2_tell_L42 G mc ms b Q X h 0 0 v1 v2 v3 v4 := fun hno => by
    unfold wp_X2_tell_L42 wp_X2_tell_L43
    exact ⟨1, 6, by omega, by omega, sp_X1_checkArgument (by omega) (by omega) (fun z => absurd rfl z) (fun _ => hXa (fun q => hno ⟨q.1, q.2.1, q.2.2.1⟩))⟩
  unfold wp_X2_tell
  refine sp_inR 97 102 (by decide) (by decide) (fun a1 a2 => br_f (by decide) ?_) (fun hno => br_t rfl (bad (fun q => hno q.1)))
  refine sp_inR 0 9 (by decide) (by decide) (fun b1 b2 => br_f (by decide) ?_) (fun hno => br_t rfl (bad (fun q => hno q.2.1)))
  refine sp_inR 0 9 (by decide) (by decide) (fun c1 c2 => br_f (by decide) ?_) (fun hno => br_t rfl (bad (fun q => hno q.2.2)))
  unfold wp_X2_tell_L43
  refine ⟨1, 6, by omega, by omega, sp_X1_checkArgument (by omega) (by omega) (fun _ => ?_) (fun z => absurd z (by decide))⟩
  refine sp_inR 1 100 (by decide) (by decide) (fun d1 d2 => ⟨1, 6, by omega, by omega, sp_X1_checkArgument (by omega) (by omega) (fun _ => ?_) (fun z => absurd z (by decide))⟩) (fun hno => ⟨1, 6, by omega, by omega, sp_X1_checkArgument (by omega) (by omega) (fun z => absurd rfl z) (fun _ => hXa (fun q => hno q.2.2.2))⟩)
  obtain ⟨kd, rfl, k1, k2⟩ := q_nat (a := 97) (c := 102) a1 a2
  obtain ⟨one, rfl, -, o2⟩ := q_nat (a := 0) (c := 9) b1 b2
  obtain ⟨two, rfl, -, t2⟩ := q_nat (a := 0) (c := 9) c1 c2
  obtain ⟨tr, rfl, r1, r2⟩ := q_nat (a := 1) (c := 100) d1 d2
  obtain ⟨lr, lf, g1, g3, g2, ⟨fs3, g5⟩, ⟨fs4, g4⟩⟩ := hB.1.len
  refine ⟨1, 4, by omega, by omega, w_is_of g1 <| sp_X2_find_2 hB.1 (by omega) (by omega) (fun h' i y hs hy e1 e2 e3 hno => ?_) (fun h' hs hno => ?_)⟩
  · -- it is there
    have hB' := hB.no hs
    obtain ⟨l1, l2, hc⟩ := hB'.cell hy
    have hym := List.mem_of_getElem? hy
    have hyn := hok.2.2.2.2.2.1 y hym
    have h4 := h41 y hym
    refine ⟨fun z => (by cases z), fun a' z => ?_⟩
    cases z
    unfold wp_X2_tell_L112
    refine w_nn_of <| w_geti_of hc rfl ⟨fun z => ?_, fun z => ?_⟩
    · have e4 : y.2.1 4 = 1 := by
        rcases Nat.lt_or_ge (y.2.1 4) 1 with q | q
        · exact absurd (by rw [show y.2.1 4 = 0 by omega]; rfl) z
        · omega
      unfold wp_X2_tell_L125
      refine w_geti_of hc rfl ⟨1, 8, by omega, by omega, sp_X11_check (by omega) (by omega) (fun z => absurd rfl z) (fun _ a h2 ha hh hrf => ?_)⟩
      exact hX2 kd one two tr i y a h2 rfl rfl rfl rfl k1 k2 o2 t2 r1 r2 hy e1 e2 e3 hno e4 (q_sp_none hs ha) (hs.tr (q_sp.nw ha hh)) hrf
    · have e4 : y.2.1 4 = 0 := (nI_eq (b := 0) (by omega) (by omega)).mp z
      unfold wp_X2_tell_L125
      refine w_geti_of hc rfl ⟨1, 8, by omega, by omega, sp_X11_check (by omega) (by omega) (fun _ => ?_) (fun z => absurd z (by decide))⟩
      refine w_put_of hc (Nat.le_of_ble_eq_true rfl) rfl <| w_geti_of q_h_same rfl ?_
      have hry := (hB'.1.fact hy).1.1
      refine hQ1 kd one two tr i y _ ρ rfl rfl rfl rfl k1 k2 o2 t2 r1 r2 hy e1 e2 e3 hno e4 ?_ (fun _ _ _ => rfl) (fun c e hc0 hS => ?_) (hB'.told hk hok hy hc)
      · exact q_dm.up (fun c e hc => ⟨e, hs c e hc q_no.not⟩)
      · rw [q_h_ne (fun z => hS (show (ρ c).1 = k by rw [z, hry]))]
        exact hs c e hc0 q_no.not
  · -- it comes
    have hB' := hB.no hs
    refine ⟨fun _ => ?_, fun a' z => by cases z⟩
    refine w_geta_of (hs b _ g1 q_no.not) rfl <| w_nn_of <| w_is_of (hs lf _ g4 q_no.not) <| sp_J2_size (g2.kp (q_no_kp hs) rfl) ?_
    rw [List.length_map]
    refine ⟨fun z => ?_, fun z => ?_⟩
    · have hl : C.2.1.length = 20 := by
        have := (nI_leI (a := 20) (b := C.2.1.length) (by omega) (by omega)).mp z
        omega
      unfold wp_X2_tell_L90
      refine ⟨1, 8, by omega, by omega, sp_X11_check (by omega) (by omega) (fun z => absurd rfl z) (fun _ a h2 ha hh hrf => ?_)⟩
      exact hX1 kd one two tr a h2 rfl rfl rfl rfl k1 k2 o2 t2 r1 r2 hno hl (q_sp_none hs ha) (hs.tr (q_sp.nw ha hh)) hrf
    · have hl : C.2.1.length < 20 := by
        rcases Nat.lt_or_ge C.2.1.length 20 with q | q
        · exact q
        · exact absurd (nI_le (a := 20) q (by omega)) z
      unfold wp_X2_tell_L90
      have htr := q_tr_100 tr r1 r2
      refine ⟨1, 8, by omega, by omega, sp_X11_check (by omega) (by omega) (fun _ => ⟨htr.n, 4, 65, by omega, by omega, ?_⟩) (fun z => absurd z (by decide))⟩
      refine w_is_of (hs b _ g1 q_no.not) <| sp_X2_come hB' hk hok hnum (by omega) (by omega) (by omega) (fun h2 ρ2 a ha hdm hex hsp hB2 => ?_)
      have ha0 := q_sp_none hs ha
      have hok2 := c_come_ok (a := a) (kd := kd) (one := one) (two := two) (tr := FP.fdiv (FP.i2f (nI tr)) 1120403456) hok hnum hn hl
      have hy : (c_come C a kd one two (FP.fdiv (FP.i2f (nI tr)) 1120403456)).2.1[C.2.1.length]? = some (a, c_newF C kd one two (FP.fdiv (FP.i2f (nI tr)) 1120403456), [], []) := by
        simp only [c_come]
        rw [List.getElem?_append_right (Nat.le_refl _), Nat.sub_self]
        rfl
      obtain ⟨l1, l2, hc⟩ := hB2.cell hy
      unfold wp_X2_tell_L112
      refine w_nn_of <| w_geti_of hc rfl (q_bt rfl ?_)
      unfold wp_X2_tell_L125
      refine w_geti_of hc rfl ⟨1, 8, by omega, by omega, sp_X11_check (by omega) (by omega) (fun _ => ?_) (fun z => absurd z (by decide))⟩
      refine w_put_of hc (Nat.le_of_ble_eq_true rfl) rfl <| w_geti_of q_h_same rfl ?_
      have hB3 := hB2.told (v := 1) hk hok2 hy hc
      have e : (c_come C a kd one two (FP.fdiv (FP.i2f (nI tr)) 1120403456)).2.1.set C.2.1.length (a, c_st (c_newF C kd one two (FP.fdiv (FP.i2f (nI tr)) 1120403456)) 4 1, [], []) = (c_tell C a kd one two (FP.fdiv (FP.i2f (nI tr)) 1120403456)).2.1 := by
        simp only [c_come, c_tell]
        rw [List.set_append_right _ _ (Nat.le_refl _), Nat.sub_self]
        rfl
      rw [e] at hB3
      refine hQ2 kd one two tr a _ ρ2 rfl rfl rfl rfl k1 k2 o2 t2 r1 r2 hno hl ha0 (q_dm.up (q_dm.tr (fun c e hc => ⟨e, hs c e hc q_no.not⟩) hdm)) (fun c e hc => hex c e (hs c e hc q_no.not)) (fun c e hc0 hS => ?_) hB3
      rw [q_h_ne (q_new_ne ha0 hc0)]
      exact hsp c e (hs c e hc0 q_no.not) hS
theorem sp_X2_untell {mc ms : Nat} {v : Int32} {Q : Int32 → HH → Prop} {X : String → Nat → HH → Prop} (hB : q_B G h ρ k b w p t C) (hk : 10 ≤ k) (hok : c_ok C) (hcl : c_cl C) (h41 : ∀ y ∈ C.2.1, y.2.1 4 ≤ 1)
    (hmc : 1 + 20 * (C.2.1.length + 2 * c_sum (fun y => y.2.2.1.length) C.2.1) + 1800 ≤ mc) (hms : C.2.1.length + 80 * (C.2.1.length + 2 * c_sum (fun y => y.2.2.1.length) C.2.1) + 4500 ≤ ms)
    (hX3 : (∀ y ∈ C.2.1, nI (y.2.1 0) ≠ v) → ∀ a h', h a = none → q_sp q_no h h' → q_rf h' a 3 v → X "MatchmakerRules$Refused" a h')
    (hX4 : ∀ (i : Nat) (y : CF) a h', C.2.1[i]? = some y → nI (y.2.1 0) = v → y.2.1 4 = 0 → h a = none → q_sp q_no h h' → q_rf h' a 4 (nI y.2.2.1.length) → X "MatchmakerRules$Refused" a h')
    (hQ : ∀ (i : Nat) (y : CF) h' ρ' D, C.2.1[i]? = some y → nI (y.2.1 0) = v → y.2.1 4 = 1 → q_dm h h' → q_ex h ρ ρ' → q_sp (fun c => (ρ c).1 = k) h h' → c_dep (C.1, C.2.1.set i (y.1, c_st y.2.1 4 0, y.2.2.1, y.2.2.2), C.2.2) D → q_B G h' ρ' k b w p t (c_los D (C.1, C.2.1.set i (y.1, c_st y.2.1 4 0, y.2.2.1, y.2.2.2), C.2.2)).1 → Q (nI (c_los D (C.1, C.2.1.set i (y.1, c_st y.2.1 4 0, y.2.2.1, y.2.2.2), C.2.2)).2) h') : wp_X2_untell G mc ms h b v Q X := by
  obtain ⟨lr, lf, g1, g3, g2, ⟨fs3, g5⟩, ⟨fs4, g4⟩⟩ := hB.1.len
  have hl20 := hok.2.2.2.1
  unfold wp_X2_untell
  refine ⟨1, 4, by omega, by omega, w_is_of g1 <| sp_X2_find hB.1 (by omega) (by omega) (fun h' i y hs hy e => ?_) (fun h' hs hno => ?_)⟩
  · have hB' := hB.no hs
    obtain ⟨-, l1, l2, hc, hfl, -⟩ := (hB'.1.fact hy).1
    obtain ⟨xs, u1, u2, ⟨fsx, u3⟩, -⟩ := hfl.len
    have hym := List.mem_of_getElem? hy
    have h4 := h41 y hym
    refine ⟨fun z => (by cases z), fun a' z => ?_⟩
    cases z
    unfold wp_X2_untell_L15
    refine ⟨1, 8, by omega, by omega, sp_X11_check (by omega) (by omega) (fun _ => ?_) (fun z => absurd z (by decide))⟩
    refine w_nn_of <| w_geti_of hc rfl <| w_geta_of hc rfl <| w_nn_of <| w_is_of u3 <| sp_J2_size u1 ⟨1, 8, by omega, by omega, ?_⟩
    rw [u2]
    refine sp_X11_check (by omega) (by omega) (fun z => ?_) (fun z a h2 ha hh hrf => ?_)
    · have e4 : y.2.1 4 = 1 := by
        rcases Nat.lt_or_ge (y.2.1 4) 1 with q | q
        · exact absurd (by rw [show y.2.1 4 = 0 by omega]; rfl) z
        · omega
      refine w_put_of hc (Nat.le_of_ble_eq_true rfl) rfl ?_
      have hry := (hB'.1.fact hy).1.1
      have hB2 := hB'.told (v := 0) hk hok hy hc
      have hlt := (List.getElem?_eq_some_iff.mp hy).1
      have hat : ∀ (j : Nat) (z : CF), (C.2.1.set i (y.1, c_st y.2.1 4 0, y.2.2.1, y.2.2.2))[j]? = some z → ∃ z0, C.2.1[j]? = some z0 ∧ z.2.1 0 = z0.2.1 0 ∧ z.2.2 = z0.2.2 ∧ z.2.1 4 ≤ 1 := by
        intro j z hz
        by_cases q : j = i
        · subst q
          rw [List.getElem?_set_self hlt] at hz
          cases hz
          exact ⟨y, hy, rfl, rfl, Nat.zero_le _⟩
        · rw [List.getElem?_set_ne (Ne.symm q)] at hz
          exact ⟨z, hz, rfl, rfl, h41 z (List.mem_of_getElem? hz)⟩
      have hat2 : ∀ z0 ∈ C.2.1, ∃ z ∈ C.2.1.set i (y.1, c_st y.2.1 4 0, y.2.2.1, y.2.2.2), z.2.1 0 = z0.2.1 0 := by
        intro z0 hz0
        obtain ⟨j, hj⟩ := List.getElem?_of_mem hz0
        by_cases q : j = i
        · subst q
          rw [hy] at hj
          cases hj
          exact ⟨_, List.mem_of_getElem? (List.getElem?_set_self hlt), rfl⟩
        · exact ⟨z0, List.mem_of_getElem? (by rw [List.getElem?_set_ne (Ne.symm q)]; exact hj), rfl⟩
      have hok2 : c_ok (C.1, C.2.1.set i (y.1, c_st y.2.1 4 0, y.2.2.1, y.2.2.2), C.2.2) := hok.sub rfl (by simp) (fun j z hz => by
        obtain ⟨z0, q1, q2, q3, -⟩ := hat j z hz
        exact ⟨z0, q1, q2, fun fi hfi => by rw [q3] at hfi; exact hfi, fun fi hfi => by rw [q3] at hfi; exact hfi⟩)
      have hcl2 : c_cl (C.1, C.2.1.set i (y.1, c_st y.2.1 4 0, y.2.2.1, y.2.2.2), C.2.2) := fun z hz fi hfi => by
        obtain ⟨j, hj⟩ := List.getElem?_of_mem hz
        obtain ⟨z0, q1, q2, q3, -⟩ := hat j z hj
        rw [q3] at hfi
        obtain ⟨⟨u, hu, eu⟩, h2⟩ := hcl z0 (List.mem_of_getElem? q1) fi hfi
        obtain ⟨u', hu', eu'⟩ := hat2 u hu
        refine ⟨⟨u', hu', by rw [eu', eu]⟩, fun n hn => ?_⟩
        obtain ⟨u, hu, eu⟩ := h2 n hn
        obtain ⟨u', hu', eu'⟩ := hat2 u hu
        exact ⟨u', hu', by rw [eu', eu]⟩
      have hsum : c_sum (fun y => y.2.2.1.length) (C.2.1.set i (y.1, c_st y.2.1 4 0, y.2.2.1, y.2.2.2)) = c_sum (fun y => y.2.2.1.length) C.2.1 := by
        have key : ∀ (ys : List CF) (i : Nat), ys[i]? = some y → c_sum (fun y => y.2.2.1.length) (ys.set i (y.1, c_st y.2.1 4 0, y.2.2.1, y.2.2.2)) = c_sum (fun y => y.2.2.1.length) ys := by
          intro ys
          induction ys with
          | nil => intro i hi; cases hi
          | cons z zs ih =>
            intro i hi
            cases i with
            | zero =>
              cases hi
              rfl
            | succ i =>
              simp only [List.set_cons_succ, c_sum]
              rw [ih i (by simpa using hi)]
        exact key _ _ hy
      obtain ⟨lr8, lf8, m1, -⟩ := hB2.1.len
      refine ⟨1 + 20 * (C.2.1.length + 2 * c_sum (fun y => y.2.2.1.length) C.2.1) + 1700, C.2.1.length + 80 * (C.2.1.length + 2 * c_sum (fun y => y.2.2.1.length) C.2.1) + 4200, by omega, by omega, w_is_of m1 <| sp_X2_loseGround hB2 hk hok2 hcl2 (fun z hz => ?_) ?_ ?_ (fun h3 ρ3 D a1 a2 a3 a4 a5 => ?_)⟩
      · obtain ⟨j, hj⟩ := List.getElem?_of_mem hz
        obtain ⟨z0, -, -, -, q4⟩ := hat j z hj
        exact q4
      · rw [hsum, List.length_set]
        omega
      · rw [hsum, List.length_set]
        omega
      · refine hQ i y h3 ρ3 D hy e e4 ?_ ?_ ?_ a4 a5
        · exact q_dm.tr (q_dm.up (fun c e hc => ⟨e, hs c e hc q_no.not⟩)) a1
        · exact q_ex.tr (q_dm.up (fun c e hc => ⟨e, hs c e hc q_no.not⟩)) (fun _ _ _ => rfl) a2
        · intro c e hc0 hS
          refine a3 c e ?_ hS
          rw [q_h_ne (fun z => hS (show (ρ c).1 = k by rw [z, hry]))]
          exact hs c e hc0 q_no.not
    · have e4 : y.2.1 4 = 0 := (nI_eq (b := 0) (by omega) (by omega)).mp z
      exact hX4 i y a h2 hy e e4 (q_sp_none hs ha) (hs.tr (q_sp.nw ha hh)) hrf
  · refine ⟨fun _ => ?_, fun a' z => by cases z⟩
    unfold wp_X2_untell_L15
    exact ⟨1, 8, by omega, by omega, sp_X11_check (by omega) (by omega) (fun z => absurd rfl z) (fun _ a h2 ha hh hrf => hX3 hno a h2 (q_sp_none hs ha) (hs.tr (q_sp.nw ha hh)) hrf)⟩
theorem sp_X2_add {mc ms a : Nat} {r : Nat → Nat} {Q : Int32 → HH → Prop} {X : String → Nat → HH → Prop} (hB : q_B G h ρ k b w p t C) (hk : 10 ≤ k) (hok : c_ok C) (hr : q_rl G h ρ a r) (hm : 3 ≤ mc) (hs : 50 ≤ ms)
    (hX : C.1.length = 8 → ∀ a h', h a = none → q_sp q_no h h' → q_rf h' a 1 8 → X "MatchmakerRules$Refused" a h')
    (hQ : ∀ h' ρ', C.1.length < 8 → q_dm h h' → q_ex h ρ ρ' → q_sp (fun c => (ρ c).1 = k) h h' → q_B G h' ρ' k b w p t (C.1 ++ [(a, r)], C.2.1, C.2.2) → Q (nI C.1.length) h') : wp_X2_add G mc ms h b (some a) Q X := by
  obtain ⟨lr, lf, g1, g3, g2, ⟨fs3, g5⟩, ⟨fs4, g4⟩⟩ := hB.1.len
  have hl8 := hok.1
  unfold wp_X2_add
  refine w_geta_of g1 rfl <| w_nn_of <| w_is_of g5 <| sp_J2_size g3 ?_
  rw [List.length_map]
  refine ⟨fun z => ?_, fun z => ?_⟩
  · have hl : C.1.length = 8 := by
      have := (nI_leI (a := 8) (b := C.1.length) (by omega) (by omega)).mp z
      omega
    unfold wp_X2_add_L17
    exact ⟨1, 8, by omega, by omega, sp_X11_check (by omega) (by omega) (fun z => absurd rfl z) (fun _ a h2 ha hh hrf => hX hl a h2 ha (q_sp.nw ha hh) hrf)⟩
  · have hl : C.1.length < 8 := by
      rcases Nat.lt_or_ge C.1.length 8 with q | q
      · exact q
      · exact absurd (nI_le (a := 8) q (by omega)) z
    unfold wp_X2_add_L17
    refine ⟨1, 8, by omega, by omega, sp_X11_check (by omega) (by omega) (fun _ => ?_) (fun z => absurd z (by decide))⟩
    obtain ⟨fsr, hro⟩ := hr.ob
    have hel : ∀ z ∈ C.1.map Prod.fst, ∃ e, h z = some e ∧ hv_ob G e := by
      intro z hz
      obtain ⟨z', hz', rfl⟩ := List.mem_map.mp hz
      obtain ⟨iz, hiz⟩ := List.getElem?_of_mem hz'
      obtain ⟨fsz, hcz⟩ := (hB.1.rule hiz).1.ob
      exact ⟨_, hcz, Or.inl ⟨12, _, by decide, rfl⟩⟩
    refine w_geta_of g1 rfl <| w_nn_of ⟨1, 40, by omega, by omega, w_is_of g5 <| sp_J2_add g3 ⟨_, hro, Or.inl ⟨12, _, by decide, rfl⟩⟩ hel (by omega) (by rw [List.length_map]; omega) (by rw [List.length_map]; omega) (fun h4 ρ4 hdm4 hex4 hfr4 hl4 => ?_)⟩
    have hb4 : h4 b = some (.inr (2, q_bv w lr lf C.2.2)) := hfr4 _ _ g1 (fun z => by
      rw [hB.1.1] at z
      rcases z with z | z <;> have := congrArg Prod.snd z <;> simp only at this <;> omega)
    have e : C.1.map Prod.fst ++ [a] = (C.1 ++ [(a, r)]).map Prod.fst := by rw [List.map_append]; rfl
    rw [e] at hl4
    have hr4 : q_rl G h4 ρ4 a r := hr.kR (R := fun r => r ≠ (k, 4) ∧ r ≠ (k, 5)) ⟨hex4, fun c e hc _ hr => hfr4 c e hc (fun z => z.elim hr.1 hr.2)⟩ ⟨fun z => by have := congrArg Prod.fst z; simp only at this; omega, fun z => by have := congrArg Prod.fst z; simp only at this; omega⟩
    have hB4 : q_B G h4 ρ4 k b w p t (C.1 ++ [(a, r)], C.2.1, C.2.2) := hB.rules (by omega) g1 hex4 (fun c e hc hS => hfr4 c e hc hS) hl4 (fun y hy => by
      rcases List.mem_append.mp hy with z | z
      · exact Or.inl z
      · rw [List.mem_singleton.mp z]
        exact Or.inr hr4)
    obtain ⟨fs7, g7⟩ := hl4.ob
    refine w_geta_of hb4 rfl <| w_nn_of <| w_is_of g7 <| sp_J2_size hl4 ?_
    rw [List.length_map, List.length_append, List.length_singleton, nI_pred]
    refine hQ h4 ρ4 hl hdm4 hex4 (fun c e hc hS => hfr4 c e hc (fun z => hS ?_)) hB4
    show (ρ c).1 = k
    rcases z with z | z <;> rw [z]
end TELL
