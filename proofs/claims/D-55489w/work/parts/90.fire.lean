set_option maxRecDepth 100000
/-! trusts stay trusts: the product of two floats that are not negative and not above 1.0f -/
theorem fm_near {num den B : Nat} (hd : 0 < den) (h : num ≤ B * den) : FP.Core.nearest num den ≤ B := by
  unfold FP.Core.nearest
  have h1 : num / den ≤ B := Nat.div_le_of_le_mul (by rw [Nat.mul_comm]; exact h)
  by_cases q : num / den = B
  · have h2 := Nat.div_add_mod num den
    rw [q] at h2
    have h3 : num % den = 0 := by
      rw [Nat.mul_comm] at h2
      omega
    rw [if_pos (by omega)]
    exact h1
  · split
    · exact h1
    · split
      · omega
      · have := Nat.mod_lt (num / den) (show 0 < 2 by decide)
        omega
theorem fm_dec {x1 : Nat} (h : x1 ≤ 1065353216) : ∃ (c k : Nat), FP.Core.decode FP.Core.b32 x1 = .fin false c (-(k : Int)) ∧ 23 ≤ k ∧ k ≤ 149 ∧ c ≤ 2 ^ k ∧ c < 2 ^ 24 := by
  have ht : FP.Core.b32.tails = 8388608 := by decide
  have he : FP.Core.b32.exps = 256 := by decide
  have hq : FP.Core.b32.qmin = -149 := by decide
  unfold FP.Core.decode FP.Core.fieldE FP.Core.fieldT FP.Core.fieldS
  rw [ht, he, hq]
  have e1 : x1 / 8388608 ≤ 127 := by omega
  have e2 : x1 / 8388608 % 256 = x1 / 8388608 := Nat.mod_eq_of_lt (by omega)
  have e3 : (x1 / 8388608 / 256 % 2 == 1) = false := by
    rw [show x1 / 8388608 / 256 = 0 by omega]
    rfl
  rw [e2, e3, if_neg (by omega)]
  by_cases q : x1 / 8388608 = 0
  · rw [if_pos q]
    refine ⟨x1 % 8388608, 149, rfl, by decide, by decide, ?_, by omega⟩
    have : (8388608 : Nat) ≤ 2 ^ 149 := by decide
    omega
  · rw [if_neg q]
    refine ⟨8388608 + x1 % 8388608, 150 - x1 / 8388608, ?_, by omega, by omega, ?_, by omega⟩
    · congr 1
      omega
    · by_cases q2 : x1 / 8388608 = 127
      · rw [q2]
        have : x1 % 8388608 = 0 := by omega
        rw [this]
        decide
      · have : (2 : Nat) ^ 24 ≤ 2 ^ (150 - x1 / 8388608) := Nat.pow_le_pow_right (by decide) (by omega)
        omega
theorem fm01 {a b : UInt32} (ha : q_tr a) (hb : q_tr b) : q_tr (FP.fmul a b) := by
  have ha' : a.toNat ≤ 1065353216 := UInt32.le_iff_toNat_le.mp ha
  have hb' : b.toNat ≤ 1065353216 := UInt32.le_iff_toNat_le.mp hb
  obtain ⟨c, k, e1, k1, k2, c1, c2⟩ := fm_dec ha'
  obtain ⟨d, l, e2, l1, l2, d1, d2⟩ := fm_dec hb'
  have key : FP.Core.mul FP.Core.b32 a.toNat b.toNat ≤ 1065353216 := by
    have ht : FP.Core.b32.tails = 8388608 := by decide
    have he : FP.Core.b32.exps = 256 := by decide
    have hq : FP.Core.b32.qmin = -149 := by decide
    have hqx : FP.Core.b32.qmax = 104 := by decide
    have hp : FP.Core.b32.p = 24 := by decide
    unfold FP.Core.mul
    rw [e1, e2]
    show FP.Core.encode FP.Core.b32 (FP.Core.roundRatio FP.Core.b32 false (c * d) 1 (-(k : Int) + -(l : Int))) ≤ _
    generalize hn : c * d = n
    have n1 : n ≤ 2 ^ (k + l) := by
      rw [← hn, Nat.pow_add]
      exact Nat.mul_le_mul c1 d1
    unfold FP.Core.roundRatio
    by_cases n0 : n = 0
    · rw [if_pos n0]
      decide
    · rw [if_neg n0]
      unfold FP.Core.roundAt FP.Core.quantum FP.Core.leading
      have lg1 : Nat.log2 1 = 0 := by decide
      have hL1 : 2 ^ n.log2 ≤ n := Nat.log2_self_le n0
      have hL2 : n < 2 ^ (n.log2 + 1) := Nat.lt_log2_self
      rw [lg1]
      have hk : (if 1 * 2 ^ ((n.log2 : Int) - ((0 : Nat) : Int)).toNat ≤ n * 2 ^ (-((n.log2 : Int) - ((0 : Nat) : Int))).toNat then ((n.log2 : Int) - ((0 : Nat) : Int)) else ((n.log2 : Int) - ((0 : Nat) : Int)) - 1) = (n.log2 : Int) := by
        rw [if_pos]
        · omega
        · have z1 : ((n.log2 : Int) - ((0 : Nat) : Int)).toNat = n.log2 := by omega
          have z2 : (-((n.log2 : Int) - ((0 : Nat) : Int))).toNat = 0 := by omega
          rw [z1, z2]
          omega
      simp only
      rw [hk, hq, hp]
      have hLe : n.log2 ≤ k + l := by
        have h3 : 2 ^ n.log2 ≤ 2 ^ (k + l) := Nat.le_trans hL1 n1
        exact (Nat.pow_le_pow_iff_right (by decide)).mp h3
      generalize hL : n.log2 = L at *
      generalize hQ : max (-149 : Int) ((L : Int) + (-(k : Int) + -(l : Int)) - (((24 : Nat) : Int) - 1)) = Q
      have Q1 : -149 ≤ Q := by omega
      have Q2 : Q ≤ -23 := by omega
      have Q3 : (L : Int) - k - l - 23 ≤ Q := by omega
      unfold FP.Core.unitsNum FP.Core.unitsDen
      have hm : FP.Core.nearest (n * 2 ^ ((-(k : Int) + -(l : Int)) - Q).toNat) (1 * 2 ^ (Q - (-(k : Int) + -(l : Int))).toNat) ≤ 2 ^ 24 := by
        refine fm_near (by have := Nat.pow_pos (n := (Q - (-(k : Int) + -(l : Int))).toNat) (show 0 < 2 by decide); omega) ?_
        rw [Nat.one_mul, ← Nat.pow_add]
        refine Nat.le_trans (Nat.mul_le_mul_right _ (Nat.le_of_lt hL2)) ?_
        rw [← Nat.pow_add]
        exact Nat.pow_le_pow_right (by decide) (by omega)
      have hm2 : Q = -23 → FP.Core.nearest (n * 2 ^ ((-(k : Int) + -(l : Int)) - Q).toNat) (1 * 2 ^ (Q - (-(k : Int) + -(l : Int))).toNat) ≤ 2 ^ 23 := by
        intro hQ23
        refine fm_near (by have := Nat.pow_pos (n := (Q - (-(k : Int) + -(l : Int))).toNat) (show 0 < 2 by decide); omega) ?_
        rw [Nat.one_mul, ← Nat.pow_add]
        have z1 : ((-(k : Int) + -(l : Int)) - Q).toNat = 0 := by omega
        rw [z1, Nat.pow_zero, Nat.mul_one]
        refine Nat.le_trans n1 (Nat.pow_le_pow_right (by decide) (by omega))
      generalize FP.Core.nearest (n * 2 ^ ((-(k : Int) + -(l : Int)) - Q).toNat) (1 * 2 ^ (Q - (-(k : Int) + -(l : Int))).toNat) = m at *
      have p23 : (2 : Nat) ^ 23 = 8388608 := by decide
      have p24 : (2 : Nat) ^ 24 = 16777216 := by decide
      rw [p24] at hm
      rw [p23] at hm2
      unfold FP.Core.settle FP.Core.bound
      rw [hp, p24, hqx, ht]
      have asm : ∀ E T : Nat, FP.Core.assemble FP.Core.b32 false E T = E * 8388608 + T := by
        intro E T
        unfold FP.Core.assemble
        rw [ht, he]
        show (0 * 256 + E) * 8388608 + T = _
        omega
      by_cases q : m < 16777216
      · rw [if_pos q, if_pos (by omega)]
        unfold FP.Core.encode
        simp only
        rw [ht, hq]
        by_cases q2 : m < 8388608
        · rw [if_pos q2, asm]
          omega
        · rw [if_neg q2, asm]
          omega
      · rw [if_neg q, if_pos (by omega)]
        unfold FP.Core.encode
        simp only
        rw [ht, hq, if_neg (by omega), asm]
        have : Q ≠ -23 := fun z => by
          have := hm2 z
          omega
        omega
  show UInt32.ofNat (FP.Core.mul FP.Core.b32 a.toNat b.toNat) ≤ 1065353216
  rw [UInt32.le_iff_toNat_le, UInt32.toNat_ofNat']
  have : FP.Core.mul FP.Core.b32 a.toNat b.toNat % 2 ^ 32 = FP.Core.mul FP.Core.b32 a.toNat b.toNat := Nat.mod_eq_of_lt (by omega)
  rw [this]
  exact key
/-! to fire a match -/
def s_pers (g : Nat → Int32) (t : Nat) : Int32 := if t ≤ 9 then nI t else g (t - 10)
def c_bind (r : Nat → Nat) (y : CF) (oz : Option CF) : Nat → Int32 := match oz with
  | none => (s_f1 r y.2.1).2
  | some z => (s_f2 r (s_f1 r y.2.1).2 z.2.1).2
def c_addF (C : CC) (i : Nat) (fi : FI) : CC := match C.2.1[i]? with
  | none => C
  | some y => (C.1, C.2.1.set i (y.1, y.2.1, y.2.2.1, y.2.2.2 ++ [fi]), C.2.2)
def c_addR (C : CC) (i : Nat) (fi : FI) : CC := match C.2.1[i]? with
  | none => C
  | some y => (C.1, C.2.1.set i (y.1, y.2.1, y.2.2.1 ++ [fi], y.2.2.2), C.2.2)
section FIRE
variable {G : GG} {h h' : HH} {ρ ρ' : RO} {k b w p t : Nat} {C : CC}
theorem sp_X8_person {a b1 pa i t1 : Nat} {kk : Int32} {f g : Nat → Int32} {Q : Int32 → HH → Prop} (ha : h a = some (.inr (11, [.int kk, .ref b1]))) (hb : h b1 = some (.inl (G.2.1 0, 2, .inl f))) (hi : i < 2) (hf : f i = nI t1) (ht : t1 ≤ 12) (hp : h pa = some (.inl (G.2.1 0, 3, .inl g))) (hQ : Q (s_pers g t1) h) : wp_X8_person G h a (nI i) (some pa) Q := by
  unfold wp_X8_person
  refine w_geta_of ha rfl <| w_nn_of <| w_ild_of hb hi (by decide) ?_
  rw [hf]
  unfold s_pers at hQ
  refine ⟨fun z => ?_, fun z => ?_⟩
  · have h9 : 9 < t1 := by
      rcases Nat.lt_or_ge 9 t1 with q | q
      · exact q
      · exact absurd z (nI_nlt (a := 9) (b := t1) q (by omega))
    rw [if_neg (by omega)] at hQ
    refine w_geta_of ha rfl <| w_nn_of <| w_ild_of hb hi (by decide) <| w_nn_of ?_
    rw [hf]
    have e : (nI t1 - (9 : Int32)) - (1 : Int32) = nI (t1 - 10) := by
      rw [show (9 : Int32) = nI 9 from rfl, pk_sub (by omega), show (1 : Int32) = nI 1 from rfl, pk_sub (by omega)]
      rfl
    rw [e]
    exact w_ild_of hp (by omega) (by decide) hQ
  · have h9 : t1 ≤ 9 := by
      rcases Nat.lt_or_ge 9 t1 with q | q
      · exact absurd (nI_lt (a := 9) (b := t1) q (by omega)) z
      · exact q
    rw [if_pos h9] at hQ
    refine w_geta_of ha rfl <| w_nn_of <| w_ild_of hb hi (by decide) ?_
    rw [hf]
    exact hQ
/-- a list of a fact anew -/
theorem q_B.setF {i : Nat} {y : CF} {lr lf : Nat} {fis : List FI} (hB : q_B G h ρ k b w p t C) (hk : k ≠ 0) (hok : c_ok C) (hy : C.2.1[i]? = some y) (hc : h y.1 = some (.inr (14, q_fv y.2.1 lr lf))) (he : q_ex h ρ ρ')
    (hs : q_sp (fun c => ρ c = (k, 8 + 5 * y.2.1 0 + 3) ∨ ρ c = (k, 8 + 5 * y.2.1 0 + 4)) h h') (hl : q_fl G h' ρ' (k, 8 + 5 * y.2.1 0 + 3) lf fis) : q_B G h' ρ' k b w p t (C.1, C.2.1.set i (y.1, y.2.1, y.2.2.1, fis), C.2.2) := by
  have hkR : q_kR G (fun r => r ≠ (k, 8 + 5 * y.2.1 0 + 3) ∧ r ≠ (k, 8 + 5 * y.2.1 0 + 4)) h ρ h' ρ' := ⟨he, fun c e hc _ hr => hs c e hc (fun z => z.elim hr.1 hr.2)⟩
  have hne : ∀ j, j < 8 + 5 * y.2.1 0 + 3 → ((k, j) : Nat × Nat) ≠ (k, 8 + 5 * y.2.1 0 + 3) ∧ ((k, j) : Nat × Nat) ≠ (k, 8 + 5 * y.2.1 0 + 4) := fun j hj => ⟨fun z => by have := congrArg Prod.snd z; simp only at this; omega, fun z => by have := congrArg Prod.snd z; simp only at this; omega⟩
  have h00 : ((0, 0) : Nat × Nat) ≠ (k, 8 + 5 * y.2.1 0 + 3) ∧ ((0, 0) : Nat × Nat) ≠ (k, 8 + 5 * y.2.1 0 + 4) := ⟨fun z => hk (congrArg Prod.fst z).symm, fun z => hk (congrArg Prod.fst z).symm⟩
  obtain ⟨e1, lr1, lf1, e2, e3, e4⟩ := (hB.1.fact hy).1
  rw [hc] at e2
  cases e2
  have hw : ∀ {c j}, ρ c = (k, j) → j < 8 + 5 * y.2.1 0 + 3 → ¬ (ρ c = (k, 8 + 5 * y.2.1 0 + 3) ∨ ρ c = (k, 8 + 5 * y.2.1 0 + 4)) := fun q1 q2 z => by
    rw [q1] at z
    exact z.elim (hne _ q2).1 (hne _ q2).2
  have hy' : q_ft G h' ρ' k (y.1, y.2.1, y.2.2.1, fis) := ⟨by rw [he _ _ hc]; exact e1, lr, lf, hs _ _ hc (hw e1 (by omega)), e3.kR hkR h00 (hne _ (by omega)) (hne _ (by omega)), hl⟩
  obtain ⟨⟨f1, f2⟩, ⟨f3, f4⟩, ⟨f5, f6⟩⟩ := hB.2.1.cells
  refine ⟨hB.1.set hok hy (hkR.mono (fun r hr => ?_)) hy' rfl, hB.2.1.S hs (hw hB.2.2.1 (by omega)) (hw hB.2.2.2.1 (by omega)) (hw hB.2.2.2.2 (by omega)), by rw [he _ _ f2]; exact hB.2.2.1, by rw [he _ _ f4]; exact hB.2.2.2.1, by rw [he _ _ f6]; exact hB.2.2.2.2⟩
  rcases hr with hr | ⟨hr1, hr2⟩
  · exact ⟨fun z => hk (by rw [z] at hr; exact hr), fun z => hk (by rw [z] at hr; exact hr)⟩
  · refine ⟨fun z => hr2 ?_, fun z => hr2 ?_⟩ <;> rw [z] <;> simp only <;> omega
theorem q_B.setR {i : Nat} {y : CF} {lr lf : Nat} {fis : List FI} (hB : q_B G h ρ k b w p t C) (hk : k ≠ 0) (hok : c_ok C) (hy : C.2.1[i]? = some y) (hc : h y.1 = some (.inr (14, q_fv y.2.1 lr lf))) (he : q_ex h ρ ρ')
    (hs : q_sp (fun c => ρ c = (k, 8 + 5 * y.2.1 0 + 1) ∨ ρ c = (k, 8 + 5 * y.2.1 0 + 2)) h h') (hl : q_fl G h' ρ' (k, 8 + 5 * y.2.1 0 + 1) lr fis) : q_B G h' ρ' k b w p t (C.1, C.2.1.set i (y.1, y.2.1, fis, y.2.2.2), C.2.2) := by
  have hkR : q_kR G (fun r => r ≠ (k, 8 + 5 * y.2.1 0 + 1) ∧ r ≠ (k, 8 + 5 * y.2.1 0 + 2)) h ρ h' ρ' := ⟨he, fun c e hc _ hr => hs c e hc (fun z => z.elim hr.1 hr.2)⟩
  have hne : ∀ j, (j < 8 + 5 * y.2.1 0 + 1 ∨ 8 + 5 * y.2.1 0 + 2 < j) → ((k, j) : Nat × Nat) ≠ (k, 8 + 5 * y.2.1 0 + 1) ∧ ((k, j) : Nat × Nat) ≠ (k, 8 + 5 * y.2.1 0 + 2) := fun j hj => ⟨fun z => by have := congrArg Prod.snd z; simp only at this; omega, fun z => by have := congrArg Prod.snd z; simp only at this; omega⟩
  have h00 : ((0, 0) : Nat × Nat) ≠ (k, 8 + 5 * y.2.1 0 + 1) ∧ ((0, 0) : Nat × Nat) ≠ (k, 8 + 5 * y.2.1 0 + 2) := ⟨fun z => hk (congrArg Prod.fst z).symm, fun z => hk (congrArg Prod.fst z).symm⟩
  obtain ⟨e1, lr1, lf1, e2, e3, e4⟩ := (hB.1.fact hy).1
  rw [hc] at e2
  cases e2
  have hw : ∀ {c j}, ρ c = (k, j) → j < 8 + 5 * y.2.1 0 + 1 → ¬ (ρ c = (k, 8 + 5 * y.2.1 0 + 1) ∨ ρ c = (k, 8 + 5 * y.2.1 0 + 2)) := fun q1 q2 z => by
    rw [q1] at z
    exact z.elim (hne _ (Or.inl q2)).1 (hne _ (Or.inl q2)).2
  have hy' : q_ft G h' ρ' k (y.1, y.2.1, fis, y.2.2.2) := ⟨by rw [he _ _ hc]; exact e1, lr, lf, hs _ _ hc (hw e1 (by omega)), hl, e4.kR hkR h00 (hne _ (by omega)) (hne _ (by omega))⟩
  obtain ⟨⟨f1, f2⟩, ⟨f3, f4⟩, ⟨f5, f6⟩⟩ := hB.2.1.cells
  refine ⟨hB.1.set hok hy (hkR.mono (fun r hr => ?_)) hy' rfl, hB.2.1.S hs (hw hB.2.2.1 (by omega)) (hw hB.2.2.2.1 (by omega)) (hw hB.2.2.2.2 (by omega)), by rw [he _ _ f2]; exact hB.2.2.1, by rw [he _ _ f4]; exact hB.2.2.2.1, by rw [he _ _ f6]; exact hB.2.2.2.2⟩
  rcases hr with hr | ⟨hr1, hr2⟩
  · exact ⟨fun z => hk (by rw [z] at hr; exact hr), fun z => hk (by rw [z] at hr; exact hr)⟩
  · refine ⟨fun z => hr2 ?_, fun z => hr2 ?_⟩ <;> rw [z] <;> simp only <;> omega
/-- a firing is added to a fact's list -/
theorem sp_addFi {mc ms a fd : Nat} {tt : Nat × Nat} {fis : List FI} {fi : FI} {Q : Int32 → HH → Prop} (hl : q_fl G h ρ tt a fis) (ht0 : tt.1 ≠ 0) (hfd : q_fi h ρ fd fi) (hc : 1 ≤ mc) (hs : 2 * fis.length + 10 ≤ ms) (hn : fis.length < 4000)
    (hQ : ∀ h' ρ', q_dm h h' → q_ex h ρ ρ' → q_sp (fun c => ρ c = tt ∨ ρ c = (tt.1, tt.2 + 1)) h h' → q_fl G h' ρ' tt a (fis ++ [fi]) → Q 1 h') : wp_J2_add G mc ms h a (some fd) Q := by
  obtain ⟨zs, rfl, hls, hfi⟩ := hl.zip
  rw [List.length_map] at hs hn
  have h00 : ((0, 0) : Nat × Nat) ≠ tt ∧ ((0, 0) : Nat × Nat) ≠ (tt.1, tt.2 + 1) := ⟨fun z => ht0 (by rw [← z]), fun z => ht0 (congrArg Prod.fst z).symm⟩
  refine sp_J2_add hls ⟨_, hfd.2, Or.inl ⟨16, _, by decide, rfl⟩⟩ (fun y hy => ?_) hc (by rw [List.length_map]; omega) (by rw [List.length_map]; omega) (fun h4 ρ4 hdm4 hex4 hfr4 hl4 => ?_)
  · obtain ⟨z, hz, rfl⟩ := List.mem_map.mp hy
    exact ⟨_, (hfi z hz).2, Or.inl ⟨16, _, by decide, rfl⟩⟩
  · have hkR : q_kR G (fun r => r ≠ tt ∧ r ≠ (tt.1, tt.2 + 1)) h ρ h4 ρ4 := ⟨hex4, fun c e hc _ hr => hfr4 c e hc (fun z => z.elim hr.1 hr.2)⟩
    have := q_fl.unzip (G := G) (h := h4) (ρ := ρ4) (t := tt) (a := a) (zs := zs ++ [(fd, fi)]) (by rw [List.map_append]; exact hl4) (fun z hz => by
      rcases List.mem_append.mp hz with q | q
      · exact (hfi z q).kR hkR h00
      · rw [List.mem_singleton.mp q]
        exact hfd.kR hkR h00)
    rw [List.map_append] at this
    exact hQ h4 ρ4 hdm4 hex4 (fun c e hc hS => hfr4 c e hc hS) this
theorem c_ok.addF {i : Nat} {fi : FI} (hok : c_ok C) (hfi : fi.2.1 < 100000 ∧ ∀ n, fi.2.2 = some n → n < 100000) : c_ok (c_addF C i fi) := by
  unfold c_addF
  split
  · exact hok
  · next y hy =>
    have hlt := (List.getElem?_eq_some_iff.mp hy).1
    obtain ⟨k1, k2, k3, k4, k5, k6, k7⟩ := hok
    have key : ∀ (j : Nat) (z : CF), (C.2.1.set i (y.1, y.2.1, y.2.2.1, y.2.2.2 ++ [fi]))[j]? = some z → ∃ z0 : CF, C.2.1[j]? = some z0 ∧ z.2.1 = z0.2.1 ∧ z.2.2.1 = z0.2.2.1 ∧ ∀ u ∈ z.2.2.2, u ∈ z0.2.2.2 ∨ u = fi := by
      intro j z hz
      by_cases q : j = i
      · subst q
        rw [List.getElem?_set_self hlt] at hz
        cases hz
        refine ⟨y, hy, rfl, rfl, fun u hu => ?_⟩
        rcases List.mem_append.mp hu with g | g
        · exact Or.inl g
        · exact Or.inr (List.mem_singleton.mp g)
      · rw [List.getElem?_set_ne (Ne.symm q)] at hz
        exact ⟨z, hz, rfl, rfl, fun u hu => Or.inl hu⟩
    refine ⟨k1, k2, k3, by simp only [List.length_set]; exact k4, fun a c u v hu hv hac => ?_, fun u hu => ?_, fun u hu => ?_⟩
    · obtain ⟨u0, q1, q2, -⟩ := key a u hu
      obtain ⟨v0, q3, q4, -⟩ := key c v hv
      rw [q2, q4]
      exact k5 a c u0 v0 q1 q3 hac
    · obtain ⟨j, hj⟩ := List.getElem?_of_mem hu
      obtain ⟨u0, q1, q2, -⟩ := key j u hj
      rw [q2]
      exact k6 u0 (List.mem_of_getElem? q1)
    · obtain ⟨j, hj⟩ := List.getElem?_of_mem hu
      obtain ⟨u0, q1, q2, q3, q4⟩ := key j u hj
      have := k7 u0 (List.mem_of_getElem? q1)
      refine ⟨by rw [q3]; exact this.1, fun v hv => ?_⟩
      rcases q4 v hv with g | g
      · exact this.2 v g
      · rw [g]; exact hfi
theorem c_ok.addR {i : Nat} {fi : FI} (hok : c_ok C) (hfi : fi.2.1 < 100000 ∧ ∀ n, fi.2.2 = some n → n < 100000) : c_ok (c_addR C i fi) := by
  unfold c_addR
  split
  · exact hok
  · next y hy =>
    have hlt := (List.getElem?_eq_some_iff.mp hy).1
    obtain ⟨k1, k2, k3, k4, k5, k6, k7⟩ := hok
    have key : ∀ (j : Nat) (z : CF), (C.2.1.set i (y.1, y.2.1, y.2.2.1 ++ [fi], y.2.2.2))[j]? = some z → ∃ z0 : CF, C.2.1[j]? = some z0 ∧ z.2.1 = z0.2.1 ∧ z.2.2.2 = z0.2.2.2 ∧ ∀ u ∈ z.2.2.1, u ∈ z0.2.2.1 ∨ u = fi := by
      intro j z hz
      by_cases q : j = i
      · subst q
        rw [List.getElem?_set_self hlt] at hz
        cases hz
        refine ⟨y, hy, rfl, rfl, fun u hu => ?_⟩
        rcases List.mem_append.mp hu with g | g
        · exact Or.inl g
        · exact Or.inr (List.mem_singleton.mp g)
      · rw [List.getElem?_set_ne (Ne.symm q)] at hz
        exact ⟨z, hz, rfl, rfl, fun u hu => Or.inl hu⟩
    refine ⟨k1, k2, k3, by simp only [List.length_set]; exact k4, fun a c u v hu hv hac => ?_, fun u hu => ?_, fun u hu => ?_⟩
    · obtain ⟨u0, q1, q2, -⟩ := key a u hu
      obtain ⟨v0, q3, q4, -⟩ := key c v hv
      rw [q2, q4]
      exact k5 a c u0 v0 q1 q3 hac
    · obtain ⟨j, hj⟩ := List.getElem?_of_mem hu
      obtain ⟨u0, q1, q2, -⟩ := key j u hj
      rw [q2]
      exact k6 u0 (List.mem_of_getElem? q1)
    · obtain ⟨j, hj⟩ := List.getElem?_of_mem hu
      obtain ⟨u0, q1, q2, q3, q4⟩ := key j u hj
      have := k7 u0 (List.mem_of_getElem? q1)
      refine ⟨fun v hv => ?_, by rw [q3]; exact this.2⟩
      rcases q4 v hv with g | g
      · exact this.1 v g
      · rw [g]; exact hfi
end FIRE
def c_trz (y : CF) : Option CF → UInt32
  | none => q_tb (y.2.1 5)
  | some z => FP.fmul (q_tb (y.2.1 5)) (q_tb (z.2.1 5))
section FIRE2
variable {G : GG} {h h' : HH} {ρ ρ' : RO} {k b w p t : Nat} {C : CC}
/-- another owner's cell is written -/
theorem q_B.ot {a : Nat} (hB : q_B G h ρ k b w p t C) (ha : (ρ a).1 ≠ k) (ha0 : (ρ a).1 ≠ 0) (hh : ∀ c, c ≠ a → h' c = h c) : q_B G h' ρ k b w p t C := by
  have ne : ∀ {c : Nat} {r : Nat × Nat}, ρ c = r → (r.1 = k ∨ r.1 = 0) → c ≠ a := fun h1 h2 z => by
    rw [z] at h1
    rw [h1] at ha ha0
    exact h2.elim ha ha0
  exact hB.ro (hB.1.kp ⟨fun _ _ _ => rfl, fun c e hc _ hr => by rw [hh c (ne rfl hr)]; exact hc⟩) (hB.2.1.S (S := fun c => c = a) (q_sp.of hh rfl) (ne hB.2.2.1 (Or.inl rfl)) (ne hB.2.2.2.1 (Or.inl rfl)) (ne hB.2.2.2.2 (Or.inl rfl))) (fun _ _ _ => rfl)
def c_fw (C : CC) : Prop := ∀ y ∈ C.2.1, (97 ≤ y.2.1 1 ∧ y.2.1 1 ≤ 102) ∧ y.2.1 2 ≤ 9 ∧ y.2.1 3 ≤ 9 ∧ y.2.1 4 ≤ 1 ∧ q_tr (q_tb (y.2.1 5)) ∧ y.2.1 0 < C.2.2 0
def c_idle (C : CC) : CC := (C.1, C.2.1, c_st C.2.2 3 (C.2.2 3 + 1))
def c_fir (C : CC) : CC := (C.1, C.2.1, c_st C.2.2 2 (C.2.2 2 + 1))
def c_fire (C : CC) (i : Nat) (fi : FI) (kd one two : Nat) (tr : UInt32) (a : Nat) (C' : CC) (made : Option Nat) : Prop :=
  (∃ (j : Nat) (u : CF), C.2.1[j]? = some u ∧ u.2.1 1 = kd ∧ u.2.1 2 = one ∧ u.2.1 3 = two ∧ C' = c_addR (c_addF (c_fir C) i fi) j fi ∧ made = some (u.2.1 0)) ∨
  ((∀ u ∈ C.2.1, ¬ (u.2.1 1 = kd ∧ u.2.1 2 = one ∧ u.2.1 3 = two)) ∧ C.2.1.length < 20 ∧ C' = c_addR (c_addF (c_come (c_fir C) a kd one two tr) i fi) C.2.1.length fi ∧ made = some (C.2.2 0)) ∨
  ((∀ u ∈ C.2.1, ¬ (u.2.1 1 = kd ∧ u.2.1 2 = one ∧ u.2.1 3 = two)) ∧ C.2.1.length = 20 ∧ C' = c_idle (c_addF (c_fir C) i fi) ∧ made = none)
theorem sp_fire_L194 {mc ms nc nk i fd Lb : Nat} {y : CF} {fi : FI} {oj : Option Nat} {x9 : Option Nat} {Q : Int32 → HH → Prop} (hB : q_B G h ρ k b w p t C) (hk : 10 ≤ k) (hok : c_ok C) (hy : C.2.1[i]? = some y) (hfd : q_fi h ρ fd fi) (hfib : fi.2.1 < 100000 ∧ ∀ n, fi.2.2 = some n → n < 100000)
    (hLb : ∀ y ∈ C.2.1, y.2.2.1.length ≤ Lb ∧ y.2.2.2.length ≤ Lb) (hLb2 : Lb < 3999) (hnc : nc + 2 ≤ mc) (hnk : nk + 4 * Lb + 30 ≤ ms)
    (hx9 : ∀ a, x9 = some a → ∃ (j : Nat) (u : CF), oj = some j ∧ C.2.1[j]? = some u ∧ u.1 = a) (hx9n : x9 = none → oj = none)
    (hQ0 : ∀ h' ρ', oj = none → q_dm h h' → q_ex h ρ ρ' → q_sp (fun c => (ρ c).1 = k) h h' → q_B G h' ρ' k b w p t (c_idle (c_addF C i fi)) → Q (-1) h')
    (hQ1 : ∀ (j : Nat) (u : CF) h' ρ', oj = some j → C.2.1[j]? = some u → q_dm h h' → q_ex h ρ ρ' → q_sp (fun c => (ρ c).1 = k) h h' → q_B G h' ρ' k b w p t (c_addR (c_addF C i fi) j fi) → Q (nI (u.2.1 0)) h') :
    wp_X2_fire_L194 G mc ms b Q h nc nk fd (some y.1) x9 := by
  obtain ⟨hry, lr, lf, hc, hfl1, hfl2⟩ := (hB.1.fact hy).1
  obtain ⟨xs, u1, u2, ⟨fsx, u3⟩, -⟩ := hfl2.len
  have hb := hLb y (List.mem_of_getElem? hy)
  unfold wp_X2_fire_L194
  refine w_nn_of <| w_geta_of hc rfl <| w_nn_of ⟨1, 2 * Lb + 10, by omega, by omega, w_is_of u3 <| sp_addFi hfl2 (show k ≠ 0 by omega) hfd (by omega) (by omega) (by omega) (fun h1 ρ1 hdm1 hex1 hs1 hl1 => ?_)⟩
  have hB1 : q_B G h1 ρ1 k b w p t (c_addF C i fi) := by
    have := hB.setF (by omega) hok hy hc hex1 hs1 hl1
    unfold c_addF
    rw [hy]
    exact this
  have hsk : q_sp (fun c => (ρ c).1 = k) h h1 := fun c e hc0 hS => hs1 c e hc0 (fun z => hS (by
    dsimp only at z ⊢
    rcases z with z | z <;> rw [z]))
  have hcnt : (c_addF C i fi).2.2 = C.2.2 ∧ (c_addF C i fi).2.1 = C.2.1.set i (y.1, y.2.1, y.2.2.1, y.2.2.2 ++ [fi]) := by
    unfold c_addF
    rw [hy]
    exact ⟨rfl, rfl⟩
  have hfd1 : q_fi h1 ρ1 fd fi := by
    refine ⟨by rw [hex1 _ _ hfd.2]; exact hfd.1, hs1 _ _ hfd.2 (fun z => ?_)⟩
    dsimp only at z
    rw [hfd.1] at z
    rcases z with z | z <;> have := congrArg Prod.fst z <;> simp only at this <;> omega
  refine ⟨fun z => ?_, fun a z => ?_⟩
  · obtain ⟨lr8, lf8, m1, -⟩ := hB1.1.len
    refine w_geti_of m1 rfl <| w_put_of m1 (Nat.le_of_ble_eq_true rfl) rfl ?_
    have e1 : nI ((c_addF C i fi).2.2 3) + 1 = nI ((c_addF C i fi).2.2 3 + 1) := nI_1 _
    rw [e1]
    refine hQ0 _ ρ1 (hx9n z) hdm1.up hex1 (hsk.tr (fun c e hc0 hS => ?_)) (hB1.cnt (n' := c_st (c_addF C i fi).2.2 3 ((c_addF C i fi).2.2 3 + 1)) (by omega) m1 (fun c hc => q_h_ne hc) q_h_same)
    rw [q_h_ne (fun z => ?_)]
    · exact hc0
    · have hbk := hB.1.1
      exact hS (show (ρ c).1 = k by rw [z, hbk])
  · obtain ⟨j, u, hoj, hu, hua⟩ := hx9 a z
    have hlt := (List.getElem?_eq_some_iff.mp hy).1
    obtain ⟨u1, hu1, e1, e2, e3⟩ : ∃ u1 : CF, (c_addF C i fi).2.1[j]? = some u1 ∧ u1.1 = u.1 ∧ u1.2.1 = u.2.1 ∧ u1.2.2.1 = u.2.2.1 := by
      rw [hcnt.2]
      by_cases q : j = i
      · subst q
        rw [hy] at hu
        cases hu
        exact ⟨_, List.getElem?_set_self hlt, rfl, rfl, rfl⟩
      · exact ⟨u, by rw [List.getElem?_set_ne (Ne.symm q)]; exact hu, rfl, rfl, rfl⟩
    subst hua
    rw [← e1]
    obtain ⟨hru, lr2, lf2, hcu, hfu1, hfu2⟩ := (hB1.1.fact hu1).1
    obtain ⟨xs2, w1, w2, ⟨fsw, w3⟩, -⟩ := hfu1.len
    have hb2 := hLb u (List.mem_of_getElem? hu)
    refine w_geta_of hcu rfl <| w_nn_of ⟨1, 2 * Lb + 10, by omega, by omega, w_is_of w3 <| sp_addFi hfu1 (show k ≠ 0 by omega) hfd1 (by omega) (by rw [e3]; omega) (by rw [e3]; omega) (fun h2 ρ2 hdm2 hex2 hs2 hl2 => ?_)⟩
    have hB2 : q_B G h2 ρ2 k b w p t (c_addR (c_addF C i fi) j fi) := by
      have := hB1.setR (by omega) (hok.addF hfib) hu1 hcu hex2 hs2 hl2
      unfold c_addR
      rw [hu1]
      exact this
    have hcu2 : h2 u1.1 = some (.inr (14, q_fv u1.2.1 lr2 lf2)) := hs2 _ _ hcu (fun z => by
      dsimp only at z
      rw [hru] at z
      rcases z with z | z <;> have := congrArg Prod.snd z <;> simp only at this <;> omega)
    refine w_geti_of hcu2 rfl ?_
    rw [e2]
    refine hQ1 j u h2 ρ2 hoj hu (hdm1.tr hdm2) (q_ex.tr hdm1 hex1 hex2) (fun c e hc0 hS => ?_) hB2
    refine hs2 c e (hsk c e hc0 hS) (fun z => hS ?_)
    dsimp only at z ⊢
    rw [hex1 c e hc0] at z
    rcases z with z | z <;> rw [z]
theorem c_fir_ok (hok : c_ok C) : c_ok (c_fir C) := hok
theorem sp_fire_L81 {mc ms nc nk i fd pa Lb : Nat} {y : CF} {fi : FI} {oz : Option CF} {x1 : Nat × (Nat → Nat)} {f3 g : Nat → Int32} {one two : Nat} {t0 t1 : Int32} {Q : Int32 → HH → Prop} (hB : q_B G h ρ k b w p t C) (hk : 10 ≤ k) (hok : c_ok C) (hfw : c_fw C) (hnum : C.2.2 0 < 100000) (hx : x1 ∈ C.1) (hy : C.2.1[i]? = some y) (hoz : ∀ z, oz = some z → z ∈ C.2.1) (hfd : q_fi h ρ fd fi) (hf1 : fi.1 = x1.1) (hfib : fi.2.1 < 100000 ∧ ∀ n, fi.2.2 = some n → n < 100000)
    (hpa : h pa = some (.inl (G.2.1 0, 3, .inl f3))) (hf3 : ∀ j, j < 3 → f3 j = g j) (hone : s_pers g (x1.2 8) = nI one) (htwo : s_pers g (x1.2 9) = nI two) (ho9 : one ≤ 9) (ht9 : two ≤ 9)
    (hLb : ∀ y ∈ C.2.1, y.2.2.1.length ≤ Lb ∧ y.2.2.2.length ≤ Lb) (hLb2 : Lb < 3999) (hnc : nc + 7 ≤ mc) (hnk : nk + 4 * Lb + 110 ≤ ms)
    (hQ : ∀ h' ρ' a C' made, c_fire C i fi (x1.2 7) one two (c_trz y oz) a C' made → q_dm h h' → q_ex h ρ ρ' → q_sp (fun c => (ρ c).1 = k) h h' → q_B G h' ρ' k b w p t C' → Q (nO made) h') :
    wp_X2_fire_L81 G mc ms b Q h nc nk fd pa (some y.1) (oz.map Prod.fst) t0 t1 := by
  obtain ⟨lr, lf, g1, g3, g2, ⟨fs3, g5⟩, ⟨fs4, g4⟩⟩ := hB.1.len
  have hρb := hB.1.1
  have hl20 := hok.2.2.2.1
  have hym := List.mem_of_getElem? hy
  obtain ⟨ix, hix⟩ := List.getElem?_of_mem hx
  obtain ⟨hr1, -⟩ := hB.1.rule hix
  obtain ⟨r0, r3, r10, p1, p2, p3, hra, -, -, -, hp3⟩ := hr1
  obtain ⟨q0, qk, b1, f1, q1, hpa3, hpb3, k1, k2, k3, k4⟩ := hp3
  have hfd0 := hfd.2
  rw [hf1] at hfd0
  have hpers : ∀ t1, t1 ≤ 12 → s_pers f3 t1 = s_pers g t1 := by
    intro t1 h1
    unfold s_pers
    split
    · rfl
    · exact hf3 _ (by omega)
  unfold wp_X2_fire_L81
  refine w_geta_of hfd0 rfl <| w_nn_of <| w_geta_of hra rfl <| w_nn_of <| w_is_of hpa3 ?_
  refine sp_X8_person (i := 0) hpa3 hpb3 (by decide) k1 k3 hpa <| w_is_of hpa3 ?_
  refine sp_X8_person (i := 1) hpa3 hpb3 (by decide) k2 k4 hpa ?_
  rw [hpers _ k3, hpers _ k4, hone, htwo]
  refine w_geti_of hpa3 rfl ⟨1, 4, by omega, by omega, w_is_of g1 ?_⟩
  -- firings counted
  have cnt : ∀ {h2 : HH}, q_sp q_no h h2 → q_B G (va_up h2 b (some (.inr (2, q_bv w lr lf (c_st C.2.2 2 (C.2.2 2 + 1)))))) ρ k b w p t (c_fir C) ∧ q_dm h (va_up h2 b (some (.inr (2, q_bv w lr lf (c_st C.2.2 2 (C.2.2 2 + 1)))))) ∧ q_sp (fun c => (ρ c).1 = k) h (va_up h2 b (some (.inr (2, q_bv w lr lf (c_st C.2.2 2 (C.2.2 2 + 1)))))) ∧ q_fi (va_up h2 b (some (.inr (2, q_bv w lr lf (c_st C.2.2 2 (C.2.2 2 + 1)))))) ρ fd fi := by
    intro h2 hs
    have hs' : q_sp (fun c => (ρ c).1 = k) h (va_up h2 b (some (.inr (2, q_bv w lr lf (c_st C.2.2 2 (C.2.2 2 + 1)))))) := fun c e hc0 hS => by
      rw [q_h_ne (fun z => hS (show (ρ c).1 = k by rw [z, hρb]))]
      exact hs c e hc0 q_no.not
    refine ⟨(hB.no hs).cnt (by omega) (hs b _ g1 q_no.not) (fun c hc => q_h_ne hc) q_h_same, q_dm.up (fun c e hc => ⟨e, hs c e hc q_no.not⟩), hs', hfd.1, hs' _ _ hfd.2 (fun z => ?_)⟩
    dsimp only at z
    rw [hfd.1] at z
    simp only at z
    omega
  have e1 : nI (C.2.2 2) + 1 = nI (C.2.2 2 + 1) := nI_1 _
  have eqs : ∀ u : CF, u ∈ C.2.1 → ((nI (u.2.1 1) = nI (x1.2 7) ∧ nI (u.2.1 2) = nI one ∧ nI (u.2.1 3) = nI two) ↔ (u.2.1 1 = x1.2 7 ∧ u.2.1 2 = one ∧ u.2.1 3 = two)) := by
    intro u hu
    obtain ⟨⟨c1, c2⟩, c3, c4, -⟩ := hfw u hu
    rw [nI_eq (by omega) (by omega), nI_eq (by omega) (by omega), nI_eq (by omega) (by omega)]
  refine sp_X2_find_2 hB.1 (by omega) (by omega) (fun h2 j u hs hu z1 z2 z3 hno => ?_) (fun h2 hs hno => ?_)
  · -- it is there
    have hum := List.mem_of_getElem? hu
    obtain ⟨i1, i2, i3⟩ := (eqs u hum).mp ⟨z1, z2, z3⟩
    obtain ⟨c1, c2, c3, c4⟩ := cnt hs
    have hb2 := hs b _ g1 q_no.not
    refine w_geti_of hb2 rfl <| w_put_of hb2 (Nat.le_of_ble_eq_true rfl) rfl ⟨fun z => (by cases z), fun a z => ?_⟩
    cases z
    rw [e1]
    refine sp_fire_L194 (C := c_fir C) (oj := some j) c1 hk hok hy c4 hfib hLb hLb2 (by omega) (by omega) (fun a ha => ⟨j, u, rfl, hu, by cases ha; rfl⟩) (fun z => by cases z) (fun h' ρ' z => by cases z) (fun j' u' h' ρ' z hu' a1 a2 a3 a4 => ?_)
    cases z
    have hu'' : C.2.1[j]? = some u' := hu'
    rw [hu] at hu''
    cases hu''
    have hdm' : q_dm h h' := c2.tr a1
    have a2' : q_ex h ρ ρ' := q_ex.tr c2 (fun _ _ _ => rfl) a2
    refine hQ h' ρ' 0 _ (some (u.2.1 0)) (Or.inl ⟨j, u, hu, i1, i2, i3, rfl, rfl⟩) hdm' a2' (fun c e hc hS => a3 c e (c3 c e hc hS) hS) a4
  · obtain ⟨c1, c2, c3, c4⟩ := cnt hs
    have hb2 := hs b _ g1 q_no.not
    have hno' : ∀ u ∈ C.2.1, ¬ (u.2.1 1 = x1.2 7 ∧ u.2.1 2 = one ∧ u.2.1 3 = two) := fun u hu z => hno u hu ((eqs u hu).mpr z)
    refine w_geti_of hb2 rfl <| w_put_of hb2 (Nat.le_of_ble_eq_true rfl) rfl ⟨fun _ => ?_, fun a z => (by cases z)⟩
    rw [e1]
    obtain ⟨lr9, lf9, m1, m3, m2, -, ⟨fsm, m4⟩⟩ := c1.1.len
    refine w_geta_of m1 rfl <| w_nn_of <| w_is_of m4 <| sp_J2_size m2 ?_
    rw [List.length_map]
    refine ⟨fun z => ?_, fun z => ?_⟩
    · have hl : C.2.1.length = 20 := by
        have := (nI_leI (a := 20) (b := C.2.1.length) (by omega) (by omega)).mp z
        omega
      refine sp_fire_L194 (C := c_fir C) (oj := none) c1 hk hok hy c4 hfib hLb hLb2 (by omega) (by omega) (fun a ha => by cases ha) (fun _ => rfl) (fun h' ρ' _ a1 a2 a3 a4 => ?_) (fun j' u' h' ρ' z => by cases z)
      have a2' : q_ex h ρ ρ' := q_ex.tr c2 (fun _ _ _ => rfl) a2
      exact hQ h' ρ' 0 _ none (Or.inr (Or.inr ⟨hno', hl, rfl, rfl⟩)) (c2.tr a1) a2' (fun c e hc hS => a3 c e (c3 c e hc hS) hS) a4
    · have hl : C.2.1.length < 20 := by
        rcases Nat.lt_or_ge C.2.1.length 20 with q | q
        · exact q
        · exact absurd (nI_le (a := 20) q (by omega)) z
      have hy2 : (c_fir C).2.1[i]? = some y := hy
      obtain ⟨l1, l2, hcy⟩ := c1.cell hy2
      have hkd : x1.2 7 < 65536 := qk
      have hnumC : ∀ y ∈ (c_fir C).2.1, y.2.1 0 < (c_fir C).2.2 0 := fun y hy => (hfw y hy).2.2.2.2.2
      have hp2 : va_up h2 b (some (.inr (2, q_bv w lr lf (c_st C.2.2 2 (C.2.2 2 + 1))))) p3 = some (.inr (11, [.int (nI (x1.2 7)), .ref b1])) := by
        have := c3 p3 _ hpa3 (fun z => by dsimp only at z; rw [q0] at z; simp only at z; omega)
        exact this
      have go : ∀ tr, q_tr tr → tr = (c_trz y oz) → wp_X2_fire_L175 G mc ms b Q (va_up h2 b (some (.inr (2, q_bv w lr lf (c_st C.2.2 2 (C.2.2 2 + 1)))))) (nc + 1) (nk + 4) fd y.1 p3 (nI one) (nI two) tr := by
        intro tr htr etr
        unfold wp_X2_fire_L175
        refine w_geti_of hp2 rfl ⟨4, 65, by omega, by omega, w_is_of m1 <| sp_X2_come (C := c_fir C) c1 hk hok hnumC hkd (by omega) (by omega) (fun h4 ρ4 a ha hdm4 hex4 hsp4 hB4 => ?_)⟩
        have hy4 : (c_come (c_fir C) a (x1.2 7) one two tr).2.1[i]? = some y := by
          show (C.2.1 ++ [_])[i]? = _
          rw [List.getElem?_append_left (List.getElem?_eq_some_iff.mp hy).1]
          exact hy
        have hn4 : (c_come (c_fir C) a (x1.2 7) one two tr).2.1[C.2.1.length]? = some (a, c_newF (c_fir C) (x1.2 7) one two tr, [], []) := by
          show (C.2.1 ++ [_])[C.2.1.length]? = _
          rw [List.getElem?_append_right (Nat.le_refl _), Nat.sub_self]
          rfl
        have hok4 : c_ok (c_come (c_fir C) a (x1.2 7) one two tr) := c_come_ok (C := c_fir C) hok hnumC hnum hl
        have hfd4 : q_fi h4 ρ4 fd fi := by
          refine ⟨by rw [hex4 _ _ c4.2]; exact c4.1, hsp4 _ _ c4.2 (fun z => ?_)⟩
          dsimp only at z
          rw [c4.1] at z
          simp only at z
          omega
        refine sp_fire_L194 (C := c_come (c_fir C) a (x1.2 7) one two tr) (oj := some C.2.1.length) (Lb := Lb) hB4 hk hok4 hy4 hfd4 hfib (fun z hz => ?_) hLb2 (by omega) (by omega) (fun a' ha' => ⟨_, _, rfl, hn4, by cases ha'; rfl⟩) (fun z => by cases z) (fun h' ρ' z => by cases z) (fun j' u' h' ρ' z hu' a1 a2 a3 a4 => ?_)
        · rcases List.mem_append.mp hz with q | q
          · exact hLb z q
          · rw [List.mem_singleton.mp q]
            exact ⟨Nat.zero_le _, Nat.zero_le _⟩
        · cases z
          rw [hn4] at hu'
          cases hu'
          have a2' : q_ex h ρ ρ' := q_ex.tr c2 (fun _ _ _ => rfl) (q_ex.tr hdm4 hex4 a2)
          rw [etr] at a4
          exact hQ h' ρ' a _ (some (C.2.2 0)) (Or.inr (Or.inl ⟨hno', hl, rfl, rfl⟩)) (c2.tr (hdm4.tr a1)) a2' (fun c e hc hS => a3 c e (hsp4 c e (c3 c e hc hS) hS) (fun z => hS (by
            dsimp only at z ⊢
            obtain ⟨e', hc'⟩ := c2 c e hc
            rw [hex4 c e' hc'] at z
            exact z))) a4
      have hty := (hfw y hym).2.2.2.2.1
      cases oz with
      | none => exact ⟨fun _ => w_nn_of <| w_getf_of hcy rfl <| go _ hty rfl, fun a z => (by cases z)⟩
      | some z =>
        have hzm := hoz z rfl
        obtain ⟨iz, hiz⟩ := List.getElem?_of_mem hzm
        have hz2 : (c_fir C).2.1[iz]? = some z := hiz
        obtain ⟨l3, l4, hcz⟩ := c1.cell hz2
        have htz := (hfw z hzm).2.2.2.2.1
        have hm := fm01 hty htz
        refine ⟨fun q => (by cases q), fun a q => ?_⟩
        cases q
        exact w_nn_of <| w_getf_of hcy rfl <| w_getf_of hcz rfl ⟨hm.n, go _ hm rfl⟩
end FIRE2
section FIRE3
variable {G : GG} {h h' : HH} {ρ ρ' : RO} {k b w p t : Nat} {C : CC}
theorem q_pt.fits {a pa k1 t0 t1 fa : Nat} {g g0 : Nat → Int32} {F : Nat → Nat} {Q : Int32 → HH → Prop} (hpt : q_pt G h ρ a k1 t0 t1) (hp : h pa = some (.inl (G.2.1 0, 3, .inl g))) (hg : ∀ i, i < 3 → g i = g0 i) (hF : q_fc h fa F)
    (hQ : ∀ h' g' v, (∀ c, c ≠ pa → h' c = h c) → h' pa = some (.inl (G.2.1 0, 3, .inl g')) → (∀ i, i < 3 → g' i = (s_fits g0 (nI k1) t0 t1 (nI (F 1)) (nI (F 2)) (nI (F 3))).2 i) → Q v h') : wp_X8_fits G h a (some fa) (some pa) Q := by
  obtain ⟨-, hn9, b1, f1, h9, hpa, hpb, k1, k2, k3, k4⟩ := hpt
  obtain ⟨l1, l2, hc⟩ := hF
  refine sp_X8_fits ⟨b1, 2, f1, hpa, hpb, rfl, k1, k2, k3, k4⟩ hp (fun b2 hb2 => ?_) hc rfl rfl rfl (fun h' hh hp' => ?_)
  · rw [hpa] at hb2
    cases hb2
    exact q_c_ne hpb hp (fun z => q_wl.i2 (G := G) (t := G.2.1 0) (f := f1) (Or.inr ⟨_, z⟩))
  · exact hQ h' _ _ hh hp' (s_fits_cong k3 k4 hg).2
theorem sp_fire_L37 {mc ms nc nk i fd pa Lb : Nat} {y : CF} {fi : FI} {oz : Option CF} {x1 : Nat × (Nat → Nat)} {f3 : Nat → Int32} {one two : Nat} {Q : Int32 → HH → Prop} (hB : q_B G h ρ k b w p t C) (hk : 10 ≤ k) (hok : c_ok C) (hfw : c_fw C) (hnum : C.2.2 0 < 100000) (hx : x1 ∈ C.1) (hy : C.2.1[i]? = some y) (hoz : ∀ z, oz = some z → z ∈ C.2.1 ∧ x1.2 3 ≠ 0) (hfd : q_fi h ρ fd fi) (hf1 : fi.1 = x1.1) (hfib : fi.2.1 < 100000 ∧ ∀ n, fi.2.2 = some n → n < 100000)
    (hpa : h pa = some (.inl (G.2.1 0, 3, .inl f3))) (hρpa : ρ pa = (9, 2)) (hf3 : ∀ j, j < 3 → f3 j = -1) (hone : s_pers (c_bind x1.2 y oz) (x1.2 8) = nI one) (htwo : s_pers (c_bind x1.2 y oz) (x1.2 9) = nI two) (ho9 : one ≤ 9) (ht9 : two ≤ 9)
    (hLb : ∀ y ∈ C.2.1, y.2.2.1.length ≤ Lb ∧ y.2.2.2.length ≤ Lb) (hLb2 : Lb < 3999) (hnc : nc + 7 ≤ mc) (hnk : nk + 4 * Lb + 110 ≤ ms)
    (hQ : ∀ h' ρ' a C' made, c_fire C i fi (x1.2 7) one two (c_trz y oz) a C' made → q_dm h h' → q_ex h ρ ρ' → q_sp (fun c => (ρ c).1 = k ∨ c = pa) h h' → q_B G h' ρ' k b w p t C' → Q (nO made) h') :
    wp_X2_fire_L37 G mc ms b Q h nc nk fd pa (some y.1) (oz.map Prod.fst) := by
  have pne : ∀ {c : Nat} {r : Nat × Nat}, ρ c = r → r.1 ≠ 9 → c ≠ pa := fun h1 h2 z => by
    rw [z, hρpa] at h1
    rw [← h1] at h2
    exact h2 rfl
  have book : ∀ {h2 : HH}, (∀ c, c ≠ pa → h2 c = h c) → (∃ g', h2 pa = some (.inl (G.2.1 0, 3, .inl g'))) → q_B G h2 ρ k b w p t C ∧ q_fi h2 ρ fd fi ∧ q_dm h h2 ∧ q_sp (fun c => (ρ c).1 = k ∨ c = pa) h h2 := by
    intro h2 hh ⟨g', hg'⟩
    refine ⟨hB.ot (by rw [hρpa]; simp only; omega) (by rw [hρpa]; decide) hh, ⟨hfd.1, by rw [hh fd (pne hfd.1 (by decide))]; exact hfd.2⟩, fun c e hc => ?_, fun c e hc hS => by rw [hh c (fun z => hS (Or.inr z))]; exact hc⟩
    by_cases z : c = pa
    · exact ⟨_, by rw [z]; exact hg'⟩
    · exact ⟨e, by rw [hh c z]; exact hc⟩
  obtain ⟨ix, hix⟩ := List.getElem?_of_mem hx
  have hfd0 := hfd.2
  rw [hf1] at hfd0
  obtain ⟨hr1, -⟩ := hB.1.rule hix
  obtain ⟨r0, r3, r10, p1, p2, p3, hra, hp1, -, -, -⟩ := hr1
  obtain ⟨fsp, hpo⟩ : ∃ fs, h p1 = some (.inr (11, fs)) := by
    obtain ⟨-, -, b1, f1, -, e, -⟩ := hp1
    exact ⟨_, e⟩
  unfold wp_X2_fire_L37
  refine w_geta_of hfd0 rfl <| w_nn_of <| w_geta_of hra rfl <| w_nn_of <| w_is_of hpo <| hp1.fits hpa (g0 := s_g0) hf3 (hB.1.fact hy).1.c (fun h2 g2 v hh2 hpa2 hg2 => ?_)
  obtain ⟨hB2, hfd2, hdm2, hs2⟩ := book hh2 ⟨_, hpa2⟩
  have fin : ∀ {h3 : HH} {g3 : Nat → Int32} {t0 t1 : Int32}, (∀ c, c ≠ pa → h3 c = h c) → h3 pa = some (.inl (G.2.1 0, 3, .inl g3)) → (∀ i, i < 3 → g3 i = c_bind x1.2 y oz i) → wp_X2_fire_L81 G mc ms b Q h3 nc nk fd pa (some y.1) (oz.map Prod.fst) t0 t1 := by
    intro h3 g3 t0 t1 hh3 hpa3 hg3
    obtain ⟨hB3, hfd3, hdm3, hs3⟩ := book hh3 ⟨_, hpa3⟩
    refine sp_fire_L81 hB3 hk hok hfw hnum hx hy (fun z hz => (hoz z hz).1) hfd3 hf1 hfib hpa3 hg3 hone htwo ho9 ht9 hLb hLb2 hnc hnk (fun h' ρ' a C' made a1 a2 a3 a4 a5 => hQ h' ρ' a C' made a1 (hdm3.tr a2) (q_ex.tr hdm3 (fun _ _ _ => rfl) a3) (fun c e hc hS => a4 c e (hs3 c e hc hS) (fun z => hS (Or.inl z))) a5)
  cases oz with
  | none =>
    refine ⟨fun _ => ?_, fun a z => (by cases z)⟩
    unfold wp_X2_fire_L76
    exact fin hh2 hpa2 hg2
  | some z =>
    refine ⟨fun q => (by cases q), fun a q => ?_⟩
    cases q
    obtain ⟨hzm, h31⟩ := hoz z rfl
    obtain ⟨iz, hiz⟩ := List.getElem?_of_mem hzm
    obtain ⟨hr2, -⟩ := hB2.1.rule hix
    obtain ⟨-, -, -, p1', p2', p3', hra2, -, -, hp2', -⟩ := hr2
    obtain ⟨pp, rfl, hpp⟩ := hp2' h31
    have hfd20 := hfd2.2
    rw [hf1] at hfd20
    obtain ⟨fsq, hqo⟩ : ∃ fs, h2 pp = some (.inr (11, fs)) := by
      obtain ⟨-, -, b1, f1, -, e, -⟩ := hpp
      exact ⟨_, e⟩
    refine w_geta_of hfd20 rfl <| w_nn_of <| w_geta_of hra2 rfl <| w_nn_of <| w_is_of hqo <| hpp.fits hpa2 hg2 (hB2.1.fact hiz).1.c (fun h3 g3 v3 hh3 hpa3 hg3 => ?_)
    have hh03 : ∀ c, c ≠ pa → h3 c = h c := fun c hc => by rw [hh3 c hc, hh2 c hc]
    refine ⟨fun _ => fin hh03 hpa3 hg3, fun _ => ?_⟩
    unfold wp_X2_fire_L76
    exact fin hh03 hpa3 hg3
theorem sp_X2_fire {mc ms i fd Lb : Nat} {y : CF} {fi : FI} {oz : Option CF} {x1 : Nat × (Nat → Nat)} {one two : Nat} {Q : Int32 → HH → Prop} (hB : q_B G h ρ k b w p t C) (hk : 10 ≤ k) (hok : c_ok C) (hfw : c_fw C) (hnum : C.2.2 0 < 100000) (hx : x1 ∈ C.1) (hy : C.2.1[i]? = some y) (hoz : ∀ z, oz = some z → z ∈ C.2.1 ∧ x1.2 3 ≠ 0) (hfd : q_fi h ρ fd fi) (hfi : fi = (x1.1, y.2.1 0, oz.map (fun z => z.2.1 0)))
    (hone : s_pers (c_bind x1.2 y oz) (x1.2 8) = nI one) (htwo : s_pers (c_bind x1.2 y oz) (x1.2 9) = nI two) (ho9 : one ≤ 9) (ht9 : two ≤ 9)
    (hLb : ∀ y ∈ C.2.1, y.2.2.1.length ≤ Lb ∧ y.2.2.2.length ≤ Lb) (hLb2 : Lb < 3999) (hnc : 10 ≤ mc) (hnk : 4 * Lb + 130 ≤ ms)
    (hQ : ∀ h' ρ' a C' made, c_fire C i fi (x1.2 7) one two (c_trz y oz) a C' made → q_dm h h' → q_ex h ρ ρ' → q_sp (fun c => (ρ c).1 = k) h h' → q_B G h' ρ' k b w p t C' → Q (nO made) h') :
    wp_X2_fire G mc ms h b (some fd) Q := by
  obtain ⟨lr, lf, g1, g3, g2, ⟨fs3, g5⟩, ⟨fs4, g4⟩⟩ := hB.1.len
  have hym := List.mem_of_getElem? hy
  have hyn := hok.2.2.2.2.2.1 y hym
  have hfib : fi.2.1 < 100000 ∧ ∀ n, fi.2.2 = some n → n < 100000 := by
    rw [hfi]
    refine ⟨hyn, fun n hn => ?_⟩
    obtain ⟨z, hz, rfl⟩ := Option.map_eq_some_iff.mp hn
    exact hok.2.2.2.2.2.1 z (hoz z hz).1
  unfold wp_X2_fire
  refine ⟨by omega, by omega, fun pa hpa => sp_X2_free q_h_same (fun h2 f2 hh2 hpa2 hf2 => ?_)⟩
  have hh02 : ∀ c, c ≠ pa → h2 c = h c := fun c hc => by rw [hh2 c hc, q_h_ne hc]
  have hB2 : q_B G h2 (q_up ρ pa (9, 2)) k b w p t C := hB.nw hpa hh02
  have nep : ∀ {c : Nat} {e : va_E}, h c = some e → c ≠ pa := fun hc => q_new_ne hpa hc
  have hfd2 : q_fi h2 (q_up ρ pa (9, 2)) fd fi := ⟨by rw [q_up_ne (nep hfd.2)]; exact hfd.1, by rw [hh02 fd (nep hfd.2)]; exact hfd.2⟩
  have hdm2 : q_dm h h2 := fun c e hc => ⟨e, by rw [hh02 c (nep hc)]; exact hc⟩
  have hb2 : h2 b = _ := (hh02 b (nep g1)).trans g1
  have cont : ∀ {h3 : HH} {nc nk : Nat}, q_sp q_no h2 h3 → nc + 7 ≤ mc → nk + 4 * Lb + 110 ≤ ms → wp_X2_fire_L37 G mc ms b Q h3 nc nk fd pa (some y.1) (oz.map Prod.fst) := by
    intro h3 nc nk hs hnc hnk
    have hB3 := hB2.no hs
    refine sp_fire_L37 hB3 hk hok hfw hnum hx hy hoz ⟨hfd2.1, hs _ _ hfd2.2 q_no.not⟩ (by rw [hfi]) hfib (hs pa _ hpa2 q_no.not) q_up_same hf2 hone htwo ho9 ht9 hLb hLb2 hnc hnk (fun h' ρ' a C' made a1 a2 a3 a4 a5 => ?_)
    have hdm3 : q_dm h h3 := hdm2.tr (fun c e hc => ⟨e, hs c e hc q_no.not⟩)
    refine hQ h' ρ' a C' made a1 (hdm3.tr a2) (q_ex.tr hdm3 (q_ex_up hpa) a3) (fun c e hc hS => a4 c e (hs c e (by rw [hh02 c (nep hc)]; exact hc) q_no.not) (fun z => ?_)) a5
    rcases z with z | z
    · rw [q_up_ne (nep hc)] at z
      exact hS z
    · exact nep hc z
  refine w_nn_of <| w_geti_of hfd2.2 rfl ⟨1, 4, by omega, by omega, w_is_of hb2 <| sp_X2_find hB2.1 (by omega) (by omega) (fun h3 i3 y3 hs3 hy3 e3 => ?_) (fun h3 hs3 hno => ?_)⟩
  · have hym3 := List.mem_of_getElem? hy3
    have hyn3 := hok.2.2.2.2.2.1 y3 hym3
    have ey : y3 = y := c_unM hok hym3 hym (by
      have := (nI_eq (by omega) (by omega)).mp e3
      rw [this, hfi])
    subst ey
    refine w_geti_of (hs3 _ _ hfd2.2 q_no.not) rfl ⟨fun z => ?_, fun z => ?_⟩
    · cases oz with
      | none =>
        rw [hfi] at z
        exact absurd rfl z
      | some u =>
        obtain ⟨hum, -⟩ := hoz u rfl
        have hun := hok.2.2.2.2.2.1 u hum
        refine w_geti_of (hs3 _ _ hfd2.2 q_no.not) rfl ⟨1, 4, by omega, by omega, w_is_of (hs3 b _ hb2 q_no.not) <| sp_X2_find (hB2.no hs3).1 (by omega) (by omega) (fun h4 i4 u4 hs4 hu4 e4 => ?_) (fun h4 hs4 hno => ?_)⟩
        · have hum4 := List.mem_of_getElem? hu4
          have hun4 := hok.2.2.2.2.2.1 u4 hum4
          have eu : u4 = u := c_unM hok hum4 hum (by
            rw [hfi] at e4
            exact (nI_eq (by omega) (by omega)).mp e4)
          subst eu
          exact cont (hs3.tr hs4) (by omega) (by omega)
        · exact absurd (by rw [hfi]; rfl) (hno u hum)
    · cases oz with
      | none => exact cont hs3 (by omega) (by omega)
      | some u =>
        rw [hfi] at z
        exact absurd z (nO_neg (Nat.lt_trans (hok.2.2.2.2.2.1 u (hoz u rfl).1) (by decide)))
  · exact absurd (by rw [hfi]) (hno y hym)
end FIRE3
