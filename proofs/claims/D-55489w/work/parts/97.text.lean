set_option maxRecDepth 100000
/-! texts: a StringBuilder -/
theorem w_len_of {G : GG} {h : HH} {a n : Nat} {f : Nat → Int32} {Q : Int32 → Prop} (h1 : h a = some (.inl (G.2.1 1, n, .inl f))) (h2 : Q (nI n)) : w_len G h a Q := Or.inl ⟨1, _, by decide, h1, h2⟩
theorem w_bst_of {G : GG} {h : HH} {a i n c : Nat} {Q : HH → Prop} {f : Nat → Int32} (h1 : h a = some (.inl (G.2.1 1, n, .inl f))) (hi : i < n) (hn : n < 2 ^ 31) (hc : c < 128) (h3 : Q (va_up h a (some (.inl (G.2.1 1, n, .inl (upd f i (nI c))))))) : w_bst G h a (nI i) (nI c) Q := by
  have e : ∀ c, c < 128 → vp_nar .byte (nI c) = nI c := by
    have : (List.range 128).all (fun c => decide (vp_nar .byte (Int32.ofNat c) = Int32.ofNat c)) = true := by decide +kernel
    intro c hc
    exact of_decide_eq_true (List.all_eq_true.mp this c (List.mem_range.mpr hc))
  exact ⟨n, f, h1, vp_in_nI hi hn, by rw [nI_clamp (by omega), e c hc]; exact h3⟩
theorem t_byte : ∀ c, c < 128 → (Int32.toInt8 (nI c)).toInt32 = nI c := by
  have : (List.range 128).all (fun c => decide ((Int32.toInt8 (Int32.ofNat c)).toInt32 = Int32.ofNat c)) = true := by decide +kernel
  intro c hc
  exact of_decide_eq_true (List.all_eq_true.mp this c (List.mem_range.mpr hc))
theorem t_fits : ∀ c, c < 128 → fits .byte (.int (nI c)) = true := by
  have : (List.range 128).all (fun c => fits .byte (.int (Int32.ofNat c))) = true := by decide +kernel
  intro c hc
  exact List.all_eq_true.mp this c (List.mem_range.mpr hc)
/-- a StringBuilder at a, its bytes at v (N of them), with the characters cs -/
def q_sb (G : GG) (h : HH) (a v N : Nat) (cs : List Nat) : Prop := (∃ ml : Int32, h a = some (.inr (6, [.ref v, .int 0, .int ml, .int (nI cs.length)]))) ∧ cs.length ≤ N ∧ N < 300000 ∧ (∀ c ∈ cs, c < 128) ∧ ∃ f, h v = some (.inl (G.2.1 1, N, .inl f)) ∧ (∀ i, i < cs.length → f i = nI (cs.getD i 0)) ∧ ∀ i, i < N → ∃ c, c < 128 ∧ f i = nI c
theorem nI_shr0 {n : Nat} (h : n < 2 ^ 31) : nI n >>> ((0 : Int32) &&& 31) = nI n := by
  have := pk_shrN h ((0 : Int32) &&& 31) 0 (by decide +kernel)
  simpa using this
theorem nI_shl0 {n : Nat} (h : n < 2 ^ 31) : nI n <<< ((0 : Int32) &&& 31) = nI n := by
  have := pk_shlN (n := n) ((0 : Int32) &&& 31) 0 (by decide +kernel) (by simp; omega)
  simpa using this
section SB
variable {G : GG} {h h' : HH}
theorem sp_J5_init {a mc ms : Nat} {Q : HH → Prop} (ha : h a = some (.inr (6, df_J5))) (hm : 1 ≤ mc) (hs : 16 ≤ ms) (hQ : ∀ h' v, h v = none → (∀ c, c ≠ a → c ≠ v → h' c = h c) → q_sb G h' a v 16 [] → Q h') : wp_J5_init G mc ms h a Q := by
  unfold wp_J5_init wp_J4_init
  refine ⟨1, 16, by omega, by omega, br_f (by decide) ⟨by decide, by decide +kernel, by omega, by decide +kernel, fun v hv => ?_⟩⟩
  have hav : a ≠ v := q_new_ne hv ha
  have e16 : (16 : Int32).toNatClampNeg = 16 := by decide +kernel
  rw [e16]
  refine w_put_of (by rw [q_h_ne hav]; exact ha) (by decide) rfl <| w_put_of q_h_same (Nat.le_of_ble_eq_true rfl) rfl ?_
  rw [q_h_up]
  refine hQ _ v hv (fun c c1 c2 => by rw [q_h_ne c1, q_h_ne c2]) ⟨⟨0, q_h_same⟩, by decide, by decide, fun c hc => (by cases hc), fun _ => 0, by rw [q_h_ne (Ne.symm hav)]; exact q_h_same, fun i hi => absurd hi (Nat.not_lt_zero _), fun i _ => ⟨0, by decide, rfl⟩⟩
def t_cap (n N : Nat) : Nat := if n ≤ N then N else N + max (n - N) (N + 2)
def t_cost (n N : Nat) : Nat := if n ≤ N then 0 else N + max (n - N) (N + 2)
theorem sp_J4_ensure {a v N n mc ms : Nat} {cs : List Nat} {Q : HH → Prop} (hb : q_sb G h a v N cs) (hn : n < 130000) (hm : 1 ≤ mc) (hs : t_cost n N ≤ ms) (hN : N < 130000) (hQ : ∀ h' v', (v' = v ∨ h v' = none) → (∀ c, c ≠ a → c ≠ v' → h' c = h c) → q_sb G h' a v' (t_cap n N) cs → n ≤ t_cap n N → Q h') : wp_J4_ensureCapacityInternal G mc ms h a (nI n) Q := by
  obtain ⟨⟨ml, ha⟩, h1, h2, h3, f, hv, h4, h5⟩ := hb
  have hav : a ≠ v := q_c_ne ha hv (by intro q; cases q)
  unfold wp_J4_ensureCapacityInternal
  refine w_geta_of ha rfl <| w_nn_of <| w_len_of hv <| w_geti_of ha rfl ?_
  rw [nI_shr0 (by omega)]
  have e1 : nI n - nI N ≤ 0 ↔ n ≤ N := by
    have := pk_sub_toInt (a := n) (b := N) (by omega) (by omega)
    rw [Int32.le_iff_toInt_le, this]
    have : (0 : Int32).toInt = 0 := by decide
    omega
  rw [e1]
  refine ⟨fun z => ?_, fun z => ?_⟩
  · have ec : t_cap n N = N := by unfold t_cap; rw [if_pos z]
    exact hQ h v (Or.inl rfl) (fun _ _ _ => rfl) (by rw [ec]; exact ⟨⟨ml, ha⟩, h1, h2, h3, f, hv, h4, h5⟩) (by omega)
  · have ec : t_cap n N = N + max (n - N) (N + 2) := by unfold t_cap; rw [if_neg z]
    have ek : t_cost n N = N + max (n - N) (N + 2) := by unfold t_cost; rw [if_neg z]
    rw [ek] at hs
    refine w_geta_of ha rfl <| w_is_of ha ?_
    unfold wp_J4_newCapacity
    refine w_geta_of ha rfl <| w_nn_of <| w_len_of hv <| w_geti_of ha rfl <| w_geti_of ha rfl ?_
    have e2 : (2 : Int32) <<< ((0 : Int32) &&& 31) = nI 2 := nI_shl0 (n := 2) (by decide)
    rw [nI_shl0 (by omega), e2, pk_sub (by omega), nI_add]
    refine sp_J17_newLength (by omega) (by omega) ⟨fun _ => w_geti_of ha rfl ?_, fun z2 => ?_⟩
    · rw [nI_shr0 (by omega)]
      refine w_geti_of ha rfl ⟨1, N + max (n - N) (N + 2), by omega, by omega, ?_⟩
      rw [nI_shl0 (by omega)]
      unfold wp_J18_copyOf_3
      refine w_nn_of <| w_len_of hv ⟨fun _ => ?_, fun z3 => ?_⟩
      · rw [nI_clamp (by omega)]
        refine ⟨nI_pos (by omega), by omega, by omega, by omega, fun q hq => ?_⟩
        have hvq : v ≠ q := q_new_ne hq hv
        have haq : a ≠ q := q_new_ne hq ha
        refine w_len_of (by rw [q_h_ne hvq]; exact hv) ?_
        have e3 : (if nI (N + max (n - N) (N + 2)) < nI N then nI (N + max (n - N) (N + 2)) else nI N) = nI N := by
          rw [if_neg (nI_nlt (by omega) (by omega))]
        rw [e3]
        have e0 : (0 : Int32).toNatClampNeg = 0 := by decide +kernel
        refine Or.inl ⟨N, _, f, _, by rw [q_h_ne hvq]; exact hv, q_h_same, by decide, by decide, nI_pos (by omega), by rw [e0, nI_clamp (by omega)]; omega, by rw [e0, nI_clamp (by omega)]; omega, fun _ i hi => ?_, ?_⟩
        · rw [nI_clamp (by omega)] at hi
          rw [e0, Nat.zero_add]
          obtain ⟨c, hc, e⟩ := h5 i hi
          rw [e]
          exact t_fits c hc
        · rw [q_h_up, e0, nI_clamp (by omega)]
          refine w_put_of (by rw [q_h_ne haq]; exact ha) (Nat.le_of_ble_eq_true rfl) rfl ?_
          refine hQ _ q (Or.inr hq) (fun c c1 c2 => by rw [q_h_ne c1, q_h_ne c2]) ?_ (by rw [ec]; omega)
          rw [ec]
          refine ⟨⟨ml, q_h_same⟩, by omega, by omega, h3, _, by rw [q_h_ne (Ne.symm haq)]; exact q_h_same, fun i hi => ?_, fun i hi => ?_⟩
          · rw [pk_cpy_in (by omega) (by omega)]
            simpa using h4 i hi
          · by_cases q2 : i < N
            · rw [pk_cpy_in (by omega) (by omega)]
              simpa using h5 i q2
            · rw [pk_cpy_out (by omega)]
              exact ⟨0, by decide, rfl⟩
      · have := (nI_eq (by omega) (by omega)).mp z3
        omega
    · have : (2147483647 : Int32) = nI 2147483647 := by decide +kernel
      rw [this] at z2
      have := (nI_eq (by omega) (by omega)).mp z2
      omega
theorem sp_J4_isLatin1 {a : Nat} {v ml n : Value} {Q : Int32 → HH → Prop} (ha : h a = some (.inr (6, [v, .int 0, ml, n]))) (hQ : Q 1 h) : wp_J4_isLatin1 G h a Q := by
  unfold wp_J4_isLatin1
  exact br_f (by decide) <| w_geti_of ha rfl <| q_bt rfl hQ
theorem t_snoc {cs : List Nat} {f : Nat → Int32} {c : Nat} (h : ∀ i, i < cs.length → f i = nI (cs.getD i 0)) : ∀ i, i < (cs ++ [c]).length → upd f cs.length (nI c) i = nI ((cs ++ [c]).getD i 0) := by
  intro i hi
  rw [List.length_append, List.length_singleton] at hi
  by_cases z : i = cs.length
  · subst z
    rw [pk_us, List.getD_eq_getElem?_getD, List.getElem?_append_right (Nat.le_refl _), Nat.sub_self]
    rfl
  · rw [pk_un z, h i (by omega), List.getD_eq_getElem?_getD, List.getD_eq_getElem?_getD, List.getElem?_append_left (by omega)]
/-- a character is appended -/
theorem sp_J5_append {a v N c mc ms : Nat} {cs : List Nat} {Q : Option Nat → HH → Prop} (hb : q_sb G h a v N cs) (hc : c < 128) (hn : cs.length < 100000) (hm : 1 ≤ mc) (hs : t_cost (cs.length + 1) N ≤ ms) (hN : N < 130000)
    (hQ : ∀ h' v', (v' = v ∨ h v' = none) → (∀ c, c ≠ a → c ≠ v' → h' c = h c) → q_sb G h' a v' (t_cap (cs.length + 1) N) (cs ++ [c]) → Q (some a) h') : wp_J5_append G mc ms h a (nI c) Q := by
  obtain ⟨ml, ha⟩ := hb.1
  unfold wp_J5_append wp_J4_append
  refine ⟨mc, ms, by omega, by omega, w_is_of ha <| w_geti_of ha rfl ⟨mc, ms, by omega, by omega, w_is_of ha ?_⟩⟩
  rw [nI_1]
  refine sp_J4_ensure hb (by omega) hm hs hN (fun h1 v' hv' hh hb1 hle => ?_)
  obtain ⟨⟨ml1, ha1⟩, b1, b2, b3, f, hf, b4, b5⟩ := hb1
  have hav : a ≠ v' := q_c_ne ha1 hf (by intro q; cases q)
  refine w_is_of ha1 <| sp_J4_isLatin1 ha1 (br_f (by decide) ?_)
  unfold wp_J8_canEncode
  refine br_f (fun z => ?_) (br_f (by decide) ?_)
  · exact nI_nlt (a := 255) (b := c) (by omega) (by decide) z
  refine w_geta_of ha1 rfl <| w_geti_of ha1 rfl <| w_put_of ha1 (Nat.le_of_ble_eq_true rfl) rfl <| w_nn_of ?_
  rw [t_byte c hc, nI_1]
  refine w_bst_of (by rw [q_h_ne (Ne.symm hav)]; exact hf) (by omega) (by omega) hc ?_
  refine hQ _ v' hv' (fun x1 c1 c2 => by rw [q_h_ne c2, q_h_ne c1]; exact hh x1 c1 c2) ⟨⟨ml1, ?_⟩, by rw [List.length_append]; exact hle, b2, fun x1 hx => ?_, _, q_h_same, t_snoc b4, fun i hi => ?_⟩
  · rw [q_h_ne hav, q_h_same, List.length_append]
    rfl
  · rcases List.mem_append.mp hx with z | z
    · exact b3 x1 z
    · rw [List.mem_singleton.mp z]
      exact hc
  · by_cases z : i = cs.length
    · exact ⟨c, hc, by rw [z]; exact pk_us⟩
    · rw [pk_un z]
      exact b5 i hi
end SB
/-! numbers as texts -/
theorem t_neg {n : Nat} (h : n < 2 ^ 30) : (-nI n).toInt = -(n : Int) := by
  have e : -nI n = nI 0 - nI n := by rw [nI_0]; exact (Int32.zero_sub _).symm
  rw [e, pk_sub_toInt (by decide) h]
  simp
def t_sz (n : Nat) : Nat := if n < 10 then 1 else if n < 100 then 2 else if n < 1000 then 3 else if n < 10000 then 4 else 5
/-- the digits of a number below 100000 -/
def t_num (n : Nat) : List Nat := (List.range (t_sz n)).map (fun j => 48 + n / 10 ^ (t_sz n - 1 - j) % 10)
theorem t_sz_le {n : Nat} : 1 ≤ t_sz n ∧ t_sz n ≤ 5 := by
  unfold t_sz
  repeat' split
  all_goals omega
theorem t_num_len {n : Nat} : (t_num n).length = t_sz n := by simp [t_num]
theorem t_num_lt {n c : Nat} (h : c ∈ t_num n) : c < 128 := by
  obtain ⟨j, -, rfl⟩ := List.mem_map.mp h
  have := Nat.mod_lt (n / 10 ^ (t_sz n - 1 - j)) (show 0 < 10 by decide)
  omega
section NUM
variable {G : GG} {h h' : HH}
theorem sp_J26_stringSize {n : Nat} {Q : Int32 → HH → Prop} (hn : n < 100000) (hQ : Q (nI (t_sz n)) h) : wp_J26_stringSize G h (nI n) Q := by
  unfold wp_J26_stringSize
  refine br_f (nI_pos (by omega)) ⟨6, ?_⟩
  have cmp : ∀ P : Nat, P < 2 ^ 30 → (-nI n ≤ -nI P ↔ P ≤ n) := by
    intro P hP
    rw [Int32.le_iff_toInt_le, t_neg (by omega), t_neg hP]
    omega
  have step : ∀ (f i P : Nat) (p : Int32), p = -nI P → i < 10 → P < 10000000 → (n < P → Q (nI i) h) → (P ≤ n → wp_J26_stringSize_L16 G Q f h (-nI n) 0 (-nI (10 * P)) (nI (i + 1))) → wp_J26_stringSize_L16 G Q (f + 1) h (-nI n) 0 p (nI i) := by
    intro f i P p hp hi hP h1 h2
    subst hp
    unfold wp_J26_stringSize_L16
    refine br_f (nI_ge (b := 10) hi (by decide)) ?_
    rw [cmp P (by omega)]
    refine ⟨fun z => ?_, fun z => ?_⟩
    · have e : (10 : Int32) * -nI P = -nI (10 * P) := by
        rw [Int32.mul_neg, show (10 : Int32) = nI 10 from rfl, pk_mul]
      rw [e, nI_1]
      exact h2 z
    · have e : nI i + 0 = nI i := by
        show nI i + nI 0 = _
        rw [nI_add]
        rfl
      rw [e]
      exact h1 (by omega)
  have e1 : (-10 : Int32) = -nI 10 := by decide +kernel
  refine step 5 1 10 _ e1 (by decide) (by decide) (fun z => ?_) (fun z1 => ?_)
  · unfold t_sz at hQ
    rw [if_pos z] at hQ
    exact hQ
  refine step 4 2 100 _ rfl (by decide) (by decide) (fun z => ?_) (fun z2 => ?_)
  · unfold t_sz at hQ
    rw [if_neg (by omega), if_pos z] at hQ
    exact hQ
  refine step 3 3 1000 _ rfl (by decide) (by decide) (fun z => ?_) (fun z3 => ?_)
  · unfold t_sz at hQ
    rw [if_neg (by omega), if_neg (by omega), if_pos z] at hQ
    exact hQ
  refine step 2 4 10000 _ rfl (by decide) (by decide) (fun z => ?_) (fun z4 => ?_)
  · unfold t_sz at hQ
    rw [if_neg (by omega), if_neg (by omega), if_neg (by omega), if_pos z] at hQ
    exact hQ
  refine step 1 5 100000 _ rfl (by decide) (by decide) (fun z => ?_) (fun z5 => by omega)
  unfold t_sz at hQ
  rw [if_neg (by omega), if_neg (by omega), if_neg (by omega), if_neg (by omega)] at hQ
  exact hQ
theorem w_ones {m : Nat} {Q : Int32 → Prop} (hm : m < 100) (hQ : Q (nI (48 + m % 10))) : w_bld G h (G.2.2 2) (nI m) Q := Or.inr (Or.inr ⟨rfl, vp_in_nI hm (by decide), by rw [nI_clamp (by omega)]; exact hQ⟩)
theorem w_tens {m : Nat} {Q : Int32 → Prop} (hm : m < 100) (hQ : Q (nI (48 + m / 10))) : w_bld G h (G.2.2 1) (nI m) Q := Or.inr (Or.inl ⟨rfl, vp_in_nI hm (by decide), by rw [nI_clamp (by omega)]; exact hQ⟩)
theorem t_q100 {m : Nat} (hm : m < 2 ^ 30) : -nI m / (100 : Int32) = -nI (m / 100) ∧ (-nI m / (100 : Int32)) * 100 - -nI m = nI (m % 100) := by
  have h1 : -nI m / (100 : Int32) = -nI (m / 100) := by
    refine Int32.toInt_inj.mp ?_
    rw [Int32.toInt_div, t_neg hm, t_neg (by omega)]
    have e : (100 : Int32).toInt = 100 := by decide
    rw [e, Int.neg_tdiv]
    have e2 : (m : Int).tdiv 100 = ((m / 100 : Nat) : Int) := rfl
    rw [e2]
    rw [Int.bmod_def]
    split <;> omega
  refine ⟨h1, ?_⟩
  rw [h1, Int32.neg_mul, Int32.sub_eq_add_neg, Int32.neg_neg, Int32.add_comm, ← Int32.sub_eq_add_neg, show (100 : Int32) = nI 100 from rfl, pk_mul, pk_sub (by omega)]
  congr 1
  omega
theorem t_m1 {n : Nat} (h : 1 ≤ n) : nI n + (-1) = nI (n - 1) := by
  have : n = (n - 1) + 1 := by omega
  rw [this, pk_m1]
  rfl
/-- digits written at the end of a place -/
theorem sp_J26_getChars_L22 {v N : Nat} {Q : Int32 → HH → Prop} : ∀ (F m pp : Nat) (h : HH) (f : Nat → Int32), m < 100 ^ (F + 1) → m < 100000 → t_sz m ≤ pp → pp ≤ N → N < 2 ^ 31 → h v = some (.inl (G.2.1 1, N, .inl f)) →
    (∀ h' g, (∀ c, c ≠ v → h' c = h c) → h' v = some (.inl (G.2.1 1, N, .inl g)) → (∀ i, g i = if pp - t_sz m ≤ i ∧ i < pp then nI (48 + m / 10 ^ (pp - 1 - i) % 10) else f i) → Q (nI (pp - t_sz m)) h') → wp_J26_getChars_L22 G Q (F + 1) h (-nI m) (some v) (nI pp) 0 := by
  intro F
  have small : ∀ (F m pp : Nat) (h : HH) (f : Nat → Int32), m < 100 → t_sz m ≤ pp → pp ≤ N → N < 2 ^ 31 → h v = some (.inl (G.2.1 1, N, .inl f)) →
      (∀ h' g, (∀ c, c ≠ v → h' c = h c) → h' v = some (.inl (G.2.1 1, N, .inl g)) → (∀ i, g i = if pp - t_sz m ≤ i ∧ i < pp then nI (48 + m / 10 ^ (pp - 1 - i) % 10) else f i) → Q (nI (pp - t_sz m)) h') → wp_J26_getChars_L22 G Q (F + 1) h (-nI m) (some v) (nI pp) 0 := by
    intro F m pp h f hm hsz hpp hN hv hQ
    have e100 : (-100 : Int32) < -nI m := by
      rw [Int32.lt_iff_toInt_lt, t_neg (by omega)]
      have : (-100 : Int32).toInt = -100 := by decide
      omega
    have e9 : (-9 : Int32) ≤ -nI m ↔ m ≤ 9 := by
      rw [Int32.le_iff_toInt_le, t_neg (by omega)]
      have : (-9 : Int32).toInt = -9 := by decide
      omega
    have hp1 := (t_sz_le (n := m)).1
    unfold wp_J26_getChars_L22
    refine br_t e100 ?_
    rw [Int32.neg_neg, t_m1 (by omega), e9]
    refine w_ones hm <| w_nn_of <| w_bst_of hv (by omega) hN (by omega) ⟨fun z => ?_, fun z => ?_⟩
    · unfold wp_J26_getChars_L104
      have e1 : t_sz m = 1 := by unfold t_sz; rw [if_pos (by omega)]
      rw [e1] at hQ
      refine br_t rfl (hQ _ _ (fun c hc => q_h_ne hc) q_h_same (fun i => ?_))
      · by_cases q : i = pp - 1
        · rw [q, pk_us, if_pos (by omega), show pp - 1 - (pp - 1) = 0 by omega, Nat.pow_zero, Nat.div_one]
        · rw [pk_un q, if_neg (by omega)]
    · have e1 : t_sz m = 2 := by unfold t_sz; rw [if_neg (by omega), if_pos hm]
      rw [e1] at hsz
      rw [t_m1 (by omega)]
      refine w_tens hm <| w_bst_of q_h_same (by omega) hN (by omega) ?_
      unfold wp_J26_getChars_L104
      rw [e1, show pp - 2 = pp - 1 - 1 by omega] at hQ
      refine br_t rfl (hQ _ _ (fun c hc => by rw [q_h_ne hc, q_h_ne hc]) q_h_same (fun i => ?_))
      · by_cases q : i = pp - 1 - 1
        · rw [q, pk_us, if_pos (by omega), show pp - 1 - (pp - 1 - 1) = 1 by omega, Nat.pow_one, Nat.mod_eq_of_lt (show m / 10 < 10 by omega)]
        · rw [pk_un q]
          by_cases q2 : i = pp - 1
          · rw [q2, pk_us, if_pos (by omega), show pp - 1 - (pp - 1) = 0 by omega, Nat.pow_zero, Nat.div_one]
          · rw [pk_un q2, if_neg (by omega)]
  induction F with
  | zero =>
    intro m pp h f hm hm2 hsz hpp hN hv hQ
    exact small 0 m pp h f (by simpa using hm) hsz hpp hN hv hQ
  | succ F ih =>
    intro m pp h f hm hm2 hsz hpp hN hv hQ
    by_cases hlt : m < 100
    · exact small (F + 1) m pp h f hlt hsz hpp hN hv hQ
    · have e100 : ¬ (-100 : Int32) < -nI m := by
        rw [Int32.lt_iff_toInt_lt, t_neg (by omega)]
        have : (-100 : Int32).toInt = -100 := by decide
        omega
      have es : t_sz m = t_sz (m / 100) + 2 := by
        unfold t_sz
        repeat' split
        all_goals omega
      rw [es] at hsz hQ
      obtain ⟨d1, d2⟩ := t_q100 (m := m) (by omega)
      have hp1 := (t_sz_le (n := m / 100)).1
      unfold wp_J26_getChars_L22
      refine br_f e100 ⟨by decide, ?_⟩
      rw [d2, d1, t_m1 (by omega), t_m1 (by omega)]
      refine w_ones (Nat.mod_lt _ (by decide)) <| w_nn_of <| w_bst_of hv (by omega) hN (by omega) <| w_tens (Nat.mod_lt _ (by decide)) <| w_bst_of q_h_same (by omega) hN (by omega) ?_
      refine ih (m / 100) (pp - 1 - 1) _ _ (by rw [Nat.pow_succ] at hm; omega) (by omega) (by omega) (by omega) hN q_h_same (fun h' g hh hg he => ?_)
      have := hQ h' g (fun c hc => by rw [hh c hc, q_h_ne hc, q_h_ne hc]) hg (fun i => ?_)
      · rw [show pp - (t_sz (m / 100) + 2) = pp - 1 - 1 - t_sz (m / 100) by omega] at this
        exact this
      · rw [he i]
        by_cases q : pp - 1 - 1 - t_sz (m / 100) ≤ i ∧ i < pp - 1 - 1
        · rw [if_pos q, if_pos (by omega), Nat.div_div_eq_div_mul]
          have : 100 * 10 ^ (pp - 1 - 1 - 1 - i) = 10 ^ (pp - 1 - i) := by
            rw [show pp - 1 - i = (pp - 1 - 1 - 1 - i) + 2 by omega, Nat.pow_add]
            omega
          rw [this]
        · rw [if_neg q]
          by_cases q2 : i = pp - 1 - 1
          · rw [q2, pk_us, if_pos (by omega), show pp - 1 - (pp - 1 - 1) = 1 by omega, Nat.pow_one]
            congr 2
            omega
          · rw [pk_un q2]
            by_cases q3 : i = pp - 1
            · rw [q3, pk_us, if_pos (by omega), show pp - 1 - (pp - 1) = 0 by omega, Nat.pow_zero, Nat.div_one]
              congr 2
              omega
            · rw [pk_un q3, if_neg (by omega)]
/-- a number is appended -/
theorem sp_J5_append_2 {a v N n mc ms : Nat} {cs : List Nat} {Q : Option Nat → HH → Prop} (hb : q_sb G h a v N cs) (hn2 : n < 100000) (hn : cs.length < 100000) (hm : 1 ≤ mc) (hs : t_cost (cs.length + t_sz n) N ≤ ms) (hN : N < 130000)
    (hQ : ∀ h' v', (v' = v ∨ h v' = none) → (∀ c, c ≠ a → c ≠ v' → h' c = h c) → q_sb G h' a v' (t_cap (cs.length + t_sz n) N) (cs ++ t_num n) → Q (some a) h') : wp_J5_append_2 G mc ms h a (nI n) Q := by
  obtain ⟨ml, ha⟩ := hb.1
  have hz := t_sz_le (n := n)
  unfold wp_J5_append_2 wp_J4_append_2
  refine ⟨mc, ms, by omega, by omega, w_is_of ha <| w_geti_of ha rfl <| sp_J26_stringSize hn2 ⟨mc, ms, by omega, by omega, w_is_of ha ?_⟩⟩
  rw [nI_add]
  refine sp_J4_ensure hb (by omega) hm hs hN (fun h1 v' hv' hh hb1 hle => ?_)
  obtain ⟨⟨ml1, ha1⟩, b1, b2, b3, f, hf, b4, b5⟩ := hb1
  have hav : a ≠ v' := q_c_ne ha1 hf (by intro q; cases q)
  refine w_is_of ha1 <| sp_J4_isLatin1 ha1 (br_f (by decide) <| w_geta_of ha1 rfl ?_)
  unfold wp_J26_getChars
  refine br_t (nI_pos' (by omega)) ?_
  unfold wp_J26_getChars_L12
  refine q_bt rfl ⟨3, sp_J26_getChars_L22 2 n (cs.length + t_sz n) h1 f (by omega) hn2 (by omega) hle (by omega) hf (fun h2 g hh2 hg he => ?_)⟩
  have ha2 : h2 a = _ := (hh2 a hav).trans ha1
  refine w_put_of ha2 (Nat.le_of_ble_eq_true rfl) rfl ?_
  have dig : ∀ i, cs.length ≤ i → i < cs.length + t_sz n → g i = nI ((t_num n).getD (i - cs.length) 0) := by
    intro i h1 h2
    rw [he i, if_pos (by omega)]
    unfold t_num
    rw [List.getD_eq_getElem?_getD, List.getElem?_map, List.getElem?_range (by omega)]
    simp only [Option.map_some, Option.getD_some]
    congr 5
    omega
  refine hQ _ v' hv' (fun c c1 c2 => by rw [q_h_ne c1, hh2 c c2]; exact hh c c1 c2) ⟨⟨ml1, ?_⟩, by rw [List.length_append, t_num_len]; exact hle, b2, fun x1 hx => ?_, g, by rw [q_h_ne (Ne.symm hav)]; exact hg, fun i hi => ?_, fun i hi => ?_⟩
  · rw [q_h_same, List.length_append, t_num_len]
    rfl
  · rcases List.mem_append.mp hx with z | z
    · exact b3 x1 z
    · exact t_num_lt z
  · rw [List.length_append, t_num_len] at hi
    by_cases q : i < cs.length
    · rw [he i, if_neg (by omega), b4 i q, List.getD_eq_getElem?_getD, List.getD_eq_getElem?_getD, List.getElem?_append_left q]
    · rw [dig i (by omega) hi, List.getD_eq_getElem?_getD, List.getD_eq_getElem?_getD, List.getElem?_append_right (by omega)]
  · by_cases q : cs.length ≤ i ∧ i < cs.length + t_sz n
    · rw [dig i q.1 q.2]
      refine ⟨_, ?_, rfl⟩
      rw [List.getD_eq_getElem?_getD]
      cases e : (t_num n)[i - cs.length]? with
      | none => exact (by decide : (0 : Nat) < 128)
      | some c => exact t_num_lt (List.mem_of_getElem? e)
    · rw [he i, if_neg (by omega)]
      exact b5 i hi
end NUM
