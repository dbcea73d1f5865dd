set_option maxRecDepth 100000
/-! Strings -/
def q_so (G : GG) (h : HH) (a v : Nat) (cs : List Nat) : Prop := (∃ x1 x2 : Value, h a = some (.inr (7, [.ref v, .int 0, x1, x2]))) ∧ cs.length < 300000 ∧ (∀ c ∈ cs, c < 128) ∧ ∃ f, h v = some (.inl (G.2.1 1, cs.length, .inl f)) ∧ ∀ i, i < cs.length → f i = nI (cs.getD i 0)
/-- a String: an object, or the constant "" -/
def q_st (G : GG) (h : HH) (a : Nat) (cs : List Nat) : Prop := (∃ v, q_so G h a v cs) ∨ (a = G.2.2 4 ∧ cs = [])
section STR
variable {G : GG} {h h' : HH}
theorem sp_J5_toString {a v N mc ms : Nat} {cs : List Nat} {Q : Option Nat → HH → Prop} (hb : q_sb G h a v N cs) (hm : 2 ≤ mc) (hs : 4 + cs.length ≤ ms)
    (hQ : ∀ h' s1 v1, h s1 = none → h v1 = none → (∀ c, c ≠ s1 → c ≠ v1 → h' c = h c) → q_so G h' s1 v1 cs → Q (some s1) h') : wp_J5_toString G mc ms h a Q := by
  obtain ⟨⟨ml, ha⟩, b1, b2, b3, f, hf, b4, b5⟩ := hb
  unfold wp_J5_toString
  refine ⟨by omega, by omega, fun s1 hs1 => ⟨1, cs.length, by omega, by omega, ?_⟩⟩
  have as : a ≠ s1 := q_new_ne hs1 ha
  have vs : v ≠ s1 := q_new_ne hs1 hf
  have ha1 : va_up h s1 (some (.inr (7, df_J6))) a = _ := (q_h_ne as).trans ha
  unfold wp_J6_init
  refine ⟨1, cs.length, by omega, by omega, ?_⟩
  unfold wp_J6_init_2
  refine w_nn_of <| w_is_of ha1 ?_
  unfold wp_J4_getValue
  refine w_geta_of ha1 rfl <| w_is_of ha1 ?_
  unfold wp_J5_length
  refine w_is_of ha1 ?_
  unfold wp_J4_length
  refine w_geti_of ha1 rfl <| w_is_of ha1 <| sp_J4_isLatin1 ha1 (br_f (by decide) ?_)
  refine w_put_of q_h_same (by decide) rfl ⟨1, cs.length, by omega, by omega, ?_⟩
  rw [q_h_up]
  have hv1 : va_up h s1 (some (.inr (7, df_J6.set 1 (.int 0)))) v = _ := (q_h_ne vs).trans hf
  have fin : ∀ (q : Nat) (g : Nat → Int32), va_up h s1 (some (.inr (7, df_J6.set 1 (.int 0)))) q = none → (∀ i, i < cs.length → g i = nI (cs.getD i 0)) → w_put (va_up (va_up h s1 (some (.inr (7, df_J6.set 1 (.int 0))))) q (some (.inl (G.2.1 1, cs.length, .inl g)))) s1 7 0 (.ref q) (fun h18 => Q (some s1) h18) := by
    intro q g hq hg
    have sq : s1 ≠ q := q_new_ne hq q_h_same
    have hq0 : h q = none := by rw [q_h_ne (Ne.symm sq)] at hq; exact hq
    refine w_put_of (by rw [q_h_ne sq]; exact q_h_same) (by decide) rfl ?_
    refine hQ _ s1 q hs1 hq0 (fun c c1 c2 => by rw [q_h_ne c1, q_h_ne c2, q_h_ne c1]) ⟨⟨_, _, q_h_same⟩, by omega, b3, g, by rw [q_h_ne (Ne.symm sq)]; exact q_h_same, hg⟩
  unfold wp_J18_copyOfRange
  refine q_bt rfl <| w_nn_of <| w_len_of hv1 ⟨fun z => ?_, fun z => ⟨1, cs.length, by omega, by omega, ?_⟩⟩
  · have hN : cs.length = N := (nI_eq (by omega) (by omega)).mp z
    refine ⟨_, hv1, fun i w hw => ?_, by omega, ?_, fun q hq => ?_⟩
    · have hsz : (arrV (G.2.1 1) N fun j => Value.int (f j)).slots.size = N := arrV_size _ _ _
      have hi : i < N := by
        rcases Nat.lt_or_ge i N with q | q
        · exact q
        · have hw' : (arrV (G.2.1 1) N fun j => Value.int (f j)).slots[i]? = some w := hw
          rw [Array.getElem?_eq_none (by rw [hsz]; exact q)] at hw'
          cases hw'
      have hw' : (arrV (G.2.1 1) N fun j => Value.int (f j)).slots[i]? = some w := hw
      rw [arrV_read _ _ hi] at hw'
      obtain ⟨c, hc, e⟩ := b5 i hi
      cases hw'
      rw [e]
      exact t_fits c hc
    · show 0 + N ≤ _
      omega
    · have hb : va_up (va_up h s1 (some (.inr (7, df_J6.set 1 (.int 0))))) q (some (.inl (G.2.1 1, (N, (.inl f : _))))) = va_up (va_up h s1 (some (.inr (7, df_J6.set 1 (.int 0))))) q (some (.inl (G.2.1 1, cs.length, .inl f))) := by rw [hN]
      have := fin q f hq b4
      rw [← hb] at this
      exact ⟨_, q_h_same, this⟩
  · unfold wp_J18_copyOfRangeByte wp_J18_checkLength
    refine br_t (nI_pos' (by omega)) ?_
    have e0 : nI cs.length - (0 : Int32) = nI cs.length := by
      rw [show (0 : Int32) = nI 0 from rfl, pk_sub (by omega)]
      rfl
    have e1 : nI N - (0 : Int32) = nI N := by
      rw [show (0 : Int32) = nI 0 from rfl, pk_sub (by omega)]
      rfl
    have c0 : (0 : Int32).toNatClampNeg = 0 := by decide +kernel
    rw [e0, nI_clamp (by omega)]
    refine ⟨nI_pos (by omega), by omega, by omega, by omega, fun q hq => w_nn_of ?_⟩
    have vq : v ≠ q := q_new_ne hq hv1
    refine w_len_of (by rw [q_h_ne vq]; exact hv1) ?_
    have e2 : (if nI cs.length < nI N - 0 then nI cs.length else nI N - 0) = nI cs.length := by
      rw [e1]
      by_cases q9 : cs.length < N
      · rw [if_pos (nI_lt q9 (by omega))]
      · have : cs.length = N := by omega
        rw [this, if_neg (nI_nlt (Nat.le_refl _) (by omega))]
    rw [e2]
    refine Or.inl ⟨N, _, f, _, by rw [q_h_ne vq]; exact hv1, q_h_same, by decide, by decide, nI_pos (by omega), by rw [c0, nI_clamp (by omega)]; omega, by rw [c0, nI_clamp (by omega)]; omega, fun _ i hi => ?_, ?_⟩
    · rw [nI_clamp (by omega)] at hi
      rw [c0, Nat.zero_add]
      obtain ⟨c, hc, e⟩ := b5 i (by omega)
      rw [e]
      exact t_fits c hc
    · rw [q_h_up, c0, nI_clamp (by omega)]
      refine fin q _ hq (fun i hi => ?_)
      rw [pk_cpy_in (by omega) (by omega)]
      simpa using b4 i hi
theorem sp_J6_length {a : Nat} {cs : List Nat} {Q : Int32 → HH → Prop} (hs : q_st G h a cs) (hQ : Q (nI cs.length) h) : wp_J6_length G h a Q := by
  unfold wp_J6_length wp_J6_coder
  rcases hs with ⟨v, ⟨x1, x2, ha⟩, hl, hc, f, hv, hf⟩ | ⟨rfl, rfl⟩
  · refine Or.inl ⟨_, some v, ha, rfl, w_nn_of <| w_len_of hv ⟨Or.inl ⟨_, ha⟩, br_f (by decide) <| Or.inl ⟨_, 0, ha, rfl, rfl, ?_⟩⟩⟩
    show Q (nI cs.length >>> ((0 : Int32) &&& 31)) h
    rw [nI_shr0 (by omega)]
    exact hQ
  · refine Or.inr ⟨0, by decide, rfl, w_nn_of <| Or.inr (Or.inr (Or.inl ⟨rfl, Or.inr ⟨0, by decide, rfl⟩, br_f (by decide) <| Or.inr ⟨0, by decide, rfl, rfl, ?_⟩⟩))⟩
    have e : (0 : Int32) >>> ((0 : Int32) &&& 31) = nI 0 := by decide +kernel
    show Q ((0 : Int32) >>> ((0 : Int32) &&& 31)) h
    rw [e]
    exact hQ
theorem t_char : ∀ c, c < 128 → (((Int32.toUInt32 (nI c &&& (255 : Int32))) % 65536).toInt32) = nI c := by
  have : (List.range 128).all (fun c => decide ((((Int32.toUInt32 (Int32.ofNat c &&& (255 : Int32))) % 65536).toInt32) = Int32.ofNat c)) = true := by decide +kernel
  intro c hc
  exact of_decide_eq_true (List.all_eq_true.mp this c (List.mem_range.mpr hc))
theorem t_nar : ∀ c, c < 128 → narrow .char (.int (nI c)) = .int (nI c) := fun c hc => (pk_charN (by omega)).1
theorem w_bld_of {a i n : Nat} {f : Nat → Int32} {Q : Int32 → Prop} (h1 : h a = some (.inl (G.2.1 1, n, .inl f))) (hi : i < n) (hn : n < 2 ^ 31) (h3 : Q (f i)) : w_bld G h a (nI i) Q := Or.inl ⟨n, f, h1, vp_in_nI hi hn, by rw [nI_clamp (by omega)]; exact h3⟩
theorem sp_J6_charAt {a v i : Nat} {cs : List Nat} {Q : Int32 → HH → Prop} (hs : q_so G h a v cs) (hi : i < cs.length) (hQ : Q (nI (cs.getD i 0)) h) : wp_J6_charAt G h a (nI i) Q := by
  obtain ⟨⟨x1, x2, ha⟩, hl, hc, f, hv, hf⟩ := hs
  have hc128 : cs.getD i 0 < 128 := hc _ (by rw [List.getD_eq_getElem?_getD, List.getElem?_eq_getElem hi]; exact List.getElem_mem hi)
  unfold wp_J6_charAt wp_J6_isLatin1
  refine ⟨Or.inl ⟨_, ha⟩, br_f (by decide) <| Or.inl ⟨_, 0, ha, rfl, q_bt rfl (br_f (by decide) <| Or.inl ⟨_, some v, ha, rfl, ?_⟩)⟩⟩
  unfold wp_J8_charAt
  refine w_nn_of <| w_len_of hv ?_
  unfold wp_J6_checkIndex
  intro r1
  refine sp_J9_checkIndex hi (by omega) <| w_bld_of hv hi (by omega) ?_
  rw [hf i hi, t_char _ hc128]
  exact ⟨t_nar _ hc128, t_nar _ hc128, hQ⟩
/-- the constant " r" appended -/
theorem sp_append_r {a v N mc ms : Nat} {cs : List Nat} {Q : Option Nat → HH → Prop} (hb : q_sb G h a v N cs) (hn : cs.length < 100000) (hm : 1 ≤ mc) (hs : t_cost (cs.length + 2) N ≤ ms) (hN : N < 130000)
    (hQ : ∀ h' v', (v' = v ∨ h v' = none) → (∀ c, c ≠ a → c ≠ v' → h' c = h c) → q_sb G h' a v' (t_cap (cs.length + 2) N) (cs ++ [32, 114]) → Q (some a) h') : wp_J5_append_3 G mc ms h a (some (G.2.2 5)) Q := by
  obtain ⟨ml, ha⟩ := hb.1
  have isS : ∀ {h1 : HH} {P : Prop}, P → w_isS G h1 (G.2.2 5) P := fun hp => ⟨Or.inr ⟨1, by decide, rfl⟩, hp⟩
  have cod : ∀ {h1 : HH} {P : Int32 → HH → Prop}, P 0 h1 → wp_J6_coder G h1 (G.2.2 5) P := fun hp => by
    unfold wp_J6_coder
    exact br_f (by decide) <| Or.inr ⟨1, by decide, rfl, rfl, hp⟩
  have val : ∀ {h1 : HH} {P : Option Nat → Prop}, P (some (G.2.2 7)) → w_getSv G h1 (G.2.2 5) P := fun hp => Or.inr ⟨1, by decide, rfl, hp⟩
  have len2 : ∀ {h1 : HH} {P : Int32 → Prop}, P 2 → w_len G h1 (G.2.2 7) P := fun hp => Or.inr (Or.inr (Or.inr ⟨rfl, hp⟩))
  have e2 : (2 : Int32) >>> ((0 : Int32) &&& 31) = nI 2 := by decide +kernel
  have e0 : (0 : Int32).toNatClampNeg = 0 := by decide +kernel
  have c2 : (2 : Int32).toNatClampNeg = 2 := by decide +kernel
  unfold wp_J5_append_3 wp_J4_append_3
  refine ⟨mc, ms, by omega, by omega, w_is_of ha ⟨fun z => (by cases z), fun a1 z => ?_⟩⟩
  cases z
  refine isS ?_
  unfold wp_J6_length
  refine val <| w_nn_of <| len2 <| isS <| cod ?_
  rw [e2]
  refine w_geti_of ha rfl ⟨mc, ms, by omega, by omega, w_is_of ha ?_⟩
  rw [nI_add]
  refine sp_J4_ensure hb (by omega) hm hs hN (fun h1 v' hv' hh hb1 hle => ?_)
  obtain ⟨⟨ml1, ha1⟩, b1, b2, b3, f, hf, b4, b5⟩ := hb1
  have hav : a ≠ v' := q_c_ne ha1 hf (by intro q; cases q)
  refine w_geti_of ha1 rfl <| w_is_of ha1 ?_
  unfold wp_J4_putStringAt
  refine w_is_of ha1 ?_
  unfold wp_J4_inflateIfNeededFor
  refine br_f (by decide) <| w_geti_of ha1 rfl <| w_nn_of <| isS <| cod ⟨fun _ => ?_, fun z => absurd rfl z⟩
  refine w_geta_of ha1 rfl <| w_geti_of ha1 rfl <| w_nn_of <| isS ?_
  unfold wp_J6_getBytes
  refine isS <| cod ⟨fun z => absurd rfl z, fun _ => val <| val <| w_nn_of <| len2 <| w_nn_of <| w_nn_of ?_⟩
  rw [nI_shl0 (by omega)]
  refine Or.inr ⟨_, f, rfl, hf, by decide, nI_pos (by omega), by decide, by rw [e0, c2]; omega, by rw [nI_clamp (by omega), c2]; omega, ?_⟩
  rw [e0, nI_clamp (by omega), c2]
  refine w_geti_of (by rw [q_h_ne hav]; exact ha1) rfl <| w_put_of (by rw [q_h_ne hav]; exact ha1) (Nat.le_of_ble_eq_true rfl) rfl ?_
  rw [nI_add]
  refine hQ _ v' hv' (fun x1 z1 z2 => by rw [q_h_ne z1, q_h_ne z2]; exact hh x1 z1 z2) ⟨⟨ml1, ?_⟩, by rw [List.length_append]; exact hle, b2, fun x1 hx => ?_, _, by rw [q_h_ne (Ne.symm hav)]; exact q_h_same, fun i hi => ?_, fun i hi => ?_⟩
  · rw [q_h_same, List.length_append]
    rfl
  · rcases List.mem_append.mp hx with z | z
    · exact b3 x1 z
    · simp at z
      omega
  · rw [List.length_append] at hi
    have hi2 : i < cs.length + 2 := hi
    by_cases q : i < cs.length
    · rw [pk_cpy_out (Or.inl q), b4 i q, List.getD_eq_getElem?_getD, List.getD_eq_getElem?_getD, List.getElem?_append_left q]
    · rw [pk_cpy_in (by omega) (by omega), List.getD_eq_getElem?_getD (l := cs ++ [32, 114]), List.getElem?_append_right (by omega), Nat.zero_add]
      have : i - cs.length = 0 ∨ i - cs.length = 1 := by omega
      rcases this with z | z <;> rw [z] <;> rfl
  · by_cases q : cs.length ≤ i ∧ i < cs.length + 2
    · rw [pk_cpy_in q.1 q.2, Nat.zero_add]
      have : i - cs.length = 0 ∨ i - cs.length = 1 := by omega
      rcases this with z | z <;> rw [z]
      · exact ⟨32, by decide, rfl⟩
      · exact ⟨114, by decide, rfl⟩
    · rw [pk_cpy_out (by omega)]
      exact b5 i hi
end STR
/-! lines of rules and facts -/
def q_tx (G : GG) (h0 h : HH) (a : Nat) (cs : List Nat) (N : Nat) : Prop := ∃ v, h0 a = none ∧ h0 v = none ∧ q_sb G h a v N cs ∧ q_sp q_no h0 h
theorem t_am {n N : Nat} : t_cost n N + 2 * N ≤ 2 * t_cap n N ∧ (∀ l, N ≤ 2 * l + 16 → l ≤ n → t_cap n N ≤ 2 * n + 16) := by
  unfold t_cost t_cap
  by_cases q : n ≤ N
  · rw [if_pos q, if_pos q]
    exact ⟨by omega, fun l h1 h2 => by omega⟩
  · rw [if_neg q, if_neg q]
    exact ⟨by omega, fun l h1 h2 => by omega⟩
theorem t_z {n N : Nat} (h : n ≤ N) : t_cost n N = 0 ∧ t_cap n N = N := by
  unfold t_cost t_cap
  rw [if_pos h, if_pos h]
  exact ⟨rfl, rfl⟩
section LINE
variable {G : GG} {h h' h0 : HH} {ρ ρ' : RO} {k b w p t : Nat} {C : CC}
theorem q_tx.fr {a N v' : Nat} {cs : List Nat} {h2 : HH} (hv : h0 v' = none) (ha : h0 a = none) (hs : q_sp q_no h0 h) (hh : ∀ c, c ≠ a → c ≠ v' → h2 c = h c) : q_sp q_no h0 h2 := fun c e hc _ => by
  rw [hh c (q_new_ne ha hc) (q_new_ne hv hc)]
  exact hs c e hc q_no.not
theorem q_tx.ap {a N c mc ms : Nat} {cs : List Nat} {Q : Option Nat → HH → Prop} (hx : q_tx G h0 h a cs N) (hc : c < 128) (hn : cs.length < 100000) (hm : 1 ≤ mc) (hs : t_cost (cs.length + 1) N ≤ ms) (hN : N < 130000)
    (hQ : ∀ h', q_tx G h0 h' a (cs ++ [c]) (t_cap (cs.length + 1) N) → Q (some a) h') : (∃ fs, h a = some (.inr (6, fs))) ∧ wp_J5_append G mc ms h a (nI c) Q := by
  obtain ⟨v, ha, hv, hb, hsp⟩ := hx
  obtain ⟨ml, hae⟩ := hb.1
  refine ⟨⟨_, hae⟩, sp_J5_append hb hc hn hm hs hN (fun h1 v' hv' hh hb1 => ?_)⟩
  have hv0 : h0 v' = none := by
    rcases hv' with z | z
    · rw [z]; exact hv
    · exact q_sp_none hsp z
  exact hQ h1 ⟨v', ha, hv0, hb1, q_tx.fr (N := N) (cs := cs) hv0 ha hsp hh⟩
theorem q_tx.an {a N n mc ms : Nat} {cs : List Nat} {Q : Option Nat → HH → Prop} (hx : q_tx G h0 h a cs N) (hn2 : n < 100000) (hn : cs.length < 100000) (hm : 1 ≤ mc) (hs : t_cost (cs.length + t_sz n) N ≤ ms) (hN : N < 130000)
    (hQ : ∀ h', q_tx G h0 h' a (cs ++ t_num n) (t_cap (cs.length + t_sz n) N) → Q (some a) h') : (∃ fs, h a = some (.inr (6, fs))) ∧ wp_J5_append_2 G mc ms h a (nI n) Q := by
  obtain ⟨v, ha, hv, hb, hsp⟩ := hx
  obtain ⟨ml, hae⟩ := hb.1
  refine ⟨⟨_, hae⟩, sp_J5_append_2 hb hn2 hn hm hs hN (fun h1 v' hv' hh hb1 => ?_)⟩
  have hv0 : h0 v' = none := by
    rcases hv' with z | z
    · rw [z]; exact hv
    · exact q_sp_none hsp z
  exact hQ h1 ⟨v', ha, hv0, hb1, q_tx.fr (N := N) (cs := cs) hv0 ha hsp hh⟩
theorem q_tx.ar {a N mc ms : Nat} {cs : List Nat} {Q : Option Nat → HH → Prop} (hx : q_tx G h0 h a cs N) (hn : cs.length < 100000) (hm : 1 ≤ mc) (hs : t_cost (cs.length + 2) N ≤ ms) (hN : N < 130000)
    (hQ : ∀ h', q_tx G h0 h' a (cs ++ [32, 114]) (t_cap (cs.length + 2) N) → Q (some a) h') : (∃ fs, h a = some (.inr (6, fs))) ∧ wp_J5_append_3 G mc ms h a (some (G.2.2 5)) Q := by
  obtain ⟨v, ha, hv, hb, hsp⟩ := hx
  obtain ⟨ml, hae⟩ := hb.1
  refine ⟨⟨_, hae⟩, sp_append_r hb hn hm hs hN (fun h1 v' hv' hh hb1 => ?_)⟩
  have hv0 : h0 v' = none := by
    rcases hv' with z | z
    · rw [z]; exact hv
    · exact q_sp_none hsp z
  exact hQ h1 ⟨v', ha, hv0, hb1, q_tx.fr (N := N) (cs := cs) hv0 ha hsp hh⟩
def s_sgn (t : Nat) : Nat := if t ≤ 9 then 48 + t else 78 + t
theorem sp_X8_sign {t : Nat} {Q : Int32 → HH → Prop} (ht : t ≤ 12) (hQ : Q (nI (s_sgn t)) h) : wp_X8_sign G h (nI t) Q := by
  have key : (List.range 13).all (fun t => decide (if t ≤ 9 then (((Int32.toUInt32 ((48 : Int32) + Int32.ofNat t)) % 65536).toInt32) = Int32.ofNat (s_sgn t) else (((Int32.toUInt32 ((((88 : Int32) + Int32.ofNat t) - (9 : Int32)) - (1 : Int32))) % 65536).toInt32) = Int32.ofNat (s_sgn t))) = true := by decide +kernel
  have k := of_decide_eq_true (List.all_eq_true.mp key t (List.mem_range.mpr (by omega)))
  have hlt : s_sgn t < 128 := by unfold s_sgn; split <;> omega
  unfold wp_X8_sign
  by_cases q : t ≤ 9
  · rw [if_pos q] at k
    refine br_f (nI_nlt (a := 9) q (by decide)) ?_
    have k' : (((Int32.toUInt32 ((48 : Int32) + nI t)) % 65536).toInt32) = nI (s_sgn t) := k
    rw [k']
    exact ⟨t_nar _ hlt, hQ⟩
  · rw [if_neg q] at k
    refine br_t (nI_lt (a := 9) (by omega) (by omega)) ?_
    have k' : (((Int32.toUInt32 ((((88 : Int32) + nI t) - (9 : Int32)) - (1 : Int32))) % 65536).toInt32) = nI (s_sgn t) := k
    rw [k']
    exact ⟨t_nar _ hlt, hQ⟩
theorem s_sgn_lt {t : Nat} (ht : t ≤ 12) : s_sgn t < 128 := by unfold s_sgn; split <;> omega
/-- a pattern is told, where there is room -/
theorem sp_X8_tell {pa a N k0 t0 t1 mc ms : Nat} {cs : List Nat} {Q : HH → Prop} (hpt : q_pt G h0 ρ pa k0 t0 t1) (hk : k0 < 128) (hx : q_tx G h0 h a cs N) (hn : cs.length + 3 ≤ N) (hN : N < 100000) (hm : 3 ≤ mc)
    (hQ : ∀ h', q_tx G h0 h' a (cs ++ [k0, s_sgn t0, s_sgn t1]) N → Q h') : wp_X8_tell G mc ms h pa (some a) Q := by
  obtain ⟨-, hn9, b1, f1, -, hpa, hpb, k1, k2, k3, k4⟩ := hpt
  have up : ∀ {h1 : HH} {cs' : List Nat}, q_tx G h0 h1 a cs' N → h1 pa = some (.inr (11, [.int (nI k0), .ref b1])) ∧ h1 b1 = some (.inl (G.2.1 0, 2, .inl f1)) := fun hx => by
    obtain ⟨v, -, -, -, hsp⟩ := hx
    exact ⟨hsp _ _ hpa q_no.not, hsp _ _ hpb q_no.not⟩
  unfold wp_X8_tell
  refine w_geti_of (up hx).1 rfl <| w_nn_of ⟨1, 0, by omega, by omega, ?_⟩
  refine hx.ap hk (by omega) (by omega) (by rw [(t_z (by omega)).1]; exact Nat.le_refl _) (by omega) (fun h1 hx1 => ?_)
  rw [(t_z (by omega)).2] at hx1
  refine w_geta_of (up hx1).1 rfl <| w_nn_of ?_
  refine w_ild_of (i := 0) (up hx1).2 (by decide) (by decide) ?_
  rw [k1]
  refine sp_X8_sign k3 <| w_nn_of ⟨1, 0, by omega, by omega, ?_⟩
  refine hx1.ap (s_sgn_lt k3) (by rw [List.length_append, List.length_singleton]; omega) (by omega) (by rw [(t_z (by rw [List.length_append, List.length_singleton]; omega)).1]; exact Nat.le_refl _) (by omega) (fun h2 hx2 => ?_)
  rw [(t_z (by rw [List.length_append, List.length_singleton]; omega)).2] at hx2
  refine w_geta_of (up hx2).1 rfl <| w_nn_of ?_
  refine w_ild_of (i := 1) (up hx2).2 (by decide) (by decide) ?_
  rw [k2]
  refine sp_X8_sign k4 <| w_nn_of ⟨1, 0, by omega, by omega, ?_⟩
  refine hx2.ap (s_sgn_lt k4) (by simp only [List.length_append, List.length_singleton]; omega) (by omega) (by rw [(t_z (by simp only [List.length_append, List.length_singleton]; omega)).1]; exact Nat.le_refl _) (by omega) (fun h3 hx3 => ?_)
  rw [(t_z (by simp only [List.length_append, List.length_singleton]; omega)).2] at hx3
  refine hQ h3 ?_
  rw [List.append_assoc, List.append_assoc] at hx3
  exact hx3
/-- a rule's line -/
def s_rl (r : Nat → Nat) : List Nat := [r 0, s_sgn (r 1), s_sgn (r 2)] ++ (if r 3 = 2 then [33] else []) ++ (if r 3 = 0 then [] else [r 4, s_sgn (r 5), s_sgn (r 6)]) ++ [62] ++ [r 7, s_sgn (r 8), s_sgn (r 9)] ++ [42] ++ t_num (r 10)
theorem sp_X9_told {ra mc ms : Nat} {r : Nat → Nat} {Q : Option Nat → HH → Prop} (hr : q_rl G h ρ ra r) (hw : c_rw r) (hm : 30 ≤ mc) (hs : 50 ≤ ms)
    (hQ : ∀ h' s1 v1, h s1 = none → h v1 = none → q_sp q_no h h' → q_so G h' s1 v1 (s_rl r) → Q (some s1) h') : wp_X9_told G mc ms h ra Q := by
  obtain ⟨-, r3, r10, p1, p2, p3, hra, hp1, m1, m2, hp3⟩ := hr
  obtain ⟨-, -, ⟨w7, w7'⟩, ⟨w0, w0'⟩, w4⟩ := hw
  have sz1 : t_sz (r 10) = 1 := by unfold t_sz; rw [if_pos (by omega)]
  have fin : ∀ {h1 : HH} {a nc nk : Nat} {cs : List Nat}, q_tx G h h1 a cs 16 → cs.length ≤ 10 - 0 → cs.length + 6 ≤ 16 → nc + 15 ≤ mc → nk + 20 ≤ ms → cs ++ [62] ++ [r 7, s_sgn (r 8), s_sgn (r 9)] ++ [42] ++ t_num (r 10) = s_rl r → wp_X9_told_L49 G mc ms ra Q h1 nc nk a := by
    intro h1 a nc nk cs hx hl1 hl hnc hnk hcs
    have len : ∀ {h2 : HH} {cs : List Nat} {N : Nat}, q_tx G h h2 a cs N → h2 ra = some (.inr (12, [.ref p1, va_rf p2, .int (if r 3 = 2 then 1 else 0), .ref p3, .int (nI (r 10))])) ∧ ∃ fs, h2 p3 = some (.inr (11, fs)) := fun hx => by
      obtain ⟨v, -, -, -, hsp⟩ := hx
      obtain ⟨-, -, b1, f1, -, hpa, -⟩ := id hp3
      exact ⟨hsp _ _ hra q_no.not, ⟨_, hsp _ _ hpa q_no.not⟩⟩
    unfold wp_X9_told_L49
    refine ⟨1, 0, by omega, by omega, ?_⟩
    refine hx.ap (c := 62) (by decide) (by omega) (by omega) (by rw [(t_z (by omega)).1]; exact Nat.le_refl _) (by omega) (fun h2 hx2 => ?_)
    rw [(t_z (by omega)).2] at hx2
    obtain ⟨fs3, ho3⟩ := (len hx2).2
    refine w_geta_of (len hx2).1 rfl <| w_nn_of ⟨3, 0, by omega, by omega, w_is_of ho3 <| sp_X8_tell hp3 (by omega) hx2 (by simp only [List.length_append, List.length_singleton]; omega) (by decide) (by omega) (fun h3 hx3 => w_nn_of ⟨1, 0, by omega, by omega, ?_⟩)⟩
    refine hx3.ap (c := 42) (by decide) (by simp only [List.length_append, List.length_cons, List.length_nil]; omega) (by omega) (by rw [(t_z (by simp only [List.length_append, List.length_cons, List.length_nil]; omega)).1]; exact Nat.le_refl _) (by decide) (fun h4 hx4 => ?_)
    rw [(t_z (by simp only [List.length_append, List.length_cons, List.length_nil]; omega)).2] at hx4
    refine w_geti_of (len hx4).1 rfl <| w_nn_of ⟨1, 0, by omega, by omega, ?_⟩
    refine hx4.an (n := r 10) (by omega) (by simp only [List.length_append, List.length_cons, List.length_nil]; omega) (by omega) (by rw [sz1, (t_z (by simp only [List.length_append, List.length_cons, List.length_nil]; omega)).1]; exact Nat.le_refl _) (by decide) (fun h5 hx5 => ?_)
    rw [sz1, (t_z (by simp only [List.length_append, List.length_cons, List.length_nil]; omega)).2] at hx5
    obtain ⟨v, ha0, hv0, hb5, hsp5⟩ := hx5
    rw [hcs] at hb5
    have hlen : (s_rl r).length ≤ 16 := hb5.2.1
    obtain ⟨ml, hae⟩ := hb5.1
    refine w_nn_of ⟨2, 20, by omega, by omega, w_is_of hae <| sp_J5_toString hb5 (by omega) (by omega) (fun h6 s1 v1 a1 a2 a3 a4 => ?_)⟩
    have e1 := q_sp_none hsp5 a1
    have e2 := q_sp_none hsp5 a2
    exact hQ h6 s1 v1 e1 e2 (fun c e hc _ => by rw [a3 c (q_new_ne e1 hc) (q_new_ne e2 hc)]; exact hsp5 c e hc q_no.not) a4
  obtain ⟨fs1, ho1⟩ : ∃ fs, h p1 = some (.inr (11, fs)) := by
    obtain ⟨-, -, b1, f1, -, hpa, -⟩ := id hp1
    exact ⟨_, hpa⟩
  unfold wp_X9_told
  refine ⟨by omega, by omega, fun a ha => ⟨1, 16, by omega, by omega, sp_J5_init q_h_same (by omega) (by omega) (fun h1 v hv hh hb => ?_)⟩⟩
  have hv0 : h v = none := by
    by_cases z : v = a
    · rw [z]; exact ha
    · rw [q_h_ne z] at hv; exact hv
  have hx1 : q_tx G h h1 a [] 16 := ⟨v, ha, hv0, hb, fun c e hc _ => by rw [hh c (q_new_ne ha hc) (q_new_ne hv0 hc), q_h_ne (q_new_ne ha hc)]; exact hc⟩
  have base : ∀ {h2 : HH} {cs : List Nat} {N c : Nat} {e : va_E}, q_tx G h h2 a cs N → h c = some e → h2 c = some e := fun hx hc => by
    obtain ⟨v, -, -, -, hsp⟩ := hx
    exact hsp _ _ hc q_no.not
  refine w_geta_of (base hx1 hra) rfl <| w_nn_of ⟨3, 0, by omega, by omega, w_is_of (base hx1 ho1) <| sp_X8_tell hp1 (by omega) hx1 (by decide) (by decide) (by omega) (fun h2 hx2 => ?_)⟩
  rw [List.nil_append] at hx2
  refine w_getr_of (base hx2 hra) rfl ⟨fun z => ?_, fun pa z => ?_⟩
  · have h0 : r 3 = 0 := by
      rcases Nat.eq_zero_or_pos (r 3) with q | q
      · exact q
      · obtain ⟨p9, e9, -⟩ := m2 (by omega)
        rw [z] at e9
        cases e9
    refine fin hx2 (by simp) (by simp) (by omega) (by omega) ?_
    unfold s_rl
    rw [if_neg (by omega), if_pos h0]
    rfl
  · have h0 : r 3 ≠ 0 := fun q => by
      have := m1 q
      rw [z] at this
      cases this
    obtain ⟨pp, epp, hpp⟩ := m2 h0
    rw [z] at epp
    cases epp
    obtain ⟨fs2, ho2⟩ : ∃ fs, h pa = some (.inr (11, fs)) := by
      obtain ⟨-, -, b1, f1, -, hpa, -⟩ := id hpp
      exact ⟨_, hpa⟩
    have hra' : h ra = some (.inr (12, [.ref p1, .ref pa, .int (if r 3 = 2 then 1 else 0), .ref p3, .int (nI (r 10))])) := by rw [z] at hra; exact hra
    have L40 : ∀ {h3 : HH} {cs : List Nat} {nc nk : Nat}, q_tx G h h3 a cs 16 → cs.length ≤ 4 → nc + 18 ≤ mc → nk + 20 ≤ ms → cs ++ [r 4, s_sgn (r 5), s_sgn (r 6)] ++ [62] ++ [r 7, s_sgn (r 8), s_sgn (r 9)] ++ [42] ++ t_num (r 10) = s_rl r → wp_X9_told_L40 G mc ms ra Q h3 nc nk a (some a) := by
      intro h3 cs nc nk hx3 hl hnc hnk hcs
      unfold wp_X9_told_L40
      refine w_geta_of (base hx3 hra') rfl <| w_nn_of ⟨3, 0, by omega, by omega, w_is_of (base hx3 ho2) <| sp_X8_tell hpp (by have := w4 h0; omega) hx3 (by omega) (by decide) (by omega) (fun h4 hx4 => ?_)⟩
      exact fin hx4 (by simp only [List.length_append, List.length_cons, List.length_nil]; omega) (by simp only [List.length_append, List.length_cons, List.length_nil]; omega) (by omega) (by omega) hcs
    refine w_geti_of (base hx2 hra') rfl ⟨fun z2 => ?_, fun z2 => ⟨1, 0, by omega, by omega, ?_⟩⟩
    · have h2 : r 3 ≠ 2 := fun q => by rw [if_pos q] at z2; exact absurd z2 (by decide)
      refine L40 hx2 (by simp) (by omega) (by omega) ?_
      unfold s_rl
      rw [if_neg h2, if_neg h0]
      rfl
    · have h2 : r 3 = 2 := by
        by_cases q : r 3 = 2
        · exact q
        · rw [if_neg q] at z2
          exact absurd rfl z2
      refine hx2.ap (c := 33) (by decide) (by simp) (by omega) (by rw [(t_z (by simp)).1]; exact Nat.le_refl _) (by decide) (fun h3 hx3 => ?_)
      rw [(t_z (by simp)).2] at hx3
      refine L40 hx3 (by simp) (by omega) (by omega) ?_
      unfold s_rl
      rw [if_pos h2, if_neg h0]
end LINE
/-! a reason's text; a fact's line -/
def s_re (fi : FI) (i : Nat) : List Nat := [32, 114] ++ t_num i ++ [44] ++ t_num fi.2.1 ++ (match fi.2.2 with
  | none => []
  | some m => [44] ++ t_num m)
def c_raL (a : Nat) : List (Nat × (Nat → Nat)) → Nat
  | [] => 0
  | y :: ys => if y.1 = a then 0 else c_raL a ys + 1
/-- the place of a rule's address -/
def c_ra (C : CC) (a : Nat) : Nat := c_raL a C.1
theorem c_ra_of {C : CC} (hnd : (C.1.map Prod.fst).Nodup) {i : Nat} {x1 : Nat × (Nat → Nat)} (h : C.1[i]? = some x1) : c_ra C x1.1 = i := by
  have key : ∀ (ys : List (Nat × (Nat → Nat))) (i : Nat), (ys.map Prod.fst).Nodup → ys[i]? = some x1 → c_raL x1.1 ys = i := by
    intro ys
    induction ys with
    | nil => intro i _ h; cases h
    | cons y ys ih =>
      intro i hnd h
      unfold c_raL
      cases i with
      | zero =>
        cases h
        rw [if_pos rfl]
      | succ i =>
        simp only [List.map_cons, List.nodup_cons] at hnd
        simp only [List.getElem?_cons_succ] at h
        rw [if_neg (fun e => hnd.1 (by rw [e]; exact List.mem_map.mpr ⟨x1, List.mem_of_getElem? h, rfl⟩)), ih i hnd.2 h]
  exact key C.1 i hnd h
def t_re4 (N l i : Nat) (fi : FI) : Nat := t_cap (l + 2 + t_sz i + 1 + t_sz fi.2.1) (t_cap (l + 2 + t_sz i + 1) (t_cap (l + 2 + t_sz i) (t_cap (l + 2) N)))
def t_ref (N l i : Nat) (fi : FI) : Nat := match fi.2.2 with
  | none => t_re4 N l i fi
  | some m => t_cap (l + 2 + t_sz i + 1 + t_sz fi.2.1 + 1 + t_sz m) (t_cap (l + 2 + t_sz i + 1 + t_sz fi.2.1 + 1) (t_re4 N l i fi))
theorem s_re_len {fi : FI} {i : Nat} : (s_re fi i).length = 2 + t_sz i + 1 + t_sz fi.2.1 + (match fi.2.2 with | none => 0 | some m => 1 + t_sz m) := by
  unfold s_re
  cases fi.2.2 <;> simp only [List.length_append, List.length_cons, List.length_nil, t_num_len]
theorem t_ref_le {N l i : Nat} {fi : FI} (h : N ≤ 2 * l + 16) : t_ref N l i fi ≤ 2 * (l + (s_re fi i).length) + 16 ∧ N ≤ t_ref N l i fi := by
  have mono : ∀ n N, N ≤ t_cap n N := fun n N => by have := (t_am (n := n) (N := N)).1; unfold t_cap; split <;> omega
  have a1 := (t_am (n := l + 2) (N := N)).2 l h (by omega)
  have a2 := (t_am (n := l + 2 + t_sz i) (N := t_cap (l + 2) N)).2 (l + 2) a1 (by omega)
  have a3 := (t_am (n := l + 2 + t_sz i + 1) (N := t_cap (l + 2 + t_sz i) (t_cap (l + 2) N))).2 _ a2 (by omega)
  have a4 := (t_am (n := l + 2 + t_sz i + 1 + t_sz fi.2.1) (N := t_cap (l + 2 + t_sz i + 1) (t_cap (l + 2 + t_sz i) (t_cap (l + 2) N)))).2 _ a3 (by omega)
  have b1 := mono (l + 2) N
  have b2 := mono (l + 2 + t_sz i) (t_cap (l + 2) N)
  have b3 := mono (l + 2 + t_sz i + 1) (t_cap (l + 2 + t_sz i) (t_cap (l + 2) N))
  have b4 := mono (l + 2 + t_sz i + 1 + t_sz fi.2.1) (t_cap (l + 2 + t_sz i + 1) (t_cap (l + 2 + t_sz i) (t_cap (l + 2) N)))
  rw [s_re_len]
  unfold t_ref
  cases e : fi.2.2 with
  | none =>
    unfold t_re4
    simp only
    exact ⟨by omega, by omega⟩
  | some m =>
    simp only
    unfold t_re4
    have a5 := (t_am (n := l + 2 + t_sz i + 1 + t_sz fi.2.1 + 1) (N := t_cap (l + 2 + t_sz i + 1 + t_sz fi.2.1) (t_cap (l + 2 + t_sz i + 1) (t_cap (l + 2 + t_sz i) (t_cap (l + 2) N))))).2 _ a4 (by omega)
    have a6 := (t_am (n := l + 2 + t_sz i + 1 + t_sz fi.2.1 + 1 + t_sz m) (N := t_cap (l + 2 + t_sz i + 1 + t_sz fi.2.1 + 1) (t_cap (l + 2 + t_sz i + 1 + t_sz fi.2.1) (t_cap (l + 2 + t_sz i + 1) (t_cap (l + 2 + t_sz i) (t_cap (l + 2) N)))))).2 _ a5 (by omega)
    have b5 := mono (l + 2 + t_sz i + 1 + t_sz fi.2.1 + 1) (t_cap (l + 2 + t_sz i + 1 + t_sz fi.2.1) (t_cap (l + 2 + t_sz i + 1) (t_cap (l + 2 + t_sz i) (t_cap (l + 2) N))))
    have b6 := mono (l + 2 + t_sz i + 1 + t_sz fi.2.1 + 1 + t_sz m) (t_cap (l + 2 + t_sz i + 1 + t_sz fi.2.1 + 1) (t_cap (l + 2 + t_sz i + 1 + t_sz fi.2.1) (t_cap (l + 2 + t_sz i + 1) (t_cap (l + 2 + t_sz i) (t_cap (l + 2) N)))))
    exact ⟨by omega, by omega⟩
section LINE2
variable {G : GG} {h h' h0 : HH} {ρ ρ' : RO} {k b w p t : Nat} {C : CC}
theorem sp_X2_tell_2 {fd a N i mc ms : Nat} {fi : FI} {x1 : Nat × (Nat → Nat)} {cs : List Nat} {Q : HH → Prop} (hb : q_bk G h0 ρ k b w C) (hok : c_ok C) (hfd : h0 fd = some (.inr (16, [.ref fi.1, .int (nI fi.2.1), .int (nO fi.2.2)]))) (hx1 : C.1[i]? = some x1) (hf : fi.1 = x1.1) (hfb : fi.2.1 < 100000 ∧ ∀ n, fi.2.2 = some n → n < 100000)
    (hx : q_tx G h0 h a cs N) (hN : N ≤ 2 * cs.length + 16) (hl : cs.length < 60000) (hm : 6 ≤ mc) (hs : 2 * t_ref N cs.length i fi ≤ ms + 2 * N)
    (hQ : ∀ h', q_tx G h0 h' a (cs ++ s_re fi i) (t_ref N cs.length i fi) → Q h') : wp_X2_tell_2 G mc ms h b (some fd) (some a) Q := by
  have hi8 : i < 8 := Nat.lt_of_lt_of_le (List.getElem?_eq_some_iff.mp hx1).1 hok.1
  have z1 := t_sz_le (n := i)
  have z2 := t_sz_le (n := fi.2.1)
  have a1 := (t_am (n := cs.length + 2) (N := N)).2 cs.length hN (by omega)
  have a2 := (t_am (n := cs.length + 2 + t_sz i) (N := t_cap (cs.length + 2) N)).2 (cs.length + 2) a1 (by omega)
  have a3 := (t_am (n := cs.length + 2 + t_sz i + 1) (N := t_cap (cs.length + 2 + t_sz i) (t_cap (cs.length + 2) N))).2 _ a2 (by omega)
  have a4 := (t_am (n := cs.length + 2 + t_sz i + 1 + t_sz fi.2.1) (N := t_cap (cs.length + 2 + t_sz i + 1) (t_cap (cs.length + 2 + t_sz i) (t_cap (cs.length + 2) N)))).2 _ a3 (by omega)
  have c1 := (t_am (n := cs.length + 2) (N := N)).1
  have c2 := (t_am (n := cs.length + 2 + t_sz i) (N := t_cap (cs.length + 2) N)).1
  have c3 := (t_am (n := cs.length + 2 + t_sz i + 1) (N := t_cap (cs.length + 2 + t_sz i) (t_cap (cs.length + 2) N))).1
  have c4 := (t_am (n := cs.length + 2 + t_sz i + 1 + t_sz fi.2.1) (N := t_cap (cs.length + 2 + t_sz i + 1) (t_cap (cs.length + 2 + t_sz i) (t_cap (cs.length + 2) N)))).1
  obtain ⟨lr, lf, g1, g3, -, ⟨fs3, g5⟩, -⟩ := hb.len
  have base : ∀ {h2 : HH} {cs : List Nat} {N c : Nat} {e : va_E}, q_tx G h0 h2 a cs N → h0 c = some e → h2 c = some e := fun hx hc => by
    obtain ⟨v, -, -, -, hsp⟩ := hx
    exact hsp _ _ hc q_no.not
  have hbase : ∀ {h2 : HH} {cs : List Nat} {N : Nat}, q_tx G h0 h2 a cs N → q_bk G h2 ρ k b w C ∧ q_ls G h2 ρ (k, 4) lr (C.1.map Prod.fst) := fun hx => by
    obtain ⟨v, -, -, -, hsp⟩ := hx
    exact ⟨hb.kp (q_no_kp hsp), g3.kp (q_no_kp hsp) rfl⟩
  -- what is left to pay
  have left : t_cost (cs.length + 2) N + t_cost (cs.length + 2 + t_sz i) (t_cap (cs.length + 2) N) + t_cost (cs.length + 2 + t_sz i + 1) (t_cap (cs.length + 2 + t_sz i) (t_cap (cs.length + 2) N)) + t_cost (cs.length + 2 + t_sz i + 1 + t_sz fi.2.1) (t_cap (cs.length + 2 + t_sz i + 1) (t_cap (cs.length + 2 + t_sz i) (t_cap (cs.length + 2) N))) + 2 * N ≤ 2 * t_re4 N cs.length i fi := by
    unfold t_re4
    omega
  have mono : ∀ n N, N ≤ t_cap n N := fun n N => by unfold t_cap; split <;> omega
  have leftR : t_re4 N cs.length i fi ≤ t_ref N cs.length i fi := by
    unfold t_ref
    cases fi.2.2 with
    | none => exact Nat.le_refl _
    | some m => exact Nat.le_trans (mono _ _) (mono _ _)
  unfold wp_X2_tell_2
  refine w_nn_of ⟨1, t_cost (cs.length + 2) N, by omega, by omega, ?_⟩
  refine hx.ar (by omega) (by omega) (Nat.le_refl _) (by omega) (fun h1 hx1' => ?_)
  obtain ⟨hb1, hl1⟩ := hbase hx1'
  have hr1 := (hb1.rule hx1).1
  refine w_geta_of (base hx1' g1) rfl <| w_nn_of <| w_geta_of (base hx1' hfd) rfl <| w_nn_of <| w_is_of (base hx1' g5) ?_
  rw [hf]
  refine sp_rules_indexOf hl1 hr1 hok.2.1 hx1 <| w_nn_of ⟨1, t_cost (cs.length + 2 + t_sz i) (t_cap (cs.length + 2) N), by omega, by omega, ?_⟩
  refine hx1'.an (n := i) (by omega) (by simp only [List.length_append, List.length_cons, List.length_nil]; omega) (by omega) (by simp only [List.length_append, List.length_cons, List.length_nil]; exact Nat.le_refl _) (by omega) (fun h2 hx2 => w_nn_of ⟨1, t_cost (cs.length + 2 + t_sz i + 1) (t_cap (cs.length + 2 + t_sz i) (t_cap (cs.length + 2) N)), by omega, by omega, ?_⟩)
  simp only [List.length_append, List.length_cons, List.length_nil] at hx2
  refine hx2.ap (c := 44) (by decide) (by simp only [List.length_append, List.length_cons, List.length_nil, t_num_len]; omega) (by omega) (by simp only [List.length_append, List.length_cons, List.length_nil, t_num_len]; exact Nat.le_refl _) (Nat.lt_of_le_of_lt a2 (by omega)) (fun h3 hx3 => ?_)
  simp only [List.length_append, List.length_cons, List.length_nil, t_num_len] at hx3
  refine w_geti_of (base hx3 hfd) rfl <| w_nn_of ⟨1, t_cost (cs.length + 2 + t_sz i + 1 + t_sz fi.2.1) (t_cap (cs.length + 2 + t_sz i + 1) (t_cap (cs.length + 2 + t_sz i) (t_cap (cs.length + 2) N))), by omega, by omega, ?_⟩
  refine hx3.an (n := fi.2.1) hfb.1 (by simp only [List.length_append, List.length_cons, List.length_nil, t_num_len]; omega) (by omega) (by simp only [List.length_append, List.length_cons, List.length_nil, t_num_len]; exact Nat.le_refl _) (Nat.lt_of_le_of_lt a3 (by omega)) (fun h4 hx4 => ?_)
  simp only [List.length_append, List.length_cons, List.length_nil, t_num_len] at hx4
  refine w_geti_of (base hx4 hfd) rfl ⟨fun z => ?_, fun z => ?_⟩
  · cases e : fi.2.2 with
    | none =>
      rw [e] at z
      exact absurd rfl z
    | some m =>
      have hm9 := hfb.2 m e
      have z3 := t_sz_le (n := m)
      have eref : t_ref N cs.length i fi = t_cap (cs.length + 2 + t_sz i + 1 + t_sz fi.2.1 + 1 + t_sz m) (t_cap (cs.length + 2 + t_sz i + 1 + t_sz fi.2.1 + 1) (t_re4 N cs.length i fi)) := by
        unfold t_ref
        rw [e]
      have a5 := (t_am (n := cs.length + 2 + t_sz i + 1 + t_sz fi.2.1 + 1) (N := t_re4 N cs.length i fi)).2 _ a4 (by omega)
      have c5 := (t_am (n := cs.length + 2 + t_sz i + 1 + t_sz fi.2.1 + 1) (N := t_re4 N cs.length i fi)).1
      have c6 := (t_am (n := cs.length + 2 + t_sz i + 1 + t_sz fi.2.1 + 1 + t_sz m) (N := t_cap (cs.length + 2 + t_sz i + 1 + t_sz fi.2.1 + 1) (t_re4 N cs.length i fi))).1
      rw [eref] at hs hQ
      have a4' : t_re4 N cs.length i fi ≤ 2 * (cs.length + 2 + t_sz i + 1 + t_sz fi.2.1) + 16 := a4
      obtain ⟨K5, hK5⟩ : ∃ K, K = t_cost (cs.length + 2 + t_sz i + 1 + t_sz fi.2.1 + 1) (t_re4 N cs.length i fi) := ⟨_, rfl⟩
      obtain ⟨K6, hK6⟩ : ∃ K, K = t_cost (cs.length + 2 + t_sz i + 1 + t_sz fi.2.1 + 1 + t_sz m) (t_cap (cs.length + 2 + t_sz i + 1 + t_sz fi.2.1 + 1) (t_re4 N cs.length i fi)) := ⟨_, rfl⟩
      rw [← hK5] at c5
      rw [← hK6] at c6
      refine w_nn_of ⟨1, K5, by omega, by omega, ?_⟩
      have hK5' : t_cost (cs.length + 2 + t_sz i + 1 + t_sz fi.2.1 + 1) (t_re4 N cs.length i fi) ≤ K5 := Nat.le_of_eq hK5.symm
      have hK6' : t_cost (cs.length + 2 + t_sz i + 1 + t_sz fi.2.1 + 1 + t_sz m) (t_cap (cs.length + 2 + t_sz i + 1 + t_sz fi.2.1 + 1) (t_re4 N cs.length i fi)) ≤ K6 := Nat.le_of_eq hK6.symm
      refine hx4.ap (c := 44) (by decide) (by simp only [List.length_append, List.length_cons, List.length_nil, t_num_len]; omega) (by omega) (by simp only [List.length_append, List.length_cons, List.length_nil, t_num_len]; exact hK5') (by exact Nat.lt_of_le_of_lt a4' (by omega)) (fun h5 hx5 => ?_)
      simp only [List.length_append, List.length_cons, List.length_nil, t_num_len] at hx5
      refine w_geti_of (base hx5 hfd) rfl <| w_nn_of ?_
      rw [e]
      refine ⟨1, K6, by omega, by omega, ?_⟩
      refine hx5.an (n := m) hm9 (by simp only [List.length_append, List.length_cons, List.length_nil, t_num_len]; omega) (by omega) (by simp only [List.length_append, List.length_cons, List.length_nil, t_num_len]; exact hK6') (by exact Nat.lt_of_le_of_lt a5 (by omega)) (fun h6 hx6 => ?_)
      simp only [List.length_append, List.length_cons, List.length_nil, t_num_len] at hx6
      refine hQ h6 ?_
      have : cs ++ s_re fi i = cs ++ [32, 114] ++ t_num i ++ [44] ++ t_num fi.2.1 ++ [44] ++ t_num m := by
        unfold s_re
        rw [e]
        simp only [List.append_assoc]
      rw [this]
      exact hx6
  · have e : fi.2.2 = none := by
      cases e : fi.2.2 with
      | none => rfl
      | some m =>
        rw [e] at z
        exact absurd z (nO_neg (Nat.lt_trans (hfb.2 m e) (by decide)))
    refine hQ h4 ?_
    have h1 : cs ++ s_re fi i = cs ++ [32, 114] ++ t_num i ++ [44] ++ t_num fi.2.1 := by
      unfold s_re
      rw [e]
      simp only [List.append_assoc, List.append_nil]
    have h2 : t_ref N cs.length i fi = t_re4 N cs.length i fi := by
      unfold t_ref
      rw [e]
    rw [h1, h2]
    exact hx4
end LINE2
