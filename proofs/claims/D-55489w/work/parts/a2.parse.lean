set_option maxRecDepth 100000
/-! the parser: what it reads -/
def p_at (cs : List Nat) (i lo hi : Nat) : Bool := decide (i < cs.length) && (decide (lo ≤ cs.getD i 0) && decide (cs.getD i 0 ≤ hi))
def p_take (cs : List Nat) (lo hi i : Nat) : Except Nat (Nat × Nat) := if p_at cs i lo hi then .ok (cs.getD i 0 - lo, i + 1) else .error i
def p_num (cs : List Nat) (i : Nat) : Except Nat (Nat × Nat) := match p_take cs 48 57 i with
  | .error e => .error e
  | .ok (n, j) => if n ≠ 0 ∧ p_at cs j 48 57 = true then (if p_at cs (j + 1) 48 57 = true then .ok (10 * (10 * n + (cs.getD j 0 - 48)) + (cs.getD (j + 1) 0 - 48), j + 2) else .ok (10 * n + (cs.getD j 0 - 48), j + 1)) else .ok (n, j)
def p_kind (cs : List Nat) (i : Nat) : Except Nat (Nat × Nat) := match p_take cs 97 102 i with
  | .error e => .error e
  | .ok (n, j) => .ok (97 + n, j)
def p_term (cs : List Nat) (vs i : Nat) : Except Nat (Nat × Nat) := if p_at cs i 88 90 then (if vs / 2 ^ (cs.getD i 0 - 88) % 2 = 0 then .error i else .ok (10 + (cs.getD i 0 - 88), i + 1)) else p_take cs 48 57 i
def p_pat (cs : List Nat) (vs i : Nat) : Except Nat ((Nat × Nat × Nat) × Nat) := match p_kind cs i with
  | .error e => .error e
  | .ok (kd, j) => match p_term cs vs j with
    | .error e => .error e
    | .ok (t0, j2) => match p_term cs vs j2 with
      | .error e => .error e
      | .ok (t1, j3) => .ok ((kd, t0, t1), j3)
def p_vb (t : Nat) : Nat := if t ≤ 9 then 0 else 2 ^ (t - 10)
def p_vars (q : Nat × Nat × Nat) : Nat := p_vb q.2.1 ||| p_vb q.2.2
def q_pz (G : GG) (h : HH) (pr txt v N : Nat) (cs : List Nat) (i : Nat) : Prop := h pr = some (.inr (9, [.ref txt, .int (nI i)])) ∧ q_sb G h txt v N cs ∧ cs.length ≤ 60 ∧ i ≤ cs.length
def q_sx (h : HH) (a i : Nat) : Prop := ∃ v0 v1 v2 v3 v4 v5, h a = some (.inr (10, [v0, v1, v2, v3, v4, v5, .int (nI i)]))
def q_on (a : Nat) : Nat → Prop := fun c => c = a
section PARSE
variable {G : GG} {h h' h0 : HH} {ρ ρ' : RO} {pr txt v N i : Nat} {cs : List Nat}
theorem q_sb.sp {S : Nat → Prop} (hb : q_sb G h txt v N cs) (hs : q_sp S h h') (h1 : ¬ S txt) (h2 : ¬ S v) : q_sb G h' txt v N cs := by
  obtain ⟨⟨ml, e1⟩, c2, c3, c4, f, e5, e6⟩ := hb
  exact ⟨⟨ml, hs _ _ e1 h1⟩, c2, c3, c4, f, hs _ _ e5 h2, e6⟩
theorem q_pz.ne (hz : q_pz G h pr txt v N cs i) : txt ≠ pr ∧ v ≠ pr := by
  obtain ⟨h1, ⟨⟨ml, e1⟩, -, -, -, f, e5, -⟩, -⟩ := hz
  exact ⟨fun z => (by rw [z, h1] at e1; cases e1), fun z => (by rw [z, h1] at e5; cases e5)⟩
theorem q_pz.mv {j : Nat} (hz : q_pz G h pr txt v N cs i) (hs : q_sp (q_on pr) h h') (hp : h' pr = some (.inr (9, [.ref txt, .int (nI j)]))) (hj : j ≤ cs.length) : q_pz G h' pr txt v N cs j := by
  obtain ⟨n1, n2⟩ := hz.ne
  exact ⟨hp, hz.2.1.sp hs n1 n2, hz.2.2.1, hj⟩
theorem q_pz.keep (hz : q_pz G h pr txt v N cs i) (hs : q_sp q_no h h') : q_pz G h' pr txt v N cs i := ⟨hs _ _ hz.1 q_no.not, hz.2.1.sp hs q_no.not q_no.not, hz.2.2.1, hz.2.2.2⟩
theorem p_at_lt {lo hi : Nat} (h : p_at cs i lo hi = true) : i < cs.length ∧ lo ≤ cs.getD i 0 ∧ cs.getD i 0 ≤ hi := by
  unfold p_at at h
  simp only [Bool.and_eq_true, decide_eq_true_eq] at h
  exact ⟨h.1, h.2.1, h.2.2⟩
theorem sp_J5_length {Q : Int32 → HH → Prop} (hb : q_sb G h txt v N cs) (hQ : Q (nI cs.length) h) : wp_J5_length G h txt Q := by
  obtain ⟨⟨ml, ha⟩, -⟩ := hb
  unfold wp_J5_length wp_J4_length
  exact w_is_of ha <| w_geti_of ha rfl hQ
theorem sp_J5_charAt {Q : Int32 → HH → Prop} (hb : q_sb G h txt v N cs) (hi : i < cs.length) (hQ : Q (nI (cs.getD i 0)) h) : wp_J5_charAt G h txt (nI i) Q := by
  obtain ⟨⟨ml, ha⟩, b1, b2, b3, f, hf, b4, b5⟩ := hb
  have hc128 : cs.getD i 0 < 128 := b3 _ (by rw [List.getD_eq_getElem?_getD, List.getElem?_eq_getElem hi]; exact List.getElem_mem hi)
  unfold wp_J5_charAt wp_J4_charAt
  refine w_is_of ha <| w_geti_of ha rfl <| w_geta_of ha rfl <| w_geti_of ha rfl <| w_nn_of <| w_len_of hf ?_
  have e1 : (if (nI N >>> ((0 : Int32) &&& 31)) < nI cs.length then (nI N >>> ((0 : Int32) &&& 31)) else nI cs.length) = nI cs.length := by
    rw [nI_shr0 (by omega)]
    by_cases q : N < cs.length
    · omega
    · rw [if_neg (nI_nlt (by omega) (by omega))]
  rw [e1]
  unfold wp_J6_checkIndex
  intro r1
  refine sp_J9_checkIndex hi (by omega) <| q_bt rfl <| w_bld_of hf (by omega) (by omega) ?_
  rw [b4 i hi, t_char _ hc128]
  exact ⟨t_nar _ hc128, t_nar _ hc128, hQ⟩
theorem p_char (hb : q_sb G h txt v N cs) : cs.getD i 0 < 128 := by
  rcases Nat.lt_or_ge i cs.length with q | q
  · exact hb.2.2.2.1 _ (by rw [List.getD_eq_getElem?_getD, List.getElem?_eq_getElem q]; exact List.getElem_mem q)
  · rw [List.getD_eq_getElem?_getD, List.getElem?_eq_none q]; decide
theorem sp_X6_isNext {lo hi : Nat} {Q : Int32 → HH → Prop} (hz : q_pz G h pr txt v N cs i) (hlo : lo < 128) (hhi : hi < 128) (hQ : Q (if p_at cs i lo hi then 1 else 0) h) : wp_X6_isNext G h pr (nI lo) (nI hi) Q := by
  obtain ⟨hp, hb, hl, hi9⟩ := id hz
  obtain ⟨ml, hbo⟩ := hb.1
  have h128 := p_char (i := i) hb
  unfold wp_X6_isNext
  refine w_geti_of hp rfl <| w_geta_of hp rfl <| w_nn_of <| w_is_of hbo <| sp_J5_length hb ⟨fun z => ?_, fun z => ?_⟩
  · have : ¬ i < cs.length := fun q => nI_ge q (by omega) z
    unfold p_at at hQ
    rw [decide_eq_false this, Bool.false_and, if_neg (by decide)] at hQ
    exact hQ
  · have hlt : i < cs.length := by
      rcases Nat.lt_or_ge i cs.length with q | q
      · exact q
      · exact absurd (nI_le q (by omega)) z
    refine w_geta_of hp rfl <| w_geti_of hp rfl <| w_nn_of <| w_is_of hbo <| sp_J5_charAt hb hlt ?_
    refine sp_inR (lo : Int) (hi : Int) (by rw [Int32.toInt_toInt64, nI_toInt (by omega)]) (by rw [Int32.toInt_toInt64, nI_toInt (by omega)]) (fun h1 h2 => ?_) (fun h1 => ?_)
    · rw [nI_toInt (by omega)] at h1 h2
      refine ⟨fun z => absurd z (by decide), fun _ => ?_⟩
      unfold p_at at hQ
      rw [decide_eq_true hlt, decide_eq_true (show lo ≤ cs.getD i 0 by omega), decide_eq_true (show cs.getD i 0 ≤ hi by omega)] at hQ
      exact hQ
    · rw [nI_toInt (by omega)] at h1
      refine br_t rfl ?_
      have : p_at cs i lo hi = false := by
        cases e : p_at cs i lo hi with
        | false => rfl
        | true =>
          have := p_at_lt e
          exact absurd ⟨by omega, by omega⟩ h1
      rw [this] at hQ
      exact hQ
theorem sp_X7_init {a p : Nat} {Q : HH → Prop} (ha : h a = some (.inr (10, df_X7))) (hQ : ∀ h', (∀ c, c ≠ a → h' c = h c) → q_sx h' a p → Q h') : wp_X7_init G h a (nI p) Q := by
  unfold wp_X7_init wp_J12_init_2_X7 wp_J11_init_2_X7
  refine w_put_of ha (by decide) rfl <| fun r2 => w_put_of q_h_same (Nat.le_of_ble_eq_true rfl) rfl <| fun r4 => w_put_of q_h_same (Nat.le_of_ble_eq_true rfl) rfl <| br_t rfl <| w_put_of q_h_same (Nat.le_of_ble_eq_true rfl) rfl ?_
  unfold wp_J11_init_2_X7_L41
  refine w_put_of q_h_same (Nat.le_of_ble_eq_true rfl) rfl <| w_put_of q_h_same (Nat.le_of_ble_eq_true rfl) rfl <| q_bt rfl <| w_put_of q_h_same (Nat.le_of_ble_eq_true rfl) rfl <| w_put_of q_h_same (Nat.le_of_ble_eq_true rfl) rfl ?_
  simp only [q_h_up]
  exact hQ _ (fun c hc => q_h_ne hc) ⟨_, _, _, _, _, _, q_h_same⟩
/-- an exception at the place -/
theorem sp_throwX {Q : Prop} {X : String → Nat → HH → Prop} (hz : q_pz G h pr txt v N cs i) (hX : ∀ q h', h q = none → q_sp q_no h h' → q_sx h' q i → X "MatchmakerRules$SyntaxException" q h') :
    w_new h (.inr (10, df_X7)) (fun a10 h11 => w_geti h11 pr 9 1 (fun r12 => wp_X7_init G h11 a10 r12 (fun h13 => w_is h13 a10 10 (X "MatchmakerRules$SyntaxException" a10 h13)))) := by
  intro a ha
  have hp : va_up h a (some (.inr (10, df_X7))) pr = _ := (q_h_ne (q_new_ne ha hz.1)).trans hz.1
  refine w_geti_of hp rfl <| sp_X7_init q_h_same (fun h' hh hq => ?_)
  obtain ⟨v0, v1, v2, v3, v4, v5, e⟩ := id hq
  exact w_is_of e (hX a h' ha (fun c e hc _ => by rw [hh c (q_new_ne ha hc), q_h_ne (q_new_ne ha hc)]; exact hc) hq)
theorem sp_X6_take {lo hi mc ms : Nat} {Q : Int32 → HH → Prop} {X : String → Nat → HH → Prop} (hz : q_pz G h pr txt v N cs i) (hlo : lo < 128) (hhi : hi < 128) (hm : 1 ≤ mc) (hs : 7 ≤ ms)
    (hQ : ∀ n j h', p_take cs lo hi i = .ok (n, j) → n + lo < 128 → n ≤ hi - lo → q_sp (q_on pr) h h' → q_pz G h' pr txt v N cs j → Q (nI n) h')
    (hX : ∀ q h', p_take cs lo hi i = .error i → h q = none → q_sp (q_on pr) h h' → q_sx h' q i → X "MatchmakerRules$SyntaxException" q h') : wp_X6_take G mc ms h pr (nI lo) (nI hi) Q X := by
  obtain ⟨hp, hb, hl, hi9⟩ := id hz
  obtain ⟨ml, hbo⟩ := hb.1
  have h128 := p_char (i := i) hb
  unfold wp_X6_take
  refine w_is_of hp <| sp_X6_isNext hz hlo hhi ?_
  cases e : p_at cs i lo hi with
  | true =>
    obtain ⟨e1, e2, e3⟩ := p_at_lt e
    refine q_bf (by decide) <| w_geti_of hp rfl <| w_put_of hp (Nat.le_of_ble_eq_true rfl) rfl ?_
    have hs1 : q_sp (q_on pr) h (va_up h pr (some (.inr (9, [.ref txt, .int (nI i + 1)])))) := q_sp.up rfl
    have hz1 := hz.mv hs1 (j := i + 1) (by rw [q_h_same, show (1 : Int32) = nI 1 from rfl, nI_add]) (by omega)
    obtain ⟨ml1, hbo1⟩ := hz1.2.1.1
    refine w_geta_of hz1.1 rfl <| w_geti_of hz1.1 rfl <| w_nn_of <| w_is_of hbo1 ?_
    rw [show nI (i + 1) - (1 : Int32) = nI i from by rw [show (1 : Int32) = nI 1 from rfl, pk_sub (by omega)]; rfl]
    refine sp_J5_charAt hz1.2.1 e1 ?_
    rw [pk_sub e2]
    exact hQ _ _ _ (by unfold p_take; rw [if_pos e]) (by omega) (by omega) hs1 hz1
  | false =>
    refine q_bt rfl ⟨by omega, by omega, sp_throwX (Q := True) hz (fun q h' hq hs hsx => hX q h' (by unfold p_take; rw [if_neg (by rw [e]; decide)]) hq (hs.mono (fun _ z => z.elim)) hsx)⟩
theorem sp_X6_digit {mc ms : Nat} {Q : Int32 → HH → Prop} {X : String → Nat → HH → Prop} (hz : q_pz G h pr txt v N cs i) (hm : 1 ≤ mc) (hs : 7 ≤ ms)
    (hQ : ∀ n j h', p_take cs 48 57 i = .ok (n, j) → n ≤ 9 → q_sp (q_on pr) h h' → q_pz G h' pr txt v N cs j → Q (nI n) h')
    (hX : ∀ q h', p_take cs 48 57 i = .error i → h q = none → q_sp (q_on pr) h h' → q_sx h' q i → X "MatchmakerRules$SyntaxException" q h') : wp_X6_digit G mc ms h pr Q X := by
  unfold wp_X6_digit
  exact ⟨1, 7, by omega, by omega, w_is_of hz.1 <| sp_X6_take (lo := 48) (hi := 57) hz (by decide) (by decide) (by omega) (by omega) (fun n j h' e _ h9 hs hz' => hQ n j h' e (by omega) hs hz') hX⟩
theorem sp_X6_number {mc ms : Nat} {Q : Int32 → HH → Prop} {X : String → Nat → HH → Prop} (hz : q_pz G h pr txt v N cs i) (hm : 3 ≤ mc) (hs : 21 ≤ ms)
    (hQ : ∀ n j h', p_num cs i = .ok (n, j) → n ≤ 999 → q_sp (q_on pr) h h' → q_pz G h' pr txt v N cs j → Q (nI n) h')
    (hX : ∀ e q h', p_num cs i = .error e → h q = none → q_sp (q_on pr) h h' → q_sx h' q e → X "MatchmakerRules$SyntaxException" q h') : wp_X6_number G mc ms h pr Q X := by
  unfold wp_X6_number
  refine ⟨1, 7, by omega, by omega, w_is_of hz.1 <| sp_X6_digit hz (by omega) (by omega) (fun n j h1 e h9 hs1 hz1 => ⟨3, ?_⟩) (fun q h' e hq hs hsx => hX i q h' (by unfold p_num; rw [e]) hq hs hsx)⟩
  have tak : ∀ {j : Nat}, p_at cs j 48 57 = true → p_take cs 48 57 j = .ok (cs.getD j 0 - 48, j + 1) := fun {j} e => by unfold p_take; rw [if_pos e]
  unfold wp_X6_number_L7
  refine br_f (by decide) ⟨fun z => ?_, fun z => ?_⟩
  · have hn0 : n = 0 := by
      rcases Nat.eq_zero_or_pos n with q | q
      · exact q
      · exact absurd z (nI_ge (a := 0) q (by omega))
    exact hQ n j h1 (by unfold p_num; rw [e]; simp only; rw [if_neg (fun q => q.1 hn0)]) (by omega) hs1 hz1
  · have hn0 : n ≠ 0 := fun q => z (by rw [q]; decide)
    refine w_is_of hz1.1 <| sp_X6_isNext (lo := 48) (hi := 57) hz1 (by decide) (by decide) ⟨fun z2 => ?_, fun z2 => ⟨1, 7, by omega, by omega, w_is_of hz1.1 <| sp_X6_digit hz1 (by omega) (by omega) (fun d j2 h2 e2 h92 hs2 hz2 => ?_) (fun q h' e2 hq hs hsx => ?_)⟩⟩
    · have e1 : p_at cs j 48 57 = false := by
        cases q : p_at cs j 48 57 with
        | false => rfl
        | true => rw [q] at z2; exact absurd z2 (by decide)
      exact hQ n j h1 (by unfold p_num; rw [e]; simp only; rw [if_neg (fun q => by rw [e1] at q; exact absurd q.2 (by decide))]) (by omega) hs1 hz1
    · have e1 : p_at cs j 48 57 = true := by
        cases q : p_at cs j 48 57 with
        | true => rfl
        | false => rw [q] at z2; exact absurd rfl z2
      rw [tak e1] at e2
      obtain ⟨rfl, rfl⟩ : cs.getD j 0 - 48 = d ∧ j + 1 = j2 := by cases e2; exact ⟨rfl, rfl⟩
      have hs02 := hs1.tr hs2
      have e10 : (10 : Int32) * nI n + nI (cs.getD j 0 - 48) = nI (10 * n + (cs.getD j 0 - 48)) := by
        rw [show (10 : Int32) = nI 10 from rfl, show nI 10 * nI n = nI (10 * n) from by unfold nI; rw [Int32.ofNat_mul], nI_add]
      rw [e10]
      unfold wp_X6_number_L7
      have hp9 : 0 < 10 * n + (cs.getD j 0 - 48) := by omega
      refine br_f (by decide) <| br_f (nI_ge (a := 0) hp9 (by omega)) ?_
      refine w_is_of hz2.1 <| sp_X6_isNext (lo := 48) (hi := 57) hz2 (by decide) (by decide) ⟨fun z3 => ?_, fun z3 => ⟨1, 7, by omega, by omega, w_is_of hz2.1 <| sp_X6_digit hz2 (by omega) (by omega) (fun d3 j3 h3 e3 h93 hs3 hz3 => ?_) (fun q h' e3 hq hs hsx => ?_)⟩⟩
      · have e4 : ¬ p_at cs (j + 1) 48 57 = true := fun q => by rw [q] at z3; exact absurd z3 (by decide)
        exact hQ _ _ h2 (by unfold p_num; rw [e]; simp only; rw [if_pos ⟨hn0, e1⟩, if_neg e4]) (by omega) hs02 hz2
      · have e4 : p_at cs (j + 1) 48 57 = true := by
          cases q : p_at cs (j + 1) 48 57 with
          | true => rfl
          | false => rw [q] at z3; exact absurd rfl z3
        rw [tak e4] at e3
        obtain ⟨rfl, rfl⟩ : cs.getD (j + 1) 0 - 48 = d3 ∧ j + 1 + 1 = j3 := by cases e3; exact ⟨rfl, rfl⟩
        have e11 : (10 : Int32) * nI (10 * n + (cs.getD j 0 - 48)) + nI (cs.getD (j + 1) 0 - 48) = nI (10 * (10 * n + (cs.getD j 0 - 48)) + (cs.getD (j + 1) 0 - 48)) := by
          rw [show (10 : Int32) = nI 10 from rfl, show nI 10 * nI (10 * n + (cs.getD j 0 - 48)) = nI (10 * (10 * n + (cs.getD j 0 - 48))) from by unfold nI; rw [Int32.ofNat_mul], nI_add]
        rw [e11]
        unfold wp_X6_number_L7
        refine br_t (by decide) ?_
        exact hQ _ _ h3 (by unfold p_num; rw [e]; simp only; rw [if_pos ⟨hn0, e1⟩, if_pos e4]) (by omega) (hs02.tr hs3) hz3
      · have e4 : p_at cs (j + 1) 48 57 = true := by
          cases q : p_at cs (j + 1) 48 57 with
          | true => rfl
          | false => rw [q] at z3; exact absurd rfl z3
        rw [tak e4] at e3
        cases e3
    · have e1 : p_at cs j 48 57 = true := by
        cases q : p_at cs j 48 57 with
        | true => rfl
        | false => rw [q] at z2; exact absurd rfl z2
      rw [tak e1] at e2
      cases e2
theorem sp_X6_kind {mc ms : Nat} {Q : Int32 → HH → Prop} {X : String → Nat → HH → Prop} (hz : q_pz G h pr txt v N cs i) (hm : 1 ≤ mc) (hs : 7 ≤ ms)
    (hQ : ∀ n j h', p_kind cs i = .ok (n, j) → 97 ≤ n → n ≤ 102 → q_sp (q_on pr) h h' → q_pz G h' pr txt v N cs j → Q (nI n) h')
    (hX : ∀ e q h', p_kind cs i = .error e → h q = none → q_sp (q_on pr) h h' → q_sx h' q e → X "MatchmakerRules$SyntaxException" q h') : wp_X6_kind G mc ms h pr Q X := by
  unfold wp_X6_kind
  refine ⟨1, 7, by omega, by omega, w_is_of hz.1 <| sp_X6_take (lo := 97) (hi := 102) hz (by decide) (by decide) (by omega) (by omega) (fun n j h' e h1 h2 hs hz' => ?_) (fun q h' e hq hs hsx => hX i q h' (by unfold p_kind; rw [e]) hq hs hsx)⟩
  have key : (List.range 6).all (fun n => decide ((((Int32.toUInt32 ((97 : Int32) + Int32.ofNat n)) % 65536).toInt32) = Int32.ofNat (97 + n))) = true := by decide +kernel
  have k : (((Int32.toUInt32 ((97 : Int32) + nI n)) % 65536).toInt32) = nI (97 + n) := of_decide_eq_true (List.all_eq_true.mp key n (List.mem_range.mpr (by omega)))
  rw [k]
  exact ⟨t_nar _ (by omega), hQ _ j h' (by unfold p_kind; rw [e]) (by omega) (by omega) hs hz'⟩
theorem sp_X6_term {vs mc ms : Nat} {Q : Int32 → HH → Prop} {X : String → Nat → HH → Prop} (hz : q_pz G h pr txt v N cs i) (hvs : vs < 8) (hm : 1 ≤ mc) (hs : 7 ≤ ms)
    (hQ : ∀ n j h', p_term cs vs i = .ok (n, j) → n ≤ 12 → (n ≤ 9 ∨ vs / 2 ^ (n - 10) % 2 = 1) → q_sp (q_on pr) h h' → q_pz G h' pr txt v N cs j → Q (nI n) h')
    (hX : ∀ e q h', p_term cs vs i = .error e → h q = none → q_sp (q_on pr) h h' → q_sx h' q e → X "MatchmakerRules$SyntaxException" q h') : wp_X6_term G mc ms h pr (nI vs) Q X := by
  obtain ⟨hp, hb, hl, hi9⟩ := id hz
  obtain ⟨ml, hbo⟩ := hb.1
  unfold wp_X6_term
  refine w_is_of hp <| sp_X6_isNext (lo := 88) (hi := 90) hz (by decide) (by decide) ?_
  cases e : p_at cs i 88 90 with
  | true =>
    obtain ⟨e1, e2, e3⟩ := p_at_lt e
    have key : (List.range 8).all (fun a => (List.range 3).all (fun d => decide (((Int32.ofNat a >>> ((Int32.ofNat (88 + d) - (88 : Int32)) &&& 31)) &&& (1 : Int32) = 0) ↔ a / 2 ^ d % 2 = 0) && decide ((10 : Int32) + (Int32.ofNat (88 + d) - (88 : Int32)) = Int32.ofNat (10 + d)))) = true := by decide +kernel
    have k := List.all_eq_true.mp (List.all_eq_true.mp key vs (List.mem_range.mpr hvs)) (cs.getD i 0 - 88) (List.mem_range.mpr (by omega))
    rw [Bool.and_eq_true, decide_eq_true_eq, decide_eq_true_eq, show 88 + (cs.getD i 0 - 88) = cs.getD i 0 by omega] at k
    obtain ⟨k1, k2⟩ := k
    refine q_bf (by decide) <| w_geta_of hp rfl <| w_geti_of hp rfl <| w_nn_of <| w_is_of hbo <| sp_J5_charAt hb e1 ⟨fun z => ?_, fun z => ⟨by omega, by omega, sp_throwX (Q := True) hz (fun q h' hq hs hsx => hX i q h' ?_ hq (hs.mono (fun _ z => z.elim)) hsx)⟩⟩
    · have z' : ¬ vs / 2 ^ (cs.getD i 0 - 88) % 2 = 0 := fun q => z (k1.mpr q)
      refine w_geti_of hp rfl <| w_put_of hp (Nat.le_of_ble_eq_true rfl) rfl ?_
      have hs1 : q_sp (q_on pr) h (va_up h pr (some (.inr (9, [.ref txt, .int (nI i + 1)])))) := q_sp.up rfl
      have hz1 := hz.mv hs1 (j := i + 1) (by rw [q_h_same, show (1 : Int32) = nI 1 from rfl, nI_add]) (by omega)
      have k3 : (10 : Int32) + (nI (cs.getD i 0) - (88 : Int32)) = nI (10 + (cs.getD i 0 - 88)) := k2
      rw [k3]
      exact hQ _ _ _ (by unfold p_term; rw [if_pos e, if_neg z']) (by omega) (Or.inr (by rw [show 10 + (cs.getD i 0 - 88) - 10 = cs.getD i 0 - 88 by omega]; omega)) hs1 hz1
    · have z' : vs / 2 ^ (cs.getD i 0 - 88) % 2 = 0 := k1.mp z
      unfold p_term
      rw [if_pos e, if_pos z']
  | false =>
    have e0 : p_term cs vs i = p_take cs 48 57 i := by unfold p_term; rw [if_neg (by rw [e]; decide)]
    exact q_bt rfl ⟨1, 7, by omega, by omega, w_is_of hp <| sp_X6_digit hz (by omega) (by omega) (fun n j h' e1 h9 hs hz' => hQ n j h' (by rw [e0]; exact e1) (by omega) (Or.inl h9) hs hz') (fun q h' e1 hq hs hsx => hX i q h' (by rw [e0]; exact e1) hq hs hsx)⟩
end PARSE
def q_rn (h : HH) (ρ : RO) : RO := fun c => if (h c).isNone then (0, 0) else ρ c
def p_tail (cs : List Nat) (vs i : Nat) : Except Nat (((Nat × Nat × Nat) × Nat) × Nat) := match p_take cs 62 62 i with
  | .error e => .error e
  | .ok (_, j3) => match p_pat cs vs j3 with
    | .error e => .error e
    | .ok (c, j4) => match p_take cs 42 42 j4 with
      | .error e => .error e
      | .ok (_, j5) => match p_take cs 48 57 j5 with
        | .error e => .error e
        | .ok (w, j6) => .ok ((c, w), j6)
def p_mid (cs : List Nat) (a : Nat × Nat × Nat) (j : Nat) : Except Nat ((Nat × (Nat × Nat × Nat) × Nat) × Nat) :=
  if p_at cs j 33 33 then (match p_pat cs (p_vars a) (j + 1) with
    | .error e => .error e
    | .ok (b, j2) => .ok ((2, b, p_vars a), j2))
  else if p_at cs j 62 62 then .ok ((0, (0, 0, 0), p_vars a), j)
  else (match p_pat cs 7 j with
    | .error e => .error e
    | .ok (b, j2) => .ok ((1, b, p_vars a ||| p_vars b), j2))
def p_mk (a : Nat × Nat × Nat) (so : Nat) (b c : Nat × Nat × Nat) (w : Nat) : Nat → Nat := fun q => [a.1, a.2.1, a.2.2, so, b.1, b.2.1, b.2.2, c.1, c.2.1, c.2.2, w].getD q 0
def p_rule (cs : List Nat) (i : Nat) : Except Nat ((Nat → Nat) × Nat) := match p_pat cs 7 i with
  | .error e => .error e
  | .ok (a, j) => match p_mid cs a j with
    | .error e => .error e
    | .ok ((so, b, vs), j2) => match p_tail cs vs j2 with
      | .error e => .error e
      | .ok ((c, w), j3) => .ok (p_mk a so b c w, j3)
section PARSE2
variable {G : GG} {h h' h0 : HH} {ρ ρ' : RO} {pr txt v N i : Nat} {cs : List Nat}
theorem q_rn_ex : q_ex h ρ (q_rn h ρ) := fun c e hc => by
  unfold q_rn
  rw [hc]
  rfl
theorem q_rn_new {a : Nat} (ha : h a = none) : q_rn h ρ a = (0, 0) := by
  unfold q_rn
  rw [ha]
  rfl
/-- what is new for the later is new or (0,0) for the first -/
theorem q_rn_tr {S : Nat → Prop} (hs : q_sp S h h') (hS : ∀ c, S c → h c ≠ none → h' c ≠ none) {a : Nat} (ha : h' a = none) : h a = none := by
  cases e : h a with
  | none => rfl
  | some x1 =>
    by_cases q : S a
    · exact absurd ha (hS a q (by rw [e]; exact fun z => by cases z))
    · rw [hs a x1 e q] at ha; cases ha
theorem q_pz.nw {a j : Nat} (hz : q_pz G h pr txt v N cs i) (hz' : q_pz G h' pr txt v N cs j) (hs : q_sp (q_on pr) h h') (ha : h' a = none) : h a = none :=
  q_rn_tr hs (fun c hc _ => by rw [hc, hz'.1]; exact fun z => by cases z) ha
theorem sp_X8_init {a b kd mc ms : Nat} {f : Nat → Int32} {Q : HH → Prop} (ha : h a = some (.inr (11, df_X8))) (hb : h b = some (.inl (G.2.1 0, 2, .inl f))) (hk : kd < 128) (hm : 1 ≤ mc) (hs : 2 ≤ ms)
    (hQ : ∀ h' q, h q = none → (∀ c, c ≠ a → c ≠ q → h' c = h c) → h' a = some (.inr (11, [.int (nI kd), .ref q])) → h' q = some (.inl (G.2.1 0, 2, .inl f)) → Q h') : wp_X8_init G mc ms h a (nI kd) (some b) Q := by
  unfold wp_X8_init
  have ba : b ≠ a := fun z => by rw [z, ha] at hb; cases hb
  refine ⟨⟨t_nar _ hk, (pk_charN (by omega)).2⟩, w_put_of ha (by decide) rfl <| w_nn_of ⟨_, (q_h_ne ba).trans hb, fun j v9 hv => ?_, by omega, ?_, fun q hq => ?_⟩⟩
  · have hsz : (arrV (G.2.1 0) 2 fun j => Value.int (f j)).slots.size = 2 := arrV_size _ _ _
    have hj : j < 2 := by
      rcases Nat.lt_or_ge j 2 with q | q
      · exact q
      · have hw' : (arrV (G.2.1 0) 2 fun j => Value.int (f j)).slots[j]? = some v9 := hv
        rw [Array.getElem?_eq_none (by rw [hsz]; exact q)] at hw'
        cases hw'
    have hw' : (arrV (G.2.1 0) 2 fun j => Value.int (f j)).slots[j]? = some v9 := hv
    rw [arrV_read _ _ hj] at hw'
    cases hw'
    rfl
  · show 0 + 2 ≤ ms
    omega
  · have aq : a ≠ q := q_new_ne hq q_h_same
    have hq0 : h q = none := by rw [q_h_ne (Ne.symm aq)] at hq; exact hq
    refine ⟨_, q_h_same, ?_⟩
    refine w_put_of ((q_h_ne aq).trans q_h_same) (Nat.le_of_ble_eq_true rfl) rfl ?_
    exact hQ _ q hq0 (fun c c1 c2 => by rw [q_h_ne c1, q_h_ne c2, q_h_ne c1]) q_h_same (by rw [q_h_ne (Ne.symm aq)]; exact q_h_same)
theorem sp_X6_pattern {vs mc ms : Nat} {Q : Option Nat → HH → Prop} {X : String → Nat → HH → Prop} (hz : q_pz G h pr txt v N cs i) (hvs : vs < 8) (hm : 6 ≤ mc) (hs : 30 ≤ ms)
    (hQ : ∀ a k0 t0 t1 j h', p_pat cs vs i = .ok ((k0, t0, t1), j) → 97 ≤ k0 → k0 ≤ 102 → (∀ t, (t = t0 ∨ t = t1) → t ≤ 12 ∧ (t ≤ 9 ∨ vs / 2 ^ (t - 10) % 2 = 1)) → h a = none → q_sp (q_on pr) h h' → q_pz G h' pr txt v N cs j → (∀ ρ' : RO, (∀ c, h c = none → ρ' c = (0, 0)) → q_pt G h' ρ' a k0 t0 t1) → Q (some a) h')
    (hX : ∀ e q h', p_pat cs vs i = .error e → h q = none → q_sp (q_on pr) h h' → q_sx h' q e → X "MatchmakerRules$SyntaxException" q h') : wp_X6_pattern G mc ms h pr (nI vs) Q X := by
  unfold wp_X6_pattern
  refine ⟨1, 7, by omega, by omega, w_is_of hz.1 <| sp_X6_kind hz (by omega) (by omega) (fun k0 j h1 e1 hk1 hk2 hs1 hz1 => ⟨1, 7, by omega, by omega, w_is_of hz1.1 <| sp_X6_term hz1 hvs (by omega) (by omega) (fun t0 j2 h2 e2 ht0 hb0 hs2 hz2 => ⟨by omega, by omega, fun a ha => ⟨by omega, by omega, fun b hb => ?_⟩⟩) (fun e q h' e2 hq hs2 hsx => hX e q h' (by unfold p_pat; rw [e1]; simp only; rw [e2]) (hz.nw hz1 hs1 hq) (hs1.tr hs2) hsx)⟩) (fun e q h' e1 hq hs1 hsx => hX e q h' (by unfold p_pat; rw [e1]) hq hs1 hsx)⟩
  have hs02 := hs1.tr hs2
  have ha0 : h a = none := hz.nw hz2 hs02 ha
  have ab : a ≠ b := q_new_ne hb q_h_same
  have hb2 : h2 b = none := by rw [q_h_ne (Ne.symm ab)] at hb; exact hb
  refine w_ist_of (i := 0) q_h_same (by decide) (by decide) ?_
  rw [q_h_up]
  have hs3 : q_sp q_no h2 (va_up (va_up h2 a (some (.inr (11, df_X8)))) b (some (.inl (G.2.1 0, 2, .inl (upd (fun _ => 0) 0 (nI t0)))))) := (q_sp.new ha).tr (q_sp.new hb)
  have hz3 := hz2.keep hs3
  refine ⟨1, 7, by omega, by omega, w_is_of hz3.1 <| sp_X6_term hz3 hvs (by omega) (by omega) (fun t1 j4 h4 e4 ht1 hb1 hs4 hz4 => ?_) (fun e q h' e4 hq hs4 hsx => hX e q h' (by unfold p_pat; rw [e1]; simp only; rw [e2]; simp only; rw [e4]) (hz.nw hz2 hs02 (q_sp_none hs3 hq)) (hs02.tr ((hs3.mono (fun _ z => z.elim)).tr hs4)) hsx)⟩
  have apr : a ≠ pr := fun z => by rw [z, hz2.1] at ha; cases ha
  have bpr : b ≠ pr := fun z => by rw [z, hz2.1] at hb2; cases hb2
  have ha4 := hs4 a _ ((q_h_ne ab).trans q_h_same) apr
  have hb4 := hs4 b _ q_h_same bpr
  refine w_ist_of (i := 1) hb4 (by decide) (by decide) ⟨1, 2, by omega, by omega, ?_⟩
  refine sp_X8_init (f := upd (upd (fun _ => 0) 0 (nI t0)) 1 (nI t1)) (by rw [q_h_ne ab]; exact ha4) q_h_same (by omega) (by omega) (by omega) (fun h5 q hq hh ha5 hq5 => ?_)
  have hq4 : h4 q = none := by
    by_cases z : q = b
    · rw [z, q_h_same] at hq; cases hq
    · rw [q_h_ne z] at hq; exact hq
  have hq2 := q_sp_none hs3 (hz3.nw hz4 hs4 hq4)
  have hq0 := hz.nw hz2 hs02 hq2
  have hs5 : q_sp (q_on pr) h h5 := fun c e hc hn => by
    have hc2 := hs02 c e hc hn
    rw [hh c (q_new_ne ha hc2) (q_new_ne hq2 hc2), q_h_ne (q_new_ne hb2 hc2)]
    exact hs4 c e (hs3 c e hc2 q_no.not) hn
  have hp5 : h5 pr = some (.inr (9, [.ref txt, .int (nI j4)])) := by
    rw [hh pr (Ne.symm apr) (q_new_ne hq4 hz4.1), q_h_ne (Ne.symm bpr)]
    exact hz4.1
  have hb0 := hz.nw hz2 hs02 hb2
  refine hQ a k0 t0 t1 j4 h5 (by unfold p_pat; rw [e1]; simp only; rw [e2]; simp only; rw [e4]) hk1 hk2 (fun t ht => ?_) ha0 hs5 (hz.mv hs5 hp5 hz4.2.2.2) (fun ρ' hρ => ⟨hρ a ha0, by omega, q, _, hρ q hq0, ha5, hq5, rfl, rfl, ht0, ht1⟩)
  rcases ht with rfl | rfl
  · exact ⟨ht0, by assumption⟩
  · exact ⟨ht1, hb1⟩
theorem q_pt.on {a k0 t0 t1 : Nat} {x : Value} (hp : h pr = some (.inr (9, [x, .int (nI i)]))) (q : q_pt G h ρ a k0 t0 t1) (hs : q_sp (q_on pr) h h') : q_pt G h' ρ a k0 t0 t1 := by
  obtain ⟨h1, h2, b, f, h3, h4, h5, h6⟩ := q
  exact ⟨h1, h2, b, f, h3, hs _ _ h4 (fun z => by rw [show a = pr from z, hp] at h4; cases h4), hs _ _ h5 (fun z => by rw [show b = pr from z, hp] at h5; cases h5), h6⟩
theorem p_vb_bit {t k : Nat} (ht : t ≤ 12) : (p_vb t).testBit k = decide (9 < t ∧ t - 10 = k) := by
  unfold p_vb
  by_cases q : t ≤ 9
  · rw [if_pos q, Nat.zero_testBit, decide_eq_false (fun z => by omega)]
  · rw [if_neg q, Nat.testBit_two_pow]
    by_cases q2 : t - 10 = k
    · rw [decide_eq_true q2, decide_eq_true ⟨by omega, q2⟩]
    · rw [decide_eq_false q2, decide_eq_false (fun z => q2 z.2)]
theorem p_vb_lt {t : Nat} (ht : t ≤ 12) : p_vb t < 8 := by
  unfold p_vb
  split
  · decide
  · exact Nat.lt_of_lt_of_le (Nat.pow_lt_pow_right (by decide) (show t - 10 < 3 by omega)) (by decide)
theorem p_or_lt {a b : Nat} (ha : a < 8) (hb : b < 8) : a ||| b < 8 := Nat.or_lt_two_pow (n := 3) ha hb
/-- a variable that is free to use: it stands in the pattern -/
theorem p_bits {t t0 t1 : Nat} (h0 : t0 ≤ 12) (h1 : t1 ≤ 12) (h9 : 9 < t) (h : (p_vb t0 ||| p_vb t1) / 2 ^ (t - 10) % 2 = 1) : t = t0 ∨ t = t1 := by
  have : (p_vb t0 ||| p_vb t1).testBit (t - 10) = true := by rw [Nat.testBit_eq_decide_div_mod_eq]; exact decide_eq_true h
  rw [Nat.testBit_or, p_vb_bit h0, p_vb_bit h1, Bool.or_eq_true, decide_eq_true_eq, decide_eq_true_eq] at this
  omega
theorem p_bits4 {t t0 t1 t2 t3 : Nat} (h0 : t0 ≤ 12) (h1 : t1 ≤ 12) (h2 : t2 ≤ 12) (h3 : t3 ≤ 12) (h9 : 9 < t) (h : ((p_vb t0 ||| p_vb t1) ||| (p_vb t2 ||| p_vb t3)) / 2 ^ (t - 10) % 2 = 1) : t = t0 ∨ t = t1 ∨ t = t2 ∨ t = t3 := by
  have : ((p_vb t0 ||| p_vb t1) ||| (p_vb t2 ||| p_vb t3)).testBit (t - 10) = true := by rw [Nat.testBit_eq_decide_div_mod_eq]; exact decide_eq_true h
  rw [Nat.testBit_or, Nat.testBit_or, Nat.testBit_or, p_vb_bit h0, p_vb_bit h1, p_vb_bit h2, p_vb_bit h3, Bool.or_eq_true, Bool.or_eq_true, Bool.or_eq_true, decide_eq_true_eq, decide_eq_true_eq, decide_eq_true_eq, decide_eq_true_eq] at this
  omega
theorem nI_or8 : ∀ a b, a < 8 → b < 8 → nI a ||| nI b = nI (a ||| b) := by
  have key : (List.range 8).all (fun a => (List.range 8).all (fun b => decide ((Int32.ofNat a ||| Int32.ofNat b) = Int32.ofNat (a ||| b)))) = true := by decide +kernel
  intro a b ha hb
  exact of_decide_eq_true (List.all_eq_true.mp (List.all_eq_true.mp key a (List.mem_range.mpr ha)) b (List.mem_range.mpr hb))
theorem sp_X6_variables {a k0 t0 t1 : Nat} {Q : Int32 → HH → Prop} (hp : q_pt G h ρ a k0 t0 t1) (hQ : Q (nI (p_vb t0 ||| p_vb t1)) h) : wp_X6_variables G h (some a) Q := by
  obtain ⟨-, -, b, f, -, h4, h5, f0, f1, ht0, ht1⟩ := hp
  have key : (List.range 13).all (fun t => decide (if Int32.ofNat t ≤ 9 then p_vb t = 0 else ((1 : Int32) <<< (((Int32.ofNat t - (9 : Int32)) - (1 : Int32)) &&& 31)) = Int32.ofNat (p_vb t))) = true := by decide +kernel
  have step : ∀ {A : Int32 → Prop} {t s : Nat}, t ≤ 12 → s < 8 → A (nI (s ||| p_vb t)) → ((nI t ≤ (9 : Int32) → A (nI s ||| (0 : Int32))) ∧ (¬ nI t ≤ (9 : Int32) → A (nI s ||| ((1 : Int32) <<< (((nI t - (9 : Int32)) - (1 : Int32)) &&& 31))))) := by
    intro A t s ht hs9 hA
    have k : if nI t ≤ 9 then p_vb t = 0 else ((1 : Int32) <<< (((nI t - (9 : Int32)) - (1 : Int32)) &&& 31)) = nI (p_vb t) := of_decide_eq_true (List.all_eq_true.mp key t (List.mem_range.mpr (by omega)))
    refine ⟨fun z => ?_, fun z => ?_⟩
    · rw [if_pos z] at k
      rw [show nI s ||| (0 : Int32) = nI (s ||| p_vb t) from by rw [k, show (0 : Int32) = nI 0 from rfl, nI_or8 _ _ hs9 (by decide)]]
      exact hA
    · rw [if_neg z] at k
      rw [k, nI_or8 _ _ hs9 (p_vb_lt ht)]
      exact hA
  unfold wp_X6_variables
  refine w_nn_of <| w_geta_of h4 rfl <| w_nn_of <| Or.inl ⟨0, _, by decide, h5, 3, ?_⟩
  unfold wp_X6_variables_L13
  refine br_f (show ¬ Int32.ofNat 2 ≤ 0 by decide) <| w_ild_of (i := 0) h5 (by decide) (by decide) ?_
  rw [f0]
  refine step (A := fun x => wp_X6_variables_L13 G Q 2 h x b (Int32.ofNat 2) ((0 : Int32) + 1)) (s := 0) ht0 (by decide) ?_
  rw [Nat.zero_or]
  show wp_X6_variables_L13 G Q 2 h (nI (p_vb t0)) b (Int32.ofNat 2) ((0 : Int32) + 1)
  unfold wp_X6_variables_L13
  refine br_f (by decide) <| w_ild_of (i := 1) h5 (by decide) (by decide) ?_
  rw [f1]
  refine step (A := fun x => wp_X6_variables_L13 G Q 1 h x b (Int32.ofNat 2) ((0 : Int32) + 1 + 1)) (s := p_vb t0) ht1 (p_vb_lt ht0) ?_
  show wp_X6_variables_L13 G Q 1 h (nI (p_vb t0 ||| p_vb t1)) b (Int32.ofNat 2) ((0 : Int32) + 1 + 1)
  unfold wp_X6_variables_L13
  exact br_t (by decide) hQ
theorem sp_X9_init {a p1 p3 wt so : Nat} {p2 : Option Nat} {Q : HH → Prop} (ha : h a = some (.inr (12, df_X9))) (hQ : ∀ h', (∀ c, c ≠ a → h' c = h c) → h' a = some (.inr (12, [.ref p1, va_rf p2, .int (if so = 2 then 1 else 0), .ref p3, .int (nI wt)])) → Q h') : wp_X9_init G h a (some p1) p2 (if so = 2 then 1 else 0) (some p3) (nI wt) Q := by
  unfold wp_X9_init
  have nar : narrow .boolean (.int (if so = 2 then 1 else 0)) = .int (if so = 2 then 1 else 0) ∧ fits .boolean (.int (if so = 2 then 1 else 0)) = true := by by_cases q : so = 2 <;> simp only [q, if_true, if_false] <;> exact ⟨rfl, rfl⟩
  refine w_put_of ha (by decide) rfl <| w_put_of q_h_same (Nat.le_of_ble_eq_true rfl) rfl ⟨nar, w_put_of q_h_same (Nat.le_of_ble_eq_true rfl) rfl <| w_put_of q_h_same (Nat.le_of_ble_eq_true rfl) rfl <| w_put_of q_h_same (Nat.le_of_ble_eq_true rfl) rfl ?_⟩
  simp only [q_h_up]
  exact hQ _ (fun c hc => q_h_ne hc) q_h_same
def q_ro0 (h : HH) (ρ' : RO) : Prop := ∀ c, h c = none → ρ' c = (0, 0)
theorem sp_X6_rule_L78 {vs so a1 mc ms nc nk : Nat} {a2 : Option Nat} {h1 : HH} {a b : Nat × Nat × Nat} {Q : Option Nat → HH → Prop} {X : String → Nat → HH → Prop} (hz : q_pz G h pr txt v N cs i) (hs1 : q_sp (q_on pr) h h1) {j : Nat} (hz1 : q_pz G h1 pr txt v N cs j) (hvs : vs < 8) (hso : so ≤ 2) (hm : nc + 10 ≤ mc) (hs : nk + 60 ≤ ms)
    (hA : ∀ ρ', q_ro0 h ρ' → q_pt G h1 ρ' a1 a.1 a.2.1 a.2.2) (hB0 : so = 0 → a2 = none) (hB : so ≠ 0 → ∃ p, a2 = some p ∧ ∀ ρ', q_ro0 h ρ' → q_pt G h1 ρ' p b.1 b.2.1 b.2.2)
    (hQ : ∀ c wt j' q h', p_tail cs vs j = .ok ((c, wt), j') → h q = none → q_sp (q_on pr) h h' → q_pz G h' pr txt v N cs j' → (∀ ρ', q_ro0 h ρ' → q_rl G h' ρ' q (p_mk a so b c wt)) → Q (some q) h')
    (hX : ∀ e q h', p_tail cs vs j = .error e → h q = none → q_sp (q_on pr) h h' → q_sx h' q e → X "MatchmakerRules$SyntaxException" q h') : wp_X6_rule_L78 G mc ms pr Q X h1 nc nk (some a1) (nI vs) (if so = 2 then 1 else 0) a2 := by
  unfold wp_X6_rule_L78
  refine ⟨1, 7, by omega, by omega, w_is_of hz1.1 <| sp_X6_take (lo := 62) (hi := 62) hz1 (by decide) (by decide) (by omega) (by omega) (fun n3 j3 h2 e3 _ _ hs2 hz2 => ?_) (fun q h' e3 hq hs2 hsx => hX j q h' (by unfold p_tail; rw [e3]) (hz.nw hz1 hs1 hq) (hs1.tr hs2) hsx)⟩
  have hs02 := hs1.tr hs2
  refine ⟨6, 30, by omega, by omega, w_is_of hz2.1 <| sp_X6_pattern hz2 hvs (by omega) (by omega) (fun p3 k0 t0 t1 j4 h3 e4 k1 k2 kt hp3 hs3 hz3 hpt3 => ?_) (fun e q h' e4 hq hs3 hsx => hX e q h' (by unfold p_tail; rw [e3]; simp only; rw [e4]) (hz.nw hz2 hs02 hq) (hs02.tr hs3) hsx)⟩
  have hs03 := hs02.tr hs3
  refine ⟨1, 7, by omega, by omega, w_is_of hz3.1 <| sp_X6_take (lo := 42) (hi := 42) hz3 (by decide) (by decide) (by omega) (by omega) (fun n5 j5 h4 e5 _ _ hs4 hz4 => ⟨by omega, by omega, fun r0 hr0 => ?_⟩) (fun q h' e5 hq hs4 hsx => hX j4 q h' (by unfold p_tail; rw [e3]; simp only; rw [e4]; simp only; rw [e5]) (hz.nw hz3 hs03 hq) (hs03.tr hs4) hsx)⟩
  have hs04 := hs03.tr hs4
  have hsn : q_sp q_no h4 (va_up h4 r0 (some (.inr (12, df_X9)))) := q_sp.new hr0
  have hz4' := hz4.keep hsn
  refine ⟨1, 7, by omega, by omega, w_is_of hz4'.1 <| sp_X6_digit hz4' (by omega) (by omega) (fun wt j6 h5 e6 hw9 hs5 hz5 => ?_) (fun q h' e6 hq hs5 hsx => hX j5 q h' (by unfold p_tail; rw [e3]; simp only; rw [e4]; simp only; rw [e5]; simp only; rw [e6]) (hz.nw hz4 hs04 (q_sp_none hsn hq)) (hs04.tr ((hsn.mono (fun _ z => z.elim)).tr hs5)) hsx)⟩
  have r0pr : r0 ≠ pr := fun z => by rw [z, hz4.1] at hr0; cases hr0
  have hs4' : q_sp (q_on pr) h4 h5 := (hsn.mono (fun _ z => z.elim)).tr hs5
  refine sp_X9_init (hs5 r0 _ q_h_same r0pr) (fun h6 hh hr6 => ?_)
  have hr00 := hz.nw hz4 hs04 hr0
  have hs6 : q_sp (q_on pr) h4 h6 := fun c e hc hn => by
    rw [hh c (q_new_ne hr0 hc)]
    exact hs4' c e hc hn
  have hp6 : h6 pr = some (.inr (9, [.ref txt, .int (nI j6)])) := by rw [hh pr (Ne.symm r0pr)]; exact hz5.1
  refine hQ (k0, t0, t1) wt j6 r0 h6 (by unfold p_tail; rw [e3]; simp only; rw [e4]; simp only; rw [e5]; simp only; rw [e6]) hr00 (hs04.tr hs6) (hz.mv (hs04.tr hs6) hp6 hz5.2.2.2) (fun ρ' hρ => ⟨hρ r0 hr00, hso, hw9, a1, a2, p3, hr6, ?_, fun z => hB0 z, fun z => ?_, ?_⟩)
  · exact (hA ρ' hρ).on hz1.1 (hs2.tr (hs3.tr (hs4.tr hs6)))
  · obtain ⟨p, e1, e2⟩ := hB z
    exact ⟨p, e1, (e2 ρ' hρ).on hz1.1 (hs2.tr (hs3.tr (hs4.tr hs6)))⟩
  · exact (hpt3 ρ' (fun c hc => hρ c (hz.nw hz2 hs02 hc))).on hz3.1 (hs4.tr hs6)
theorem sp_X6_rule {mc ms : Nat} {Q : Option Nat → HH → Prop} {X : String → Nat → HH → Prop} (hz : q_pz G h pr txt v N cs i) (hm : 25 ≤ mc) (hs : 140 ≤ ms)
    (hQ : ∀ r j q h', p_rule cs i = .ok (r, j) → h q = none → q_sp (q_on pr) h h' → q_pz G h' pr txt v N cs j → (∀ ρ', q_ro0 h ρ' → q_rl G h' ρ' q r) → Q (some q) h')
    (hX : ∀ e q h', p_rule cs i = .error e → h q = none → q_sp (q_on pr) h h' → q_sx h' q e → X "MatchmakerRules$SyntaxException" q h') : wp_X6_rule G mc ms h pr Q X := by
  unfold wp_X6_rule
  refine ⟨6, 30, by omega, by omega, w_is_of hz.1 <| sp_X6_pattern (vs := 7) hz (by decide) (by omega) (by omega) (fun p1 k0 t0 t1 j h1 e1 k1 k2 kt hp1 hs1 hz1 hpt1 => ?_) (fun e q h' e1 hq hs1 hsx => hX e q h' (by unfold p_rule; rw [e1]) hq hs1 hsx)⟩
  have ht0 := (kt t0 (Or.inl rfl)).1
  have ht1 := (kt t1 (Or.inr rfl)).1
  have hva : p_vars (k0, t0, t1) < 8 := p_or_lt (p_vb_lt ht0) (p_vb_lt ht1)
  refine sp_X6_variables (ρ := fun _ => (0, 0)) (hpt1 _ (fun _ _ => rfl)) <| w_is_of hz1.1 <| sp_X6_isNext (lo := 33) (hi := 33) hz1 (by decide) (by decide) ?_
  have hA : ∀ {h2 : HH}, q_sp (q_on pr) h1 h2 → ∀ ρ', q_ro0 h ρ' → q_pt G h2 ρ' p1 k0 t0 t1 := fun hs ρ' hρ => (hpt1 ρ' hρ).on hz1.1 hs
  have tk : ∀ {c : Nat}, p_at cs j c c = true → p_take cs c c j = .ok (cs.getD j 0 - c, j + 1) := fun {c} e => by unfold p_take; rw [if_pos e]
  cases e2 : p_at cs j 33 33 with
  | true =>
    refine br_f (show ¬ (1 : Int32) = 0 by decide) ⟨1, 7, by omega, by omega, w_is_of hz1.1 <| sp_X6_take (lo := 33) (hi := 33) hz1 (by decide) (by decide) (by omega) (by omega) (fun n j2 h2 e3 _ _ hs2 hz2 => ?_) (fun q h' e3 hq hs2 hsx => by rw [tk e2] at e3; cases e3)⟩
    rw [tk e2] at e3
    obtain ⟨-, rfl⟩ : cs.getD j 0 - 33 = n ∧ j + 1 = j2 := by cases e3; exact ⟨rfl, rfl⟩
    have hs02 := hs1.tr hs2
    refine ⟨6, 30, by omega, by omega, w_is_of hz2.1 <| sp_X6_pattern (vs := p_vars (k0, t0, t1)) hz2 hva (by omega) (by omega) (fun p2 k0' t2 t3 j3 h3 e4 k1' k2' kt' hp2 hs3 hz3 hpt2 => ?_) (fun e q h' e4 hq hs3 hsx => hX e q h' (by unfold p_rule; rw [e1]; simp only; unfold p_mid; rw [if_pos e2, e4]) (hz.nw hz2 hs02 hq) (hs02.tr hs3) hsx)⟩
    have hm3 : p_mid cs (k0, t0, t1) j = .ok ((2, (k0', t2, t3), p_vars (k0, t0, t1)), j3) := by unfold p_mid; rw [if_pos e2, e4]
    refine sp_X6_rule_L78 (vs := p_vars (k0, t0, t1)) (so := 2) (a2 := some p2) (a := (k0, t0, t1)) (b := (k0', t2, t3)) hz (hs02.tr hs3) hz3 hva (by decide) (by omega) (by omega) (fun ρ' hρ => hA (hs2.tr hs3) ρ' hρ) (fun z => by cases z) (fun _ => ⟨p2, rfl, fun ρ' hρ => hpt2 ρ' (fun c hc => hρ c (hz.nw hz2 hs02 hc))⟩) (fun c wt j' q h' e5 hq hs' hz' hrl => hQ _ j' q h' ?_ hq hs' hz' hrl) (fun e q h' e5 hq hs' hsx => hX e q h' ?_ hq hs' hsx)
    · unfold p_rule; rw [e1]; simp only; rw [hm3]; simp only; rw [e5]
    · unfold p_rule; rw [e1]; simp only; rw [hm3]; simp only; rw [e5]
  | false =>
    refine br_t (show (0 : Int32) = 0 from rfl) <| w_is_of hz1.1 <| sp_X6_isNext (lo := 62) (hi := 62) hz1 (by decide) (by decide) ?_
    have ne2 : ¬ p_at cs j 33 33 = true := by rw [e2]; decide
    cases e3 : p_at cs j 62 62 with
    | true =>
      refine q_bf (show ¬ (1 : Int32) = 0 by decide) ?_
      have hm3 : p_mid cs (k0, t0, t1) j = .ok ((0, (0, 0, 0), p_vars (k0, t0, t1)), j) := by unfold p_mid; rw [if_neg ne2, if_pos e3]
      refine sp_X6_rule_L78 (vs := p_vars (k0, t0, t1)) (so := 0) (a2 := none) (a := (k0, t0, t1)) (b := (0, 0, 0)) hz hs1 hz1 hva (by decide) (by omega) (by omega) (fun ρ' hρ => hA q_sp.rf ρ' hρ) (fun _ => rfl) (fun z => absurd rfl z) (fun c wt j' q h' e5 hq hs' hz' hrl => hQ _ j' q h' ?_ hq hs' hz' hrl) (fun e q h' e5 hq hs' hsx => hX e q h' ?_ hq hs' hsx)
      · unfold p_rule; rw [e1]; simp only; rw [hm3]; simp only; rw [e5]
      · unfold p_rule; rw [e1]; simp only; rw [hm3]; simp only; rw [e5]
    | false =>
      have ne3 : ¬ p_at cs j 62 62 = true := by rw [e3]; decide
      refine q_bt (show (0 : Int32) = 0 from rfl) ⟨6, 30, by omega, by omega, w_is_of hz1.1 <| sp_X6_pattern (vs := 7) hz1 (by decide) (by omega) (by omega) (fun p2 k0' t2 t3 j3 h3 e4 k1' k2' kt' hp2 hs3 hz3 hpt2 => ?_) (fun e q h' e4 hq hs3 hsx => hX e q h' (by unfold p_rule; rw [e1]; simp only; unfold p_mid; rw [if_neg ne2, if_neg ne3, e4]) (hz.nw hz1 hs1 hq) (hs1.tr hs3) hsx)⟩
      have ht2 := (kt' t2 (Or.inl rfl)).1
      have ht3 := (kt' t3 (Or.inr rfl)).1
      have hvb : p_vars (k0', t2, t3) < 8 := p_or_lt (p_vb_lt ht2) (p_vb_lt ht3)
      have hm3 : p_mid cs (k0, t0, t1) j = .ok ((1, (k0', t2, t3), p_vars (k0, t0, t1) ||| p_vars (k0', t2, t3)), j3) := by unfold p_mid; rw [if_neg ne2, if_neg ne3, e4]
      have hpt2' : ∀ ρ', q_ro0 h ρ' → q_pt G h3 ρ' p2 k0' t2 t3 := fun ρ' hρ => hpt2 ρ' (fun c hc => hρ c (hz.nw hz1 hs1 hc))
      refine sp_X6_variables (ρ := fun _ => (0, 0)) (hpt2' _ (fun _ _ => rfl)) ?_
      rw [nI_or8 (p_vb t0 ||| p_vb t1) (p_vb t2 ||| p_vb t3) hva hvb]
      refine sp_X6_rule_L78 (so := 1) (a2 := some p2) (a := (k0, t0, t1)) (b := (k0', t2, t3)) (vs := p_vars (k0, t0, t1) ||| p_vars (k0', t2, t3)) hz (hs1.tr hs3) hz3 (p_or_lt hva hvb) (by decide) (by omega) (by omega) (fun ρ' hρ => hA hs3 ρ' hρ) (fun z => by cases z) (fun _ => ⟨p2, rfl, hpt2'⟩) (fun c wt j' q h' e5 hq hs' hz' hrl => hQ _ j' q h' ?_ hq hs' hz' hrl) (fun e q h' e5 hq hs' hsx => hX e q h' ?_ hq hs' hsx)
      · unfold p_rule; rw [e1]; simp only; rw [hm3]; simp only; rw [e5]
      · unfold p_rule; rw [e1]; simp only; rw [hm3]; simp only; rw [e5]
theorem p_take_ok {lo hi n j : Nat} (h : p_take cs lo hi i = .ok (n, j)) : p_at cs i lo hi = true ∧ n = cs.getD i 0 - lo ∧ j = i + 1 ∧ n ≤ hi - lo := by
  unfold p_take at h
  split at h
  · rename_i e
    cases h
    have := p_at_lt e
    exact ⟨e, rfl, rfl, by omega⟩
  · cases h
theorem p_term_ok {vs n j : Nat} (h : p_term cs vs i = .ok (n, j)) : n ≤ 12 ∧ (n ≤ 9 ∨ vs / 2 ^ (n - 10) % 2 = 1) := by
  unfold p_term at h
  split at h
  · rename_i e
    have := p_at_lt e
    split at h
    · cases h
    · rename_i e2
      cases h
      exact ⟨by omega, Or.inr (by rw [show 10 + (cs.getD i 0 - 88) - 10 = cs.getD i 0 - 88 by omega]; omega)⟩
  · have := (p_take_ok h).2.2.2
    exact ⟨by omega, Or.inl (by omega)⟩
theorem p_pat_ok {vs k0 t0 t1 j : Nat} (h : p_pat cs vs i = .ok ((k0, t0, t1), j)) : (97 ≤ k0 ∧ k0 ≤ 102) ∧ (t0 ≤ 12 ∧ (t0 ≤ 9 ∨ vs / 2 ^ (t0 - 10) % 2 = 1)) ∧ t1 ≤ 12 ∧ (t1 ≤ 9 ∨ vs / 2 ^ (t1 - 10) % 2 = 1) := by
  unfold p_pat p_kind at h
  cases e1 : p_take cs 97 102 i with
  | error e => rw [e1] at h; cases h
  | ok z =>
    obtain ⟨n, j1⟩ := z
    rw [e1] at h
    simp only at h
    cases e2 : p_term cs vs j1 with
    | error e => rw [e2] at h; cases h
    | ok z =>
      obtain ⟨a, j2⟩ := z
      rw [e2] at h
      simp only at h
      cases e3 : p_term cs vs j2 with
      | error e => rw [e3] at h; cases h
      | ok z =>
        obtain ⟨b, j3⟩ := z
        rw [e3] at h
        simp only at h
        cases h
        have := (p_take_ok e1).2.2.2
        exact ⟨by omega, p_term_ok e2, p_term_ok e3⟩
theorem p_tail_ok {vs j w : Nat} {c : Nat × Nat × Nat} (h : p_tail cs vs i = .ok ((c, w), j)) : w ≤ 9 ∧ (97 ≤ c.1 ∧ c.1 ≤ 102) ∧ (c.2.1 ≤ 12 ∧ (c.2.1 ≤ 9 ∨ vs / 2 ^ (c.2.1 - 10) % 2 = 1)) ∧ c.2.2 ≤ 12 ∧ (c.2.2 ≤ 9 ∨ vs / 2 ^ (c.2.2 - 10) % 2 = 1) := by
  unfold p_tail at h
  cases e1 : p_take cs 62 62 i with
  | error e => rw [e1] at h; cases h
  | ok z =>
    obtain ⟨n, j1⟩ := z
    rw [e1] at h
    simp only at h
    cases e2 : p_pat cs vs j1 with
    | error e => rw [e2] at h; cases h
    | ok z =>
      obtain ⟨⟨k0, t0, t1⟩, j2⟩ := z
      rw [e2] at h
      simp only at h
      cases e3 : p_take cs 42 42 j2 with
      | error e => rw [e3] at h; cases h
      | ok z =>
        obtain ⟨n2, j3⟩ := z
        rw [e3] at h
        simp only at h
        cases e4 : p_take cs 48 57 j3 with
        | error e => rw [e4] at h; cases h
        | ok z =>
          obtain ⟨n3, j4⟩ := z
          rw [e4] at h
          simp only at h
          cases h
          exact ⟨(p_take_ok e4).2.2.2, p_pat_ok e2⟩
/-- a rule that is read is a good rule -/
theorem p_rule_ok {j : Nat} {r : Nat → Nat} (h : p_rule cs i = .ok (r, j)) : c_rw r ∧ r 3 ≤ 2 ∧ r 10 ≤ 9 ∧ ∀ k, (k = 1 ∨ k = 2 ∨ k = 5 ∨ k = 6 ∨ k = 8 ∨ k = 9) → r k ≤ 12 := by
  unfold p_rule at h
  cases e1 : p_pat cs 7 i with
  | error e => rw [e1] at h; cases h
  | ok z =>
    obtain ⟨⟨k0, t0, t1⟩, j1⟩ := z
    rw [e1] at h
    simp only at h
    obtain ⟨a1, ⟨a2, -⟩, a3, -⟩ := p_pat_ok e1
    cases e2 : p_mid cs (k0, t0, t1) j1 with
    | error e => rw [e2] at h; cases h
    | ok z =>
      obtain ⟨⟨so, ⟨k2, t2, t3⟩, vs⟩, j2⟩ := z
      rw [e2] at h
      simp only at h
      cases e3 : p_tail cs vs j2 with
      | error e => rw [e3] at h; cases h
      | ok z =>
        obtain ⟨⟨⟨k4, t4, t5⟩, w⟩, j3⟩ := z
        rw [e3] at h
        simp only at h
        cases h
        obtain ⟨w9, b1, ⟨b2, b2'⟩, b3, b3'⟩ := p_tail_ok e3
        simp only at b1 b2 b2' b3 b3'
        have mid : (so = 2 ∧ vs = p_vars (k0, t0, t1) ∧ (97 ≤ k2 ∧ k2 ≤ 102) ∧ (t2 ≤ 12 ∧ (t2 ≤ 9 ∨ vs / 2 ^ (t2 - 10) % 2 = 1)) ∧ t3 ≤ 12 ∧ (t3 ≤ 9 ∨ vs / 2 ^ (t3 - 10) % 2 = 1)) ∨ (so = 0 ∧ vs = p_vars (k0, t0, t1) ∧ t2 = 0 ∧ t3 = 0) ∨ (so = 1 ∧ vs = (p_vars (k0, t0, t1) ||| p_vars (k2, t2, t3)) ∧ (97 ≤ k2 ∧ k2 ≤ 102) ∧ t2 ≤ 12 ∧ t3 ≤ 12) := by
          unfold p_mid at e2
          split at e2
          · cases e4 : p_pat cs (p_vars (k0, t0, t1)) (j1 + 1) with
            | error e => rw [e4] at e2; cases e2
            | ok z =>
              obtain ⟨⟨k9, t8, t9⟩, j9⟩ := z
              rw [e4] at e2
              simp only at e2
              cases e2
              exact Or.inl ⟨rfl, rfl, p_pat_ok e4⟩
          · split at e2
            · cases e2
              exact Or.inr (Or.inl ⟨rfl, rfl, rfl, rfl⟩)
            · cases e4 : p_pat cs 7 j1 with
              | error e => rw [e4] at e2; cases e2
              | ok z =>
                obtain ⟨⟨k9, t8, t9⟩, j9⟩ := z
                rw [e4] at e2
                simp only at e2
                cases e2
                obtain ⟨c1, ⟨c2, -⟩, c3, -⟩ := p_pat_ok e4
                exact Or.inr (Or.inr ⟨rfl, rfl, c1, c2, c3⟩)
        have one : ∀ {t : Nat}, (t ≤ 9 ∨ p_vars (k0, t0, t1) / 2 ^ (t - 10) % 2 = 1) → t ≤ 9 ∨ t = t0 ∨ t = t1 := fun {t} ht => by
          rcases Nat.lt_or_ge 9 t with q | q
          · rcases ht with ht | ht
            · exact Or.inl ht
            · exact Or.inr (p_bits a2 a3 q ht)
          · exact Or.inl q
        have so2 : so ≤ 2 := by rcases mid with m | m | m <;> omega
        have tt : t2 ≤ 12 ∧ t3 ≤ 12 := by
          rcases mid with m | m | m
          · exact ⟨m.2.2.2.1.1, m.2.2.2.2.1⟩
          · omega
          · omega
        refine ⟨⟨fun t ht => ?_, fun h2 t ht => ?_, b1, a1, fun h3 => ?_⟩, so2, w9, fun k hk => ?_⟩
        · have ht' : t = t4 ∨ t = t5 := ht
          have hb : t ≤ 9 ∨ vs / 2 ^ (t - 10) % 2 = 1 := by rcases ht' with rfl | rfl <;> assumption
          show t ≤ 9 ∨ t = t0 ∨ t = t1 ∨ (so = 1 ∧ (t = t2 ∨ t = t3))
          rcases mid with m | m | m
          · rw [m.2.1] at hb
            rcases one hb with q | q | q
            · exact Or.inl q
            · exact Or.inr (Or.inl q)
            · exact Or.inr (Or.inr (Or.inl q))
          · rw [m.2.1] at hb
            rcases one hb with q | q | q
            · exact Or.inl q
            · exact Or.inr (Or.inl q)
            · exact Or.inr (Or.inr (Or.inl q))
          · rw [m.2.1] at hb
            rcases Nat.lt_or_ge 9 t with q | q
            · rcases hb with hb | hb
              · exact Or.inl hb
              · rcases p_bits4 a2 a3 m.2.2.2.1 m.2.2.2.2 q hb with z | z | z | z
                · exact Or.inr (Or.inl z)
                · exact Or.inr (Or.inr (Or.inl z))
                · exact Or.inr (Or.inr (Or.inr ⟨m.1, Or.inl z⟩))
                · exact Or.inr (Or.inr (Or.inr ⟨m.1, Or.inr z⟩))
            · exact Or.inl q
        · have h2' : so = 2 := h2
          have ht' : t = t2 ∨ t = t3 := ht
          show t ≤ 9 ∨ t = t0 ∨ t = t1
          rcases mid with m | m | m
          · refine one ?_
            rw [← m.2.1]
            rcases ht' with rfl | rfl
            · exact m.2.2.2.1.2
            · exact m.2.2.2.2.2
          · omega
          · omega
        · have h3' : so ≠ 0 := h3
          show 97 ≤ k2 ∧ k2 ≤ 102
          rcases mid with m | m | m
          · exact m.2.2.1
          · exact absurd m.1 h3'
          · exact m.2.2.1
        · rcases hk with rfl | rfl | rfl | rfl | rfl | rfl
          · exact a2
          · exact a3
          · exact tt.1
          · exact tt.2
          · exact b2
          · exact b3
def p_whole (cs : List Nat) (i : Nat) : Except Nat ((Nat → Nat) × Nat) := match p_rule cs i with
  | .error e => .error e
  | .ok (r, j) => if j < cs.length then .error j else .ok (r, j)
theorem sp_X6_wholeRule {mc ms : Nat} {Q : Option Nat → HH → Prop} {X : String → Nat → HH → Prop} (hz : q_pz G h pr txt v N cs i) (hm : 26 ≤ mc) (hs : 150 ≤ ms)
    (hQ : ∀ r j q h', p_whole cs i = .ok (r, j) → c_rw r → h q = none → q_sp (q_on pr) h h' → (∀ ρ', q_ro0 h ρ' → q_rl G h' ρ' q r) → Q (some q) h')
    (hX : ∀ e q h', p_whole cs i = .error e → h q = none → q_sp (q_on pr) h h' → q_sx h' q e → X "MatchmakerRules$SyntaxException" q h') : wp_X6_wholeRule G mc ms h pr Q X := by
  unfold wp_X6_wholeRule
  refine ⟨25, 140, by omega, by omega, w_is_of hz.1 <| sp_X6_rule hz (by omega) (by omega) (fun r j q h1 e1 hq hs1 hz1 hrl => ?_) (fun e q h' e1 hq hs1 hsx => hX e q h' (by unfold p_whole; rw [e1]) hq hs1 hsx)⟩
  obtain ⟨ml, hbo⟩ := hz1.2.1.1
  refine w_geti_of hz1.1 rfl <| w_geta_of hz1.1 rfl <| w_nn_of <| w_is_of hbo <| sp_J5_length hz1.2.1 ⟨fun z => ?_, fun z => ⟨by omega, by omega, sp_throwX (Q := True) hz1 (fun q' h' hq' hs' hsx => hX j q' h' ?_ (hz.nw hz1 hs1 hq') (hs1.tr (hs'.mono (fun _ z => z.elim))) hsx)⟩⟩
  · have : ¬ j < cs.length := fun q => nI_ge q (by have := hz.2.2.1; omega) z
    exact hQ r j q h1 (by unfold p_whole; rw [e1]; simp only; rw [if_neg this]) (p_rule_ok e1).1 hq hs1 hrl
  · have : j < cs.length := by
      rcases Nat.lt_or_ge j cs.length with q | q
      · exact q
      · exact absurd (nI_le q (by have := hz1.2.2.2; have := hz.2.2.1; omega)) z
    unfold p_whole; rw [e1]; simp only; rw [if_pos this]
end PARSE2
