set_option maxRecDepth 100000
/-! changes: what is read -/
abbrev PC : Type := Nat × List Nat × Option (Nat → Nat)
def p_fact (cs : List Nat) (i : Nat) : Except Nat (PC × Nat) := match p_kind cs i with
  | .error e => .error e
  | .ok (kd, j) => match p_take cs 48 57 j with
    | .error e => .error e
    | .ok (a, j2) => match p_take cs 48 57 j2 with
      | .error e => .error e
      | .ok (b, j3) => match p_take cs 42 42 j3 with
        | .error e => .error e
        | .ok (_, j4) => match p_num cs j4 with
          | .error e => .error e
          | .ok (n, j5) => .ok ((43, [kd, a, b, n], none), j5)
def p_item (cs : List Nat) (i : Nat) : Except Nat (PC × Nat) := match p_take cs 0 127 i with
  | .error e => .error e
  | .ok (s, j) =>
    if s = 43 then p_fact cs j
    else if s = 45 ∨ s = 102 then (match p_num cs j with
      | .error e => .error e
      | .ok (n, j2) => .ok ((s, [n], none), j2))
    else if s = 58 then (match p_rule cs j with
      | .error e => .error e
      | .ok (r, j2) => .ok ((58, [], some r), j2))
    else if s = 120 then (match p_take cs 48 57 j with
      | .error e => .error e
      | .ok (n, j2) => .ok ((120, [n], none), j2))
    else .error i
/-- a change's object -/
def q_ch (G : GG) (h : HH) (ρ : RO) (a sg : Nat) (ns : List Int32) (ro : Option (Nat × (Nat → Nat))) : Prop := ρ a = (0, 0) ∧ ∃ arr f, ρ arr = (0, 0) ∧ h a = some (.inr (8, [.int (nI sg), .ref arr, va_rf (ro.map Prod.fst)])) ∧ h arr = some (.inl (G.2.1 0, ns.length, .inl f)) ∧ (∀ j, j < ns.length → f j = ns.getD j 0) ∧ ∀ y, ro = some y → q_rl G h ρ y.1 y.2
def q_chp (G : GG) (h : HH) (ρ : RO) (a : Nat) (pc : PC) : Prop := ∃ ro, ro.map Prod.snd = pc.2.2 ∧ q_ch G h ρ a pc.1 (pc.2.1.map nI) ro
section ITEM
variable {G : GG} {h h' h0 : HH} {ρ ρ' : RO} {pr txt v N i : Nat} {cs : List Nat}
theorem q_rl.on {a : Nat} {r : Nat → Nat} {x : Value} (hp : h pr = some (.inr (9, [x, .int (nI i)]))) (q : q_rl G h ρ a r) (hs : q_sp (q_on pr) h h') : q_rl G h' ρ a r := by
  obtain ⟨h1, h2, h3, p1, p2, p3, h4, h5, h6, h7, h8⟩ := q
  refine ⟨h1, h2, h3, p1, p2, p3, hs _ _ h4 (fun z => by rw [show a = pr from z, hp] at h4; cases h4), h5.on hp hs, h6, fun z => ?_, h8.on hp hs⟩
  obtain ⟨p, e1, e2⟩ := h7 z
  exact ⟨p, e1, e2.on hp hs⟩
theorem sp_X5_init_2 {a b sg : Nat} {Q : HH → Prop} (ha : h a = some (.inr (8, df_X5))) (hk : sg < 128) (hQ : ∀ h', (∀ c, c ≠ a → h' c = h c) → h' a = some (.inr (8, [.int (nI sg), .ref b, .null])) → Q h') : wp_X5_init_2 G h a (nI sg) (some b) Q := by
  unfold wp_X5_init_2
  refine ⟨⟨t_nar _ hk, (pk_charN (by omega)).2⟩, w_put_of ha (by decide) rfl <| w_put_of q_h_same (Nat.le_of_ble_eq_true rfl) rfl <| w_put_of q_h_same (Nat.le_of_ble_eq_true rfl) rfl ?_⟩
  simp only [q_h_up]
  exact hQ _ (fun c hc => q_h_ne hc) q_h_same
theorem sp_X5_init {a mc ms : Nat} {rr : Option Nat} {Q : HH → Prop} (ha : h a = some (.inr (8, df_X5))) (hm : 1 ≤ mc) (hQ : ∀ h' q f, h q = none → (∀ c, c ≠ a → c ≠ q → h' c = h c) → h' a = some (.inr (8, [.int (nI 58), .ref q, va_rf rr])) → h' q = some (.inl (G.2.1 0, 0, .inl f)) → Q h') : wp_X5_init G mc ms h a rr Q := by
  unfold wp_X5_init
  refine w_put_of ha (by decide) rfl ⟨by omega, by omega, fun q hq => ?_⟩
  have aq : a ≠ q := q_new_ne hq q_h_same
  have hq0 : h q = none := by rw [q_h_ne (Ne.symm aq)] at hq; exact hq
  refine w_put_of ((q_h_ne aq).trans q_h_same) (Nat.le_of_ble_eq_true rfl) rfl <| w_put_of q_h_same (Nat.le_of_ble_eq_true rfl) rfl ?_
  simp only [q_h_up]
  exact hQ _ q _ hq0 (fun c c1 c2 => by rw [q_h_ne c1, q_h_ne c2, q_h_ne c1]) q_h_same (by rw [q_h_ne (Ne.symm aq)]; exact q_h_same)
theorem sp_X6_fact {mc ms : Nat} {Q : Option Nat → HH → Prop} {X : String → Nat → HH → Prop} (hz : q_pz G h pr txt v N cs i) (hm : 10 ≤ mc) (hs : 70 ≤ ms)
    (hQ : ∀ pc j q h', p_fact cs i = .ok (pc, j) → h q = none → q_sp (q_on pr) h h' → q_pz G h' pr txt v N cs j → (∀ ρ', q_ro0 h ρ' → q_chp G h' ρ' q pc) → Q (some q) h')
    (hX : ∀ e q h', p_fact cs i = .error e → h q = none → q_sp (q_on pr) h h' → q_sx h' q e → X "MatchmakerRules$SyntaxException" q h') : wp_X6_fact G mc ms h pr Q X := by
  unfold wp_X6_fact
  refine ⟨1, 7, by omega, by omega, w_is_of hz.1 <| sp_X6_kind hz (by omega) (by omega) (fun kd j1 h1 e1 _ _ hs1 hz1 => ?_) (fun e q h' e1 hq hs1 hsx => hX e q h' (by unfold p_fact; rw [e1]) hq hs1 hsx)⟩
  refine ⟨1, 7, by omega, by omega, w_is_of hz1.1 <| sp_X6_digit hz1 (by omega) (by omega) (fun a j2 h2 e2 ha9 hs2 hz2 => ?_) (fun q h' e2 hq hs2 hsx => hX j1 q h' (by unfold p_fact; rw [e1]; simp only; rw [e2]) (hz.nw hz1 hs1 hq) (hs1.tr hs2) hsx)⟩
  have hs02 := hs1.tr hs2
  refine ⟨1, 7, by omega, by omega, w_is_of hz2.1 <| sp_X6_digit hz2 (by omega) (by omega) (fun b j3 h3 e3 hb9 hs3 hz3 => ?_) (fun q h' e3 hq hs3 hsx => hX j2 q h' (by unfold p_fact; rw [e1]; simp only; rw [e2]; simp only; rw [e3]) (hz.nw hz2 hs02 hq) (hs02.tr hs3) hsx)⟩
  have hs03 := hs02.tr hs3
  refine ⟨1, 7, by omega, by omega, w_is_of hz3.1 <| sp_X6_take (lo := 42) (hi := 42) hz3 (by decide) (by decide) (by omega) (by omega) (fun n4 j4 h4 e4 _ _ hs4 hz4 => ?_) (fun q h' e4 hq hs4 hsx => hX j3 q h' (by unfold p_fact; rw [e1]; simp only; rw [e2]; simp only; rw [e3]; simp only; rw [e4]) (hz.nw hz3 hs03 hq) (hs03.tr hs4) hsx)⟩
  have hs04 := hs03.tr hs4
  refine ⟨by omega, by omega, fun c0 hc0 => ⟨by omega, by omega, fun ar har => ?_⟩⟩
  have car : c0 ≠ ar := q_new_ne har q_h_same
  have har4 : h4 ar = none := by rw [q_h_ne (Ne.symm car)] at har; exact har
  refine w_ist_of (i := 0) q_h_same (by decide) (by decide) <| w_ist_of (i := 1) q_h_same (by decide) (by decide) <| w_ist_of (i := 2) q_h_same (by decide) (by decide) ?_
  simp only [q_h_up]
  have hsn : q_sp q_no h4 (va_up (va_up h4 c0 (some (.inr (8, df_X5)))) ar (some (.inl (G.2.1 0, 4, .inl (upd (upd (upd (fun _ => 0) 0 (nI kd)) 1 (nI a)) 2 (nI b)))))) := (q_sp.new hc0).tr (q_sp.new har)
  have hz5 := hz4.keep hsn
  refine ⟨3, 21, by omega, by omega, w_is_of hz5.1 <| sp_X6_number hz5 (by omega) (by omega) (fun n j6 h6 e6 hn9 hs6 hz6 => ?_) (fun e q h' e6 hq hs6 hsx => hX e q h' (by unfold p_fact; rw [e1]; simp only; rw [e2]; simp only; rw [e3]; simp only; rw [e4]; simp only; rw [e6]) (hz.nw hz4 hs04 (q_sp_none hsn hq)) (hs04.tr ((hsn.mono (fun _ z => z.elim)).tr hs6)) hsx)⟩
  have cpr : c0 ≠ pr := fun z => by rw [z, hz4.1] at hc0; cases hc0
  have apr : ar ≠ pr := fun z => by rw [z, hz4.1] at har4; cases har4
  have ha6 := hs6 ar _ q_h_same apr
  have hc6 := hs6 c0 _ ((q_h_ne car).trans q_h_same) cpr
  refine w_ist_of (i := 3) ha6 (by decide) (by decide) ?_
  refine sp_X5_init_2 (sg := 43) ((q_h_ne car).trans hc6) (by decide) (fun h7 hh hc7 => ?_)
  have ha7 : h7 ar = _ := (hh ar (Ne.symm car)).trans q_h_same
  have hc00 := hz.nw hz4 hs04 hc0
  have ha00 := hz.nw hz4 hs04 har4
  have hs7 : q_sp (q_on pr) h4 h7 := fun c e hc hn => by
    rw [hh c (q_new_ne hc0 hc), q_h_ne (q_new_ne har4 hc)]
    exact hs6 c e (hsn c e hc q_no.not) hn
  have hp7 : h7 pr = some (.inr (9, [.ref txt, .int (nI j6)])) := by rw [hh pr (Ne.symm cpr), q_h_ne (Ne.symm apr)]; exact hz6.1
  refine hQ (43, [kd, a, b, n], none) j6 c0 h7 (by unfold p_fact; rw [e1]; simp only; rw [e2]; simp only; rw [e3]; simp only; rw [e4]; simp only; rw [e6]) hc00 (hs04.tr hs7) (hz.mv (hs04.tr hs7) hp7 hz6.2.2.2) (fun ρ' hρ => ⟨none, rfl, hρ c0 hc00, ar, _, hρ ar ha00, hc7, ha7, fun j hj => ?_, fun y z => by cases z⟩)
  have hj4 : j < 4 := hj
  rcases (by omega : j = 0 ∨ j = 1 ∨ j = 2 ∨ j = 3) with rfl | rfl | rfl | rfl <;> rfl
/-- one number behind a sign -/
theorem sp_X6_item1 {s n j j6 c0 ar : Nat} {h4 h6 : HH} {Q : Option Nat → HH → Prop} (hz : q_pz G h pr txt v N cs i) (hs04 : q_sp (q_on pr) h h4) (hz4 : q_pz G h4 pr txt v N cs j) (hc0 : h4 c0 = none) (har : va_up h4 c0 (some (.inr (8, df_X5))) ar = none) (hs8 : s < 128)
    (hs6 : q_sp (q_on pr) (va_up (va_up h4 c0 (some (.inr (8, df_X5)))) ar (some (.inl (G.2.1 0, 1, .inl (fun _ => 0))))) h6) (hz6 : q_pz G h6 pr txt v N cs j6)
    (hQ : ∀ h', h c0 = none → q_sp (q_on pr) h h' → q_pz G h' pr txt v N cs j6 → (∀ ρ', q_ro0 h ρ' → q_chp G h' ρ' c0 (s, [n], none)) → Q (some c0) h') : w_ist G h6 ar (0 : Int32) (nI n) (fun h21 => wp_X5_init_2 G h21 c0 (nI s) (some ar) (fun h22 => Q (some c0) h22)) := by
  have car : c0 ≠ ar := q_new_ne har q_h_same
  have har4 : h4 ar = none := by rw [q_h_ne (Ne.symm car)] at har; exact har
  have cpr : c0 ≠ pr := fun z => by rw [z, hz4.1] at hc0; cases hc0
  have apr : ar ≠ pr := fun z => by rw [z, hz4.1] at har4; cases har4
  have ha6 := hs6 ar _ q_h_same apr
  have hc6 := hs6 c0 _ ((q_h_ne car).trans q_h_same) cpr
  refine w_ist_of (i := 0) ha6 (by decide) (by decide) ?_
  refine sp_X5_init_2 ((q_h_ne car).trans hc6) hs8 (fun h7 hh hc7 => ?_)
  have ha7 : h7 ar = _ := (hh ar (Ne.symm car)).trans q_h_same
  have hc00 := hz.nw hz4 hs04 hc0
  have ha00 := hz.nw hz4 hs04 har4
  have hs7 : q_sp (q_on pr) h4 h7 := fun c e hc hn => by
    rw [hh c (q_new_ne hc0 hc), q_h_ne (q_new_ne har4 hc)]
    exact hs6 c e (by rw [q_h_ne (q_new_ne har4 hc), q_h_ne (q_new_ne hc0 hc)]; exact hc) hn
  have hp7 : h7 pr = some (.inr (9, [.ref txt, .int (nI j6)])) := by rw [hh pr (Ne.symm cpr), q_h_ne (Ne.symm apr)]; exact hz6.1
  refine hQ h7 hc00 (hs04.tr hs7) (hz.mv (hs04.tr hs7) hp7 hz6.2.2.2) (fun ρ' hρ => ⟨none, rfl, hρ c0 hc00, ar, _, hρ ar ha00, hc7, ha7, fun j hj => ?_, fun y z => by cases z⟩)
  have hj4 : j < 1 := hj
  rcases (by omega : j = 0) with rfl
  rfl
end ITEM
def p_items (cs : List Nat) : Nat → Nat → Except Nat (List PC × Nat)
  | 0, i => .error i
  | n + 1, i => if i < cs.length then (match p_take cs 59 59 i with
      | .error e => .error e
      | .ok (_, j) => match p_item cs j with
        | .error e => .error e
        | .ok (pc, j2) => match p_items cs n j2 with
          | .error e => .error e
          | .ok (pcs, j3) => .ok (pc :: pcs, j3)) else .ok ([], i)
def p_all (cs : List Nat) : Except Nat (List PC) := match p_item cs 0 with
  | .error e => .error e
  | .ok (pc, j) => match p_items cs (cs.length + 1) j with
    | .error e => .error e
    | .ok (pcs, _) => .ok (pc :: pcs)
section ITEMS
variable {G : GG} {h h' h0 : HH} {ρ ρ' : RO} {pr txt v N i : Nat} {cs : List Nat}
theorem t_c16 : ∀ c, c < 128 → (((Int32.toUInt32 (nI c)) % 65536).toInt32) = nI c := by
  have key : (List.range 128).all (fun c => decide ((((Int32.toUInt32 (Int32.ofNat c)) % 65536).toInt32) = Int32.ofNat c)) = true := by decide +kernel
  intro c hc
  exact of_decide_eq_true (List.all_eq_true.mp key c (List.mem_range.mpr hc))
theorem sp_X6_item {mc ms : Nat} {Q : Option Nat → HH → Prop} {X : String → Nat → HH → Prop} (hz : q_pz G h pr txt v N cs i) (hm : 30 ≤ mc) (hs : 160 ≤ ms)
    (hQ : ∀ pc j q h', p_item cs i = .ok (pc, j) → h q = none → q_sp (q_on pr) h h' → q_pz G h' pr txt v N cs j → (∀ ρ', q_ro0 h ρ' → q_chp G h' ρ' q pc) → Q (some q) h')
    (hX : ∀ e q h', p_item cs i = .error e → h q = none → q_sp (q_on pr) h h' → q_sx h' q e → X "MatchmakerRules$SyntaxException" q h') : wp_X6_item G mc ms h pr Q X := by
  unfold wp_X6_item
  refine w_geti_of hz.1 rfl ⟨1, 7, by omega, by omega, w_is_of hz.1 <| sp_X6_take (lo := 0) (hi := 127) hz (by decide) (by decide) (by omega) (by omega) (fun s j h1 e1 hs8 _ hs1 hz1 => ?_) (fun q h' e1 hq hs1 hsx => hX i q h' (by unfold p_item; rw [e1]) hq hs1 hsx)⟩
  rw [t_c16 s (by omega)]
  have sne : ∀ {a b : Nat}, a < 128 → b < 128 → (nI a = nI b ↔ a = b) := fun ha hb => nI_eq (by omega) (by omega)
  refine ⟨fun z => ?_, fun z => ⟨fun z2 => ?_, fun z2 => ⟨fun z3 => ?_, fun z3 => ⟨fun z4 => ?_, fun z4 => ⟨fun z5 => ?_, fun z5 => ?_⟩⟩⟩⟩⟩
  · have es : s = 43 := (sne (by omega) (by decide)).mp z
    refine ⟨10, 70, by omega, by omega, w_is_of hz1.1 <| sp_X6_fact hz1 (by omega) (by omega) (fun pc j2 q h2 e2 hq hs2 hz2 hc => hQ pc j2 q h2 ?_ (hz.nw hz1 hs1 hq) (hs1.tr hs2) hz2 (fun ρ' hρ => hc ρ' (fun c hc => hρ c (hz.nw hz1 hs1 hc)))) (fun e q h2 e2 hq hs2 hsx => hX e q h2 ?_ (hz.nw hz1 hs1 hq) (hs1.tr hs2) hsx)⟩
    · unfold p_item; rw [e1]; simp only; rw [if_pos es, e2]
    · unfold p_item; rw [e1]; simp only; rw [if_pos es, e2]
  · have es : s = 45 := (sne (by omega) (by decide)).mp z2
    refine ⟨by omega, by omega, fun c0 hc0 => ⟨by omega, by omega, fun ar har => ?_⟩⟩
    have hsn : q_sp q_no h1 (va_up (va_up h1 c0 (some (.inr (8, df_X5)))) ar (some (.inl (G.2.1 0, 1, .inl (fun _ => 0))))) := (q_sp.new hc0).tr (q_sp.new har)
    have hz5 := hz1.keep hsn
    refine ⟨3, 21, by omega, by omega, w_is_of hz5.1 <| sp_X6_number hz5 (by omega) (by omega) (fun n j6 h6 e6 hn9 hs6 hz6 => sp_X6_item1 hz hs1 hz1 hc0 har (by omega) hs6 hz6 (fun h' a1 a2 a3 a4 => hQ _ j6 c0 h' ?_ a1 a2 a3 a4)) (fun e q h' e6 hq hs6 hsx => hX e q h' ?_ (hz.nw hz1 hs1 (q_sp_none hsn hq)) (hs1.tr ((hsn.mono (fun _ z => z.elim)).tr hs6)) hsx)⟩
    · unfold p_item; rw [e1]; simp only; rw [if_neg (by omega), if_pos (Or.inl es), e6]
    · unfold p_item; rw [e1]; simp only; rw [if_neg (by omega), if_pos (Or.inl es), e6]
  · have es : s = 58 := (sne (by omega) (by decide)).mp z3
    refine ⟨by omega, by omega, fun c0 hc0 => ?_⟩
    have hsn : q_sp q_no h1 (va_up h1 c0 (some (.inr (8, df_X5)))) := q_sp.new hc0
    have hz5 := hz1.keep hsn
    have cpr : c0 ≠ pr := fun z => by rw [z, hz1.1] at hc0; cases hc0
    have hc00 := hz.nw hz1 hs1 hc0
    refine ⟨25, 140, by omega, by omega, w_is_of hz5.1 <| sp_X6_rule hz5 (by omega) (by omega) (fun r j6 q h6 e6 hq hs6 hz6 hrl => ⟨1, 0, by omega, by omega, ?_⟩) (fun e q h' e6 hq hs6 hsx => hX e q h' ?_ (hz.nw hz1 hs1 (q_sp_none hsn hq)) (hs1.tr ((hsn.mono (fun _ z => z.elim)).tr hs6)) hsx)⟩
    · refine sp_X5_init (hs6 c0 _ q_h_same cpr) (by omega) (fun h7 ar f har hh hc7 ha7 => ?_)
      have hs06 : q_sp (q_on pr) h1 h6 := (hsn.mono (fun _ z => z.elim)).tr hs6
      have har1 : h1 ar = none := q_sp_none hsn (hz5.nw hz6 hs6 har)
      have har0 := hz.nw hz1 hs1 har1
      have hs7 : q_sp (q_on pr) h1 h7 := fun c e hc hn => by
        rw [hh c (q_new_ne hc0 hc) (q_new_ne har1 hc)]
        exact hs06 c e hc hn
      have hp7 : h7 pr = some (.inr (9, [.ref txt, .int (nI j6)])) := by rw [hh pr (Ne.symm cpr) (q_new_ne har hz6.1)]; exact hz6.1
      have keep : ∀ {ρ' a x}, q_rl G h6 ρ' a x → (∃ fs, h6 a = some (.inr (12, fs))) → q_rl G h7 ρ' a x := by
        intro ρ' a x hx _
        have hcc : ∀ {c : Nat} {e : va_E}, h6 c = some e → c ≠ c0 → h7 c = some e := fun hc h1 => by rw [hh _ h1 (q_new_ne har hc)]; exact hc
        have hc6 := hs6 c0 _ q_h_same cpr
        have hcn : ∀ {c : Nat} {n : Nat} {fs : List Value}, n ≠ 8 → h6 c = some (.inr (n, fs)) → c ≠ c0 := fun hn hc z => by
          rw [z, hc6] at hc
          simp only [Option.some.injEq, Sum.inr.injEq, Prod.mk.injEq] at hc
          exact hn hc.1.symm
        have hpt : ∀ {a k0 t0 t1}, q_pt G h6 ρ' a k0 t0 t1 → q_pt G h7 ρ' a k0 t0 t1 := by
          intro a k0 t0 t1 hp
          obtain ⟨b1, b2, b, f, b3, b4, b5, b6⟩ := hp
          exact ⟨b1, b2, b, f, b3, hcc b4 (hcn (by decide) b4), hcc b5 (fun z => by rw [z, hc6] at b5; cases b5), b6⟩
        obtain ⟨b1, b2, b3, p1, p2, p3, b4, b5, b6, b7, b8⟩ := hx
        refine ⟨b1, b2, b3, p1, p2, p3, hcc b4 (hcn (by decide) b4), hpt b5, b6, fun z => ?_, hpt b8⟩
        obtain ⟨p, c1, c2⟩ := b7 z
        exact ⟨p, c1, hpt c2⟩
      refine hQ (58, [], some r) j6 c0 h7 ?_ hc00 (hs1.tr hs7) (hz.mv (hs1.tr hs7) hp7 hz6.2.2.2) (fun ρ' hρ => ⟨some (q, r), rfl, hρ c0 hc00, ar, f, hρ ar har0, hc7, ha7, fun j hj => absurd hj (Nat.not_lt_zero _), fun y z => ?_⟩)
      · unfold p_item; rw [e1]; simp only; rw [if_neg (by omega), if_neg (by omega), if_pos es, e6]
      · cases z
        have hr6 := hrl ρ' (fun c hc => hρ c (hz.nw hz1 hs1 (q_sp_none hsn hc)))
        exact keep hr6 hr6.ob
    · unfold p_item; rw [e1]; simp only; rw [if_neg (by omega), if_neg (by omega), if_pos es, e6]
  · have es : s = 102 := (sne (by omega) (by decide)).mp z4
    refine ⟨by omega, by omega, fun c0 hc0 => ⟨by omega, by omega, fun ar har => ?_⟩⟩
    have hsn : q_sp q_no h1 (va_up (va_up h1 c0 (some (.inr (8, df_X5)))) ar (some (.inl (G.2.1 0, 1, .inl (fun _ => 0))))) := (q_sp.new hc0).tr (q_sp.new har)
    have hz5 := hz1.keep hsn
    refine ⟨3, 21, by omega, by omega, w_is_of hz5.1 <| sp_X6_number hz5 (by omega) (by omega) (fun n j6 h6 e6 hn9 hs6 hz6 => sp_X6_item1 hz hs1 hz1 hc0 har (by omega) hs6 hz6 (fun h' a1 a2 a3 a4 => hQ _ j6 c0 h' ?_ a1 a2 a3 a4)) (fun e q h' e6 hq hs6 hsx => hX e q h' ?_ (hz.nw hz1 hs1 (q_sp_none hsn hq)) (hs1.tr ((hsn.mono (fun _ z => z.elim)).tr hs6)) hsx)⟩
    · unfold p_item; rw [e1]; simp only; rw [if_neg (by omega), if_pos (Or.inr es), e6]
    · unfold p_item; rw [e1]; simp only; rw [if_neg (by omega), if_pos (Or.inr es), e6]
  · have es : s = 120 := (sne (by omega) (by decide)).mp z5
    refine ⟨by omega, by omega, fun c0 hc0 => ⟨by omega, by omega, fun ar har => ?_⟩⟩
    have hsn : q_sp q_no h1 (va_up (va_up h1 c0 (some (.inr (8, df_X5)))) ar (some (.inl (G.2.1 0, 1, .inl (fun _ => 0))))) := (q_sp.new hc0).tr (q_sp.new har)
    have hz5 := hz1.keep hsn
    refine ⟨1, 7, by omega, by omega, w_is_of hz5.1 <| sp_X6_digit hz5 (by omega) (by omega) (fun n j6 h6 e6 hn9 hs6 hz6 => sp_X6_item1 hz hs1 hz1 hc0 har (by omega) hs6 hz6 (fun h' a1 a2 a3 a4 => hQ _ j6 c0 h' ?_ a1 a2 a3 a4)) (fun q h' e6 hq hs6 hsx => hX j q h' ?_ (hz.nw hz1 hs1 (q_sp_none hsn hq)) (hs1.tr ((hsn.mono (fun _ z => z.elim)).tr hs6)) hsx)⟩
    · unfold p_item; rw [e1]; simp only; rw [if_neg (by omega), if_neg (by omega), if_neg (by omega), if_pos es, e6]; simp only [es]
    · unfold p_item; rw [e1]; simp only; rw [if_neg (by omega), if_neg (by omega), if_neg (by omega), if_pos es, e6]
  · have n1 : ¬ s = 43 := fun q => z (by rw [q]; rfl)
    have n2 : ¬ s = 45 := fun q => z2 (by rw [q]; rfl)
    have n3 : ¬ s = 58 := fun q => z3 (by rw [q]; rfl)
    have n4 : ¬ s = 102 := fun q => z4 (by rw [q]; rfl)
    have n5 : ¬ s = 120 := fun q => z5 (by rw [q]; rfl)
    refine ⟨by omega, by omega, fun a ha => sp_X7_init (p := i) q_h_same (fun h' hh hq => ?_)⟩
    obtain ⟨v0, v1, v2, v3, v4, v5, e⟩ := id hq
    refine w_is_of e (hX i a h' ?_ (hz.nw hz1 hs1 ha) (hs1.tr (fun c e hc _ => by rw [hh c (q_new_ne ha hc), q_h_ne (q_new_ne ha hc)]; exact hc)) hq)
    unfold p_item; rw [e1]; simp only; rw [if_neg n1, if_neg (fun z => z.elim n2 n4), if_neg n3, if_neg n5]
theorem p_items_le : ∀ (n i j : Nat) (pcs : List PC), p_items cs n i = .ok (pcs, j) → pcs.length ≤ n := by
  intro n
  induction n with
  | zero => intro i j pcs h; cases h
  | succ n ih =>
    intro i j pcs h
    unfold p_items at h
    split at h
    · cases e1 : p_take cs 59 59 i with
      | error e => rw [e1] at h; cases h
      | ok z =>
        obtain ⟨n1, j1⟩ := z
        rw [e1] at h
        simp only at h
        cases e2 : p_item cs j1 with
        | error e => rw [e2] at h; cases h
        | ok z =>
          obtain ⟨pc, j2⟩ := z
          rw [e2] at h
          simp only at h
          cases e3 : p_items cs n j2 with
          | error e => rw [e3] at h; cases h
          | ok z =>
            obtain ⟨pcs', j3⟩ := z
            rw [e3] at h
            simp only at h
            cases h
            have := ih _ _ _ e3
            simp only [List.length_cons]
            omega
    · cases h
      exact Nat.zero_le _
theorem q_ch.sp {S : Nat → Prop} {a sg : Nat} {ns : List Int32} {ro : Option (Nat × (Nat → Nat))} (q : q_ch G h ρ a sg ns ro) (he : q_ex h ρ ρ') (hs : q_sp S h h') (hS : ∀ c, ρ c = (0, 0) → ¬ S c) : q_ch G h' ρ' a sg ns ro := by
  have pt : ∀ {a k0 t0 t1}, q_pt G h ρ a k0 t0 t1 → q_pt G h' ρ' a k0 t0 t1 := by
    intro a k0 t0 t1 hp
    obtain ⟨b1, b2, b, f, b3, b4, b5, b6⟩ := hp
    exact ⟨by rw [he _ _ b4]; exact b1, b2, b, f, by rw [he _ _ b5]; exact b3, hs _ _ b4 (hS _ b1), hs _ _ b5 (hS _ b3), b6⟩
  obtain ⟨h1, arr, f, h2, h3, h4, h5, h6⟩ := q
  refine ⟨by rw [he _ _ h3]; exact h1, arr, f, by rw [he _ _ h4]; exact h2, hs _ _ h3 (hS _ h1), hs _ _ h4 (hS _ h2), h5, fun y hy => ?_⟩
  obtain ⟨b1, b2, b3, p1, p2, p3, b4, b5, b6, b7, b8⟩ := h6 y hy
  refine ⟨by rw [he _ _ b4]; exact b1, b2, b3, p1, p2, p3, hs _ _ b4 (hS _ b1), pt b5, b6, fun z => ?_, pt b8⟩
  obtain ⟨p, c1, c2⟩ := b7 z
  exact ⟨p, c1, pt c2⟩
theorem q_ch.ob {a sg : Nat} {ns : List Int32} {ro : Option (Nat × (Nat → Nat))} (q : q_ch G h ρ a sg ns ro) : ∃ fs, h a = some (.inr (8, fs)) := by
  obtain ⟨-, arr, f, -, h3, -⟩ := q
  exact ⟨_, h3⟩
/-- a list of changes: their rules are new for the base, and no two are one -/
def q_chs (G : GG) (hb h : HH) (ρ : RO) (l : Nat) (pcs : List PC) : Prop := ∃ xs, ∃ ros : List (Option (Nat × (Nat → Nat))), q_ls G h ρ (2, 0) l xs ∧ xs.length = pcs.length ∧ ros.map (Option.map Prod.snd) = pcs.map (fun p => p.2.2) ∧
  (∀ (i x1 : Nat) (pc : PC) (ro : Option (Nat × (Nat → Nat))), xs[i]? = some x1 → pcs[i]? = some pc → ros[i]? = some ro → q_ch G h ρ x1 pc.1 (pc.2.1.map nI) ro) ∧
  (∀ (i : Nat) (y : Nat × (Nat → Nat)), ros[i]? = some (some y) → hb y.1 = none) ∧ ∀ (i j : Nat) (y z : Nat × (Nat → Nat)), ros[i]? = some (some y) → ros[j]? = some (some z) → y.1 = z.1 → i = j
theorem q_ch_new {h1 h2 : HH} {ρ2 : RO} {q sg : Nat} {ns : List Int32} {pc : PC} {y : Nat × (Nat → Nat)} (hc : ∀ ρ', q_ro0 h1 ρ' → q_chp G h2 ρ' q pc) (h : q_ch G h2 ρ2 q sg ns (some y)) : h1 y.1 = none := by
  obtain ⟨ro2, -, e⟩ := hc (fun c => if (h1 c).isNone then (0, 0) else (1, 1)) (fun c hc => by dsimp only; rw [hc]; rfl)
  obtain ⟨-, arr, f, -, h3, -, -, h6⟩ := e
  obtain ⟨-, arr2, f2, -, h3', -⟩ := h
  have e0 := Option.some.inj (h3.symm.trans h3')
  have e1 : va_rf (ro2.map Prod.fst) = Value.ref y.1 := congrArg (fun e : va_E => match e with | .inr (_, fs) => fs.getD 2 .null | _ => .null) e0
  cases ro2 with
  | none => cases e1
  | some y2 =>
    have h9 : y2.1 = y.1 := Value.ref.inj e1
    have := (h6 y2 rfl).1
    rw [h9] at this
    dsimp only at this
    cases e : h1 y.1 with
    | none => rfl
    | some v9 =>
      rw [e] at this
      cases this
theorem q_add1 {l q mc ms i1 : Nat} {pc : PC} {pcs : List PC} {h1 h2 : HH} {ρ1 : RO} {j : Nat} {Q : Int32 → HH → Prop} (hz : q_pz G h pr txt v N cs i) (hρ2 : ∀ c e, h c = some e → (ρ c).1 ≠ 2)
    (hz2 : q_pz G h2 pr txt v N cs j) (hl : q_chs G h h1 ρ1 l pcs) (hln : h l = none) (hp1 : ρ1 pr = ρ pr) (hz1 : q_pz G h1 pr txt v N cs i1) (hs02 : q_sp (q_on pr) h h1) (he : q_ex h ρ ρ1) (hs2 : q_sp (q_on pr) h1 h2) (hc : ∀ ρ', q_ro0 h1 ρ' → q_chp G h2 ρ' q pc) (hq1 : h1 q = none) (hm : 1 ≤ mc) (hs : 2 * pcs.length + 10 ≤ ms) (hn : pcs.length < 4000)
    (hQ : ∀ h' ρ', q_sp (q_on pr) h h' → q_ex h ρ ρ' → q_pz G h' pr txt v N cs j → q_chs G h h' ρ' l (pcs ++ [pc]) → ρ' pr = ρ pr → Q 1 h') : wp_J2_add G mc ms h2 l (some q) Q := by
  obtain ⟨xs, ros, hls, hlen, hros, hch, hnew, hdis⟩ := hl
  have hrl : ros.length = pcs.length := by have := congrArg List.length hros; rw [List.length_map, List.length_map] at this; exact this
  obtain ⟨fsl, hlo⟩ := hls.ob
  have hlr := hls.1
  have hprn : ∀ {a : Nat} {n : Nat} {fs : List Value}, n ≠ 9 → h1 a = some (.inr (n, fs)) → a ≠ pr := fun hn ha z => by
    rw [z, hz1.1] at ha
    simp only [Option.some.injEq, Sum.inr.injEq, Prod.mk.injEq] at ha
    exact hn ha.1.symm
  -- roles for the new
  have hex1 : q_ex h1 ρ1 (q_rn h1 ρ1) := q_rn_ex
  have hcq := hc (q_rn h1 ρ1) (fun c hc => q_rn_new hc)
  obtain ⟨roq, hroq, hchq⟩ := hcq
  obtain ⟨fsq, hqo⟩ := hchq.ob
  have hls2 : q_ls G h2 (q_rn h1 ρ1) (2, 0) l xs := hls.fr (W := fun r => r = ρ pr) hex1 (fun c e hc hW => hs2 c e hc (fun z => hW (by rw [show c = pr from z]; exact hp1))) (fun z => hρ2 _ _ hz.1 (by rw [← z])) (fun z => hρ2 _ _ hz.1 (by rw [← z]))
  have elem : ∀ {a sg : Nat} {ns : List Int32} {ro : Option (Nat × (Nat → Nat))}, q_ch G h1 ρ1 a sg ns ro → q_ch G h2 (q_rn h1 ρ1) a sg ns ro := by
    intro a sg ns ro e2
    -- what is immutable isn't the parser
    have on : ∀ {a k0 t0 t1}, q_pt G h1 ρ1 a k0 t0 t1 → q_pt G h2 (q_rn h1 ρ1) a k0 t0 t1 := by
      intro a k0 t0 t1 hp
      have := hp.on hz1.1 hs2
      obtain ⟨b1, b2, b, f, b3, b4, b5, b6⟩ := hp
      obtain ⟨c1, c2, b', f', c3, c4, c5, c6⟩ := this
      have bb : b = b' := by
        have := hs2 a _ b4 (hprn (by decide) b4)
        rw [this] at c4
        cases c4
        rfl
      subst bb
      exact ⟨by rw [hex1 _ _ b4]; exact b1, c2, b, f', by rw [hex1 _ _ b5]; exact b3, c4, c5, c6⟩
    obtain ⟨h1', arr, f, h2', h3, h4, h5, h6⟩ := e2
    refine ⟨by rw [hex1 _ _ h3]; exact h1', arr, f, by rw [hex1 _ _ h4]; exact h2', hs2 _ _ h3 (hprn (by decide) h3), hs2 _ _ h4 (fun z => by rw [show arr = pr from z, hz1.1] at h4; cases h4), h5, fun y hy => ?_⟩
    obtain ⟨b1, b2, b3, p1, p2, p3, b4, b5, b6, b7, b8⟩ := h6 y hy
    refine ⟨by rw [hex1 _ _ b4]; exact b1, b2, b3, p1, p2, p3, hs2 _ _ b4 (hprn (by decide) b4), on b5, b6, fun z => ?_, on b8⟩
    obtain ⟨p, c1, c2⟩ := b7 z
    exact ⟨p, c1, on c2⟩
  refine sp_J2_add hls2 ⟨_, hqo, Or.inl ⟨8, fsq, by decide, rfl⟩⟩ (fun y hy => ?_) hm (by omega) (by omega) (fun h3 ρ3 hdm3 hex3 hfr3 hls3 => ?_)
  · obtain ⟨i', hi'⟩ := List.getElem?_of_mem hy
    have hi2 := (List.getElem?_eq_some_iff.mp hi').1
    obtain ⟨fs, e3⟩ := (elem (hch i' y _ _ hi' (List.getElem?_eq_getElem (show i' < pcs.length by omega)) (List.getElem?_eq_getElem (show i' < ros.length by omega)))).ob
    exact ⟨_, e3, Or.inl ⟨8, fs, by decide, rfl⟩⟩
  · have hs03 : q_sp (q_on pr) h h3 := fun c e hc hn => by
      have hc1 := hs02 c e hc hn
      have hc2 := hs2 c e hc1 hn
      refine hfr3 c e hc2 (fun z => ?_)
      rw [hex1 c e hc1, he c e hc] at z
      exact hρ2 c e hc (by rcases z with z | z <;> rw [z])
    have he03 : q_ex h ρ ρ3 := fun c e hc => by
      by_cases z : c = pr
      · rw [z, hex3 pr _ hz2.1, hex1 pr _ hz1.1]
        exact hp1
      · have hc1 := hs02 c e hc z
        rw [hex3 c e (hs2 c e hc1 z), hex1 c e hc1, he c e hc]
    have hpr3 : h3 pr = some (.inr (9, [.ref txt, .int (nI j)])) := hfr3 pr _ hz2.1 (fun z => by
      rw [hex1 pr _ hz1.1, hp1] at z
      exact hρ2 pr _ hz.1 (by rcases z with z | z <;> rw [z]))
    have keep : ∀ {a sg : Nat} {ns : List Int32} {ro : Option (Nat × (Nat → Nat))}, q_ch G h2 (q_rn h1 ρ1) a sg ns ro → q_ch G h3 ρ3 a sg ns ro := by
      intro a sg ns ro e2
      exact e2.sp (S := fun c => (q_rn h1 ρ1) c = (2, 0) ∨ (q_rn h1 ρ1) c = (2, 1)) hex3 (fun c e hc hS => hfr3 c e hc hS) (fun c hc z => by rw [hc] at z; rcases z with z | z <;> cases z)
    have hxl : ∀ {i' : Nat} {v : Option (Nat × (Nat → Nat))}, (ros ++ [roq])[i']? = some v → (i' < ros.length ∧ ros[i']? = some v) ∨ (i' = ros.length ∧ v = roq) := by
      intro i' v hv
      rcases Nat.lt_or_ge i' ros.length with z | z
      · rw [List.getElem?_append_left z] at hv
        exact Or.inl ⟨z, hv⟩
      · rw [List.getElem?_append_right z] at hv
        have e0 : i' - ros.length = 0 := by
          have := (List.getElem?_eq_some_iff.mp hv).1
          simp only [List.length_singleton] at this
          omega
        rw [e0] at hv
        exact Or.inr ⟨by omega, by cases hv; rfl⟩
    have hfresh : ∀ y, roq = some y → h1 y.1 = none := fun y hy => by
      rw [hy] at hchq
      exact q_ch_new hc hchq
    have hold : ∀ {i' : Nat} {y : Nat × (Nat → Nat)}, i' < ros.length → ros[i']? = some (some y) → h1 y.1 ≠ none := by
      intro i' y hi hy
      have := hch i' _ _ _ (List.getElem?_eq_getElem (show i' < xs.length by omega)) (List.getElem?_eq_getElem (show i' < pcs.length by omega)) hy
      obtain ⟨-, arr, f, -, -, -, -, h6⟩ := this
      obtain ⟨fs, e⟩ := (h6 y rfl).ob
      rw [e]
      exact fun z => by cases z
    refine hQ h3 ρ3 hs03 he03 (hz.mv hs03 hpr3 hz2.2.2.2) ⟨xs ++ [q], ros ++ [roq], hls3, by simp [hlen], by rw [List.map_append, List.map_append, hros]; simp [hroq], fun i' x1 pc' ro hx hp hro => ?_, fun i' y hy => ?_, fun i' j' y z hy hz e => ?_⟩ (by rw [hex3 pr _ hz2.1, hex1 pr _ hz1.1]; exact hp1)
    · rcases hxl hro with ⟨z, hro'⟩ | ⟨z, rfl⟩
      · rw [List.getElem?_append_left (by omega)] at hx hp
        exact keep (elem (hch i' x1 pc' ro hx hp hro'))
      · rw [List.getElem?_append_right (by omega), show i' - xs.length = 0 by omega] at hx
        rw [List.getElem?_append_right (by omega), show i' - pcs.length = 0 by omega] at hp
        cases hx
        cases hp
        exact keep hchq
    · rcases hxl hy with ⟨z, hy'⟩ | ⟨z, hy'⟩
      · exact hnew i' y hy'
      · have := hfresh y hy'.symm
        by_cases q9 : y.1 = pr
        · rw [q9, hz1.1] at this; cases this
        · cases e9 : h y.1 with
          | none => rfl
          | some v9 => rw [hs02 _ _ e9 q9] at this; cases this
    · rcases hxl hy with ⟨z1, hy'⟩ | ⟨z1, hy'⟩
      · rcases hxl hz with ⟨z2, hz'⟩ | ⟨z2, hz'⟩
        · exact hdis i' j' y z hy' hz' e
        · exact absurd (by rw [e]; exact hfresh z hz'.symm) (hold z1 hy')
      · rcases hxl hz with ⟨z2, hz'⟩ | ⟨z2, hz'⟩
        · exact absurd (by rw [← e]; exact hfresh y hy'.symm) (hold z2 hz')
        · omega
end ITEMS
section ITEMS2
variable {G : GG} {h h' h0 : HH} {ρ ρ' : RO} {pr txt v N i : Nat} {cs : List Nat}
theorem p_take_mo {lo hi n j : Nat} (h : p_take cs lo hi i = .ok (n, j)) : i < j := by
  have := (p_take_ok h).2.2.1
  omega
theorem p_num_mo {n j : Nat} (h : p_num cs i = .ok (n, j)) : i < j := by
  unfold p_num at h
  split at h
  · cases h
  · rename_i n1 j1 e1
    have := p_take_mo e1
    split at h
    · split at h <;> cases h <;> omega
    · cases h; omega
theorem p_kind_mo {n j : Nat} (h : p_kind cs i = .ok (n, j)) : i < j := by
  unfold p_kind at h
  split at h
  · cases h
  · rename_i n1 j1 e1
    have := p_take_mo e1
    cases h
    exact this
theorem p_term_mo {vs n j : Nat} (h : p_term cs vs i = .ok (n, j)) : i < j := by
  unfold p_term at h
  split at h
  · split at h
    · cases h
    · cases h; omega
  · exact p_take_mo h
theorem p_pat_mo {vs j : Nat} {a : Nat × Nat × Nat} (h : p_pat cs vs i = .ok (a, j)) : i < j := by
  unfold p_pat at h
  split at h
  · cases h
  · rename_i n1 j1 e1
    have := p_kind_mo e1
    split at h
    · cases h
    · rename_i n2 j2 e2
      have := p_term_mo e2
      split at h
      · cases h
      · rename_i n3 j3 e3
        have := p_term_mo e3
        cases h
        omega
theorem p_tail_mo {vs j : Nat} {a : (Nat × Nat × Nat) × Nat} (h : p_tail cs vs i = .ok (a, j)) : i < j := by
  unfold p_tail at h
  split at h
  · cases h
  · rename_i n1 j1 e1
    have := p_take_mo e1
    split at h
    · cases h
    · rename_i n2 j2 e2
      have := p_pat_mo e2
      split at h
      · cases h
      · rename_i n3 j3 e3
        have := p_take_mo e3
        split at h
        · cases h
        · rename_i n4 j4 e4
          have := p_take_mo e4
          cases h
          omega
theorem p_mid_mo {j : Nat} {a : Nat × Nat × Nat} {b : Nat × (Nat × Nat × Nat) × Nat} (h : p_mid cs a i = .ok (b, j)) : i ≤ j := by
  unfold p_mid at h
  split at h
  · split at h
    · cases h
    · rename_i n2 j2 e2
      have := p_pat_mo e2
      cases h
      omega
  · split at h
    · cases h; omega
    · split at h
      · cases h
      · rename_i n2 j2 e2
        have := p_pat_mo e2
        cases h
        omega
theorem p_rule_mo {j : Nat} {r : Nat → Nat} (h : p_rule cs i = .ok (r, j)) : i < j := by
  unfold p_rule at h
  split at h
  · cases h
  · rename_i n1 j1 e1
    have := p_pat_mo e1
    split at h
    · cases h
    · rename_i so b vs j2 e2
      have := p_mid_mo e2
      split at h
      · cases h
      · rename_i c w j3 e3
        have := p_tail_mo e3
        cases h
        omega
theorem p_fact_mo {j : Nat} {pc : PC} (h : p_fact cs i = .ok (pc, j)) : i < j := by
  unfold p_fact at h
  split at h
  · cases h
  · rename_i n1 j1 e1
    have := p_kind_mo e1
    split at h
    · cases h
    · rename_i n2 j2 e2
      have := p_take_mo e2
      split at h
      · cases h
      · rename_i n3 j3 e3
        have := p_take_mo e3
        split at h
        · cases h
        · rename_i n4 j4 e4
          have := p_take_mo e4
          split at h
          · cases h
          · rename_i n5 j5 e5
            have := p_num_mo e5
            cases h
            omega
theorem p_item_mo {j : Nat} {pc : PC} (h : p_item cs i = .ok (pc, j)) : i < j := by
  unfold p_item at h
  split at h
  · cases h
  · rename_i s j1 e1
    have := p_take_mo e1
    split at h
    · have := p_fact_mo h
      omega
    · split at h
      · split at h
        · cases h
        · rename_i n2 j2 e2
          have := p_num_mo e2
          cases h
          omega
      · split at h
        · split at h
          · cases h
          · rename_i n2 j2 e2
            have := p_rule_mo e2
            cases h
            omega
        · split at h
          · split at h
            · cases h
            · rename_i n2 j2 e2
              have := p_take_mo e2
              cases h
              omega
          · cases h
theorem sp_X6_items_L17 {l mc ms : Nat} {Q : Option Nat → HH → Prop} {X : String → Nat → HH → Prop} (hz : q_pz G h pr txt v N cs i) (hρ2 : ∀ c e, h c = some e → (ρ c).1 ≠ 2) (hln : h l = none) (hm : 1000 ≤ mc) (hs : 8100 ≤ ms) :
    ∀ (n : Nat) (pcs0 : List PC) (j nc nk : Nat) (h1 : HH) (ρ1 : RO), cs.length < j + n → 2 * pcs0.length ≤ j + 1 → nc ≤ 1 + 32 * pcs0.length → nk ≤ 3 + 257 * pcs0.length → q_pz G h1 pr txt v N cs j → q_chs G h h1 ρ1 l pcs0 → q_sp (q_on pr) h h1 → q_ex h ρ ρ1 → ρ1 pr = ρ pr →
      (∀ pcs j' h' ρ', p_items cs n j = .ok (pcs, j') → (pcs0 ++ pcs).length ≤ 30 → q_sp (q_on pr) h h' → q_ex h ρ ρ' → q_chs G h h' ρ' l (pcs0 ++ pcs) → Q (some l) h') →
      (∀ e q h', p_items cs n j = .error e → h q = none → q_sp (q_on pr) h h' → q_sx h' q e → X "MatchmakerRules$SyntaxException" q h') → wp_X6_items_L17 G mc ms pr Q X n h1 nc nk l := by
  intro n
  induction n with
  | zero =>
    intro pcs0 j nc nk h1 ρ1 hj _ _ _ hz1
    have := hz1.2.2.2
    omega
  | succ n ih =>
    intro pcs0 j nc nk h1 ρ1 hj hk hnc hnk hz1 hl hs1 he1 hp1 hQ hX
    have hj60 := hz1.2.2.2
    have h60 := hz1.2.2.1
    obtain ⟨ml, hbo⟩ := hz1.2.1.1
    unfold wp_X6_items_L17
    refine w_geti_of hz1.1 rfl <| w_geta_of hz1.1 rfl <| w_nn_of <| w_is_of hbo <| sp_J5_length hz1.2.1 ⟨fun z => ?_, fun z => ?_⟩
    · have : ¬ j < cs.length := fun q => nI_ge q (by omega) z
      refine hQ [] j h1 ρ1 (by unfold p_items; rw [if_neg this]) (by rw [List.append_nil]; omega) hs1 he1 (by rw [List.append_nil]; exact hl)
    · have hjl : j < cs.length := by
        rcases Nat.lt_or_ge j cs.length with q | q
        · exact q
        · exact absurd (nI_le q (by omega)) z
      refine ⟨1, 7, by omega, by omega, w_is_of hz1.1 <| sp_X6_take (lo := 59) (hi := 59) hz1 (by decide) (by decide) (by omega) (by omega) (fun n3 j3 h3 e3 _ _ hs3 hz3 => ?_) (fun q h' e3 hq hs3 hsx => hX j q h' (by unfold p_items; rw [if_pos hjl, e3]) (hz.nw hz1 hs1 hq) (hs1.tr hs3) hsx)⟩
      have hs13 := hs1.tr hs3
      have m3 := p_take_mo e3
      refine ⟨30, 160, by omega, by omega, w_is_of hz3.1 <| sp_X6_item hz3 (by omega) (by omega) (fun pc j4 q h4 e4 hq hs4 hz4 hc => ?_) (fun e q h' e4 hq hs4 hsx => hX e q h' (by unfold p_items; rw [if_pos hjl, e3]; simp only; rw [e4]) (hz.nw hz3 hs13 hq) (hs13.tr hs4) hsx)⟩
      have m4 := p_item_mo e4
      have hj4 := hz4.2.2.2
      obtain ⟨xs, ros, hls, -⟩ := id hl
      obtain ⟨fsl, hlo⟩ := hls.ob
      have hlpr : l ≠ pr := fun z => by
        rw [z, hz1.1] at hlo
        simp only [Option.some.injEq, Sum.inr.injEq, Prod.mk.injEq] at hlo
        exact absurd hlo.1 (by decide)
      have hlo4 := hs4 _ _ (hs3 _ _ hlo hlpr) hlpr
      have hq1 := hz1.nw hz3 hs3 hq
      refine ⟨1, 2 * pcs0.length + 10, by omega, by omega, w_is_of hlo4 <| q_add1 (h1 := h1) (ρ1 := ρ1) (i := i) (i1 := j) hz hρ2 hz4 hl hln hp1 hz1 hs1 he1 (hs3.tr hs4) (fun ρ' hρ => hc ρ' (fun c hc => hρ c (hz1.nw hz3 hs3 hc))) hq1 (by omega) (by omega) (by omega) (fun h5 ρ5 hs5 he5 hz5 hl5 hp5 => ?_)⟩
      refine ih (pcs0 ++ [pc]) j4 _ _ h5 ρ5 (by omega) (by rw [List.length_append, List.length_singleton]; omega) (by rw [List.length_append, List.length_singleton]; omega) (by rw [List.length_append, List.length_singleton]; omega) hz5 hl5 hs5 he5 hp5 (fun pcs j' h' ρ' e6 hle a1 a2 a3 => hQ (pc :: pcs) j' h' ρ' (by unfold p_items; rw [if_pos hjl, e3]; simp only; rw [e4]; simp only; rw [e6]) (by rw [List.append_cons]; exact hle) a1 a2 (by rw [List.append_cons]; exact a3)) (fun e q h' e6 a1 a2 a3 => hX e q h' (by unfold p_items; rw [if_pos hjl, e3]; simp only; rw [e4]; simp only; rw [e6]) a1 a2 a3)
theorem sp_X6_items {mc ms : Nat} {Q : Option Nat → HH → Prop} {X : String → Nat → HH → Prop} (hz : q_pz G h pr txt v N cs 0) (hρ2 : ∀ c e, h c = some e → (ρ c).1 ≠ 2) (hm : 1100 ≤ mc) (hs : 8400 ≤ ms)
    (hQ : ∀ pcs l h' ρ', p_all cs = .ok pcs → pcs.length ≤ 30 → h l = none → q_sp (q_on pr) h h' → q_ex h ρ ρ' → q_chs G h h' ρ' l pcs → Q (some l) h')
    (hX : ∀ e q h', p_all cs = .error e → h q = none → q_sp (q_on pr) h h' → q_sx h' q e → X "MatchmakerRules$SyntaxException" q h') : wp_X6_items G mc ms h pr Q X := by
  unfold wp_X6_items
  refine ⟨by omega, by omega, fun l hl => sp_J2_init q_h_same ?_⟩
  rw [q_h_up]
  have hsn : q_sp q_no h (va_up h l (some (.inr (4, [.int 0, .ref (G.2.2 0), .int 0])))) := q_sp.new hl
  have hz1 := hz.keep hsn
  have hs1 : q_sp (q_on pr) h (va_up h l (some (.inr (4, [.int 0, .ref (G.2.2 0), .int 0])))) := hsn.mono (fun _ z => z.elim)
  have lpr : l ≠ pr := fun z => by rw [z, hz.1] at hl; cases hl
  have hl1 : q_chs G h (va_up h l (some (.inr (4, [.int 0, .ref (G.2.2 0), .int 0])))) (q_up ρ l (2, 0)) l [] := ⟨[], [], ⟨q_up_same, by decide, 0, G.2.2 0, q_h_same, Or.inl ⟨rfl, rfl⟩⟩, rfl, rfl, fun i x1 pc ro hx _ _ => (by cases hx), fun i y hy => (by cases hy), fun i j y z hy _ _ => (by cases hy)⟩
  refine ⟨30, 160, by omega, by omega, w_is_of hz1.1 <| sp_X6_item hz1 (by omega) (by omega) (fun pc j q h4 e4 hq hs4 hz4 hc => ?_) (fun e q h' e4 hq hs4 hsx => hX e q h' (by unfold p_all; rw [e4]) (q_sp_none hsn hq) (hs1.tr hs4) hsx)⟩
  have hlo4 := hs4 l _ q_h_same lpr
  refine ⟨1, 10, by omega, by omega, w_is_of hlo4 <| q_add1 (pcs := []) hz hρ2 hz4 hl1 hl (q_up_ne (Ne.symm lpr)) hz1 hs1 (q_ex_up hl) hs4 hc hq (by omega) (Nat.le_refl _) (by decide) (fun h5 ρ5 hs5 he5 hz5 hl5 hp5 => ?_)⟩
  have m4 := p_item_mo e4
  have hj4 := hz4.2.2.2
  have hl60 := hz4.2.2.1
  refine ⟨cs.length + 1, sp_X6_items_L17 (l := l) hz hρ2 hl (by omega) (by omega) (cs.length + 1) [pc] j _ _ h5 ρ5 (by omega) (by simp only [List.length_singleton]; omega) (by simp only [List.length_singleton]; omega) (by simp only [List.length_singleton]; omega) hz5 hl5 hs5 he5 hp5 (fun pcs j' h' ρ' e6 hle a1 a2 a3 => hQ (pc :: pcs) l h' ρ' (by unfold p_all; rw [e4]; simp only; rw [e6]) hle hl a1 a2 a3) (fun e q h' e6 a1 a2 a3 => hX e q h' (by unfold p_all; rw [e4]; simp only; rw [e6]) a1 a2 a3)⟩
end ITEMS2
