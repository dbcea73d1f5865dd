set_option maxRecDepth 100000
/-! the input -/
def t_inp (S : TS) (cs : List Nat) : TS := (S.1, S.2.1, S.2.2.1, S.2.2.2.1, cs, S.2.2.2.2.2)
def a_byte (p s : Int32) : Int32 := (((Int32.toUInt32 p) >>> ((Int32.toUInt32 s) &&& Int32.toUInt32 31)).toInt32) &&& (255 : Int32)
def a_cN (p s : Int32) : Nat := (a_byte p s).toNatClampNeg
def a_cs (p : Int32) : List Nat := [a_cN p 24, a_cN p 16, a_cN p 8, a_cN p 0]
def a_new (p : Int32) : List Nat := (a_cs p).filter (fun c => c != 0)
def a_ok (p : Int32) : Prop := ∀ c ∈ a_cs p, c = 0 ∨ (32 ≤ c ∧ c ≤ 126)
def o_append (inp : List Nat) (p : Int32) (k : Nat) (r : Int32) (inp' : List Nat) : Prop := (k = 1 ∧ ¬ a_ok p) ∨ (k = 2 ∧ a_ok p ∧ 60 < inp.length + (a_new p).length) ∨ (k = 0 ∧ a_ok p ∧ inp.length + (a_new p).length ≤ 60 ∧ inp' = inp ++ a_new p ∧ r = nI inp'.length)
theorem a_and (y : Int32) : ∃ n, n < 256 ∧ y &&& (255 : Int32) = nI n := by
  refine ⟨y.toBitVec.toNat &&& 255, Nat.lt_of_le_of_lt Nat.and_le_right (by decide), ?_⟩
  apply Int32.toBitVec_inj.mp
  rw [Int32.toBitVec_and]
  apply BitVec.eq_of_toNat_eq
  rw [BitVec.toNat_and]
  have h1 : (Int32.toBitVec 255).toNat = 255 := by decide
  have h2 : y.toBitVec.toNat &&& 255 < 256 := Nat.lt_of_le_of_lt Nat.and_le_right (by decide)
  rw [h1]
  unfold nI
  rw [Int32.toBitVec_ofNat', BitVec.toNat_ofNat, Nat.mod_eq_of_lt (by omega)]
theorem a_byte_n (p s : Int32) : a_byte p s = nI (a_cN p s) ∧ a_cN p s < 256 := by
  obtain ⟨n, h1, h2⟩ := a_and ((((Int32.toUInt32 p) >>> ((Int32.toUInt32 s) &&& Int32.toUInt32 31)).toInt32))
  have : a_byte p s = nI n := h2
  unfold a_cN
  rw [this, nI_clamp (by omega)]
  exact ⟨rfl, h1⟩
section INP
variable {G : GG} {h h' : HH} {ρ ρ' : RO} {x : Nat} {S S' : TS}
theorem q_X.inp {Q : Option Nat → Prop} (hX : q_X G h ρ x S) (hQ : ∀ si v N, q_sb G h si v N S.2.2.2.2.1 → Q (some si)) : w_getq h x 1 4 Q := by
  obtain ⟨dq, arr, ra, si, v, N, ls, er, rf, fr, hx, r1, hr⟩ := hX.op
  exact w_geta_of hx rfl (hQ si v N hr.2.2.1.2.2.1)
theorem q_X.len60 (hX : q_X G h ρ x S) : S.2.2.2.2.1.length ≤ 60 := by
  obtain ⟨dq, arr, ra, si, v, N, ls, er, rf, fr, hx, r1, hr⟩ := hX.op
  exact hr.2.2.1.2.2.2.1
theorem q_X.app {c mc ms : Nat} {Q : Option Nat → HH → Prop} (hX : q_X G h ρ x S) (hc : c < 128) (hl : S.2.2.2.2.1.length < 60) (hm : 1 ≤ mc) (hs : 122 ≤ ms) (hQ : ∀ h' ρ' si, q_X G h' ρ' x (t_inp S (S.2.2.2.2.1 ++ [c])) → Q (some si) h') : w_getq h x 1 4 (fun r => w_nn r (fun a => w_is h a 6 (wp_J5_append G mc ms h a (nI c) Q))) := by
  obtain ⟨dq, arr, ra, si, v, N, ls, er, rf, fr, hx, r1, hr⟩ := hX.op
  obtain ⟨⟨r2, r3, h2⟩, ⟨r4, h3, h4, h5⟩, ⟨r5, r6, h6, h7, h8⟩, h9, h10, h11, h12, h13, h14⟩ := hr
  obtain ⟨⟨ml, s1⟩, s2, s3, s4, fv, s5, s6⟩ := id h6
  have hcost : t_cost (S.2.2.2.2.1.length + 1) N ≤ 122 ∧ t_cap (S.2.2.2.2.1.length + 1) N ≤ 140 := by
    unfold t_cost t_cap
    split <;> omega
  refine w_geta_of hx rfl <| w_nn_of <| w_is_of s1 <| sp_J5_append h6 hc (by omega) hm (by omega) (by omega) (fun h1 v' hv' hh hb => ?_)
  have hsix : si ≠ x := q_ro_ne r5 r1 (by decide)
  have hso : q_sp (fun c => (ρ c).1 = 1 ∧ ((ρ c).2 = 4 ∨ (ρ c).2 = 5)) h h1 := fun c e hc hn => by
    have n1 : c ≠ si := fun z => hn (by show (ρ c).1 = 1 ∧ ((ρ c).2 = 4 ∨ (ρ c).2 = 5); rw [z, r5]; exact ⟨rfl, Or.inl rfl⟩)
    have n2 : c ≠ v' := by
      rcases hv' with z | z
      · rw [z]; exact fun z => hn (by show (ρ c).1 = 1 ∧ ((ρ c).2 = 4 ∨ (ρ c).2 = 5); rw [z, r6]; exact ⟨rfl, Or.inr rfl⟩)
      · exact q_new_ne z hc
    rw [hh c n1 n2]
    exact hc
  have he : q_ex h ρ (if v' = v then ρ else q_up ρ v' (1, 5)) := by
    split
    · exact fun _ _ _ => rfl
    · rename_i z
      rcases hv' with q | q
      · exact absurd q z
      · exact q_ex_up q
  have k1 : ∀ {c j}, ρ c = (1, j) → j ≠ 4 → j ≠ 5 → ¬ ((ρ c).1 = 1 ∧ ((ρ c).2 = 4 ∨ (ρ c).2 = 5)) := fun e a b z => by rw [e] at z; exact z.2.elim a b
  have k6 : ∀ c, q_t6 ρ c → ¬ ((ρ c).1 = 1 ∧ ((ρ c).2 = 4 ∨ (ρ c).2 = 5)) := fun c hc z => by have := hc.2; have := z.2; omega
  obtain ⟨d, f, e1, e2, e3, e4, e5⟩ := id h2
  obtain ⟨⟨ml1, t1⟩, t2, t3, t4, fv1, t5, t6⟩ := id hb
  have r6' : (if v' = v then ρ else q_up ρ v' (1, 5)) v' = (1, 5) := by
    split
    · rename_i z; rw [z]; exact r6
    · exact q_up_same
  generalize hρ' : (if v' = v then ρ else q_up ρ v' (1, 5)) = ρ1 at he r6'
  have hX1 : q_Xr G h1 ρ1 (t_inp S (S.2.2.2.2.1 ++ [c])) dq arr ra si v' (t_cap (S.2.2.2.2.1.length + 1) N) ls er rf fr :=
    ⟨⟨by rw [he _ _ e3]; exact r2, by rw [he _ _ e4]; exact r3, h2.kp hso (k1 r2 (by decide) (by decide)) (k1 r3 (by decide) (by decide))⟩, ⟨by rw [he _ _ h3]; exact r4, hso _ _ h3 (k1 r4 (by decide) (by decide)), h4.kp he hso k6, h5.kp he hso k6⟩, ⟨by rw [he _ _ s1]; exact r5, r6', hb, by simp only [t_inp, List.length_append, List.length_singleton]; omega, hcost.2⟩, h9.kp he hso k6, h10.kp he hso k6, h11.kp he hso k6, h12, fun B hB => ⟨(h13 B hB).1.own (K := 1) he (hso.mono (fun c hc => hc.1)) (by have := (h13 B hB).2; omega) (by decide), (h13 B hB).2⟩, h14.1.kp he hso (fun c z z2 => by have := z2.1; omega), h14.2⟩
  refine hQ h1 ρ1 si (hX1.cl (hso _ _ hx (k1 r1 (by decide) (by decide))) (by rw [he _ _ hx]; exact r1))
theorem sp_append_step {p sh x2 : Int32} {mc ms nc nk n : Nat} {Q : Int32 → HH → Prop} {X : String → Nat → HH → Prop} (hs0 : ¬ sh < 0) (hm : nc + 1 ≤ mc) (hs : nk + 6 ≤ ms)
    (hbad : ¬ (a_cN p sh = 0 ∨ (32 ≤ a_cN p sh ∧ a_cN p sh ≤ 126)) → ∀ q, X "java/lang/IllegalArgumentException" q h)
    (hok : (a_cN p sh = 0 ∨ (32 ≤ a_cN p sh ∧ a_cN p sh ≤ 126)) → wp_X1_append_L5 G mc ms x Q X n h (nc + 1) (nk + 6) p (x2 + nI (if a_cN p sh = 0 then 0 else 1)) (sh + (-8 : Int32))) : wp_X1_append_L5 G mc ms x Q X (n + 1) h nc nk p x2 sh := by
  obtain ⟨e1, e2⟩ := a_byte_n p sh
  have e1' : ((((Int32.toUInt32 p) >>> ((Int32.toUInt32 sh) &&& Int32.toUInt32 31)).toInt32) &&& (255 : Int32)) = nI (a_cN p sh) := e1
  have good : (a_cN p sh = 0 ∨ (32 ≤ a_cN p sh ∧ a_cN p sh ≤ 126)) → wp_X1_append_L38 G mc ms x Q X (fun h nc nk x1 x2 x3 => wp_X1_append_L5 G mc ms x Q X n h nc nk x1 x2 x3) h nc nk p x2 sh (nI (a_cN p sh)) := fun ho => by
    unfold wp_X1_append_L38 wp_X1_append_L43
    refine ⟨1, 6, by omega, by omega, sp_X1_checkArgument (by omega) (by omega) (fun _ => ⟨fun z => ?_, fun z => ?_⟩) (fun z => absurd z (by decide))⟩
    · have : a_cN p sh ≠ 0 := fun q => z (by rw [q]; rfl)
      have h9 := hok ho
      rw [if_neg this] at h9
      exact h9
    · have : a_cN p sh = 0 := (nI_eq (a := a_cN p sh) (b := 0) (by omega) (by decide)).mp z
      have h9 := hok ho
      rw [if_pos this] at h9
      exact h9
  unfold wp_X1_append_L5
  rw [e1']
  refine br_f hs0 ⟨fun z => good (Or.inl ((nI_eq (a := a_cN p sh) (b := 0) (by omega) (by decide)).mp z)), fun z => ?_⟩
  have hne : a_cN p sh ≠ 0 := fun q => z (by rw [q]; rfl)
  refine sp_inR 32 126 (by decide) (by decide) (fun h1 h2 => br_f (by decide) (good ?_)) (fun hno => br_t rfl ?_)
  · rw [nI_toInt (by omega)] at h1 h2
    exact Or.inr (by omega)
  · unfold wp_X1_append_L43
    refine ⟨1, 6, by omega, by omega, sp_X1_checkArgument (by omega) (by omega) (fun z => absurd rfl z) (fun _ q _ => hbad (fun ho => hno ?_) q)⟩
    rw [nI_toInt (by omega)]
    rcases ho with ho | ho
    · exact absurd ho hne
    · omega
theorem sp_append_add {p sh : Int32} {mc ms nc nk n : Nat} {Q : Int32 → HH → Prop} {X : String → Nat → HH → Prop} (hX : q_X G h ρ x S) (hs0 : ¬ sh < 0) (hm : nc + 1 ≤ mc) (hs : nk + 122 ≤ ms) (hl : a_cN p sh ≠ 0 → S.2.2.2.2.1.length < 60) (hc : a_cN p sh < 128)
    (hQ : ∀ h' ρ' nc' nk', nc' ≤ nc + 1 → nk' ≤ nk + 122 → q_X G h' ρ' x (t_inp S (S.2.2.2.2.1 ++ (if a_cN p sh = 0 then [] else [a_cN p sh]))) → wp_X1_append_L90 G mc ms x Q X n h' nc' nk' p (sh + (-8 : Int32))) : wp_X1_append_L90 G mc ms x Q X (n + 1) h nc nk p sh := by
  obtain ⟨e1, e2⟩ := a_byte_n p sh
  have e1' : ((((Int32.toUInt32 p) >>> ((Int32.toUInt32 sh) &&& Int32.toUInt32 31)).toInt32) &&& (255 : Int32)) = nI (a_cN p sh) := e1
  unfold wp_X1_append_L90
  rw [e1']
  refine br_f hs0 ⟨fun z => ?_, fun z => ?_⟩
  · have h0 : a_cN p sh = 0 := (nI_eq (a := a_cN p sh) (b := 0) (by omega) (by decide)).mp z
    refine hQ h ρ nc nk (by omega) (by omega) ?_
    rw [if_pos h0, List.append_nil]
    exact hX
  · have hne : a_cN p sh ≠ 0 := fun q => z (by rw [q]; rfl)
    rw [t_c16 _ hc]
    have := hX.app (c := a_cN p sh) (mc := 1) (ms := 122) (Q := fun r16 h17 => wp_X1_append_L90 G mc ms x Q X n h17 (nc + 1) (nk + 122) p (sh + (-8 : Int32))) hc (hl hne) (by omega) (by omega) (fun h' ρ' si hX' => hQ h' ρ' _ _ (Nat.le_refl _) (Nat.le_refl _) (by rw [if_neg hne]; exact hX'))
    obtain ⟨fs, r, q1, q2, a, q3, q4⟩ := this
    exact ⟨fs, r, q1, q2, a, q3, 1, 122, by omega, by omega, q4⟩
theorem a_new_len (p : Int32) : (if a_cN p 24 = 0 then 0 else 1) + (if a_cN p 16 = 0 then 0 else 1) + (if a_cN p 8 = 0 then 0 else 1) + (if a_cN p 0 = 0 then 0 else 1) = (a_new p).length := by
  unfold a_new a_cs
  by_cases h1 : a_cN p 24 = 0 <;> by_cases h2 : a_cN p 16 = 0 <;> by_cases h3 : a_cN p 8 = 0 <;> by_cases h4 : a_cN p 0 = 0 <;> simp [List.filter_cons, h1, h2, h3, h4]
theorem a_new_app (p : Int32) : a_new p = (if a_cN p 24 = 0 then [] else [a_cN p 24]) ++ (if a_cN p 16 = 0 then [] else [a_cN p 16]) ++ (if a_cN p 8 = 0 then [] else [a_cN p 8]) ++ (if a_cN p 0 = 0 then [] else [a_cN p 0]) := by
  unfold a_new a_cs
  by_cases h1 : a_cN p 24 = 0 <;> by_cases h2 : a_cN p 16 = 0 <;> by_cases h3 : a_cN p 8 = 0 <;> by_cases h4 : a_cN p 0 = 0 <;> simp [List.filter_cons, h1, h2, h3, h4]
theorem sp_X1_append {p : Int32} {mc ms : Nat} {Q : Int32 → HH → Prop} {X : String → Nat → HH → Prop} (hX : q_X G h ρ x S) (hm : 10 ≤ mc) (hs : 600 ≤ ms)
    (hQ : ∀ h' ρ' r cs, q_X G h' ρ' x (t_inp S cs) → o_append S.2.2.2.2.1 p 0 r cs → Q r h') (hE1 : ∀ q, o_append S.2.2.2.2.1 p 1 0 [] → X "java/lang/IllegalArgumentException" q h) (hE2 : ∀ q, o_append S.2.2.2.2.1 p 2 0 [] → X "java/lang/IllegalStateException" q h) : wp_X1_append G mc ms h x p Q X := by
  have bad : ∀ {s}, (s = 24 ∨ s = 16 ∨ s = 8 ∨ s = 0) → ¬ (a_cN p s = 0 ∨ (32 ≤ a_cN p s ∧ a_cN p s ≤ 126)) → ∀ q, X "java/lang/IllegalArgumentException" q h := fun {s} hs hno q => hE1 q (Or.inl ⟨rfl, fun ho => hno (ho _ (by unfold a_cs; rcases hs with rfl | rfl | rfl | rfl <;> simp))⟩)
  have l60 := hX.len60
  unfold wp_X1_append
  refine ⟨5, sp_append_step (by decide) (by omega) (by omega) (bad (Or.inl rfl)) (fun o1 => ?_)⟩
  rw [show (24 : Int32) + (-8) = 16 from by decide]
  refine sp_append_step (by decide) (by omega) (by omega) (bad (Or.inr (Or.inl rfl))) (fun o2 => ?_)
  rw [show (16 : Int32) + (-8) = 8 from by decide]
  refine sp_append_step (by decide) (by omega) (by omega) (bad (Or.inr (Or.inr (Or.inl rfl)))) (fun o3 => ?_)
  rw [show (8 : Int32) + (-8) = 0 from by decide]
  refine sp_append_step (by decide) (by omega) (by omega) (bad (Or.inr (Or.inr (Or.inr rfl)))) (fun o4 => ?_)
  rw [show (0 : Int32) + (-8) = -8 from by decide, show (0 : Int32) = nI 0 from rfl, nI_add, nI_add, nI_add, nI_add]
  have hok : a_ok p := fun c hc => by
    unfold a_cs at hc
    simp only [List.mem_cons, List.not_mem_nil, or_false] at hc
    rcases hc with rfl | rfl | rfl | rfl <;> assumption
  have hml : (0 + (if a_cN p 24 = 0 then 0 else 1) + (if a_cN p 16 = 0 then 0 else 1) + (if a_cN p 8 = 0 then 0 else 1) + (if a_cN p (nI 0) = 0 then 0 else 1)) = (a_new p).length := by
    rw [← a_new_len p, Nat.zero_add]
    rfl
  rw [hml]
  have hnl : (a_new p).length ≤ 4 := by
    rw [← a_new_len p]
    repeat' split
    all_goals omega
  have c128 : ∀ {s}, (a_cN p s = 0 ∨ (32 ≤ a_cN p s ∧ a_cN p s ≤ 126)) → a_cN p s < 128 := fun h => by omega
  unfold wp_X1_append_L5
  refine br_t (by decide) (hX.inp (fun si v N hb => ?_))
  obtain ⟨ml, hbo⟩ := hb.1
  refine w_nn_of <| w_is_of hbo <| sp_J5_length hb ?_
  rw [nI_add]
  refine ⟨fun z => ?_, fun z => ?_⟩
  · have hgt : 60 < S.2.2.2.2.1.length + (a_new p).length := by
      rcases Nat.lt_or_ge 60 (S.2.2.2.2.1.length + (a_new p).length) with q | q
      · exact q
      · exact absurd z (nI_nlt (a := 60) q (by decide))
    exact ⟨1, 6, by omega, by omega, sp_X1_checkState (by omega) (by omega) (fun z => absurd rfl z) (fun _ q _ => hE2 q (Or.inr (Or.inl ⟨rfl, hok, hgt⟩)))⟩
  · have hle : S.2.2.2.2.1.length + (a_new p).length ≤ 60 := by
      rcases Nat.lt_or_ge 60 (S.2.2.2.2.1.length + (a_new p).length) with q | q
      · exact absurd (nI_lt (a := 60) q (by omega)) z
      · exact q
    refine ⟨1, 6, by omega, by omega, sp_X1_checkState (by omega) (by omega) (fun _ => ⟨5, ?_⟩) (fun z => absurd z (by decide))⟩
    have hlen := a_new_len p
    have l1 : ∀ {c : Nat}, (if c = 0 then ([] : List Nat) else [c]).length = if c = 0 then 0 else 1 := fun {c} => by split <;> rfl
    refine sp_append_add hX (by decide) (by omega) (by omega) (fun hne => ?_) (c128 o1) (fun h1 ρ1 nc1 nk1 b1 b1' hX1 => ?_)
    · rw [if_neg hne] at hlen
      omega
    rw [show (24 : Int32) + (-8) = 16 from by decide]
    refine sp_append_add hX1 (by decide) (by omega) (by omega) (fun hne => ?_) (c128 o2) (fun h2 ρ2 nc2 nk2 b2 b2' hX2 => ?_)
    · rw [if_neg hne] at hlen
      simp only [t_inp, List.length_append, l1]
      omega
    rw [show (16 : Int32) + (-8) = 8 from by decide]
    refine sp_append_add hX2 (by decide) (by omega) (by omega) (fun hne => ?_) (c128 o3) (fun h3 ρ3 nc3 nk3 b3 b3' hX3 => ?_)
    · rw [if_neg hne] at hlen
      simp only [t_inp, List.length_append, l1]
      omega
    rw [show (8 : Int32) + (-8) = 0 from by decide]
    refine sp_append_add hX3 (by decide) (by omega) (by omega) (fun hne => ?_) (c128 o4) (fun h4 ρ4 nc4 nk4 b4 b4' hX4 => ?_)
    · have hne' : ¬ a_cN p 0 = 0 := hne
      rw [if_neg hne'] at hlen
      simp only [t_inp, List.length_append, l1]
      omega
    rw [show (0 : Int32) + (-8) = -8 from by decide]
    have hX5 : q_X G h4 ρ4 x (t_inp S (S.2.2.2.2.1 ++ a_new p)) := by
      rw [a_new_app p]
      simp only [t_inp, List.append_assoc] at hX4 ⊢
      exact hX4
    unfold wp_X1_append_L90
    refine br_t (by decide) (hX5.inp (fun si v N hb => ?_))
    obtain ⟨ml, hbo⟩ := hb.1
    refine w_nn_of <| w_is_of hbo <| sp_J5_length hb ?_
    exact hQ h4 ρ4 _ _ hX5 (Or.inr (Or.inr ⟨rfl, hok, hle, rfl, rfl⟩))
end INP
