set_option maxRecDepth 100000
/-! a fact's line -/
/-- all firings' rules are there -/
def c_ru (C : CC) : Prop := ∀ y ∈ C.2.1, (∀ fi ∈ y.2.2.1, ∃ (i : Nat) (x1 : Nat × (Nat → Nat)), C.1[i]? = some x1 ∧ fi.1 = x1.1) ∧ ∀ fi ∈ y.2.2.2, ∃ (i : Nat) (x1 : Nat × (Nat → Nat)), C.1[i]? = some x1 ∧ fi.1 = x1.1
def s_rs (C : CC) (fis : List FI) : List Nat := fis.flatMap (fun fi => s_re fi (c_ra C fi.1))
def s_fl (C : CC) (y : CF) : List Nat := t_num (y.2.1 0) ++ [58] ++ [y.2.1 1] ++ t_num (y.2.1 2) ++ t_num (y.2.1 3) ++ (if y.2.1 4 = 1 then [33] else []) ++ s_rs C y.2.2.1
section FLINE
variable {G : GG} {h h' h0 : HH} {ρ ρ' : RO} {k b w p t : Nat} {C : CC}
theorem q_tx.reb {a N : Nat} {cs : List Nat} (hx : q_tx G h0 h a cs N) : ∃ hb, q_tx G hb h a cs N ∧ q_sp q_no h0 hb ∧ (∀ c n fs, n ≠ 6 → h c = some (.inr (n, fs)) → hb c = some (.inr (n, fs))) ∧ ∀ h' cs' N', q_tx G hb h' a cs' N' → q_tx G h0 h' a cs' N' := by
  obtain ⟨v, ha, hv, hb, hsp⟩ := hx
  obtain ⟨⟨ml, ha1⟩, b1, b2, b3, f, hf, -⟩ := id hb
  have hsp' : q_sp q_no h0 (fun c => if c = a ∨ c = v then none else h c) := fun c e hc _ => by
    have c1 := q_new_ne ha hc
    have c2 := q_new_ne hv hc
    simp only [c1, c2, or_self, if_false]
    exact hsp c e hc q_no.not
  refine ⟨fun c => if c = a ∨ c = v then none else h c, ⟨v, by simp, by simp, hb, fun c e hc _ => ?_⟩, hsp', fun c n fs hn hc => ?_, fun h' cs' N' hx' => ?_⟩
  · dsimp only at hc
    split at hc
    · cases hc
    · exact hc
  · have c1 : c ≠ a := fun z => by
      rw [z, ha1] at hc
      simp only [Option.some.injEq, Sum.inr.injEq, Prod.mk.injEq] at hc
      exact hn hc.1.symm
    have c2 : c ≠ v := fun z => by
      rw [z, hf] at hc
      cases hc
    simp only [c1, c2, or_self, if_false]
    exact hc
  · obtain ⟨v', ha', hv', hb', hs'⟩ := hx'
    refine ⟨v', ha, q_sp_none hsp' hv', hb', hsp'.tr hs'⟩
theorem s_re_pos {fi : FI} {i : Nat} : (s_re fi i).length ≤ 20 := by
  rw [s_re_len]
  have z1 := t_sz_le (n := i)
  have z2 := t_sz_le (n := fi.2.1)
  cases fi.2.2 with
  | none => simp only; omega
  | some m =>
    have z3 := t_sz_le (n := m)
    simp only
    omega
theorem s_rs_len {fis : List FI} : (s_rs C fis).length ≤ 20 * fis.length := by
  induction fis with
  | nil => simp [s_rs]
  | cons x1 xs ih =>
    have := s_re_pos (fi := x1) (i := c_ra C x1.1)
    unfold s_rs at ih ⊢
    simp only [List.flatMap_cons, List.length_append, List.length_cons]
    omega
theorem s_rs_take {fis : List FI} {m : Nat} {fi : FI} (hf : fis[m]? = some fi) : s_rs C (fis.take (m + 1)) = s_rs C (fis.take m) ++ s_re fi (c_ra C fi.1) := by
  obtain ⟨hm, e⟩ := List.getElem?_eq_some_iff.mp hf
  subst e
  unfold s_rs
  rw [List.take_succ_eq_append_getElem hm, List.flatMap_append, List.flatMap_singleton]
theorem sp_X2_told_L70 {xs : List Nat} {fis : List FI} {l it a mc ms K Kc : Nat} {tt : Nat × Nat} {cs : List Nat} {Q : Option Nat → HH → Prop} (hb : q_bk G h ρ k b w C) (hok : c_ok C) (hx0 : q_ls G h ρ tt l xs) (hl : xs.length = fis.length) (hkk : tt.1 = k)
    (hfi : ∀ (i x1 : Nat) (fi : FI), xs[i]? = some x1 → fis[i]? = some fi → q_fi h ρ x1 fi) (hr : ∀ fi ∈ fis, ∃ (i : Nat) (x1 : Nat × (Nat → Nat)), C.1[i]? = some x1 ∧ fi.1 = x1.1) (hbd : ∀ fi ∈ fis, fi.2.1 < 100000 ∧ ∀ n, fi.2.2 = some n → n < 100000)
    (hit : h it = none) (hlen : cs.length + 20 * fis.length < 59000) (hmc : Kc + 6 * fis.length + 2 ≤ mc) (hms : K + 5 * (cs.length + 20 * fis.length) + 60 ≤ ms)
    (hQ : ∀ h' s1 v1, h s1 = none → h v1 = none → q_sp q_no h h' → q_so G h' s1 v1 (cs ++ s_rs C fis) → Q (some s1) h') :
    ∀ d m h1 N nc nk, m + d = fis.length → q_tx G h h1 a (cs ++ s_rs C (fis.take m)) N → q_it h1 l it m → N ≤ 2 * (cs ++ s_rs C (fis.take m)).length + 16 → nc ≤ Kc + 6 * m → nk ≤ K + 2 * N → wp_X2_told_L70 G mc ms b Q (d + 1) h1 nc nk (some a) (some it) := by
  obtain ⟨lr, lf, g1, g3, -, ⟨fs3, g5⟩, -⟩ := hb.len
  have hlm : ∀ m, (cs ++ s_rs C (fis.take m)).length ≤ cs.length + 20 * fis.length := fun m => by
    have := s_rs_len (C := C) (fis := fis.take m)
    rw [List.length_append]
    rw [List.length_take] at this
    omega
  intro d
  induction d with
  | zero =>
    intro m h1 N nc nk hd hx hi hN hnc hnk
    have hlm' := hlm m
    obtain ⟨v, ha, hv, hsb, hsp⟩ := id hx
    obtain ⟨ml, hae⟩ := hsb.1
    unfold wp_X2_told_L70
    refine w_nn_of <| q_eachK (hx0.kp (q_no_kp hsp) hkk) hl hi (by omega) (fun _ => ?_) (fun x1 fi h' hx hf => ?_)
    · refine w_nn_of ⟨2, 4 + (cs ++ s_rs C (fis.take m)).length, by omega, by omega, w_is_of hae <| sp_J5_toString hsb (by omega) (Nat.le_refl _) (fun h2 s1 v1 hs1 hv1 hh hso => ?_)⟩
      rw [List.take_of_length_le (by omega)] at hso
      exact hQ h2 s1 v1 (q_sp_none hsp hs1) (q_sp_none hsp hv1) (fun c e hc _ => by
        have hc1 := hsp c e hc q_no.not
        rw [hh c (q_new_ne hs1 hc1) (q_new_ne hv1 hc1)]
        exact hc1) hso
    · have := (List.getElem?_eq_some_iff.mp hf).1
      omega
  | succ d ih =>
    intro m h1 N nc nk hd hx hi hN hnc hnk
    have hlm' := hlm m
    obtain ⟨v, ha, hv, hsb, hsp⟩ := id hx
    obtain ⟨⟨ml, hae⟩, -, -, -, fv, hve, -⟩ := id hsb
    unfold wp_X2_told_L70
    refine w_nn_of <| q_eachK (hx0.kp (q_no_kp hsp) hkk) hl hi (by omega) (fun z => by omega) (fun x1 fi h2 hx1 hf hh2 hi2 => ?_)
    obtain ⟨fs, hito⟩ := hi.ob
    have ait : a ≠ it := fun z => by rw [z, hito] at hae; cases hae
    have vit : v ≠ it := fun z => by rw [z, hito] at hve; cases hve
    have hx2 : q_tx G h h2 a (cs ++ s_rs C (fis.take m)) N := by
      refine ⟨v, ha, hv, ?_, hsp.nx hit hh2⟩
      obtain ⟨⟨ml, e1⟩, e2, e3, e4, f, e5, e6⟩ := hsb
      exact ⟨⟨ml, by rw [hh2 a ait]; exact e1⟩, e2, e3, e4, f, by rw [hh2 v vit]; exact e5, e6⟩
    obtain ⟨hbs, hxb, hs0b, hcp, hback⟩ := hx2.reb
    have hq := hfi m x1 fi hx1 hf
    have hsp2 := hsp.nx hit hh2
    have hfm := List.mem_of_getElem? hf
    obtain ⟨i, r, hr1, hr2⟩ := hr fi hfm
    have hra : c_ra C fi.1 = i := by rw [hr2]; exact c_ra_of hok.2.1 hr1
    have hle := t_ref_le (l := (cs ++ s_rs C (fis.take m)).length) (i := i) (fi := fi) hN
    have est := s_rs_take (C := C) hf
    rw [hra] at est
    have hsum : 0 ≤ 2 * t_ref N (cs ++ s_rs C (fis.take m)).length i fi - 2 * N := Nat.zero_le _
    have hlm1 := hlm (m + 1)
    rw [est, ← List.append_assoc, List.length_append] at hlm1
    refine w_cast_of (hsp2 _ _ hq.2 q_no.not) ⟨6, 2 * t_ref N (cs ++ s_rs C (fis.take m)).length i fi - 2 * N, by omega, by omega, w_is_of (hsp2 _ _ g1 q_no.not) ?_⟩
    refine sp_X2_tell_2 (hb.kp (q_no_kp hs0b)) hok (hs0b _ _ hq.2 q_no.not) hr1 hr2 (hbd fi hfm) hxb hN (by omega) (by omega) (by omega) (fun h3 hx3 => ?_)
    have hx4 := hback _ _ _ hx3
    rw [List.append_assoc, ← est] at hx4
    obtain ⟨v3, -, -, -, hs3⟩ := hx3
    have hi3 : q_it h3 l it (m + 1) := by
      obtain ⟨x1, x2, x3, x4, x5, x6⟩ := id hi2
      exact ⟨x1, x2, x3, x4, hs3 _ _ (hcp _ _ _ (by decide) x5) q_no.not, hs3 _ _ (hcp _ _ _ (by decide) x6) q_no.not⟩
    have e9 : (cs ++ s_rs C (fis.take (m + 1))).length = (cs ++ s_rs C (fis.take m)).length + (s_re fi i).length := by
      rw [est, ← List.append_assoc]
      exact List.length_append
    refine ih (m + 1) h3 _ _ _ (by omega) hx4 hi3 ?_ (by omega) (by omega)
    rw [e9]
    exact hle.1
end FLINE
section FLINE2
variable {G : GG} {h h' h0 : HH} {ρ ρ' : RO} {k b w p t : Nat} {C : CC}
theorem sp_X2_told {i mc ms : Nat} {y : CF} {Q : Option Nat → HH → Prop} (hb : q_bk G h ρ k b w C) (hok : c_ok C) (hfw : c_fw C) (hru : c_ru C) (hy : C.2.1[i]? = some y)
    (hlen : 20 * y.2.2.1.length < 58000) (hmc : 14 + 6 * y.2.2.1.length ≤ mc) (hms : 150 + 100 * y.2.2.1.length ≤ ms)
    (hQ : ∀ h' s1 v1, h s1 = none → h v1 = none → q_sp q_no h h' → q_so G h' s1 v1 (s_fl C y) → Q (some s1) h') : wp_X2_told G mc ms h b (some y.1) Q := by
  have hym := List.mem_of_getElem? hy
  obtain ⟨-, lR, lF, hcy, ⟨xs, u1, u2, u3⟩, -⟩ := (hb.fact hy).1
  obtain ⟨fsu, uo⟩ := u1.ob
  obtain ⟨⟨k1, k1'⟩, y2, y3, y4, -, y0⟩ := hfw y hym
  have hn5 := hok.2.2.2.2.2.1 y hym
  have hbd := (hok.2.2.2.2.2.2 y hym).1
  have z0 := t_sz_le (n := y.2.1 0)
  have e2 : t_sz (y.2.1 2) = 1 := by unfold t_sz; rw [if_pos (by omega)]
  have e3 : t_sz (y.2.1 3) = 1 := by unfold t_sz; rw [if_pos (by omega)]
  unfold wp_X2_told
  refine ⟨by omega, by omega, fun a ha => ⟨1, 16, by omega, by omega, sp_J5_init q_h_same (by omega) (by omega) (fun h1 v hv hh hb0 => ?_)⟩⟩
  have hv0 : h v = none := by
    by_cases z : v = a
    · rw [z]; exact ha
    · rw [q_h_ne z] at hv; exact hv
  have hx1 : q_tx G h h1 a [] 16 := ⟨v, ha, hv0, hb0, fun c e hc _ => by rw [hh c (q_new_ne ha hc) (q_new_ne hv0 hc), q_h_ne (q_new_ne ha hc)]; exact hc⟩
  have base : ∀ {h2 : HH} {cs : List Nat} {N c : Nat} {e : va_E}, q_tx G h h2 a cs N → h c = some e → h2 c = some e := fun hx hc => by
    obtain ⟨v, -, -, -, hsp⟩ := hx
    exact hsp _ _ hc q_no.not
  have isO : ∀ {h2 : HH} {cs : List Nat} {N : Nat}, q_tx G h h2 a cs N → ∃ fs, h2 a = some (.inr (6, fs)) := fun hx => by
    obtain ⟨v, -, -, ⟨⟨ml, e⟩, -⟩, -⟩ := hx
    exact ⟨_, e⟩
  have L : ∀ {cs : List Nat}, cs.length ≤ 10 → (t_cap (cs.length + 1) 16 = 16 ∧ t_cost (cs.length + 1) 16 = 0) ∧ ∀ n, t_sz n + cs.length ≤ 16 → t_cap (cs.length + t_sz n) 16 = 16 ∧ t_cost (cs.length + t_sz n) 16 = 0 := fun hl => ⟨⟨(t_z (by omega)).2, (t_z (by omega)).1⟩, fun n hn => ⟨(t_z (by omega)).2, (t_z (by omega)).1⟩⟩
  refine w_nn_of <| w_geti_of (base hx1 hcy) rfl ⟨1, 0, by omega, by omega, ?_⟩
  refine hx1.an (n := y.2.1 0) hn5 (by decide) (by omega) (Nat.le_of_eq ((L (cs := []) (by decide)).2 _ (by simp only [List.length_nil]; omega)).2) (by decide) (fun h2 hx2 => ?_)
  rw [((L (cs := []) (by decide)).2 _ (by simp only [List.length_nil]; omega)).1, List.nil_append] at hx2
  have l2 : (t_num (y.2.1 0)).length ≤ 5 := by rw [t_num_len]; omega
  refine w_nn_of ⟨1, 0, by omega, by omega, ?_⟩
  refine hx2.ap (c := 58) (by decide) (by omega) (by omega) (Nat.le_of_eq (L (by omega)).1.2) (by decide) (fun h3 hx3 => ?_)
  rw [(L (by omega)).1.1] at hx3
  have l3 : (t_num (y.2.1 0) ++ [58]).length ≤ 6 := by rw [List.length_append, List.length_singleton]; omega
  refine w_geti_of (base hx3 hcy) rfl <| w_nn_of ⟨1, 0, by omega, by omega, ?_⟩
  refine hx3.ap (c := y.2.1 1) (by omega) (by omega) (by omega) (Nat.le_of_eq (L (by omega)).1.2) (by decide) (fun h4 hx4 => ?_)
  rw [(L (by omega)).1.1] at hx4
  have l4 : (t_num (y.2.1 0) ++ [58] ++ [y.2.1 1]).length ≤ 7 := by rw [List.length_append, List.length_singleton]; omega
  refine w_geti_of (base hx4 hcy) rfl <| w_nn_of ⟨1, 0, by omega, by omega, ?_⟩
  refine hx4.an (n := y.2.1 2) (by omega) (by omega) (by omega) (Nat.le_of_eq ((L (by omega)).2 _ (by omega)).2) (by decide) (fun h5 hx5 => ?_)
  rw [((L (by omega)).2 _ (by omega)).1] at hx5
  have l5 : (t_num (y.2.1 0) ++ [58] ++ [y.2.1 1] ++ t_num (y.2.1 2)).length ≤ 8 := by rw [List.length_append, t_num_len]; omega
  refine w_geti_of (base hx5 hcy) rfl <| w_nn_of ⟨1, 0, by omega, by omega, ?_⟩
  refine hx5.an (n := y.2.1 3) (by omega) (by omega) (by omega) (Nat.le_of_eq ((L (by omega)).2 _ (by omega)).2) (by decide) (fun h6 hx6 => ?_)
  rw [((L (by omega)).2 _ (by omega)).1] at hx6
  have l6 : (t_num (y.2.1 0) ++ [58] ++ [y.2.1 1] ++ t_num (y.2.1 2) ++ t_num (y.2.1 3)).length ≤ 9 := by rw [List.length_append, t_num_len]; omega
  have loop : ∀ {h7 : HH} {cs : List Nat} {nc nk : Nat}, q_tx G h h7 a cs 16 → cs.length ≤ 10 → nc ≤ 9 → nk ≤ 24 → cs ++ s_rs C y.2.2.1 = s_fl C y →
      w_getq h7 y.1 14 7 (fun r30 => w_nn r30 (fun a31 => (∃ mc32 ms32, nc + mc32 ≤ mc ∧ nk + ms32 ≤ ms ∧ w_is h7 a31 4 (wp_J2_iterator G mc32 ms32 h7 a31 (fun r33 h34 => (∃ n70, wp_X2_told_L70 G mc ms b Q n70 h34 (nc + mc32) (nk + ms32) (some a) r33)))))) := by
    intro h7 cs nc nk hx hl hnc hnk hcs
    refine w_geta_of (base hx hcy) rfl <| w_nn_of ⟨1, 4, by omega, by omega, w_is_of (base hx uo) ?_⟩
    have hx' := hx
    obtain ⟨v7, ha7, hv7, hsb7, hsp7⟩ := hx'
    refine sp_J2_iterator (u1.kp (q_no_kp hsp7) rfl) (by omega) (by omega) (fun it h8 hit hh8 hi8 => ?_)
    have hx8 : q_tx G h h8 a (cs ++ s_rs C (y.2.2.1.take 0)) 16 := by
      have : cs ++ s_rs C (y.2.2.1.take 0) = cs := by simp [s_rs]
      rw [this]
      obtain ⟨⟨ml, e1⟩, c2, c3, c4, f, e5, e6⟩ := hsb7
      exact ⟨v7, ha7, hv7, ⟨⟨ml, by rw [hh8 a (q_new_ne hit e1)]; exact e1⟩, c2, c3, c4, f, by rw [hh8 v7 (q_new_ne hit e5)]; exact e5, e6⟩, hsp7.tr (q_sp.nw hit hh8)⟩
    exact ⟨_, sp_X2_told_L70 (K := 0) (Kc := 10) hb hok u1 u2 rfl u3 (hru y hym).1 hbd (q_sp_none hsp7 hit) (by omega) (by omega) (by omega) (fun h' s1 v1 a1 a2 a3 a4 => hQ h' s1 v1 a1 a2 a3 (by rw [← hcs]; exact a4)) y.2.2.1.length 0 h8 16 _ _ (by omega) hx8 hi8 (by omega) (by omega) (by omega)⟩
  obtain ⟨fs6, o6⟩ := isO hx6
  refine w_geti_of (base hx6 hcy) rfl ⟨fun z => ?_, fun z => ⟨1, 0, by omega, by omega, w_is_of o6 ?_⟩⟩
  · have h4 : y.2.1 4 ≠ 1 := fun q => by rw [q] at z; exact absurd z (by decide)
    refine loop hx6 (by omega) (by omega) (by omega) ?_
    unfold s_fl
    rw [if_neg h4, List.append_nil]
  · have h4 : y.2.1 4 = 1 := by
      rcases Nat.lt_or_ge (y.2.1 4) 1 with q | q
      · have : y.2.1 4 = 0 := by omega
        rw [this] at z
        exact absurd rfl z
      · omega
    refine (hx6.ap (c := 33) (by decide) (by omega) (by omega) (Nat.le_of_eq (L (by omega)).1.2) (by decide) (fun h7 hx7 => ?_)).2
    rw [(L (by omega)).1.1] at hx7
    refine loop hx7 (by rw [List.length_append, List.length_singleton]; omega) (by omega) (by omega) ?_
    unfold s_fl
    rw [if_pos h4]
end FLINE2
