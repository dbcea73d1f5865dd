set_option maxRecDepth 100000
/-! a book's copy -/
theorem q_ls.N {G : GG} {h : HH} {ρ : RO} {t : Nat × Nat} {a : Nat} {xs : List Nat} (hl : q_ls G h ρ t a xs) : ∃ N, q_lsN G h ρ t a xs N := by
  obtain ⟨h1, h2, mc, arr, h3, ⟨e1, e2⟩ | ⟨e1, N, f, e2, e3, e4, e5, e6⟩⟩ := hl
  · exact ⟨0, h1, h2, mc, arr, h3, Or.inl ⟨e1, e2, rfl⟩⟩
  · exact ⟨N, h1, h2, mc, arr, h3, Or.inr ⟨e1, f, e2, e3, e4, e5, e6⟩⟩
theorem sp_J2_addX {G : GG} {h : HH} {ρ : RO} {t : Nat × Nat} {a x1 mc ms : Nat} {xs : List Nat} {Q : Int32 → HH → Prop} (hl : q_ls G h ρ t a xs) (hx : ∃ e, h x1 = some e ∧ hv_ob G e) (hel : ∀ y ∈ xs, ∃ e, h y = some e ∧ hv_ob G e) (hc : 1 ≤ mc) (hs : 2 * xs.length + 10 ≤ ms) (hn : xs.length < 4000)
    (hQ : ∀ h' ρ', q_dm h h' → q_ex h ρ ρ' → q_fr (fun r => r = t ∨ r = (t.1, t.2 + 1)) h ρ h' → (∀ c e, h' c = some e → h c = none → ρ' c = (t.1, t.2 + 1)) → q_ls G h' ρ' t a (xs ++ [x1]) → Q 1 h') : wp_J2_add G mc ms h a (some x1) Q := by
  obtain ⟨N, hN⟩ := hl.N
  have hcap : N = 0 ∨ xs.length ≤ N := by
    obtain ⟨-, -, mc, arr, -, ⟨-, -, e⟩ | ⟨-, f, -, e, -⟩⟩ := hN
    · exact Or.inl e
    · exact Or.inr e
  refine sp_J2_addN hN hx hel hc ?_ hn (fun h' ρ' a1 a2 a3 a4 a5 => hQ h' ρ' a1 a2 a3 a4 a5.ls)
  unfold a_cost
  split
  · omega
  · split
    · omega
    · omega
def q_own (h : HH) (ρ : RO) (k : Nat) (P : Nat → Prop) : Prop := ∀ c e, h c = some e → (ρ c).1 = k → P (ρ c).2
def c_eqv (C C' : CC) : Prop := C'.1 = C.1 ∧ C'.2.2 = C.2.2 ∧ C'.2.1.map Prod.snd = C.2.1.map Prod.snd
def c_all (y : CF) : Nat := y.2.2.1.length + y.2.2.2.length
section BCOPY
variable {G : GG} {h h' : HH} {ρ ρ' : RO} {k b w p t : Nat} {C : CC}
theorem q_B.base (hB : q_B G h ρ k b w p t C) (hs : q_sp q_no h h') (he : q_ex h ρ ρ') : q_B G h' ρ' k b w p t C :=
  hB.ro (hB.1.kp ⟨he, fun c e hc _ _ => hs c e hc q_no.not⟩) (hB.2.1.st hs) he
theorem sp_X2_init {mc ms b : Nat} {Q : HH → Prop} (hb : h b = some (.inr (2, df_X2))) (hm : 5 ≤ mc) (hs : 20 ≤ ms)
    (hQ : ∀ h' w p t lr lf, h w = none → h p = none → h t = none → h lr = none → h lf = none → p ≠ t → lr ≠ lf → (∀ c, c ≠ b → c ≠ w → c ≠ p → c ≠ t → c ≠ lr → c ≠ lf → h' c = h c) →
      h' b = some (.inr (2, q_bv w lr lf (fun _ => 0))) → h' w = some (.inr (3, [.null, .ref p, .ref t, .int 0, .int (-1), .null, .int (-1), .ref b])) → h' p = some (.inl (G.2.1 0, 3, .inl (fun _ => 0))) → h' t = some (.inl (G.2.1 0, 3, .inl (fun _ => 0))) →
      h' lr = some (.inr (4, [.int 0, .ref (G.2.2 0), .int 0])) → h' lf = some (.inr (4, [.int 0, .ref (G.2.2 0), .int 0])) → Q h') : wp_X2_init G mc ms h b Q := by
  unfold wp_X2_init
  refine ⟨by omega, by omega, fun w hw => ⟨2, 6, by omega, by omega, ?_⟩⟩
  have nbw : b ≠ w := q_new_ne hw hb
  unfold wp_X3_init
  refine w_put_of q_h_same (by decide) rfl ⟨by omega, by omega, fun p hp => ?_⟩
  rw [q_h_up] at hp ⊢
  have nwp : w ≠ p := q_new_ne hp q_h_same
  have hp0 : h p = none := by rw [q_h_ne (Ne.symm nwp)] at hp; exact hp
  have nbp : b ≠ p := q_new_ne hp0 hb
  refine w_put_of (by rw [q_h_ne nwp]; exact q_h_same) (Nat.le_of_ble_eq_true rfl) rfl ⟨by omega, by omega, fun t ht => ?_⟩
  have nwt : w ≠ t := q_new_ne ht q_h_same
  have npt : p ≠ t := fun z => by
    rw [← z, q_h_ne (Ne.symm nwp), q_h_same] at ht
    cases ht
  have ht0 : h t = none := by rw [q_h_ne (Ne.symm nwt), q_h_ne (Ne.symm npt), q_h_ne (Ne.symm nwt)] at ht; exact ht
  have nbt : b ≠ t := q_new_ne ht0 hb
  refine w_put_of (by rw [q_h_ne nwt]; exact q_h_same) (Nat.le_of_ble_eq_true rfl) rfl <| w_put_of q_h_same (Nat.le_of_ble_eq_true rfl) rfl <| w_put_of q_h_same (Nat.le_of_ble_eq_true rfl) rfl ?_
  simp only [q_h_up]
  refine w_put_of (by rw [q_h_ne nbw, q_h_ne nbt, q_h_ne nbw, q_h_ne nbp, q_h_ne nbw]; exact hb) (by decide) rfl ⟨by omega, by omega, fun lr hlr => sp_J2_init q_h_same ?_⟩
  rw [q_h_up]
  have nbl : b ≠ lr := q_new_ne hlr q_h_same
  have nwl : w ≠ lr := fun z => by
    rw [← z, q_h_ne (Ne.symm nbw), q_h_same] at hlr
    cases hlr
  have ntl : t ≠ lr := fun z => by
    rw [← z, q_h_ne (Ne.symm nbt), q_h_ne (Ne.symm nwt), q_h_same] at hlr
    cases hlr
  have npl : p ≠ lr := fun z => by
    rw [← z, q_h_ne (Ne.symm nbp), q_h_ne (Ne.symm nwp), q_h_ne npt, q_h_ne (Ne.symm nwp), q_h_same] at hlr
    cases hlr
  have hlr0 : h lr = none := by
    rw [q_h_ne (Ne.symm nbl), q_h_ne (Ne.symm nwl), q_h_ne (Ne.symm ntl), q_h_ne (Ne.symm nwl), q_h_ne (Ne.symm npl), q_h_ne (Ne.symm nwl)] at hlr
    exact hlr
  refine w_put_of (by rw [q_h_ne nbl]; exact q_h_same) (Nat.le_of_ble_eq_true rfl) rfl ⟨by omega, by omega, fun lf hlf => sp_J2_init q_h_same ?_⟩
  rw [q_h_up]
  have nbf : b ≠ lf := q_new_ne hlf q_h_same
  have nlf : lr ≠ lf := fun z => by
    rw [← z, q_h_ne (Ne.symm nbl), q_h_same] at hlf
    cases hlf
  have nwf : w ≠ lf := fun z => by
    rw [← z, q_h_ne (Ne.symm nbw), q_h_ne nwl, q_h_ne (Ne.symm nbw), q_h_same] at hlf
    cases hlf
  have ntf : t ≠ lf := fun z => by
    rw [← z, q_h_ne (Ne.symm nbt), q_h_ne ntl, q_h_ne (Ne.symm nbt), q_h_ne (Ne.symm nwt), q_h_same] at hlf
    cases hlf
  have npf : p ≠ lf := fun z => by
    rw [← z, q_h_ne (Ne.symm nbp), q_h_ne npl, q_h_ne (Ne.symm nbp), q_h_ne (Ne.symm nwp), q_h_ne npt, q_h_ne (Ne.symm nwp), q_h_same] at hlf
    cases hlf
  have hlf0 : h lf = none := by
    rw [q_h_ne (Ne.symm nbf), q_h_ne (Ne.symm nlf), q_h_ne (Ne.symm nbf), q_h_ne (Ne.symm nwf), q_h_ne (Ne.symm ntf), q_h_ne (Ne.symm nwf), q_h_ne (Ne.symm npf), q_h_ne (Ne.symm nwf)] at hlf
    exact hlf
  refine w_put_of (by rw [q_h_ne nbf]; exact q_h_same) (Nat.le_of_ble_eq_true rfl) rfl ?_
  refine hQ _ w p t lr lf hw hp0 ht0 hlr0 hlf0 npt nlf (fun c c1 c2 c3 c4 c5 c6 => ?_) q_h_same ?_ ?_ ?_ ?_ ?_
  · rw [q_h_ne c1, q_h_ne c6, q_h_ne c1, q_h_ne c5, q_h_ne c1, q_h_ne c2, q_h_ne c4, q_h_ne c2, q_h_ne c3, q_h_ne c2]
  · rw [q_h_ne (Ne.symm nbw), q_h_ne nwf, q_h_ne (Ne.symm nbw), q_h_ne nwl, q_h_ne (Ne.symm nbw)]
    exact q_h_same
  · rw [q_h_ne (Ne.symm nbp), q_h_ne npf, q_h_ne (Ne.symm nbp), q_h_ne npl, q_h_ne (Ne.symm nbp), q_h_ne (Ne.symm nwp), q_h_ne npt, q_h_ne (Ne.symm nwp)]
    exact q_h_same
  · rw [q_h_ne (Ne.symm nbt), q_h_ne ntf, q_h_ne (Ne.symm nbt), q_h_ne ntl, q_h_ne (Ne.symm nbt), q_h_ne (Ne.symm nwt)]
    exact q_h_same
  · rw [q_h_ne (Ne.symm nbl), q_h_ne nlf, q_h_ne (Ne.symm nbl)]
    exact q_h_same
  · rw [q_h_ne (Ne.symm nbf)]
    exact q_h_same
end BCOPY
section BCOPY2
variable {G : GG} {h h' : HH} {ρ ρ' : RO} {k b w p t : Nat} {C : CC}
/-- a new book: its cells get their roles -/
theorem q_B_new {k' b w p t lr lf : Nat} (hown : ∀ c e, h c = some e → (ρ c).1 ≠ k') (hb0 : h b = none) (hw0 : h w = none) (hp0 : h p = none) (ht0 : h t = none) (hlr0 : h lr = none) (hlf0 : h lf = none) (npt : p ≠ t) (nlf : lr ≠ lf)
    (hh : ∀ c, c ≠ b → c ≠ w → c ≠ p → c ≠ t → c ≠ lr → c ≠ lf → h' c = h c) (hb : h' b = some (.inr (2, q_bv w lr lf (fun _ => 0)))) (hw : h' w = some (.inr (3, [.null, .ref p, .ref t, .int 0, .int (-1), .null, .int (-1), .ref b]))) (hp : h' p = some (.inl (G.2.1 0, 3, .inl (fun _ => 0)))) (ht : h' t = some (.inl (G.2.1 0, 3, .inl (fun _ => 0))))
    (hlr : h' lr = some (.inr (4, [.int 0, .ref (G.2.2 0), .int 0]))) (hlf : h' lf = some (.inr (4, [.int 0, .ref (G.2.2 0), .int 0]))) :
    ∃ ρ', q_ex h ρ ρ' ∧ q_sp q_no h h' ∧ q_B G h' ρ' k' b w p t ([], [], fun _ => 0) ∧ q_own h' ρ' k' (fun j => j < 8) := by
  have bw : b ≠ w := q_c_ne hb hw (by intro q; cases q)
  have bp : b ≠ p := q_c_ne hb hp (by intro q; cases q)
  have bt : b ≠ t := q_c_ne hb ht (by intro q; cases q)
  have bl : b ≠ lr := q_c_ne hb hlr (by intro q; cases q)
  have bf : b ≠ lf := q_c_ne hb hlf (by intro q; cases q)
  have wp' : w ≠ p := q_c_ne hw hp (by intro q; cases q)
  have wt : w ≠ t := q_c_ne hw ht (by intro q; cases q)
  have wl : w ≠ lr := q_c_ne hw hlr (by intro q; cases q)
  have wf : w ≠ lf := q_c_ne hw hlf (by intro q; cases q)
  have pl : p ≠ lr := q_c_ne hp hlr (by intro q; cases q)
  have pf : p ≠ lf := q_c_ne hp hlf (by intro q; cases q)
  have tl : t ≠ lr := q_c_ne ht hlr (by intro q; cases q)
  have tf : t ≠ lf := q_c_ne ht hlf (by intro q; cases q)
  let ρ' : RO := q_up (q_up (q_up (q_up (q_up (q_up ρ b (k', 0)) w (k', 1)) p (k', 2)) t (k', 3)) lr (k', 4)) lf (k', 6)
  have e0 : ∀ c, c ≠ b → c ≠ w → c ≠ p → c ≠ t → c ≠ lr → c ≠ lf → ρ' c = ρ c := fun c c1 c2 c3 c4 c5 c6 => by
    show q_up (q_up (q_up (q_up (q_up (q_up ρ b _) w _) p _) t _) lr _) lf _ c = _
    rw [q_up_ne c6, q_up_ne c5, q_up_ne c4, q_up_ne c3, q_up_ne c2, q_up_ne c1]
  have eb : ρ' b = (k', 0) := by
    show q_up (q_up (q_up (q_up (q_up (q_up ρ b _) w _) p _) t _) lr _) lf _ b = _
    rw [q_up_ne bf, q_up_ne bl, q_up_ne bt, q_up_ne bp, q_up_ne bw, q_up_same]
  have ew : ρ' w = (k', 1) := by
    show q_up (q_up (q_up (q_up (q_up (q_up ρ b _) w _) p _) t _) lr _) lf _ w = _
    rw [q_up_ne wf, q_up_ne wl, q_up_ne wt, q_up_ne wp', q_up_same]
  have ep : ρ' p = (k', 2) := by
    show q_up (q_up (q_up (q_up (q_up (q_up ρ b _) w _) p _) t _) lr _) lf _ p = _
    rw [q_up_ne pf, q_up_ne pl, q_up_ne npt, q_up_same]
  have et : ρ' t = (k', 3) := by
    show q_up (q_up (q_up (q_up (q_up (q_up ρ b _) w _) p _) t _) lr _) lf _ t = _
    rw [q_up_ne tf, q_up_ne tl, q_up_same]
  have el : ρ' lr = (k', 4) := by
    show q_up (q_up (q_up (q_up (q_up (q_up ρ b _) w _) p _) t _) lr _) lf _ lr = _
    rw [q_up_ne nlf, q_up_same]
  have ef : ρ' lf = (k', 6) := q_up_same
  have old : ∀ c e, h c = some e → c ≠ b ∧ c ≠ w ∧ c ≠ p ∧ c ≠ t ∧ c ≠ lr ∧ c ≠ lf := fun c e hc => ⟨q_new_ne hb0 hc, q_new_ne hw0 hc, q_new_ne hp0 hc, q_new_ne ht0 hc, q_new_ne hlr0 hc, q_new_ne hlf0 hc⟩
  refine ⟨ρ', fun c e hc => ?_, fun c e hc _ => ?_, ⟨⟨eb, lr, lf, hb, ⟨el, by decide, 0, _, hlr, Or.inl ⟨rfl, rfl⟩⟩, fun y hy => (by cases hy), ⟨ef, by decide, 0, _, hlf, Or.inl ⟨rfl, rfl⟩⟩, fun y hy => (by cases hy)⟩, ⟨none, 0, -1, none, -1, fun _ => 0, hw, ⟨_, hp, fun _ _ => rfl⟩, ⟨_, ht⟩, npt⟩, ew, ep, et⟩, fun c e hc hk => ?_⟩
  · obtain ⟨c1, c2, c3, c4, c5, c6⟩ := old c e hc
    exact e0 c c1 c2 c3 c4 c5 c6
  · obtain ⟨c1, c2, c3, c4, c5, c6⟩ := old c e hc
    rw [hh c c1 c2 c3 c4 c5 c6]
    exact hc
  · by_cases c1 : c = b
    · rw [c1, eb]; exact (show (0 : Nat) < 8 by decide)
    · by_cases c2 : c = w
      · rw [c2, ew]; exact (show (1 : Nat) < 8 by decide)
      · by_cases c3 : c = p
        · rw [c3, ep]; exact (show (2 : Nat) < 8 by decide)
        · by_cases c4 : c = t
          · rw [c4, et]; exact (show (3 : Nat) < 8 by decide)
          · by_cases c5 : c = lr
            · rw [c5, el]; exact (show (4 : Nat) < 8 by decide)
            · by_cases c6 : c = lf
              · rw [c6, ef]; exact (show (6 : Nat) < 8 by decide)
              · rw [e0 c c1 c2 c3 c4 c5 c6] at hk
                rw [hh c c1 c2 c3 c4 c5 c6] at hc
                exact absurd hk (hown c e hc)
theorem sp_X2_copy {mc ms k' : Nat} {Q : Option Nat → HH → Prop} (hB : q_B G h ρ k b w p t C) (hok : c_ok C) (hfw : c_fw C) (hkk : k ≠ k') (hk' : 10 ≤ k') (hown : ∀ c e, h c = some e → (ρ c).1 ≠ k') (hL : ∀ y ∈ C.2.1, y.2.2.1.length < 3999 ∧ y.2.2.2.length < 3999)
    (hmc : 140 + c_sum c_all C.2.1 ≤ mc) (hms : 3400 + 6 * c_sum c_all C.2.1 ≤ ms)
    (hQ : ∀ h' ρ' b' w' p' t' C', h b' = none → q_sp q_no h h' → q_ex h ρ ρ' → q_B G h' ρ' k' b' w' p' t' C' → c_eqv C C' → Q (some b') h') : wp_X2_copy G mc ms h b Q := by
  obtain ⟨lr, lf, g1, g3, g2, ⟨fs3, g5⟩, ⟨fs4, g4⟩⟩ := hB.1.len
  have hl8 := hok.1
  have hl20 := hok.2.2.2.1
  unfold wp_X2_copy
  refine ⟨by omega, by omega, fun b' hb' => ⟨5, 20, by omega, by omega, sp_X2_init q_h_same (by omega) (by omega) (fun h2 w' p' t' lr' lf' e1 e2 e3 e4 e5 npt nlf hh c1 c2 c3 c4 c5 c6 => ?_)⟩⟩
  have dn : ∀ {c}, va_up h b' (some (.inr (2, df_X2))) c = none → h c = none := fun {c} hc => by
    by_cases z : c = b'
    · rw [z]; exact hb'
    · rw [q_h_ne z] at hc; exact hc
  obtain ⟨ρ2, hex2, hsp2, hB2, hown2⟩ := q_B_new (ρ := ρ) (h' := h2) (h := h) hown hb' (dn e1) (dn e2) (dn e3) (dn e4) (dn e5) npt nlf (fun c x1 x2 x3 x4 x5 x6 => by rw [hh c x1 x2 x3 x4 x5 x6, q_h_ne x1]) c1 c2 c3 c4 c5 c6
  -- an iterator of the old book comes or goes on
  have itnw : ∀ {h3 h4 : HH} {ρ3 : RO} {C3 : CC} {it : Nat} {P : Nat → Prop}, q_sp q_no h h3 → q_ex h ρ ρ3 → q_B G h3 ρ3 k' b' w' p' t' C3 → q_own h3 ρ3 k' P → h3 it = none → (∀ c, c ≠ it → h4 c = h3 c) → q_sp q_no h h4 ∧ q_ex h ρ (q_up ρ3 it (9, 0)) ∧ q_B G h4 (q_up ρ3 it (9, 0)) k' b' w' p' t' C3 ∧ q_own h4 (q_up ρ3 it (9, 0)) k' P := by
    intro h3 h4 ρ3 C3 it P a1 a2 a3 a4 a5 a6
    refine ⟨a1.tr (q_sp.nw a5 a6), fun c e hc => ?_, a3.nw a5 a6, fun c e hc hk => ?_⟩
    · rw [q_up_ne (q_new_ne (q_sp_none a1 a5) hc)]
      exact a2 c e hc
    · by_cases z : c = it
      · rw [z, q_up_same] at hk
        simp only at hk
        omega
      · rw [q_up_ne z] at hk ⊢
        rw [a6 c z] at hc
        exact a4 c e hc hk
  have itgo : ∀ {h3 h4 : HH} {ρ3 : RO} {C3 : CC} {it a j : Nat} {P : Nat → Prop}, q_sp q_no h h3 → q_B G h3 ρ3 k' b' w' p' t' C3 → q_own h3 ρ3 k' P → h it = none → ρ3 it = (9, 0) → q_it h3 a it j → (∀ c, c ≠ it → h4 c = h3 c) → q_sp q_no h h4 ∧ q_B G h4 ρ3 k' b' w' p' t' C3 ∧ q_own h4 ρ3 k' P := by
    intro h3 h4 ρ3 C3 it a j P a1 a3 a4 a5 a6 a7 a8
    refine ⟨a1.nx a5 a8, a3.itn hk' a6 a7 a8, fun c e hc hk => ?_⟩
    by_cases z : c = it
    · rw [z, a6] at hk
      simp only at hk
      omega
    · rw [a8 c z] at hc
      exact a4 c e hc hk
  have sum_take : ∀ i, c_sum c_all (C.2.1.take i) ≤ c_sum c_all C.2.1 := by
    have : ∀ (n : Nat) (ys : List CF), c_sum c_all (ys.take n) ≤ c_sum c_all ys := by
      intro n
      induction n with
      | zero => intro ys; simp [c_sum]
      | succ n ih =>
        intro ys
        cases ys with
        | nil => simp
        | cons z zs =>
          simp only [List.take_succ_cons, c_sum]
          have := ih zs
          omega
    exact fun i => this i _
  have hold : ∀ {h3 : HH} {ρ3 : RO}, q_sp q_no h h3 → q_ex h ρ ρ3 → q_B G h3 ρ3 k b w p t C := fun a1 a2 => hB.base a1 a2
  -- the facts
  have loop2 : ∀ d i h3 ρ3 ys nc nk it, i + d = C.2.1.length → q_sp q_no h h3 → q_ex h ρ ρ3 → q_B G h3 ρ3 k' b' w' p' t' (C.1, ys, fun _ => 0) → ys.map Prod.snd = (C.2.1.take i).map Prod.snd → q_own h3 ρ3 k' (fun j => j < 8 ∨ ∃ y ∈ C.2.1.take i, 8 + 5 * y.2.1 0 ≤ j ∧ j < 8 + 5 * y.2.1 0 + 5) → q_it h3 lf it i → ρ3 it = (9, 0) → h it = none →
      nc + 6 * d + c_sum c_all C.2.1 ≤ mc + c_sum c_all (C.2.1.take i) → nk + 153 * d + 6 * c_sum c_all C.2.1 ≤ ms + 6 * c_sum c_all (C.2.1.take i) → wp_X2_copy_L56 G mc ms b Q (d + 1) h3 nc nk b' (some it) := by
    intro d
    induction d with
    | zero =>
      intro i h3 ρ3 ys nc nk it hd hsp hex hB3 hys hown3 hi hit hit0 hnc hnk
      have hO := hold hsp hex
      obtain ⟨lr3, lf3, j1, -, j2, -, -⟩ := hB3.1.len
      have g13 := hsp b _ g1 q_no.not
      have bne : b ≠ b' := q_new_ne hb' g1
      unfold wp_X2_copy_L56
      refine w_nn_of <| q_eachF (g2.kp (q_no_kp hsp) rfl) hi (by omega) (fun _ => ?_) (fun y h' hy => ?_)
      · refine w_geti_of g13 rfl <| w_put_of j1 (Nat.le_of_ble_eq_true rfl) rfl <| w_geti_of (by rw [q_h_ne bne]; exact g13) rfl <| w_put_of q_h_same (Nat.le_of_ble_eq_true rfl) rfl <| w_geti_of (by rw [q_h_up, q_h_ne bne]; exact g13) rfl <| w_put_of q_h_same (Nat.le_of_ble_eq_true rfl) rfl <| w_geti_of (by simp only [q_h_up]; rw [q_h_ne bne]; exact g13) rfl <| w_put_of q_h_same (Nat.le_of_ble_eq_true rfl) rfl ?_
        simp only [q_h_up]
        have hBf := hB3.cnt (h' := va_up h3 b' (some (.inr (2, q_bv w' lr3 lf3 C.2.2)))) (n' := C.2.2) (by omega) j1 (fun c hc => q_h_ne hc) q_h_same
        refine hQ _ ρ3 b' w' p' t' _ hb' (fun c e hc _ => by rw [q_h_ne (q_new_ne hb' hc)]; exact hsp c e hc q_no.not) hex hBf ⟨rfl, rfl, ?_⟩
        show ys.map Prod.snd = _
        rw [hys, List.take_of_length_le (by omega)]
      · have := (List.getElem?_eq_some_iff.mp hy).1
        omega
    | succ d ih =>
      intro i h3 ρ3 ys nc nk it hd hsp hex hB3 hys hown3 hi hit hit0 hnc hnk
      unfold wp_X2_copy_L56
      refine w_nn_of <| q_eachF (g2.kp (q_no_kp hsp) rfl) hi (by omega) (fun z => by omega) (fun y h4 hy hh4 hi4 => ?_)
      obtain ⟨hsp4, hB4, hown4⟩ := itgo hsp hB3 hown3 hit0 hit hi hh4
      have hym := List.mem_of_getElem? hy
      have hyn := hok.2.2.2.2.2.1 y hym
      obtain ⟨y1, y2, y3, y4, y5, y6⟩ := hfw y hym
      have hyL := hL y hym
      have hO4 := hold hsp4 hex
      obtain ⟨hft4, -, -⟩ := hO4.1.fact hy
      obtain ⟨l1, l2, hcy⟩ := hft4.c
      obtain ⟨lr3, lf3, j1, -, j2, -, ⟨fsj, j4⟩⟩ := hB4.1.len
      have hst : c_sum c_all (C.2.1.take (i + 1)) = c_sum c_all (C.2.1.take i) + c_all y := c_sum_take hy
      have hal : c_all y = y.2.2.1.length + y.2.2.2.length := rfl
      have hst2 := sum_take (i + 1)
      have hyl : ys.length = i := by
        have := congrArg List.length hys
        rw [List.length_map, List.length_map, List.length_take] at this
        omega
      refine w_cast_of hcy <| w_geta_of j1 rfl ⟨5 + y.2.2.1.length + y.2.2.2.length, 103 + 6 * y.2.2.1.length + 6 * y.2.2.2.length, by omega, by omega, w_is_of hcy ?_⟩
      refine sp_X10_copy hft4 hkk (by omega) (by omega) y4 hk' (fun c e hc j hj z => ?_) hyL.1 hyL.2 (Nat.le_refl _) (Nat.le_refl _) ?_
      · have := hown4 c e hc (by rw [z])
        rw [z] at this
        rcases this with q | ⟨y', hy', q1, q2⟩
        · simp only at q
          omega
        · simp only at q1 q2
          obtain ⟨i', hi'⟩ := List.getElem?_of_mem hy'
          rw [List.getElem?_take] at hi'
          split at hi'
          · have := hok.2.2.2.2.1 i' i y' y hi' hy (by omega)
            omega
          · cases hi'
      intro h5 ρ5 a' ha' hs5 hex5 hnw5 hft5
      have hB5 := hB4.base hs5 hex5
      have hsp5 := hsp4.tr hs5
      have hdm4 : q_dm h h4 := fun c e hc => ⟨e, hsp4 c e hc q_no.not⟩
      have hexx5 : q_ex h ρ ρ5 := q_ex.tr hdm4 hex hex5
      have hown5 : q_own h5 ρ5 k' (fun j => j < 8 ∨ ∃ y ∈ C.2.1.take (i + 1), 8 + 5 * y.2.1 0 ≤ j ∧ j < 8 + 5 * y.2.1 0 + 5) := by
        intro c e hc hk
        have hmem : ∀ u ∈ C.2.1.take i, u ∈ C.2.1.take (i + 1) := fun u hu => by
          rw [List.take_add_one]
          exact List.mem_append_left _ hu
        have hmy : y ∈ C.2.1.take (i + 1) := by
          rw [List.take_add_one, hy]
          exact List.mem_append_right _ (List.mem_singleton.mpr rfl)
        cases e1 : h4 c with
        | none =>
          rcases hnw5 c e hc e1 with q | ⟨j, hj, q⟩
          · rw [q] at hk
            simp only at hk
            omega
          · rw [q]
            exact Or.inr ⟨y, hmy, by simp only; omega, by simp only; omega⟩
        | some e' =>
          have q := hex5 c e' e1
          rw [q] at hk ⊢
          rcases hown4 c e' e1 hk with g | ⟨u, hu, g⟩
          · exact Or.inl g
          · exact Or.inr ⟨u, hmem u hu, g⟩
      have hj25 : q_ls G h5 ρ5 (k', 6) lf3 (ys.map Prod.fst) := j2.kR (R := fun _ => True) ⟨hex5, fun c e hc _ _ => hs5 c e hc q_no.not⟩ trivial trivial
      have j15 := hs5 b' _ j1 q_no.not
      obtain ⟨-, lra, lfa, hca, -, -⟩ := id hft5
      have hel : ∀ z ∈ ys.map Prod.fst, ∃ e, h5 z = some e ∧ hv_ob G e := by
        intro z hz
        obtain ⟨z', hz', rfl⟩ := List.mem_map.mp hz
        obtain ⟨iz, hiz⟩ := List.getElem?_of_mem hz'
        obtain ⟨l1, l2, hcz⟩ := hB5.cell (i := iz) (y := z') hiz
        exact q_fv_ob hcz
      refine w_nn_of ⟨1, 50, by omega, by omega, w_is_of (hs5 lf3 _ j4 q_no.not) <| sp_J2_addX hj25 ⟨_, hca, Or.inl ⟨14, _, by decide, rfl⟩⟩ hel (by omega) (by rw [List.length_map]; omega) (by rw [List.length_map]; omega) (fun h6 ρ6 hdm6 hex6 hfr6 hnw6 hl6 => ?_)⟩
      have hkR6 : q_kR G (fun r => r ≠ (k', 6) ∧ r ≠ (k', 7)) h5 ρ5 h6 ρ6 := ⟨hex6, fun c e hc _ hr => hfr6 c e hc (fun z => z.elim hr.1 hr.2)⟩
      have hne6 : ∀ j, j ≠ 6 → j ≠ 7 → ((k', j) : Nat × Nat) ≠ (k', 6) ∧ ((k', j) : Nat × Nat) ≠ (k', 7) := fun j a1 a2 => ⟨fun z => a1 (congrArg Prod.snd z), fun z => a2 (congrArg Prod.snd z)⟩
      have hft6 : q_ft G h6 ρ6 k' (a', y.2) := hft5.kR hkR6 ⟨fun z => by have := congrArg Prod.fst z; simp only at this; omega, fun z => by have := congrArg Prod.fst z; simp only at this; omega⟩ (fun j _ => hne6 _ (by simp only; omega) (by simp only; omega))
      have hB6 : q_B G h6 ρ6 k' b' w' p' t' (C.1, ys ++ [(a', y.2)], fun _ => 0) := hB5.facts (by omega) j15 hex6 (fun c e hc hS => hfr6 c e hc hS) (by rw [List.map_append]; exact hl6) (fun u hu => by
        rcases List.mem_append.mp hu with z | z
        · exact Or.inl z
        · rw [List.mem_singleton.mp z]
          exact Or.inr hft6)
      have hsp6 : q_sp q_no h h6 := fun c e hc _ => hfr6 c e (hsp5 c e hc q_no.not) (fun z => by
        have := hown c e hc
        rw [hexx5 c e hc] at z
        rcases z with z | z <;> rw [z] at this <;> exact this rfl)
      have hdm5 : q_dm h h5 := fun c e hc => ⟨e, hsp5 c e hc q_no.not⟩
      have hexx6 : q_ex h ρ ρ6 := q_ex.tr hdm5 hexx5 hex6
      obtain ⟨fsi, hio⟩ := hi4.ob
      have hit5 : ρ5 it = (9, 0) := by rw [hex5 it _ hio]; exact hit
      have hi6 : q_it h6 lf it (i + 1) := by
        have hi5 := hi4.sp hs5 q_no.not q_no.not
        refine hi5.sp (S := fun c => ρ5 c = (k', 6) ∨ ρ5 c = (k', 7)) (fun c e hc hS => hfr6 c e hc hS) (fun z => ?_) (fun z => ?_)
        · rw [hit5] at z
          rcases z with z | z <;> have := congrArg Prod.fst z <;> simp only at this <;> omega
        · rw [hexx5 lf _ g4, g2.1] at z
          rcases z with z | z <;> exact hkk (congrArg Prod.fst z)
      refine ih (i + 1) h6 ρ6 (ys ++ [(a', y.2)]) _ _ it (by omega) hsp6 hexx6 hB6 ?_ (fun c e hc hk => ?_) hi6 (by rw [hex6 it _ (hs5 it _ hio q_no.not)]; exact hit5) hit0 (by omega) (by omega)
      · rw [List.map_append, hys, List.take_add_one, hy, List.map_append]
        rfl
      · cases e1 : h5 c with
        | none =>
          rw [hnw6 c e hc e1]
          exact Or.inl (show (7 : Nat) < 8 by decide)
        | some e' =>
          have q := hex6 c e' e1
          rw [q] at hk ⊢
          exact hown5 c e' e1 hk
  -- the rules
  have loop1 : ∀ d i h3 ρ3 nc nk it, i + d = C.1.length → q_sp q_no h h3 → q_ex h ρ ρ3 → q_B G h3 ρ3 k' b' w' p' t' (C.1.take i, [], fun _ => 0) → q_own h3 ρ3 k' (fun j => j < 8) → q_it h3 lr it i → ρ3 it = (9, 0) → h it = none →
      nc + d + 121 + c_sum c_all C.2.1 ≤ mc → nk + 26 * d + 3064 + 6 * c_sum c_all C.2.1 ≤ ms → wp_X2_copy_L16 G mc ms b Q (d + 1) h3 nc nk b' (some it) := by
    intro d
    induction d with
    | zero =>
      intro i h3 ρ3 nc nk it hd hsp hex hB3 hown3 hi hit hit0 hnc hnk
      unfold wp_X2_copy_L16
      refine w_nn_of <| q_each (g3.kp (q_no_kp hsp) rfl) hi (by rw [List.length_map]; omega) (fun _ => ?_) (fun x1 h' hx => ?_)
      · refine w_geta_of (hsp b _ g1 q_no.not) rfl <| w_nn_of ⟨1, 4, by omega, by omega, w_is_of (hsp lf _ g4 q_no.not) <| sp_J2_iterator (g2.kp (q_no_kp hsp) rfl) (by omega) (by omega) (fun it2 h4 hit2 hh4 hi4 => ?_)⟩
        rw [List.take_of_length_le (by omega)] at hB3
        obtain ⟨q1, q2, q3, q4⟩ := itnw hsp hex hB3 hown3 hit2 hh4
        refine ⟨_, loop2 C.2.1.length 0 h4 _ [] (nc + 1) (nk + 4) it2 (by omega) q1 q2 q3 rfl (fun c e hc hk => Or.inl (q4 c e hc hk)) hi4 q_up_same (q_sp_none hsp hit2) ?_ ?_⟩
        · simp only [List.take_zero, c_sum]
          omega
        · simp only [List.take_zero, c_sum]
          omega
      · rw [List.getElem?_eq_none (by rw [List.length_map]; omega)] at hx
        cases hx
    | succ d ih =>
      intro i h3 ρ3 nc nk it hd hsp hex hB3 hown3 hi hit hit0 hnc hnk
      unfold wp_X2_copy_L16
      refine w_nn_of <| q_each (g3.kp (q_no_kp hsp) rfl) hi (by rw [List.length_map]; omega) (fun z => by rw [List.length_map] at z; omega) (fun xa h4 hx hh4 hi4 => ?_)
      obtain ⟨x1, hx1, rfl⟩ : ∃ x1, C.1[i]? = some x1 ∧ x1.1 = xa := by
        rw [List.getElem?_map] at hx
        exact Option.map_eq_some_iff.mp hx
      obtain ⟨hsp4, hB4, hown4⟩ := itgo hsp hB3 hown3 hit0 hit hi hh4
      have hO4 := hold hsp4 hex
      obtain ⟨hr1, -⟩ := hO4.1.rule hx1
      obtain ⟨fsr, hro⟩ := hr1.ob
      obtain ⟨lr3, lf3, j1, j2, -, ⟨fsj, j4⟩, -⟩ := hB4.1.len
      have htl : (C.1.take i).length = i := by rw [List.length_take]; omega
      have hel : ∀ z ∈ (C.1.take i).map Prod.fst, ∃ e, h4 z = some e ∧ hv_ob G e := by
        intro z hz
        obtain ⟨z', hz', rfl⟩ := List.mem_map.mp hz
        obtain ⟨iz, hiz⟩ := List.getElem?_of_mem hz'
        obtain ⟨fsz, hcz⟩ := (hB4.1.rule hiz).1.ob
        exact ⟨_, hcz, Or.inl ⟨12, _, by decide, rfl⟩⟩
      refine w_cast_of hro <| w_geta_of j1 rfl <| w_nn_of ⟨1, 26, by omega, by omega, w_is_of j4 <| sp_J2_addX j2 ⟨_, hro, Or.inl ⟨12, _, by decide, rfl⟩⟩ hel (by omega) (by simp only [List.length_map, htl]; omega) (by simp only [List.length_map, htl]; omega) (fun h6 ρ6 hdm6 hex6 hfr6 hnw6 hl6 => ?_)⟩
      have hdm4 : q_dm h h4 := fun c e hc => ⟨e, hsp4 c e hc q_no.not⟩
      have hkR6 : q_kR G (fun r => r ≠ (k', 4) ∧ r ≠ (k', 5)) h4 ρ3 h6 ρ6 := ⟨hex6, fun c e hc _ hr => hfr6 c e hc (fun z => z.elim hr.1 hr.2)⟩
      have e9 : C.1.take (i + 1) = C.1.take i ++ [x1] := by
        rw [List.take_add_one, hx1]
        rfl
      have hr6 : q_rl G h6 ρ6 x1.1 x1.2 := hr1.kR hkR6 ⟨fun z => by have := congrArg Prod.fst z; simp only at this; omega, fun z => by have := congrArg Prod.fst z; simp only at this; omega⟩
      have hB6 : q_B G h6 ρ6 k' b' w' p' t' (C.1.take (i + 1), [], fun _ => 0) := hB4.rules (by omega) j1 hex6 (fun c e hc hS => hfr6 c e hc hS) (by rw [e9, List.map_append]; exact hl6) (fun u hu => by
        rw [e9] at hu
        rcases List.mem_append.mp hu with z | z
        · exact Or.inl z
        · rw [List.mem_singleton.mp z]
          exact Or.inr hr6)
      have hsp6 : q_sp q_no h h6 := fun c e hc _ => hfr6 c e (hsp4 c e hc q_no.not) (fun z => by
        have := hown c e hc
        rw [hex c e hc] at z
        rcases z with z | z <;> rw [z] at this <;> exact this rfl)
      obtain ⟨fsi, hio⟩ := hi4.ob
      have hi6 : q_it h6 lr it (i + 1) := by
        refine hi4.sp (S := fun c => ρ3 c = (k', 4) ∨ ρ3 c = (k', 5)) (fun c e hc hS => hfr6 c e hc hS) (fun z => ?_) (fun z => ?_)
        · rw [hit] at z
          rcases z with z | z <;> have := congrArg Prod.fst z <;> simp only at this <;> omega
        · rw [hex lr _ g5, g3.1] at z
          rcases z with z | z <;> exact hkk (congrArg Prod.fst z)
      refine ih (i + 1) h6 ρ6 _ _ it (by omega) hsp6 (q_ex.tr hdm4 hex hex6) hB6 (fun c e hc hk => ?_) hi6 (by rw [hex6 it _ hio]; exact hit) hit0 (by omega) (by omega)
      cases e1 : h4 c with
      | none =>
        rw [hnw6 c e hc e1]
        exact (show (5 : Nat) < 8 by decide)
      | some e' =>
        have q := hex6 c e' e1
        rw [q] at hk ⊢
        exact hown4 c e' e1 hk
  refine w_geta_of (hsp2 b _ g1 q_no.not) rfl <| w_nn_of ⟨1, 4, by omega, by omega, w_is_of (hsp2 lr _ g5 q_no.not) <| sp_J2_iterator (g3.kp (q_no_kp hsp2) rfl) (by omega) (by omega) (fun it h4 hit hh4 hi4 => ?_)⟩
  obtain ⟨q1, q2, q3, q4⟩ := itnw hsp2 hex2 hB2 hown2 hit hh4
  exact ⟨_, loop1 C.1.length 0 h4 _ _ _ it (by omega) q1 q2 q3 q4 hi4 q_up_same (q_sp_none hsp2 hit) (by omega) (by omega)⟩
end BCOPY2
