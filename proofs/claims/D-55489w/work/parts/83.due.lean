set_option maxRecDepth 100000
/-! the agenda -/
section AG2
variable {G : GG} {h h0 : HH} {ρ : RO} {k b w p t fd : Nat} {C : CC}
theorem q_bk.rule (hb : q_bk G h ρ k b w C) {i : Nat} {x1 : Nat × (Nat → Nat)} (hi : C.1[i]? = some x1) : q_rl G h ρ x1.1 x1.2 ∧ (C.1.map Prod.fst)[i]? = some x1.1 := by
  obtain ⟨-, lr, lf, -, -, g3, -⟩ := hb
  exact ⟨g3 x1 (List.mem_of_getElem? hi), by rw [List.getElem?_map, hi]; rfl⟩
theorem q_rl.ob {ra : Nat} {r : Nat → Nat} (hr : q_rl G h ρ ra r) : ∃ fs, h ra = some (.inr (12, fs)) := by
  obtain ⟨-, -, -, p1, p2, p3, hra, -⟩ := hr
  exact ⟨_, hra⟩
theorem sp_X2_isNext {ma last : Option Nat} {Q : Int32 → HH → Prop} (hok : c_ok C) (hb0 : q_bk G h0 ρ k b w C) (hw0 : q_wv G h0 b w p t) (hwh : q_wv G h b w p t) (hs0 : q_sp (q_S w p t) h0 h) (hfd : h0 fd = none) (hfy : q_fny h fd)
    (hma0 : ma = none → last = none) (hma : ∀ a, ma = some a → a ≠ fd ∧ ∃ l fi, last = some l ∧ l < 3360 ∧ c_mk C l fi ∧ q_fcl h a fi)
    (hQ : ∀ h' res, q_sp (q_Sf w p t fd) h h' → q_wv G h' b w p t → s_mn (c_du C) (s_key (c_w C)) last res → q_bst h' C fd res → Q (if res.isSome then 1 else 0) h') : wp_X2_isNext G h b ma (some fd) Q := by
  obtain ⟨r9, pl9, ot9, f9, s9, g9, hw00⟩ := id hw0
  have main : ∀ d i h1 bst, i + d = C.1.length → q_sp (q_Sf w p t fd) h h1 → q_wv G h1 b w p t → s_mn (c_lt (c_du C) (420 * i)) (s_key (c_w C)) last bst → q_bst h1 C fd bst → wp_X2_isNext_L5 G b Q (d + 1) h1 ma (some fd) (if bst.isSome then 1 else 0) (nI i) := by
    intro d
    induction d with
    | zero =>
      intro i h1 bst hd hs hwv hmn hbst
      have hb1 := hb0.kp (hw00.kp (k := k) (ρ := ρ) (q_sp_fd hs0 hfd hs))
      obtain ⟨lr, lf, g1, g3, g2, ⟨fs3, g5⟩, ⟨fs4, g4⟩⟩ := hb1.len
      unfold wp_X2_isNext_L5
      refine w_geta_of g1 rfl <| w_nn_of <| w_is_of g5 <| sp_J2_size g3 ?_
      have hl8 := hok.1
      rw [List.length_map]
      refine br_t (nI_le (by omega) (by omega)) ⟨?_, hQ h1 bst hs hwv (s_mn_all hmn (fun m hm => c_du_n (by omega))) hbst⟩
      split <;> rfl
    | succ d ih =>
      intro i h1 bst hd hs hwv hmn hbst
      have hb1 := hb0.kp (hw00.kp (k := k) (ρ := ρ) (q_sp_fd hs0 hfd hs))
      obtain ⟨lr, lf, g1, g3, g2, ⟨fs3, g5⟩, ⟨fs4, g4⟩⟩ := hb1.len
      obtain ⟨x1, hx⟩ : ∃ x1, C.1[i]? = some x1 := ⟨_, List.getElem?_eq_getElem (by omega)⟩
      obtain ⟨hr1, hxa⟩ := hb1.rule hx
      obtain ⟨fsr, hro⟩ := hr1.ob
      have hl8 := hok.1
      obtain ⟨r8, pl8, ot8, f8, s8, g8, hw1⟩ := hwv
      unfold wp_X2_isNext_L5
      refine w_geta_of g1 rfl <| w_nn_of <| w_is_of g5 <| sp_J2_size g3 ?_
      rw [List.length_map]
      refine br_f (nI_ge (by omega) (by omega)) <| w_geta_of g1 rfl <| w_geta_of g1 rfl <| w_nn_of <| w_is_of g5 <| sp_J2_get g3 hxa <| w_nn_of <| w_cast_of hro <| w_nn_of <| w_is_of hw1.1 <| sp_X3_begin hw1 (fun h2 hh2 hw2 => ?_)
      have hs2 : q_sp (q_S w p t) h1 h2 := q_sp.of hh2 (Or.inl rfl)
      have hfd2 : h2 fd = h1 fd := by
        obtain ⟨v1, v2, v3, e⟩ := hbst.1
        rw [hs2 fd _ e (hw1.ne e (q_wl.ob (by decide))), e]
      exact ⟨421, sp_X2_isNext_L38 hok hb0 hw0 hwh hs0 hfd hx hma0 hma (fun h3 bst' a1 a2 a3 a4 => ih (i + 1) h3 bst' (by omega) a1 a2 a3 a4) 421 0 none none (-1) h2 bst (by omega) (hs.tr (hs2.mono (fun c z => Or.inl z))) ⟨_, hw2, by omega, fun _ => rfl, fun o ho => (by cases ho)⟩ hmn (hbst.st hfd2)⟩
  have := main C.1.length 0 h none (by omega) q_sp.rf hwh s_mn_0 ⟨hfy, fun m hm => by cases hm⟩
  exact ⟨_, this⟩
theorem sp_X12_init {a : Nat} {Q : HH → Prop} (ha : h a = some (.inr (16, df_X12))) (hQ : ∀ h', (∀ c, c ≠ a → h' c = h c) → q_fny h' a → Q h') : wp_X12_init G h a Q := by
  unfold wp_X12_init
  refine w_put_of ha (by decide) rfl <| w_put_of q_h_same (Nat.le_of_ble_eq_true rfl) rfl ?_
  rw [q_h_up]
  exact hQ _ (fun c hc => q_h_ne hc) ⟨_, _, _, q_h_same⟩
theorem q_wv.st {h1 : HH} (hw : q_wv G h b w p t) (hs : q_sp q_no h h1) : q_wv G h1 b w p t := by
  obtain ⟨r, pl, ot, f, s, g, h1, ⟨f1, h2, h3⟩, ⟨f2, h4⟩, h5⟩ := hw
  exact ⟨r, pl, ot, f, s, g, hs _ _ h1 q_no.not, ⟨f1, hs _ _ h2 q_no.not, h3⟩, ⟨f2, hs _ _ h4 q_no.not⟩, h5⟩
theorem q_wv.ne (hw : q_wv G h b w p t) {c : Nat} {e : va_E} (hc : h c = some e) (he : ¬ q_wl G e) : ¬ q_S w p t c := by
  obtain ⟨r, pl, ot, f, s, g, hw⟩ := hw
  exact hw.ne hc he
theorem q_wv.kp {h' : HH} (hw : q_wv G h b w p t) (hs : q_sp (q_S w p t) h h') : q_kp G k h ρ h' ρ := by
  obtain ⟨r, pl, ot, f, s, g, hw⟩ := hw
  exact hw.kp hs
/-- a frame over what was there before a new cell came -/
theorem q_sp_f2 {h1 : HH} (hfd : h fd = none) (hs : q_sp (q_Sf w p t fd) h h1) : q_sp (q_S w p t) h h1 := fun c e hc hS => hs c e hc (fun z => z.elim hS (fun q => by rw [q, hfd] at hc; cases hc))
theorem q_sp.nw {S : Nat → Prop} {h1 : HH} (hfd : h fd = none) (hh : ∀ c, c ≠ fd → h1 c = h c) : q_sp S h h1 := fun c e hc _ => by rw [hh c (q_new_ne hfd hc)]; exact hc
theorem sp_X2_foremost {mc ms : Nat} {Q : Option Nat → HH → Prop} (hok : c_ok C) (hb : q_bk G h ρ k b w C) (hw : q_wv G h b w p t) (hc : 1 ≤ mc) (hms : 3 ≤ ms)
    (hQ0 : ∀ h', q_sp (q_S w p t) h h' → q_wv G h' b w p t → s_mn (c_du C) (s_key (c_w C)) none none → Q none h')
    (hQ1 : ∀ h' fd m fi, h fd = none → q_sp (q_S w p t) h h' → q_wv G h' b w p t → s_mn (c_du C) (s_key (c_w C)) none (some m) → m < 3360 → c_mk C m fi → q_fcl h' fd fi → Q (some fd) h') : wp_X2_foremost G mc ms h b Q := by
  refine ⟨by omega, by omega, fun fd hfd => sp_X12_init q_h_same (fun h2 hh2 hf2 => ?_)⟩
  have hh : ∀ c, c ≠ fd → h2 c = h c := fun c hc => by rw [hh2 c hc, q_h_ne hc]
  have hs2 : q_sp (q_S w p t) h h2 := q_sp.nw hfd hh
  obtain ⟨lr, lf, g1, -, -, -, -⟩ := hb.len
  refine w_is_of (q_sp.nw (S := q_no) hfd hh b _ g1 q_no.not) <| sp_X2_isNext hok hb hw (hw.st (q_sp.nw hfd hh)) hs2 hfd hf2 (last := none) (fun _ => rfl) (fun a z => by cases z) (fun h' res a1 a2 a3 a4 => ?_)
  have a5 := q_sp_fd hs2 hfd a1
  cases res with
  | none => exact br_t rfl (hQ0 h' a5 a2 a3)
  | some m =>
    obtain ⟨b1, fi, b2, b3⟩ := a4.2 m rfl
    exact br_f (by simp) (hQ1 h' fd m fi hfd a5 a2 a3 b1 b2 b3)
theorem s_at_none {D : Nat → Bool} {κ : Nat → Nat} {i n : Nat} (h : s_at D κ i none) (hin : i ≤ n) : s_at D κ n none := by
  induction n with
  | zero => rw [show i = 0 by omega] at h; exact h
  | succ n ih =>
    by_cases q : i = n + 1
    · rw [q] at h; exact h
    · exact ⟨none, ih (by omega), Or.inl ⟨rfl, rfl⟩⟩
theorem sp_X2_agenda {mc ms : Nat} {pl : Int32} {Q : Option Nat → HH → Prop} (hok : c_ok C) (hb : q_bk G h ρ k b w C) (hw : q_wv G h b w p t) (hc : 2 ≤ mc) (hms : 6 ≤ ms) (hneg : ¬ 0 ≤ pl → Q none h)
    (hQ0 : ∀ h' n, pl = nI n → n < 2 ^ 31 → q_sp (q_S w p t) h h' → q_wv G h' b w p t → s_at (c_du C) (s_key (c_w C)) n none → Q none h')
    (hQ1 : ∀ h' n fd m fi, pl = nI n → n < 2 ^ 31 → q_sp (q_S w p t) h h' → q_wv G h' b w p t → s_at (c_du C) (s_key (c_w C)) n (some m) → m < 3360 → c_mk C m fi → q_fcl h' fd fi → Q (some fd) h') : wp_X2_agenda G mc ms h b pl Q := by
  unfold wp_X2_agenda
  refine ⟨fun hp => ?_, hneg⟩
  obtain ⟨n, hn, rfl⟩ := nI_of (x := pl) (fun z => by
    rw [Int32.lt_iff_toInt_lt] at z
    rw [Int32.le_iff_toInt_le] at hp
    omega)
  refine ⟨by omega, by omega, fun f1 hf1 => sp_X12_init q_h_same (fun h2 hh2 hy1 => ⟨by omega, by omega, fun f2 hf2 => sp_X12_init q_h_same (fun h3 hh3 hy2 => ?_)⟩)⟩
  have hh : ∀ c, c ≠ f1 → h2 c = h c := fun c hc => by rw [hh2 c hc, q_h_ne hc]
  have hh' : ∀ c, c ≠ f2 → h3 c = h2 c := fun c hc => by rw [hh3 c hc, q_h_ne hc]
  have hf12 : f1 ≠ f2 := by
    obtain ⟨v1, v2, v3, e⟩ := hy1
    exact q_new_ne hf2 e
  have hf2' : h f2 = none := by rw [← hh f2 (Ne.symm hf12)]; exact hf2
  have hs3 : ∀ {S : Nat → Prop}, q_sp S h h3 := fun {S} => (q_sp.nw hf1 hh).tr (q_sp.nw hf2 hh')
  have hy1' : q_fny h3 f1 := by
    obtain ⟨v1, v2, v3, e⟩ := hy1
    exact ⟨v1, v2, v3, by rw [hh' f1 hf12]; exact e⟩
  obtain ⟨lr, lf, g1, -, -, -, -⟩ := hb.len
  have hbc : ∀ {h' : HH}, q_sp (q_S w p t) h h' → ∃ fs, h' b = some (.inr (2, fs)) := fun hs => ⟨_, hs b _ g1 (hw.ne g1 (q_wl.ob (by decide)))⟩
  have main : ∀ d i a1 a4 h1 res, i + d = n → a1 ≠ a4 → h a1 = none → h a4 = none → q_sp (q_S w p t) h h1 → q_wv G h1 b w p t → q_fny h1 a1 → s_at (c_du C) (s_key (c_w C)) i res → q_bst h1 C a4 res → wp_X2_agenda_L33 G mc ms b Q (d + 1) h1 ((0 + 1) + 1) ((0 + 3) + 3) (nI n) a1 a4 (if res.isSome then 1 else 0) (nI i) := by
    have fin : ∀ a4 h1 res, q_sp (q_S w p t) h h1 → q_wv G h1 b w p t → s_at (c_du C) (s_key (c_w C)) n res → q_bst h1 C a4 res → wp_X2_agenda_L66 G mc ms b Q h1 ((0 + 1) + 1) ((0 + 3) + 3) a4 (if res.isSome then 1 else 0) := by
      intro a4 h1 res b1 b2 b3 b4
      unfold wp_X2_agenda_L66
      cases res with
      | none => exact br_t rfl (hQ0 h1 n rfl hn b1 b2 b3)
      | some m =>
        obtain ⟨c1, fi, c2, c3⟩ := b4.2 m rfl
        exact br_f (by simp) (hQ1 h1 n a4 m fi rfl hn b1 b2 b3 c1 c2 c3)
    intro d
    induction d with
    | zero =>
      intro i a1 a4 h1 res hd hne e1 e4 hs hwv hfy hat hbst
      unfold wp_X2_agenda_L33
      obtain rfl : i = n := by omega
      exact br_t (nI_le (by omega) hn) (fin a4 h1 res hs hwv hat hbst)
    | succ d ih =>
      intro i a1 a4 h1 res hd hne e1 e4 hs hwv hfy hat hbst
      unfold wp_X2_agenda_L33
      refine br_f (nI_ge (by omega) hn) ?_
      cases res with
      | none => exact br_t rfl (fin a4 h1 none hs hwv (s_at_none hat (by omega)) hbst)
      | some m =>
        refine br_f (by simp) ?_
        obtain ⟨c1, fi, c2, c3⟩ := hbst.2 m rfl
        obtain ⟨fsb, hbb⟩ := hbc hs
        refine w_is_of hbb <| sp_X2_isNext (last := some m) hok hb hw hwv hs e1 hfy (fun z => by cases z) (fun a z => by cases z; exact ⟨Ne.symm hne, m, fi, rfl, c1, c2, c3⟩) (fun h' res b1 b2 b3 b4 => ?_)
        rw [nI_1]
        refine ih (i + 1) a4 a1 h' res (by omega) (Ne.symm hne) e4 e1 (q_sp_fd hs e1 b1) b2 ?_ ⟨some m, hat, Or.inr ⟨m, rfl, b3⟩⟩ b4
        exact ⟨_, _, _, b1 a4 _ c3 (fun z => z.elim (hwv.ne c3 (q_wl.ob (by decide))) (Ne.symm hne))⟩
  obtain ⟨fsb, hbb⟩ := hbc hs3
  refine w_is_of hbb <| sp_X2_isNext hok hb hw (hw.st hs3) hs3 hf2' hy2 (last := none) (fun _ => rfl) (fun a z => by cases z) (fun h' res a1 a2 a3 a4 => ?_)
  have hf1S : ¬ q_S w p t f1 := by
    obtain ⟨v1, v2, v3, e⟩ := hy1'
    exact (hw.st hs3).ne e (q_wl.ob (by decide))
  have := main n 0 f1 f2 h' res (by omega) hf12 hf1 hf2' (q_sp_fd hs3 hf2' a1) a2 (by
    obtain ⟨v1, v2, v3, e⟩ := hy1'
    exact ⟨v1, v2, v3, a1 f1 _ e (fun z => z.elim hf1S hf12)⟩) a3 a4
  exact ⟨_, this⟩
/-- how many matches a rule has -/
theorem sp_X2_matches {x1 : Nat × (Nat → Nat)} {Q : Int32 → HH → Prop} {i : Nat} (hok : c_ok C) (hb : q_bk G h ρ k b w C) (hw : q_wv G h b w p t) (hx : C.1[i]? = some x1)
    (hQ : ∀ h', q_sp (q_S w p t) h h' → q_wv G h' b w p t → Q (nI (s_cn (s_is x1.2 (q_fs C)) 420)) h') : wp_X2_matches G h b (some x1.1) Q := by
  obtain ⟨lr, lf, g1, -, -, -, -⟩ := hb.len
  obtain ⟨r8, pl8, ot8, f8, s8, g8, hw0⟩ := id hw
  unfold wp_X2_matches
  refine w_geta_of g1 rfl <| w_nn_of <| w_is_of hw0.1 <| sp_X3_begin hw0 (fun h2 hh2 hw2 => ?_)
  have main : ∀ N pl ot f s h1 n, 421 - q_ps pl ot ≤ N → q_sp (q_S w p t) h h1 → q_wp G h1 b w p t x1.1 x1.2 C pl ot f s → s_cn (s_is x1.2 (q_fs C)) (q_ps pl ot) = n → wp_X2_matches_L11 G b Q N h1 (nI n) (some w) := by
    intro N
    induction N with
    | zero =>
      intro pl ot f s h1 n hN hs hp hn
      have := hp.ps hok.2.2.2.1
      omega
    | succ N ih =>
      intro pl ot f s h1 n hN hs hp hn
      have hps := hp.ps hok.2.2.2.1
      obtain ⟨g1, hw1, -⟩ := id hp
      have hb1 := hb.kp (hw.kp hs)
      unfold wp_X2_matches_L11
      refine w_nn_of <| w_is_of hw1.1 <| sp_X3_goesOn hb1 (hb1.rule hx).1 hok.2.2.2.1 hp (fun h2 c pl' ot' f' s' hs2 hc1 hc2 hc3 hc4 hc5 hp2 hat => ?_) (fun h2 pl' ot' f' s' hs2 hno hp2 => ?_)
      · rw [nI_1]
        refine br_f (by decide) (ih pl' ot' f' s' h2 (n + 1) (by omega) (hs.tr hs2) hp2 ?_)
        rw [s_cn_one hc1 hc4 hc2 hc3 hc5, hn]
      · refine br_t rfl ?_
        have := hQ h2 (hs.tr hs2) hp2.v
        rw [s_cn_none hps (fun m h1 h2 => hno m h1), hn] at this
        exact this
  have := main 421 0 none none (-1) h2 0 (by omega) (q_sp.of hh2 (Or.inl rfl)) ⟨_, hw2, by omega, fun _ => rfl, fun o ho => (by cases ho)⟩ rfl
  exact ⟨_, this⟩
end AG2
/-! for-each over a list; what is due -/
theorem s_cn_split {P Q R : Nat → Bool} {n : Nat} (h : ∀ m, m < n → R m = (P m || Q m) ∧ (P m && Q m) = false) : s_cn P n + s_cn Q n = s_cn R n := by
  induction n with
  | zero => rfl
  | succ n ih =>
    have e := ih (fun m hm => h m (by omega))
    obtain ⟨h1, h2⟩ := h n (by omega)
    simp only [s_cn, h1]
    cases hp : P n <;> cases hq : Q n <;> simp_all <;> omega
section EACH
variable {G : GG} {h h0 : HH} {ρ : RO} {k b w p t : Nat} {C : CC}
theorem q_it.ob {a it j : Nat} (hi : q_it h a it j) : ∃ fs, h it = some (.inr (13, fs)) := by
  obtain ⟨_, _, _, _, e, -⟩ := hi
  exact ⟨_, e⟩
theorem q_each {t : Nat × Nat} {a it j : Nat} {xs : List Nat} {E : HH → Prop} {B : Nat → HH → Prop} (hl : q_ls G h ρ t a xs) (hi : q_it h a it j) (hj : j ≤ xs.length) (hE : j = xs.length → E h)
    (hB : ∀ x1 h', xs[j]? = some x1 → (∀ c, c ≠ it → h' c = h c) → q_it h' a it (j + 1) → B x1 h') : w_is h it 13 (wp_J15_hasNext G h it (fun r h8 => ((r = 0 → E h8) ∧ (¬ r = 0 → w_is h8 it 13 (wp_J15_next G h8 it (fun r9 h10 => w_nn r9 (fun a11 => B a11 h10))))))) := by
  obtain ⟨fs, ho⟩ := hi.ob
  refine w_is_of ho <| sp_J15_hasNext hl hi hj (fun hlt => br_f (by decide) ?_) (fun he => br_t rfl (hE he))
  obtain ⟨x1, hx⟩ : ∃ x1, xs[j]? = some x1 := ⟨_, List.getElem?_eq_getElem hlt⟩
  exact w_is_of ho <| sp_J15_next hl hi hx (fun h' hh hi' => w_nn_of (hB x1 h' hx hh hi'))
theorem q_it.sp {S : Nat → Prop} {h1 : HH} {a it j : Nat} (hi : q_it h a it j) (hs : q_sp S h h1) (h1' : ¬ S it) (h2 : ¬ S a) : q_it h1 a it j := by
  obtain ⟨lr, mc, arr, n, e1, e2⟩ := hi
  exact ⟨lr, mc, arr, n, hs _ _ e1 h1', hs _ _ e2 h2⟩
theorem q_sp.nx {S : Nat → Prop} {h1 h2 : HH} {it : Nat} (hs : q_sp S h h1) (hit : h it = none) (hh : ∀ c, c ≠ it → h2 c = h1 c) : q_sp S h h2 := fun c e hc hS => by
  rw [hh c (q_new_ne hit hc)]
  exact hs c e hc hS
theorem q_wv.nx {h1 h2 : HH} {a it j : Nat} (hw : q_wv G h1 b w p t) (hi : q_it h1 a it j) (hh : ∀ c, c ≠ it → h2 c = h1 c) : q_wv G h2 b w p t := by
  obtain ⟨fs, ho⟩ := hi.ob
  obtain ⟨r, pl, ot, f, s, g, e1, ⟨f1, e2, e3⟩, ⟨f2, e4⟩, e5⟩ := hw
  refine ⟨r, pl, ot, f, s, g, ?_, ⟨f1, ?_, e3⟩, ⟨f2, ?_⟩, e5⟩
  · rw [hh w (q_c_ne e1 ho (by intro q; cases q))]; exact e1
  · rw [hh p (q_c_ne e2 ho (by intro q; cases q))]; exact e2
  · rw [hh t (q_c_ne e4 ho (by intro q; cases q))]; exact e4
theorem q_it.wS {h1 h2 : HH} {a it j : Nat} (hi : q_it h1 a it j) (hw : q_wv G h1 b w p t) (hs : q_sp (q_S w p t) h1 h2) : q_it h2 a it j := by
  obtain ⟨lr, mc, arr, n, e1, e2⟩ := id hi
  exact hi.sp hs (hw.ne e1 (q_wl.ob (by decide))) (hw.ne e2 (q_wl.ob (by decide)))
/-- a walk of a rule at a new match: what is due -/
theorem c_du_at {i c : Nat} {x1 : Nat × (Nat → Nat)} {f : Option Nat} {s : Int32} (hok : c_ok C) (hx : C.1[i]? = some x1) (hc : s_is x1.2 (q_fs C) c = true) (hat : q_at C c f s) : c < 420 ∧ ∃ y, C.2.1[(420 * i + c) / 21 % 20]? = some y ∧ f = some y.1 ∧ s = nO (c_sec C (420 * i + c)) ∧ c_mk C (420 * i + c) (x1.1, y.2.1 0, c_sec C (420 * i + c)) ∧ c_du C (420 * i + c) = !(c_fired y x1.1 (c_sec C (420 * i + c))) ∧ q_bd (c_sec C (420 * i + c)) ∧ (∀ fi ∈ y.2.2.2, q_bd fi.2.2) ∧ y.2.1 0 < 100000 := by
  have hcl := s_is_lt hc
  have hc420 : c < 420 := by
    have := hcl.1
    have := hok.2.2.2.1
    rw [q_fs, List.length_map] at *
    omega
  obtain ⟨y, hy, hf', hs', hsec⟩ := hat.m (i := i) hc420
  have hxm : C.1[(420 * i + c) / 420]? = some x1 := by rw [show (420 * i + c) / 420 = i by omega]; exact hx
  have hym := List.mem_of_getElem? hy
  exact ⟨hc420, y, hy, hf', hs', ⟨x1, y, hxm, hy, rfl, hsec⟩, c_du_t hxm hy (by rw [show (420 * i + c) % 420 = c by omega]; exact hc), fun n hn => Nat.lt_trans (c_sec_bd hok hn) (by decide), fun fi hfi n hn => Nat.lt_trans (((hok.2.2.2.2.2.2 y hym).2 fi hfi).2 n hn) (by decide), hok.2.2.2.2.2.1 y hym⟩
theorem c_du_no {i q q' : Nat} {x1 : Nat × (Nat → Nat)} (hx : C.1[i]? = some x1) (hq' : q' ≤ 420) (hno : ∀ c, q ≤ c → c < q' → s_is x1.2 (q_fs C) c = false) : ∀ m, 420 * i + q ≤ m → m < 420 * i + q' → c_du C m = false := fun m h1 h2 => by
  refine c_du_f (x1 := x1) (by rw [show m / 420 = i by omega]; exact hx) ?_
  rw [show m % 420 = m - 420 * i by omega]
  exact hno _ (by omega) (by omega)
theorem sp_X2_due {mc ms : Nat} {Q : Int32 → HH → Prop} (hok : c_ok C) (hb : q_bk G h ρ k b w C) (hw : q_wv G h b w p t) (hc : 1 ≤ mc) (hms : 4 ≤ ms)
    (hQ : ∀ h', q_sp (q_S w p t) h h' → q_wv G h' b w p t → Q (nI (s_cn (c_du C) 3360)) h') : wp_X2_due G mc ms h b Q := by
  obtain ⟨lr, lf, g1, g3, g2, ⟨fs3, g5⟩, ⟨fs4, g4⟩⟩ := hb.len
  have hl8 := hok.1
  unfold wp_X2_due
  refine w_geta_of g1 rfl <| w_nn_of ⟨1, 4, by omega, by omega, w_is_of g5 <| sp_J2_iterator g3 (by omega) (by omega) (fun it h2 hit hh2 hi2 => ?_)⟩
  have main : ∀ d i h1, i + d = C.1.length → q_sp (q_S w p t) h h1 → q_wv G h1 b w p t → q_it h1 lr it i → wp_X2_due_L10 G mc ms b Q (d + 1) h1 (0 + 1) (0 + 4) (nI (s_cn (c_du C) (420 * i))) (some it) := by
    intro d
    induction d with
    | zero =>
      intro i h1 hd hs hwv hi
      have hb1 := hb.kp (hw.kp hs)
      obtain ⟨lr1, lf1, j1, j3, j2, -, -⟩ := hb1.len
      have : h1 b = _ := hs b _ g1 (hw.ne g1 (q_wl.ob (by decide)))
      rw [this] at j1
      cases j1
      unfold wp_X2_due_L10
      refine w_nn_of <| q_each j3 hi (by rw [List.length_map]; omega) (fun _ => ?_) (fun x1 h' hx => ?_)
      · have := hQ h1 hs hwv
        rw [s_cn_none (a := 420 * i) (by omega) (fun m h1 h2 => c_du_n (by omega))] at this
        exact this
      · rw [List.getElem?_eq_none (by rw [List.length_map]; omega)] at hx
        cases hx
    | succ d ih =>
      intro i h1 hd hs hwv hi
      have hb1 := hb.kp (hw.kp hs)
      obtain ⟨lr1, lf1, j1, j3, j2, -, -⟩ := hb1.len
      have : h1 b = _ := hs b _ g1 (hw.ne g1 (q_wl.ob (by decide)))
      rw [this] at j1
      cases j1
      unfold wp_X2_due_L10
      refine w_nn_of <| q_each j3 hi (by rw [List.length_map]; omega) (fun z => ?_) (fun ra h2 hx hh2 hi2 => ?_)
      · rw [List.length_map] at z
        omega
      · obtain ⟨x1, hx1, rfl⟩ : ∃ x1, C.1[i]? = some x1 ∧ x1.1 = ra := by
          rw [List.getElem?_map] at hx
          exact Option.map_eq_some_iff.mp hx
        have hs2 := hs.nx hit hh2
        have hwv2 := hwv.nx hi hh2
        have hb2 := hb.kp (hw.kp hs2)
        obtain ⟨fsr, hro⟩ := (hb2.rule hx1).1.ob
        obtain ⟨r8, pl8, ot8, f8, s8, g8, hw2⟩ := id hwv2
        have g12 : h2 b = _ := hs2 b _ g1 (hw.ne g1 (q_wl.ob (by decide)))
        refine w_cast_of hro <| w_geta_of g12 rfl <| w_nn_of <| w_is_of hw2.1 <| sp_X3_begin hw2 (fun h3 hh3 hw3 => ?_)
        have inner : ∀ N pl ot f s h1 n, 421 - q_ps pl ot ≤ N → q_sp (q_S w p t) h h1 → q_it h1 lr it (i + 1) → q_wp G h1 b w p t x1.1 x1.2 C pl ot f s → s_cn (c_du C) (420 * i + q_ps pl ot) = n → wp_X2_due_L39 G mc ms b Q (fun h nc nk x1 x2 => wp_X2_due_L10 G mc ms b Q (d + 1) h nc nk x1 x2) N h1 (0 + 1) (0 + 4) (nI n) it (some w) := by
          intro N
          induction N with
          | zero =>
            intro pl ot f s h1 n hN hs hi hp hn
            have := hp.ps hok.2.2.2.1
            omega
          | succ N ihN =>
            intro pl ot f s h1 n hN hs hi hp hn
            have hps := hp.ps hok.2.2.2.1
            obtain ⟨g1, hw1, -⟩ := id hp
            have hb1 := hb.kp (hw.kp hs)
            unfold wp_X2_due_L39
            refine w_nn_of <| w_is_of hw1.1 <| sp_X3_goesOn hb1 (hb1.rule hx1).1 hok.2.2.2.1 hp (fun h2 c pl' ot' f' s' hs2 hc1 hc2 hc3 hc4 hc5 hp2 hat => ?_) (fun h2 pl' ot' f' s' hs2 hno hp2 => ?_)
            · obtain ⟨hc420, y, hy, rfl, rfl, hmk, hdu, hbd, hbd2, -⟩ := c_du_at hok hx1 hc3 hat
              obtain ⟨g2, hw2, -⟩ := id hp2
              have hb2 := hb.kp (hw.kp (hs.tr hs2))
              have hps2 := hp2.ps hok.2.2.2.1
              have e : s_cn (c_du C) (420 * i + q_ps pl' ot') = n + if c_du C (420 * i + c) then 1 else 0 := by
                have e1 := s_cn_none (P := c_du C) (a := 420 * i + q_ps pl ot) (b := 420 * i + c) (by omega) (c_du_no hx1 (by omega) hc2)
                have e2 := s_cn_none (P := c_du C) (a := 420 * i + c + 1) (b := 420 * i + q_ps pl' ot') (by omega) (fun m h1 h2 => c_du_no (q := c + 1) hx1 hps2 (fun c' h1 h2 => hc5 c' (by omega) h2) m (by omega) h2)
                rw [e2, ← hn, ← e1]
                rfl
              refine br_f (by decide) <| w_is_of hw2.1 <| sp_X3_isDue hw2 (hb2.fact hy).1 hbd2 hbd ?_
              rw [hdu] at e
              cases ef : c_fired y x1.1 (c_sec C (420 * i + c)) with
              | true =>
                rw [ef] at e
                refine br_t rfl ?_
                show wp_X2_due_L39 G mc ms b Q _ N h2 (0 + 1) (0 + 4) (nI n + nI 0) it (some w)
                rw [nI_add]
                exact ihN pl' ot' _ _ h2 (n + 0) (by omega) (hs.tr hs2) (hi.wS hp.v hs2) hp2 e
              | false =>
                rw [ef] at e
                refine br_f (by decide) ?_
                rw [nI_1]
                exact ihN pl' ot' _ _ h2 (n + 1) (by omega) (hs.tr hs2) (hi.wS hp.v hs2) hp2 e
            · refine br_t rfl ?_
              have := ih (i + 1) h2 (by omega) (hs.tr hs2) hp2.v (hi.wS hp.v hs2)
              rw [s_cn_none (a := 420 * i + q_ps pl ot) (by omega) (fun m h1 h2 => c_du_no (q' := 420) hx1 (by omega) (fun c' h1 _ => hno c' h1) m h1 (by omega)), hn] at this
              exact this
        have := inner 421 0 none none (-1) h3 (s_cn (c_du C) (420 * i)) (by omega) (hs2.tr (q_sp.of hh3 (Or.inl rfl))) (hi2.wS hwv2 (q_sp.of hh3 (Or.inl rfl))) ⟨_, hw3, by omega, fun _ => rfl, fun o ho => (by cases ho)⟩ rfl
        exact ⟨_, this⟩
  have := main C.1.length 0 h2 (by omega) (q_sp.nw hit hh2) (hw.st (q_sp.nw hit hh2)) hi2
  exact ⟨_, this⟩
theorem sp_X2_dueAgain {mc ms : Nat} {Q : Int32 → HH → Prop} (hok : c_ok C) (hb : q_bk G h ρ k b w C) (hw : q_wv G h b w p t) (hc : 1 ≤ mc) (hms : 4 ≤ ms)
    (hQ : ∀ h', q_sp (q_S w p t) h h' → q_wv G h' b w p t → Q (nI (s_cn (c_du C) 3360)) h') : wp_X2_dueAgain G mc ms h b Q := by
  obtain ⟨lr, lf, g1, g3, g2, ⟨fs3, g5⟩, ⟨fs4, g4⟩⟩ := hb.len
  have hl8 := hok.1
  have hl20 := hok.2.2.2.1
  have g1S := hw.ne g1 (q_wl.ob (by decide))
  unfold wp_X2_dueAgain
  refine w_geta_of g1 rfl <| w_nn_of ⟨1, 4, by omega, by omega, w_is_of g4 <| sp_J2_iterator g2 (by omega) (by omega) (fun it h2 hit hh2 hi2 => ?_)⟩
  have main : ∀ d a h1, a + d = C.2.1.length → q_sp (q_S w p t) h h1 → q_wv G h1 b w p t → q_it h1 lf it a → wp_X2_dueAgain_L10 G mc ms b Q (d + 1) h1 (0 + 1) (0 + 4) (nI (s_cn (fun m => c_du C m && decide (s_nw m < a)) 3360)) (some it) := by
    intro d
    induction d with
    | zero =>
      intro a h1 hd hs hwv hi
      have hb1 := hb.kp (hw.kp hs)
      obtain ⟨lr1, lf1, j1, j3, j2, -, -⟩ := hb1.len
      have : h1 b = _ := hs b _ g1 g1S
      rw [this] at j1
      cases j1
      unfold wp_X2_dueAgain_L10
      refine w_nn_of <| q_each j2 hi (by rw [List.length_map]; omega) (fun _ => ?_) (fun x1 h' hx => ?_)
      · have := hQ h1 hs hwv
        rw [s_cn_cong (Q := c_du C) (fun m hm => ?_)]
        · exact this
        · cases hd : c_du C m with
          | false => rfl
          | true =>
            obtain ⟨x1, y, e1, e2, e3, e4⟩ := c_du_is hd
            have := s_is_lt e3
            rw [q_fs, List.length_map] at this
            have : s_nw m < a := by
              unfold s_nw
              have := (List.getElem?_eq_some_iff.mp e2).1
              omega
            simp [this]
      · rw [List.getElem?_eq_none (by rw [List.length_map]; omega)] at hx
        cases hx
    | succ d ih =>
      intro a h1 hd hs hwv hi
      have hb1 := hb.kp (hw.kp hs)
      obtain ⟨lr1, lf1, j1, j3, j2, -, -⟩ := hb1.len
      have : h1 b = _ := hs b _ g1 g1S
      rw [this] at j1
      cases j1
      unfold wp_X2_dueAgain_L10
      refine w_nn_of <| q_each j2 hi (by rw [List.length_map]; omega) (fun z => ?_) (fun fa h2 hx hh2 hi2 => ?_)
      · rw [List.length_map] at z
        omega
      obtain ⟨F, hF, rfl⟩ : ∃ F, C.2.1[a]? = some F ∧ F.1 = fa := by
        rw [List.getElem?_map] at hx
        exact Option.map_eq_some_iff.mp hx
      have hs2 := hs.nx hit hh2
      have hwv2 := hwv.nx hi hh2
      have hb2 := hb.kp (hw.kp hs2)
      obtain ⟨l1, l2, hFo⟩ := (hb2.fact hF).1.c
      refine w_cast_of hFo ?_
      -- the rules
      have rl : ∀ d2 i h1, i + d2 = C.1.length → q_sp (q_S w p t) h h1 → q_wv G h1 b w p t → q_it h1 lf it (a + 1) → wp_X2_dueAgain_L32 G mc ms b Q (fun h nc nk x1 x2 => wp_X2_dueAgain_L10 G mc ms b Q (d + 1) h nc nk x1 x2) (d2 + 1) h1 (0 + 1) (0 + 4) (nI (s_cn (fun m => c_du C m && decide (s_nw m < a)) 3360 + s_cn (fun m => c_du C m && decide (s_nw m = a)) (420 * i))) it F.1 (nI i) := by
        intro d2
        induction d2 with
        | zero =>
          intro i h1 hd2 hs hwv hi
          have hb1 := hb.kp (hw.kp hs)
          obtain ⟨lr1, lf1, j1, j3, j2, -, -⟩ := hb1.len
          have g11 : h1 b = _ := hs b _ g1 g1S
          rw [g11] at j1
          cases j1
          obtain ⟨fs9, j9⟩ := j3.ob
          unfold wp_X2_dueAgain_L32
          refine w_geta_of g11 rfl <| w_nn_of <| w_is_of j9 <| sp_J2_size j3 ?_
          rw [List.length_map]
          refine br_t (nI_le (by omega) (by omega)) ?_
          have := ih (a + 1) h1 (by omega) hs hwv hi
          have e1 : s_cn (fun m => c_du C m && decide (s_nw m = a)) (420 * i) = s_cn (fun m => c_du C m && decide (s_nw m = a)) 3360 := (s_cn_none (by omega) (fun m h1 h2 => by rw [c_du_n (by omega)]; rfl)).symm
          rw [e1, s_cn_split (R := fun m => c_du C m && decide (s_nw m < a + 1)) (fun m hm => by
            cases c_du C m with
            | false => simp
            | true =>
              refine ⟨?_, ?_⟩
              · simp only [Bool.true_and]
                by_cases q : s_nw m < a
                · simp [q]; omega
                · by_cases q2 : s_nw m = a
                  · simp [q2]
                  · simp [q, q2]; omega
              · simp only [Bool.true_and]
                by_cases q : s_nw m < a
                · simp [q]; omega
                · simp [q])]
          exact this
        | succ d2 ih2 =>
          intro i h1 hd2 hs hwv hi
          have hb1 := hb.kp (hw.kp hs)
          obtain ⟨lr1, lf1, j1, j3, j2, -, -⟩ := hb1.len
          have g11 : h1 b = _ := hs b _ g1 g1S
          rw [g11] at j1
          cases j1
          obtain ⟨fs9, j9⟩ := j3.ob
          obtain ⟨x1, hx1⟩ : ∃ x1, C.1[i]? = some x1 := ⟨_, List.getElem?_eq_getElem (by omega)⟩
          obtain ⟨hr1, hxa⟩ := hb1.rule hx1
          obtain ⟨fsr, hro⟩ := hr1.ob
          obtain ⟨r8, pl8, ot8, f8, s8, g8, hw1⟩ := id hwv
          unfold wp_X2_dueAgain_L32
          refine w_geta_of g11 rfl <| w_nn_of <| w_is_of j9 <| sp_J2_size j3 ?_
          rw [List.length_map]
          refine br_f (nI_ge (by omega) (by omega)) <| w_geta_of g11 rfl <| w_geta_of g11 rfl <| w_nn_of <| w_is_of j9 <| sp_J2_get j3 hxa <| w_nn_of <| w_cast_of hro <| w_nn_of <| w_is_of hw1.1 <| sp_X3_begin hw1 (fun h3 hh3 hw3 => ?_)
          have inner : ∀ N pl ot f s h1 n, 421 - q_ps pl ot ≤ N → q_sp (q_S w p t) h h1 → q_it h1 lf it (a + 1) → q_wp G h1 b w p t x1.1 x1.2 C pl ot f s → s_cn (fun m => c_du C m && decide (s_nw m < a)) 3360 + s_cn (fun m => c_du C m && decide (s_nw m = a)) (420 * i + q_ps pl ot) = n → wp_X2_dueAgain_L65 G mc ms b Q (fun h nc nk x1 x2 x3 x4 => wp_X2_dueAgain_L32 G mc ms b Q (fun h nc nk x1 x2 => wp_X2_dueAgain_L10 G mc ms b Q (d + 1) h nc nk x1 x2) (d2 + 1) h nc nk x1 x2 x3 x4) N h1 (0 + 1) (0 + 4) (nI n) it F.1 (nI i) (some w) := by
            intro N
            induction N with
            | zero =>
              intro pl ot f s h1 n hN hs hi hp hn
              have := hp.ps hok.2.2.2.1
              omega
            | succ N ihN =>
              intro pl ot f s h1 n hN hs hi hp hn
              have hps := hp.ps hok.2.2.2.1
              obtain ⟨g1, hw1, -⟩ := id hp
              have hb1 := hb.kp (hw.kp hs)
              have hz : ∀ q q', (∀ m, q ≤ m → m < q' → c_du C m = false) → q ≤ q' → s_cn (fun m => c_du C m && decide (s_nw m = a)) q' = s_cn (fun m => c_du C m && decide (s_nw m = a)) q := fun q q' h1 h2 => s_cn_none h2 (fun m h3 h4 => by simp [h1 m h3 h4])
              unfold wp_X2_dueAgain_L65
              refine w_nn_of <| w_is_of hw1.1 <| sp_X3_goesOn hb1 (hb1.rule hx1).1 hok.2.2.2.1 hp (fun h2 c pl' ot' f' s' hs2 hc1 hc2 hc3 hc4 hc5 hp2 hat => ?_) (fun h2 pl' ot' f' s' hs2 hno hp2 => ?_)
              · obtain ⟨hc420, y, hy, rfl, rfl, hmk, hdu, hbd, hbd2, hyn⟩ := c_du_at hok hx1 hc3 hat
                obtain ⟨g2, hw2, -⟩ := id hp2
                have hs02 := hs.tr hs2
                have hb2 := hb.kp (hw.kp hs02)
                have hps2 := hp2.ps hok.2.2.2.1
                obtain ⟨l1, l2, hFo⟩ := (hb2.fact hF).1.c
                have e : s_cn (fun m => c_du C m && decide (s_nw m < a)) 3360 + s_cn (fun m => c_du C m && decide (s_nw m = a)) (420 * i + q_ps pl' ot') = n + if (c_du C (420 * i + c) && decide (s_nw (420 * i + c) = a)) then 1 else 0 := by
                  have e1 := hz (420 * i + q_ps pl ot) (420 * i + c) (c_du_no hx1 (by omega) hc2) (by omega)
                  have e2 := hz (420 * i + c + 1) (420 * i + q_ps pl' ot') (fun m h1 h2 => c_du_no (q := c + 1) hx1 hps2 (fun c' h1 h2 => hc5 c' (by omega) h2) m (by omega) h2) (by omega)
                  rw [e2, ← hn, ← e1]
                  exact (Nat.add_assoc _ _ _).symm
                refine br_f (by decide) <| w_is_of hw2.1 <| sp_X3_newest hw2 (hb2.fact hy).1.c (Nat.lt_trans hyn (by decide)) hbd <| w_geti_of hFo rfl ?_
                obtain ⟨k1, k2, -⟩ := hmk.nw hok
                have k3 := (c_N_lt hok k2 (List.getElem?_eq_some_iff.mp hF).1).2
                rw [c_N_of hF, ← k1] at k3
                have k4 : c_nw (y.2.1 0) (c_sec C (420 * i + c)) < 2 ^ 31 := by
                  have h1 : c_nw (y.2.1 0) (c_sec C (420 * i + c)) = c_N C (s_nw (420 * i + c)) := k1
                  rw [h1, c_N_of (List.getElem?_eq_getElem k2)]
                  exact Nat.lt_trans (hok.2.2.2.2.2.1 _ (List.getElem_mem k2)) (by decide)
                have k5 := nI_eq k4 (b := F.2.1 0) (Nat.lt_trans (hok.2.2.2.2.2.1 F (List.mem_of_getElem? hF)) (by decide))
                rw [k5]
                have go0 : (c_du C (420 * i + c) && decide (s_nw (420 * i + c) = a)) = false → wp_X2_dueAgain_L65 G mc ms b Q (fun h nc nk x1 x2 x3 x4 => wp_X2_dueAgain_L32 G mc ms b Q (fun h nc nk x1 x2 => wp_X2_dueAgain_L10 G mc ms b Q (d + 1) h nc nk x1 x2) (d2 + 1) h nc nk x1 x2 x3 x4) N h2 (0 + 1) (0 + 4) (nI n + 0) it F.1 (nI i) (some w) := by
                  intro e9
                  rw [e9] at e
                  show wp_X2_dueAgain_L65 G mc ms b Q _ N h2 (0 + 1) (0 + 4) (nI n + nI 0) it F.1 (nI i) (some w)
                  rw [nI_add]
                  exact ihN pl' ot' _ _ h2 (n + 0) (by omega) hs02 (hi.wS hp.v hs2) hp2 e
                refine ⟨fun z => go0 ?_, fun z => w_is_of hw2.1 <| sp_X3_isDue hw2 (hb2.fact hy).1 hbd2 hbd ?_⟩
                · have : ¬ s_nw (420 * i + c) = a := fun q => z (k3.mpr q)
                  simp [this]
                · have hnw := k3.mp z
                  cases ef : c_fired y x1.1 (c_sec C (420 * i + c)) with
                  | true => exact br_t rfl (go0 (by rw [hdu, ef]; rfl))
                  | false =>
                    rw [hdu, ef] at e
                    refine br_f (by decide) ?_
                    rw [nI_1]
                    exact ihN pl' ot' _ _ h2 (n + 1) (by omega) hs02 (hi.wS hp.v hs2) hp2 (by rw [e]; simp [hnw])
              · refine br_t rfl ?_
                rw [nI_1]
                have := ih2 (i + 1) h2 (by omega) (hs.tr hs2) hp2.v (hi.wS hp.v hs2)
                rw [hz (420 * i + q_ps pl ot) (420 * (i + 1)) (fun m h1 h2 => c_du_no (q' := 420) hx1 (by omega) (fun c' h1 _ => hno c' h1) m h1 (by omega)) (by omega), hn] at this
                exact this
          have := inner 421 0 none none (-1) h3 _ (by omega) (hs.tr (q_sp.of hh3 (Or.inl rfl))) (hi.wS hwv (q_sp.of hh3 (Or.inl rfl))) ⟨_, hw3, by omega, fun _ => rfl, fun o ho => (by cases ho)⟩ rfl
          exact ⟨_, this⟩
      have := rl C.1.length 0 h2 (by omega) hs2 hwv2 hi2
      exact ⟨_, this⟩
  have := main C.2.1.length 0 h2 (by omega) (q_sp.nw hit hh2) (hw.st (q_sp.nw hit hh2)) hi2
  rw [s_cn_none (a := 0) (Nat.zero_le _) (fun m _ _ => by simp)] at this
  exact ⟨_, this⟩
end EACH
