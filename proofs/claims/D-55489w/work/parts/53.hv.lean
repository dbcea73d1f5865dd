/-! walks over a world (by gen/hvrun.py) -/
set_option maxRecDepth 100000
/-- MatchmakerRules$Book.fact(I)LMatchmakerRules$Fact; -/
abbrev rm_X2_fact (mc ms : Nat) : Room := { frames := 7, cells := mc, slots := ms, locals := 109 }
def wp_X2_fact (G : GG) (mc : Nat) (ms : Nat) (h : HH) (a0 : Nat) (x1 : Int32) (Q : Option Nat → HH → Prop) (X : String → Nat → HH → Prop) : Prop := (∃ mc1 ms1, 0 + mc1 ≤ mc ∧ 0 + ms1 ≤ ms ∧ w_is h a0 2 (wp_X2_find G mc1 ms1 h a0 x1 (fun r2 h3 => ((r2 = none → (∃ mc5 ms5, (0 + mc1) + mc5 ≤ mc ∧ (0 + ms1) + ms5 ≤ ms ∧ wp_X1_checkElement G mc5 ms5 h3 (0 : Int32) (fun h6 => Q none h6) (fun E q7 h8 => X E q7 h8))) ∧ (∀ a4, r2 = some a4 → (∃ mc9 ms9, (0 + mc1) + mc9 ≤ mc ∧ (0 + ms1) + ms9 ≤ ms ∧ wp_X1_checkElement G mc9 ms9 h3 (1 : Int32) (fun h10 => Q (some a4) h10) (fun E q11 h12 => X E q11 h12)))))))
set_option maxHeartbeats 4000000 in
theorem snd_X2_fact (l : Launch) (hl0 : l.stackTraces = false) (G : GG) (sz : Nat) (mc : Nat) (ms : Nat) (h : HH) (a0 : Nat) (x1 : Int32) (Q : Option Nat → HH → Prop) (X : String → Nat → HH → Prop) (hw : wp_X2_fact G mc ms h a0 x1 Q X) : vx_Met l yX2_fact (ws_ yX2_fact cX2_fact 3 (some (FieldType.object "MatchmakerRules$Fact"))) (rm_X2_fact mc ms) (hv_Pc G h sz [.ref a0, .int x1]) (hv_Qq G h sz Q) (hv_XC G h sz X) mc ms (hv_A h sz) := by
  refine vx_ofW (cc := cX2_fact) (maxL := 3) (ret := (some (FieldType.object "MatchmakerRules$Fact"))) (by decide) rfl ?_
  intro p e s m args below meth c s₁ B hml ht hv
  obtain ⟨rfl, rfl, hE, hI⟩ := hv_open B hml hv
  have hE : hv_E p s m ([.ref a0, .int x1] : List Value).toArray meth c cX2_fact 3 (some (FieldType.object "MatchmakerRules$Fact")) RX2 G h := hE
  obtain ⟨⟨hx, hb, hml, hown, hts⟩, hr, hlocks, hXX⟩ := id hE
  have hl := lv_entry ([.ref a0, .int x1] : List Value) (n := 3) (Nat.le_of_ble_eq_true rfl)
  rw [lg_entry_eq]
  generalize (lg_sl ([.ref a0, .int x1] : List Value) ++ List.replicate (3 - (lg_sl ([.ref a0, .int x1] : List Value)).length) Slot.unset).toArray = ls at hl ⊢
  have hl : lv_has ls 3 [(0, .ref a0), (1, .int x1)] := hl
  have hc : 0 ≤ mc := Nat.zero_le _
  have hs : 0 ≤ ms := Nat.zero_le _
  unfold wp_X2_fact at hw
  refine lv_aload_n hx hb dX2_fact_0 rfl (lv_at hl 0 rfl) ?_
  refine lv_iload_n hx hb dX2_fact_1 rfl (lv_at hl 1 rfl) ?_
  obtain ⟨mc1, ms1, hc, hs, hw⟩ := hw
  obtain ⟨⟨fs, hre⟩, hw⟩ := hw
  refine hv_rcq hI (va_runV (As := [.int x1]) (b := a0) (rest := []) hE.1 (snd_X2_find l G _ mc1 ms1 h a0 x1 _ hw) (cwV 1 hts (lw_V q565 q566 q567 q98 q568) rfl rfl rfl (by decide +kernel) ⟨Nat.le_of_ble_eq_true rfl, Nat.le_of_ble_eq_true rfl⟩) (hv_preV hE hI (ci := 2) rfl hre) rfl rfl hl.1 rfl (lv_room (Nat.le_of_ble_eq_true rfl)) dX2_fact_2 ⟨hc, hs⟩) (fun r2 h3 H locs hw hI => ?_)
  refine lv_astore_nq (lv' := [(2, va_rf r2), (0, .ref a0), (1, .int x1)]) hx hb dX2_fact_5 rfl hl (by decide) rfl (fun ls hl => ?_)
  refine lv_aload_nq hx hb dX2_fact_6 rfl (lv_at hl 0 rfl) ?_
  refine lv_ifnullq (tgt := 14) hx hb dX2_fact_7 (by decide) (fun c_7 => ?_) (fun c_7 => ?_)
  · have hwa4 := hw.1 c_7; have hla4 := hl; subst c_7; have hw := hwa4; have hl := hla4
    refine lv_iconst (v := 0) hx hb dX2_fact_14 (by decide) ?_
    obtain ⟨mc5, ms5, hc, hs, hw⟩ := hw
    refine hx_rcv hI (vx_runSN (As := [.int (0 : Int32)]) (rest := []) hE.1 (snd_X1_checkElement l hl0 G _ mc5 ms5 h3 (0 : Int32) _ _ hw) ⟨va_cnB 1 hts (lw_meth q1348) rfl rfl rfl (hE.2.2.2.2.1.M 7 rfl) (hts _ q97) (by decide +kernel) ⟨Nat.le_of_ble_eq_true rfl, Nat.le_of_ble_eq_true rfl⟩, hts _ q1347, trivial⟩ (hv_preS hE hI) rfl rfl hl.1 rfl (lv_room (Nat.le_of_ble_eq_true rfl)) dX2_fact_15 ⟨hc, hs⟩) ?_ (fun h6 H locs hw hI => ?_)
    · intro E q7 h8 H locs hw hI hT
      exact hx_out hE hI hT hc hs (fun z hz => (ht z hz).elim) hw
    refine lv_aload_nN hx hb dX2_fact_18 rfl (lv_at hl 0 rfl) ?_
    exact vx_ret (hv_qret (v := none) hE (Or.inl ⟨_, rfl⟩) hI hc hs hw dX2_fact_19)
  · obtain ⟨a4, hz⟩ := Option.ne_none_iff_exists.mp c_7
    have hwa4 := hw.2 a4 hz.symm; have hla4 := hl; subst hz; have hw := hwa4; have hl := hla4
    refine lv_iconst (v := 1) hx hb dX2_fact_10 (by decide) ?_
    refine lv_goto (tgt := 15) hx hb dX2_fact_11 (by decide) ?_
    obtain ⟨mc9, ms9, hc, hs, hw⟩ := hw
    refine hx_rcv hI (vx_runSN (As := [.int (1 : Int32)]) (rest := []) hE.1 (snd_X1_checkElement l hl0 G _ mc9 ms9 h3 (1 : Int32) _ _ hw) ⟨va_cnB 1 hts (lw_meth q1348) rfl rfl rfl (hE.2.2.2.2.1.M 7 rfl) (hts _ q97) (by decide +kernel) ⟨Nat.le_of_ble_eq_true rfl, Nat.le_of_ble_eq_true rfl⟩, hts _ q1347, trivial⟩ (hv_preS hE hI) rfl rfl hl.1 rfl (lv_room (Nat.le_of_ble_eq_true rfl)) dX2_fact_15 ⟨hc, hs⟩) ?_ (fun h10 H locs hw hI => ?_)
    · intro E q11 h12 H locs hw hI hT
      exact hx_out hE hI hT hc hs (fun z hz => (ht z hz).elim) hw
    refine lv_aload_n hx hb dX2_fact_18 rfl (lv_at hl 0 rfl) ?_
    exact vx_ret (hv_qret (v := (some a4)) hE (Or.inl ⟨_, rfl⟩) hI hc hs hw dX2_fact_19)

/-- MatchmakerRules$Book.uses(LMatchmakerRules$Fact;)I -/
abbrev rm_X2_uses (mc ms : Nat) : Room := { frames := 5, cells := mc, slots := ms, locals := 3100 }
def wp_X2_uses_L10 (G : GG) (mc : Nat) (ms : Nat) (a0 : Nat) (Q : Int32 → HH → Prop) : Nat → (HH) → (Nat) → (Nat) → (Option Nat) → (Int32) → (Option Nat) → Prop
  | 0, _, _, _, _, _, _ => False
  | n + 1, h, nc, nk, x1, x2, x3 => w_nn x3 (fun a6 => w_is h a6 13 (wp_J15_hasNext G h a6 (fun r7 h8 => ((r7 = 0 → Q x2 h8) ∧ (¬ r7 = 0 → w_is h8 a6 13 (wp_J15_next G h8 a6 (fun r9 h10 => w_nn r9 (fun a11 => w_cast h10 a11 14 (((¬ (some a11) = x1 → w_getq h10 a11 14 7 (fun r12 => (nc + 1 ≤ mc ∧ nk + 1 ≤ ms ∧ w_new h10 (.inl (G.2.1 15, 1, .inr (.inr (.inr (.inr (fun _ => x1)))))) (fun a13 h14 => (∃ mc15 ms15, (nc + 1) + mc15 ≤ mc ∧ (nk + 1) + ms15 ≤ ms ∧ wp_X1_count G mc15 ms15 h14 r12 (some a13) (fun r16 h17 => wp_X2_uses_L10 G mc ms a0 Q n h17 ((nc + 1) + mc15) ((nk + 1) + ms15) x1 (x2 + r16) (some a6))))))) ∧ ((some a11) = x1 → wp_X2_uses_L10 G mc ms a0 Q n h10 nc nk x1 (x2 + (0 : Int32)) (some a6))))))))))))
set_option maxHeartbeats 4000000 in
theorem snd_X2_uses_L10 {p : Program} {l : Launch} {e : Env} {s : State} {m : MethodId} {args : Array Value} {below : List Frame} {meth : Method} {c : Code} {h0 : HH} (G : GG) (mc : Nat) (ms : Nat) (a0 : Nat) (Q : Int32 → HH → Prop) (hnm : s.methodNamed? yX2_uses = some m) (hE : hv_E p s m args meth c cX2_uses 5 (some FieldType.int) RX2 G h0) : ∀ (n : Nat) (h : HH) (nc : Nat) (nk : Nat) (x1 : Option Nat) (x2 : Int32) (x3 : Option Nat), wp_X2_uses_L10 G mc ms a0 Q n h nc nk x1 x2 x3 → nc ≤ mc → nk ≤ ms → ∀ (H : Heap) (locs : List Loc) (ls : Array Slot), hv_I G h0 s.heap h H locs → lv_has ls 5 [(1, va_rf x1), (2, .int x2), (3, va_rf x3)] → W p l e (headSpec (ws_ yX2_uses cX2_uses 5 (some FieldType.int)) (rm_X2_uses mc ms)).room s m args below meth c H locs nc nk (MQ below (hv_Qi G h0 s.heap.size Q) args s mc ms (hv_A h0 s.heap.size)) (F0 m 10 ls []) := by
  obtain ⟨⟨hx, hb, hml, hown, hts⟩, hr, hlocks, hXX⟩ := id hE
  intro n
  induction n with
  | zero => intro h nc nk x1 x2 x3 hw; exact hw.elim
  | succ n ih =>
    intro h nc nk x1 x2 x3 hw hc hs H locs ls hI hl
    unfold wp_X2_uses_L10 at hw
    refine lv_aload_nq hx hb dX2_uses_10 rfl (lv_at hl 2 rfl) ?_
    obtain ⟨a6, hz, hwa6⟩ := hw; have hla6 := hl; subst hz; have hw := hwa6; have hl := hla6
    obtain ⟨⟨fs, hre⟩, hw⟩ := hw
    refine hv_rFi hI (va_runF (As := []) (b := a6) (rest := []) (hXX.1.1 13 _ rfl).2 hE.1 (snd_J15_hasNext l G _ h a6 _ hw) (va_cwF 0 hts (lw_F q375 q379 q381 q121 q383) rfl rfl rfl (hv_fw0 hE.2.2.2.2.1) (by decide +kernel) ⟨Nat.le_of_ble_eq_true rfl, Nat.le_of_ble_eq_true rfl⟩) (hv_preV hE hI (ci := 13) rfl hre) rfl rfl hl.1 rfl (lv_room (Nat.le_of_ble_eq_true rfl)) dX2_uses_11 ⟨hc, hs⟩) (fun r7 h8 H locs hw hI => ?_)
    refine lv_if_eq (tgt := 60) hx hb dX2_uses_16 (by decide) (fun c_16 => ?_) (fun c_16 => ?_)
    · have hw := hw.1 c_16
      refine lv_iload_n hx hb dX2_uses_60 rfl (lv_at hl 1 rfl) ?_
      exact hv_iret hE hI hc hs hw dX2_uses_61
    · have hw := hw.2 c_16
      refine lv_aload_n hx hb dX2_uses_19 rfl (lv_at hl 2 rfl) ?_
      obtain ⟨⟨fs, hre⟩, hw⟩ := hw
      refine hv_rFq hI (va_runF (As := []) (b := a6) (rest := []) (hXX.1.1 13 _ rfl).2 hE.1 (snd_J15_next l G _ h8 a6 _ hw) (va_cwF 0 hts (lw_F q385 q388 q390 q121 q392) rfl rfl rfl (hv_fw1 hE.2.2.2.2.1) (by decide +kernel) ⟨Nat.le_of_ble_eq_true rfl, Nat.le_of_ble_eq_true rfl⟩) (hv_preV hE hI (ci := 13) rfl hre) rfl rfl hl.1 rfl (lv_room (Nat.le_of_ble_eq_true rfl)) dX2_uses_20 ⟨hc, hs⟩) (fun r9 h10 H locs hw hI => ?_)
      obtain ⟨a11, hz, hwa11⟩ := hw; have hla11 := hl; subst hz; have hw := hwa11; have hl := hla11
      refine hv_wcast (ci := 14) hE hI (hts _ q469) rfl hw dX2_uses_25 (fun hw => ?_)
      refine lv_astore (lv' := [(4, .ref a11), (1, va_rf x1), (2, .int x2), (3, .ref a6)]) hx hb dX2_uses_28 hl (by decide) rfl (fun ls hl => ?_)
      refine lv_iload_n hx hb dX2_uses_30 rfl (lv_at hl 2 rfl) ?_
      refine lv_aload hx hb dX2_uses_31 (lv_at hl 0 rfl) ?_
      refine lv_aload_nq hx hb dX2_uses_33 rfl (lv_at hl 1 rfl) ?_
      refine lv_acmp_ne (rx := (some a11)) (ry := x1) (tgt := 41) hx hb dX2_uses_34 (by decide) (fun c_34 => ?_) (fun c_34 => ?_)
      · have hw := hw.1 c_34
        refine lv_aload hx hb dX2_uses_41 (lv_at hl 0 rfl) ?_
        refine hv_wgetqN hE hI in_X10 (ci := 14) rfl 7 (by decide) (hE.2.2.2.2.1.F 30 rfl) (fun _ hx => hx) hw dX2_uses_43 (fun r12 hw => ?_)
        refine lv_aload_nq hx hb dX2_uses_46 rfl (lv_at hl 1 rfl) ?_
        obtain ⟨hc, hs, hw⟩ := hw
        refine hv_mk5 (v := x1) (rest := [va_rf r12, .int x2]) hE hnm hI hw hl.1 (by cases r12 <;> exact Nat.le_of_ble_eq_true rfl) hc hs dX2_uses_47 (fun a13 h14 H hw hI => ?_)
        obtain ⟨mc15, ms15, hc, hs, hw⟩ := hw
        refine hv_rci hI (va_runSN (As := [va_rf r12, .ref a13]) (rest := [.int x2]) hE.1 (snd_X1_count l G _ mc15 ms15 h14 r12 (some a13) _ hw) ⟨va_cnB 2 hts (lw_meth q634) rfl rfl rfl (hE.2.2.2.2.1.M 2 rfl) (hts _ q97) (by decide +kernel) ⟨Nat.le_of_ble_eq_true rfl, Nat.le_of_ble_eq_true rfl⟩, hts _ q633, trivial⟩ (hv_preS hE hI) rfl rfl hl.1 rfl (lv_room (Nat.le_of_ble_eq_true rfl)) dX2_uses_52 ⟨hc, hs⟩) (fun r16 h17 H locs hw hI => ?_)
        refine lv_iadd hx hb dX2_uses_55 ?_
        refine lv_istore_n (lv' := [(2, .int (x2 + r16)), (4, .ref a11), (1, va_rf x1), (3, .ref a6)]) hx hb dX2_uses_56 rfl hl (by decide) (by cases x1 <;> exact rfl) (fun ls hl => ?_)
        refine lv_goto (tgt := 10) hx hb dX2_uses_57 (by decide) ?_
        exact ih h17 ((nc + 1) + mc15) ((nk + 1) + ms15) x1 (x2 + r16) (some a6) hw hc hs _ _ _ hI (lv_sub hl [2, 0, 3] rfl)
      · have hw := hw.2 c_34
        refine lv_iconst (v := 0) hx hb dX2_uses_37 (by decide) ?_
        refine lv_goto (tgt := 55) hx hb dX2_uses_38 (by decide) ?_
        refine lv_iadd hx hb dX2_uses_55 ?_
        refine lv_istore_n (lv' := [(2, .int (x2 + (0 : Int32))), (4, .ref a11), (1, va_rf x1), (3, .ref a6)]) hx hb dX2_uses_56 rfl hl (by decide) (by cases x1 <;> exact rfl) (fun ls hl => ?_)
        refine lv_goto (tgt := 10) hx hb dX2_uses_57 (by decide) ?_
        exact ih h10 nc nk x1 (x2 + (0 : Int32)) (some a6) hw hc hs _ _ _ hI (lv_sub hl [2, 0, 3] rfl)
def wp_X2_uses (G : GG) (mc : Nat) (ms : Nat) (h : HH) (a0 : Nat) (x1 : Option Nat) (Q : Int32 → HH → Prop) : Prop := w_getq h a0 2 2 (fun r1 => w_nn r1 (fun a2 => (∃ mc3 ms3, 0 + mc3 ≤ mc ∧ 0 + ms3 ≤ ms ∧ w_is h a2 4 (wp_J2_iterator G mc3 ms3 h a2 (fun r4 h5 => (∃ n10, wp_X2_uses_L10 G mc ms a0 Q n10 h5 (0 + mc3) (0 + ms3) x1 (0 : Int32) r4))))))
set_option maxHeartbeats 4000000 in
theorem snd_X2_uses (l : Launch) (G : GG) (sz : Nat) (mc : Nat) (ms : Nat) (h : HH) (a0 : Nat) (x1 : Option Nat) (Q : Int32 → HH → Prop) (hw : wp_X2_uses G mc ms h a0 x1 Q) : Met l yX2_uses (ws_ yX2_uses cX2_uses 5 (some FieldType.int)) (rm_X2_uses mc ms) (hv_Pc G h sz [.ref a0, va_rf x1]) (hv_Qi G h sz Q) mc ms (hv_A h sz) := by
  refine Met.ofW (cc := cX2_uses) (maxL := 5) (ret := (some FieldType.int)) (by decide) rfl ?_
  intro p e s m args below meth c s₁ B hml hv
  have hnm : s.methodNamed? yX2_uses = some m := B.named
  obtain ⟨rfl, rfl, hE, hI⟩ := hv_open B hml hv
  have hE : hv_E p s m ([.ref a0, va_rf x1] : List Value).toArray meth c cX2_uses 5 (some FieldType.int) RX2 G h := hE
  obtain ⟨⟨hx, hb, hml, hown, hts⟩, hr, hlocks, hXX⟩ := id hE
  have hl := lv_entry ([.ref a0, va_rf x1] : List Value) (n := 5) (by cases x1 <;> exact Nat.le_of_ble_eq_true rfl)
  rw [lg_entry_eq]
  generalize (lg_sl ([.ref a0, va_rf x1] : List Value) ++ List.replicate (5 - (lg_sl ([.ref a0, va_rf x1] : List Value)).length) Slot.unset).toArray = ls at hl ⊢
  have hl : lv_has ls 5 [(0, .ref a0), (1, va_rf x1)] := (by cases x1 <;> exact hl)
  have hc : 0 ≤ mc := Nat.zero_le _
  have hs : 0 ≤ ms := Nat.zero_le _
  unfold wp_X2_uses at hw
  refine lv_iconst (v := 0) hx hb dX2_uses_0 (by decide) ?_
  refine lv_istore_n (lv' := [(2, .int (0 : Int32)), (0, .ref a0), (1, va_rf x1)]) hx hb dX2_uses_1 rfl hl (by decide) (by cases x1 <;> exact rfl) (fun ls hl => ?_)
  refine lv_aload_n hx hb dX2_uses_2 rfl (lv_at hl 1 rfl) ?_
  refine hv_wgetq hE hI in_X2 (ci := 2) rfl 2 (by decide) (hts _ q222) (fun _ hx => hx) hw dX2_uses_3 (fun r1 hw => ?_)
  obtain ⟨a2, hz, hwa2⟩ := hw; have hla2 := hl; subst hz; have hw := hwa2; have hl := hla2
  obtain ⟨mc3, ms3, hc, hs, hw⟩ := hw
  obtain ⟨⟨fs, hre⟩, hw⟩ := hw
  refine hv_rcq hI (va_runV (As := []) (b := a2) (rest := []) hE.1 (snd_J2_iterator l G _ mc3 ms3 h a2 _ hw) (cwV 0 hts (lw_V q351 q352 q353 q102 q354) rfl rfl rfl (by decide +kernel) ⟨Nat.le_of_ble_eq_true rfl, Nat.le_of_ble_eq_true rfl⟩) (hv_preV hE hI (ci := 4) rfl hre) rfl rfl hl.1 rfl (lv_room (Nat.le_of_ble_eq_true rfl)) dX2_uses_6 ⟨hc, hs⟩) (fun r4 h5 H locs hw hI => ?_)
  refine lv_astore_nq (lv' := [(3, va_rf r4), (2, .int (0 : Int32)), (0, .ref a0), (1, va_rf x1)]) hx hb dX2_uses_9 rfl hl (by decide) rfl (fun ls hl => ?_)
  obtain ⟨n10, hw⟩ := hw
  exact snd_X2_uses_L10 G mc ms a0 Q hnm hE n10 h5 (0 + mc3) (0 + ms3) x1 (0 : Int32) r4 hw hc hs _ _ _ hI (lv_sub hl [3, 1, 0] rfl)

/-- MatchmakerRules$Book.depth(LMatchmakerRules$Fact;)I -/
abbrev rm_X2_depth_2 (mc ms : Nat) : Room := { frames := 7, cells := mc, slots := ms, locals := 158 }
def wp_X2_depth_2 (G : GG) (mc : Nat) (ms : Nat) (h : HH) (a0 : Nat) (x1 : Option Nat) (Q : Int32 → HH → Prop) : Prop := (∃ mc1 ms1, 0 + mc1 ≤ mc ∧ 0 + ms1 ≤ ms ∧ w_is h a0 2 (wp_X2_depths G mc1 ms1 h a0 (fun r2 h3 => w_getq h3 a0 2 2 (fun r4 => w_nn r4 (fun a5 => w_is h3 a5 4 (wp_J2_indexOf G h3 a5 x1 (fun r6 h7 => w_nn r2 (fun a8 => w_ild G h7 a8 r6 (fun r9 => Q r9 h7)))))))))
set_option maxHeartbeats 4000000 in
theorem snd_X2_depth_2 (l : Launch) (G : GG) (sz : Nat) (mc : Nat) (ms : Nat) (h : HH) (a0 : Nat) (x1 : Option Nat) (Q : Int32 → HH → Prop) (hw : wp_X2_depth_2 G mc ms h a0 x1 Q) : Met l yX2_depth_2 (ws_ yX2_depth_2 cX2_depth_2 2 (some FieldType.int)) (rm_X2_depth_2 mc ms) (hv_Pc G h sz [.ref a0, va_rf x1]) (hv_Qi G h sz Q) mc ms (hv_A h sz) := by
  refine Met.ofW (cc := cX2_depth_2) (maxL := 2) (ret := (some FieldType.int)) (by decide) rfl ?_
  intro p e s m args below meth c s₁ B hml hv
  obtain ⟨rfl, rfl, hE, hI⟩ := hv_open B hml hv
  have hE : hv_E p s m ([.ref a0, va_rf x1] : List Value).toArray meth c cX2_depth_2 2 (some FieldType.int) RX2 G h := hE
  obtain ⟨⟨hx, hb, hml, hown, hts⟩, hr, hlocks, hXX⟩ := id hE
  have hl := lv_entry ([.ref a0, va_rf x1] : List Value) (n := 2) (by cases x1 <;> exact Nat.le_of_ble_eq_true rfl)
  rw [lg_entry_eq]
  generalize (lg_sl ([.ref a0, va_rf x1] : List Value) ++ List.replicate (2 - (lg_sl ([.ref a0, va_rf x1] : List Value)).length) Slot.unset).toArray = ls at hl ⊢
  have hl : lv_has ls 2 [(0, .ref a0), (1, va_rf x1)] := (by cases x1 <;> exact hl)
  have hc : 0 ≤ mc := Nat.zero_le _
  have hs : 0 ≤ ms := Nat.zero_le _
  unfold wp_X2_depth_2 at hw
  refine lv_aload_n hx hb dX2_depth_2_0 rfl (lv_at hl 0 rfl) ?_
  obtain ⟨mc1, ms1, hc, hs, hw⟩ := hw
  obtain ⟨⟨fs, hre⟩, hw⟩ := hw
  refine hv_rcq hI (va_runV (As := []) (b := a0) (rest := []) hE.1 (snd_X2_depths l G _ mc1 ms1 h a0 _ hw) (cwV 0 hts (lw_V q556 q557 q558 q98 q559) rfl rfl rfl (by decide +kernel) ⟨Nat.le_of_ble_eq_true rfl, Nat.le_of_ble_eq_true rfl⟩) (hv_preV hE hI (ci := 2) rfl hre) rfl rfl hl.1 rfl (lv_room (Nat.le_of_ble_eq_true rfl)) dX2_depth_2_1 ⟨hc, hs⟩) (fun r2 h3 H locs hw hI => ?_)
  refine lv_aload_n hx hb dX2_depth_2_4 rfl (lv_at hl 0 rfl) ?_
  refine hv_wgetq hE hI in_X2 (ci := 2) rfl 2 (by decide) (hts _ q222) (fun _ hx => hx) hw dX2_depth_2_5 (fun r4 hw => ?_)
  refine lv_aload_nq hx hb dX2_depth_2_8 rfl (lv_at hl 1 rfl) ?_
  obtain ⟨a5, hz, hwa5⟩ := hw; have hla5 := hl; subst hz; have hw := hwa5; have hl := hla5
  obtain ⟨⟨fs, hre⟩, hw⟩ := hw
  refine hv_rci hI (va_runV (As := [va_rf x1]) (b := a5) (rest := [va_rf r2]) hE.1 (snd_J2_indexOf l G _ h3 a5 x1 _ hw) (cwV 1 hts (lw_V q569 q570 q571 q102 q572) rfl rfl rfl (by decide +kernel) ⟨Nat.le_of_ble_eq_true rfl, Nat.le_of_ble_eq_true rfl⟩) (hv_preV hE hI (ci := 4) rfl hre) rfl rfl hl.1 rfl (lv_room (by cases r2 <;> exact Nat.le_of_ble_eq_true rfl)) dX2_depth_2_9 ⟨hc, hs⟩) (fun r6 h7 H locs hw hI => ?_)
  obtain ⟨a8, hz, hwa8⟩ := hw; have hla8 := hl; subst hz; have hw := hwa8; have hl := hla8
  refine hv_wild hE hI hw dX2_depth_2_12 (fun r9 hw => ?_)
  exact hv_iret hE hI hc hs hw dX2_depth_2_13

/-- MatchmakerRules.factOf(II)I -/
abbrev rm_X1_factOf (mc ms : Nat) : Room := { frames := 8, cells := mc, slots := ms, locals := 3124 }
def wp_X1_factOf (G : GG) (mc : Nat) (ms : Nat) (h : HH) (a0 : Nat) (x1 : Int32) (x2 : Int32) (Q : Int32 → HH → Prop) (X : String → Nat → HH → Prop) : Prop := w_getq h a0 1 0 (fun r1 => w_nn r1 (fun a2 => (∃ mc3 ms3, 0 + mc3 ≤ mc ∧ 0 + ms3 ≤ ms ∧ w_is h a2 2 (wp_X2_fact G mc3 ms3 h a2 x1 (fun r4 h5 => ((x2 = (0 : Int32) → w_nn r4 (fun a8 => w_geti h5 a8 14 1 (fun r9 => Q r9 h5))) ∧ (¬ x2 = (0 : Int32) → ((x2 = (1 : Int32) → w_nn r4 (fun a10 => w_geti h5 a10 14 2 (fun r11 => Q r11 h5))) ∧ (¬ x2 = (1 : Int32) → ((x2 = (2 : Int32) → w_nn r4 (fun a12 => w_geti h5 a12 14 3 (fun r13 => Q r13 h5))) ∧ (¬ x2 = (2 : Int32) → ((x2 = (3 : Int32) → w_nn r4 (fun a14 => w_geti h5 a14 14 6 (fun r15 => ((r15 = 0 → Q (0 : Int32) h5) ∧ (¬ r15 = 0 → Q (1 : Int32) h5))))) ∧ (¬ x2 = (3 : Int32) → ((x2 = (4 : Int32) → w_nn r4 (fun a16 => w_getq h5 a16 14 7 (fun r17 => w_nn r17 (fun a18 => w_is h5 a18 4 (wp_J2_size G h5 a18 (fun r19 h20 => Q r19 h20)))))) ∧ (¬ x2 = (4 : Int32) → ((x2 = (5 : Int32) → w_nn r4 (fun a21 => w_geti h5 a21 14 5 (fun r22 => Q r22 h5))) ∧ (¬ x2 = (5 : Int32) → ((x2 = (6 : Int32) → w_getq h5 a0 1 0 (fun r23 => w_nn r23 (fun a24 => (∃ mc25 ms25, (0 + mc3) + mc25 ≤ mc ∧ (0 + ms3) + ms25 ≤ ms ∧ w_is h5 a24 2 (wp_X2_uses G mc25 ms25 h5 a24 r4 (fun r26 h27 => Q r26 h27)))))) ∧ (¬ x2 = (6 : Int32) → ((x2 = (7 : Int32) → w_getq h5 a0 1 0 (fun r28 => w_nn r28 (fun a29 => (∃ mc30 ms30, (0 + mc3) + mc30 ≤ mc ∧ (0 + ms3) + ms30 ≤ ms ∧ w_is h5 a29 2 (wp_X2_depth_2 G mc30 ms30 h5 a29 r4 (fun r31 h32 => Q r31 h32)))))) ∧ (¬ x2 = (7 : Int32) → ((0 + mc3) + 1 ≤ mc ∧ (0 + ms3) + 6 ≤ ms ∧ ∀ q33, h5 q33 = none → X "java/lang/IllegalArgumentException" q33 h5)))))))))))))))))) (fun E q6 h7 => X E q6 h7)))))
set_option maxHeartbeats 4000000 in
theorem snd_X1_factOf (l : Launch) (hl0 : l.stackTraces = false) (G : GG) (sz : Nat) (mc : Nat) (ms : Nat) (h : HH) (a0 : Nat) (x1 : Int32) (x2 : Int32) (Q : Int32 → HH → Prop) (X : String → Nat → HH → Prop) (hw : wp_X1_factOf G mc ms h a0 x1 x2 Q X) : vx_Met l yX1_factOf (ws_ yX1_factOf cX1_factOf 4 (some FieldType.int)) (rm_X1_factOf mc ms) (hv_Pc G h sz [.ref a0, .int x1, .int x2]) (hv_Qi G h sz Q) (hv_XC G h sz X) mc ms (hv_A h sz) := by
  refine vx_ofW (cc := cX1_factOf) (maxL := 4) (ret := (some FieldType.int)) (by decide) rfl ?_
  intro p e s m args below meth c s₁ B hml ht hv
  obtain ⟨rfl, rfl, hE, hI⟩ := hv_open B hml hv
  have hE : hv_E p s m ([.ref a0, .int x1, .int x2] : List Value).toArray meth c cX1_factOf 4 (some FieldType.int) RX1 G h := hE
  obtain ⟨⟨hx, hb, hml, hown, hts⟩, hr, hlocks, hXX⟩ := id hE
  have hl := lv_entry ([.ref a0, .int x1, .int x2] : List Value) (n := 4) (Nat.le_of_ble_eq_true rfl)
  rw [lg_entry_eq]
  generalize (lg_sl ([.ref a0, .int x1, .int x2] : List Value) ++ List.replicate (4 - (lg_sl ([.ref a0, .int x1, .int x2] : List Value)).length) Slot.unset).toArray = ls at hl ⊢
  have hl : lv_has ls 4 [(0, .ref a0), (1, .int x1), (2, .int x2)] := hl
  have hc : 0 ≤ mc := Nat.zero_le _
  have hs : 0 ≤ ms := Nat.zero_le _
  unfold wp_X1_factOf at hw
  refine lv_aload_n hx hb dX1_factOf_0 rfl (lv_at hl 0 rfl) ?_
  refine hv_wgetq hE hI in_X1 (ci := 1) rfl 0 (by decide) (hts _ q300) (fun _ hx => hx) hw dX1_factOf_1 (fun r1 hw => ?_)
  refine lv_iload_n hx hb dX1_factOf_4 rfl (lv_at hl 1 rfl) ?_
  obtain ⟨a2, hz, hwa2⟩ := hw; have hla2 := hl; subst hz; have hw := hwa2; have hl := hla2
  obtain ⟨mc3, ms3, hc, hs, hw⟩ := hw
  obtain ⟨⟨fs, hre⟩, hw⟩ := hw
  refine hx_rcq hI (vx_runV (As := [.int x1]) (b := a2) (rest := []) hE.1 (snd_X2_fact l hl0 G _ mc3 ms3 h a2 x1 _ _ hw) (cwV 1 hts (lw_V q1368 q1369 q1370 q98 q1371) rfl rfl rfl (by decide +kernel) ⟨Nat.le_of_ble_eq_true rfl, Nat.le_of_ble_eq_true rfl⟩) (hv_preV hE hI (ci := 2) rfl hre) rfl rfl hl.1 rfl (lv_room (Nat.le_of_ble_eq_true rfl)) dX1_factOf_5 ⟨hc, hs⟩) ?_ (fun r4 h5 H locs hw hI => ?_)
  · intro E q6 h7 H locs hw hI hT
    exact hx_out hE hI hT hc hs (fun z hz => (ht z hz).elim) hw
  refine lv_astore_nq (lv' := [(3, va_rf r4), (0, .ref a0), (1, .int x1), (2, .int x2)]) hx hb dX1_factOf_8 rfl hl (by decide) rfl (fun ls hl => ?_)
  refine lv_iload_n hx hb dX1_factOf_9 rfl (lv_at hl 3 rfl) ?_
  by_cases s10_0 : x2 = (0 : Int32)
  · have hw := hw.1 s10_0
    refine lv_tableIn (tgt := 56) (off := 46) hx hb dX1_factOf_10 (by rw [s10_0]; decide) (by rw [s10_0]; decide) (by rw [s10_0]; decide) (by decide) ?_
    refine lv_aload_nq hx hb dX1_factOf_56 rfl (lv_at hl 0 rfl) ?_
    obtain ⟨a8, hz, hwa8⟩ := hw; have hla8 := hl; subst hz; have hw := hwa8; have hl := hla8
    refine hv_wgetiN hE hI in_X10 (ci := 14) rfl 1 (by decide) (hE.2.2.2.2.1.F 8 rfl) (fun _ hx => hx) hw dX1_factOf_57 (fun r9 hw => ?_)
    exact vx_ret (hv_iret hE hI hc hs hw dX1_factOf_60)
  · have hw := hw.2 s10_0
    by_cases s10_1 : x2 = (1 : Int32)
    · have hw := hw.1 s10_1
      refine lv_tableIn (tgt := 61) (off := 51) hx hb dX1_factOf_10 (by rw [s10_1]; decide) (by rw [s10_1]; decide) (by rw [s10_1]; decide) (by decide) ?_
      refine lv_aload_nq hx hb dX1_factOf_61 rfl (lv_at hl 0 rfl) ?_
      obtain ⟨a10, hz, hwa10⟩ := hw; have hla10 := hl; subst hz; have hw := hwa10; have hl := hla10
      refine hv_wgetiN hE hI in_X10 (ci := 14) rfl 2 (by decide) (hE.2.2.2.2.1.F 9 rfl) (fun _ hx => hx) hw dX1_factOf_62 (fun r11 hw => ?_)
      exact vx_ret (hv_iret hE hI hc hs hw dX1_factOf_65)
    · have hw := hw.2 s10_1
      by_cases s10_2 : x2 = (2 : Int32)
      · have hw := hw.1 s10_2
        refine lv_tableIn (tgt := 66) (off := 56) hx hb dX1_factOf_10 (by rw [s10_2]; decide) (by rw [s10_2]; decide) (by rw [s10_2]; decide) (by decide) ?_
        refine lv_aload_nq hx hb dX1_factOf_66 rfl (lv_at hl 0 rfl) ?_
        obtain ⟨a12, hz, hwa12⟩ := hw; have hla12 := hl; subst hz; have hw := hwa12; have hl := hla12
        refine hv_wgetiN hE hI in_X10 (ci := 14) rfl 3 (by decide) (hE.2.2.2.2.1.F 10 rfl) (fun _ hx => hx) hw dX1_factOf_67 (fun r13 hw => ?_)
        exact vx_ret (hv_iret hE hI hc hs hw dX1_factOf_70)
      · have hw := hw.2 s10_2
        by_cases s10_3 : x2 = (3 : Int32)
        · have hw := hw.1 s10_3
          refine lv_tableIn (tgt := 71) (off := 61) hx hb dX1_factOf_10 (by rw [s10_3]; decide) (by rw [s10_3]; decide) (by rw [s10_3]; decide) (by decide) ?_
          refine lv_aload_nq hx hb dX1_factOf_71 rfl (lv_at hl 0 rfl) ?_
          obtain ⟨a14, hz, hwa14⟩ := hw; have hla14 := hl; subst hz; have hw := hwa14; have hl := hla14
          refine hv_wgetiN hE hI in_X10 (ci := 14) rfl 6 (by decide) (hE.2.2.2.2.1.F 13 rfl) (fun _ hx => hx) hw dX1_factOf_72 (fun r15 hw => ?_)
          refine lv_if_eq (tgt := 82) hx hb dX1_factOf_75 (by decide) (fun c_75 => ?_) (fun c_75 => ?_)
          · have hw := hw.1 c_75
            refine lv_iconst (v := 0) hx hb dX1_factOf_82 (by decide) ?_
            exact vx_ret (hv_iret hE hI hc hs hw dX1_factOf_83)
          · have hw := hw.2 c_75
            refine lv_iconst (v := 1) hx hb dX1_factOf_78 (by decide) ?_
            refine lv_goto (tgt := 83) hx hb dX1_factOf_79 (by decide) ?_
            exact vx_ret (hv_iret hE hI hc hs hw dX1_factOf_83)
        · have hw := hw.2 s10_3
          by_cases s10_4 : x2 = (4 : Int32)
          · have hw := hw.1 s10_4
            refine lv_tableIn (tgt := 84) (off := 74) hx hb dX1_factOf_10 (by rw [s10_4]; decide) (by rw [s10_4]; decide) (by rw [s10_4]; decide) (by decide) ?_
            refine lv_aload_nq hx hb dX1_factOf_84 rfl (lv_at hl 0 rfl) ?_
            obtain ⟨a16, hz, hwa16⟩ := hw; have hla16 := hl; subst hz; have hw := hwa16; have hl := hla16
            refine hv_wgetqN hE hI in_X10 (ci := 14) rfl 7 (by decide) (hE.2.2.2.2.1.F 14 rfl) (fun _ hx => hx) hw dX1_factOf_85 (fun r17 hw => ?_)
            obtain ⟨a18, hz, hwa18⟩ := hw; have hla18 := hl; subst hz; have hw := hwa18; have hl := hla18
            obtain ⟨⟨fs, hre⟩, hw⟩ := hw
            refine hv_rci hI (va_runV (As := []) (b := a18) (rest := []) hE.1 (snd_J2_size l G _ h5 a18 _ hw) (cwV 0 hts (lw_V q332 q333 q334 q102 q335) rfl rfl rfl (by decide +kernel) ⟨Nat.le_of_ble_eq_true rfl, Nat.le_of_ble_eq_true rfl⟩) (hv_preV hE hI (ci := 4) rfl hre) rfl rfl hl.1 rfl (lv_room (Nat.le_of_ble_eq_true rfl)) dX1_factOf_88 ⟨hc, hs⟩) (fun r19 h20 H locs hw hI => ?_)
            exact vx_ret (hv_iret hE hI hc hs hw dX1_factOf_91)
          · have hw := hw.2 s10_4
            by_cases s10_5 : x2 = (5 : Int32)
            · have hw := hw.1 s10_5
              refine lv_tableIn (tgt := 92) (off := 82) hx hb dX1_factOf_10 (by rw [s10_5]; decide) (by rw [s10_5]; decide) (by rw [s10_5]; decide) (by decide) ?_
              refine lv_aload_nq hx hb dX1_factOf_92 rfl (lv_at hl 0 rfl) ?_
              obtain ⟨a21, hz, hwa21⟩ := hw; have hla21 := hl; subst hz; have hw := hwa21; have hl := hla21
              refine hv_wgetiN hE hI in_X10 (ci := 14) rfl 5 (by decide) (hE.2.2.2.2.1.F 12 rfl) (fun _ hx => hx) hw dX1_factOf_93 (fun r22 hw => ?_)
              exact vx_ret (hv_iret hE hI hc hs hw dX1_factOf_96)
            · have hw := hw.2 s10_5
              by_cases s10_6 : x2 = (6 : Int32)
              · have hw := hw.1 s10_6
                refine lv_tableIn (tgt := 97) (off := 87) hx hb dX1_factOf_10 (by rw [s10_6]; decide) (by rw [s10_6]; decide) (by rw [s10_6]; decide) (by decide) ?_
                refine lv_aload_n hx hb dX1_factOf_97 rfl (lv_at hl 1 rfl) ?_
                refine hv_wgetq hE hI in_X1 (ci := 1) rfl 0 (by decide) (hts _ q300) (fun _ hx => hx) hw dX1_factOf_98 (fun r23 hw => ?_)
                refine lv_aload_nq hx hb dX1_factOf_101 rfl (lv_at hl 0 rfl) ?_
                obtain ⟨a24, hz, hwa24⟩ := hw; have hla24 := hl; subst hz; have hw := hwa24; have hl := hla24
                obtain ⟨mc25, ms25, hc, hs, hw⟩ := hw
                obtain ⟨⟨fs, hre⟩, hw⟩ := hw
                refine hv_rci hI (va_runV (As := [va_rf r4]) (b := a24) (rest := []) hE.1 (snd_X2_uses l G _ mc25 ms25 h5 a24 r4 _ hw) (cwV 1 hts (lw_V q1373 q1374 q1375 q98 q1376) rfl rfl rfl (by decide +kernel) ⟨Nat.le_of_ble_eq_true rfl, Nat.le_of_ble_eq_true rfl⟩) (hv_preV hE hI (ci := 2) rfl hre) rfl rfl hl.1 rfl (lv_room (Nat.le_of_ble_eq_true rfl)) dX1_factOf_102 ⟨hc, hs⟩) (fun r26 h27 H locs hw hI => ?_)
                exact vx_ret (hv_iret hE hI hc hs hw dX1_factOf_105)
              · have hw := hw.2 s10_6
                by_cases s10_7 : x2 = (7 : Int32)
                · have hw := hw.1 s10_7
                  refine lv_tableIn (tgt := 106) (off := 96) hx hb dX1_factOf_10 (by rw [s10_7]; decide) (by rw [s10_7]; decide) (by rw [s10_7]; decide) (by decide) ?_
                  refine lv_aload_n hx hb dX1_factOf_106 rfl (lv_at hl 1 rfl) ?_
                  refine hv_wgetq hE hI in_X1 (ci := 1) rfl 0 (by decide) (hts _ q300) (fun _ hx => hx) hw dX1_factOf_107 (fun r28 hw => ?_)
                  refine lv_aload_nq hx hb dX1_factOf_110 rfl (lv_at hl 0 rfl) ?_
                  obtain ⟨a29, hz, hwa29⟩ := hw; have hla29 := hl; subst hz; have hw := hwa29; have hl := hla29
                  obtain ⟨mc30, ms30, hc, hs, hw⟩ := hw
                  obtain ⟨⟨fs, hre⟩, hw⟩ := hw
                  refine hv_rci hI (va_runV (As := [va_rf r4]) (b := a29) (rest := []) hE.1 (snd_X2_depth_2 l G _ mc30 ms30 h5 a29 r4 _ hw) (cwV 1 hts (lw_V q1379 q1380 q1381 q98 q1382) rfl rfl rfl (by decide +kernel) ⟨Nat.le_of_ble_eq_true rfl, Nat.le_of_ble_eq_true rfl⟩) (hv_preV hE hI (ci := 2) rfl hre) rfl rfl hl.1 rfl (lv_room (Nat.le_of_ble_eq_true rfl)) dX1_factOf_111 ⟨hc, hs⟩) (fun r31 h32 H locs hw hI => ?_)
                  exact vx_ret (hv_iret hE hI hc hs hw dX1_factOf_114)
                · have hw := hw.2 s10_7
                  have ts10_0 := lv_neT s10_0 (show ((0 : Int32)).toInt = 0 by decide)
                  have ts10_1 := lv_neT s10_1 (show ((1 : Int32)).toInt = 1 by decide)
                  have ts10_2 := lv_neT s10_2 (show ((2 : Int32)).toInt = 2 by decide)
                  have ts10_3 := lv_neT s10_3 (show ((3 : Int32)).toInt = 3 by decide)
                  have ts10_4 := lv_neT s10_4 (show ((4 : Int32)).toInt = 4 by decide)
                  have ts10_5 := lv_neT s10_5 (show ((5 : Int32)).toInt = 5 by decide)
                  have ts10_6 := lv_neT s10_6 (show ((6 : Int32)).toInt = 6 by decide)
                  have ts10_7 := lv_neT s10_7 (show ((7 : Int32)).toInt = 7 by decide)
                  refine lv_tableOut (tgt := 115) hx hb dX1_factOf_10 (by omega) (by decide) ?_
                  obtain ⟨hc, hs, hw⟩ := hw
                  exact hx_throw0 (names := ["java/lang/RuntimeException", "java/lang/Exception"]) (rest := []) hl0 hE hI (by decide +kernel) (by decide +kernel) (hts _ q869) (hts _ q120) (ha_MatchmakerRules_3_IllegalArgumentException hE) (by decide +kernel) hl.1 dX1_factOf_115 dX1_factOf_118 dX1_factOf_119 dX1_factOf_122 (fun z hz => (ht z hz).elim) (Nat.le_of_ble_eq_true rfl) (Nat.le_of_ble_eq_true rfl) (Nat.le_refl _) (Nat.le_refl _) hc hs hw

/-- MatchmakerRules.trust(I)F -/
abbrev rm_X1_trust (mc ms : Nat) : Room := { frames := 8, cells := mc, slots := ms, locals := 131 }
def wp_X1_trust (G : GG) (mc : Nat) (ms : Nat) (h : HH) (a0 : Nat) (x1 : Int32) (Q : UInt32 → HH → Prop) (X : String → Nat → HH → Prop) : Prop := w_getq h a0 1 0 (fun r1 => w_nn r1 (fun a2 => (∃ mc3 ms3, 0 + mc3 ≤ mc ∧ 0 + ms3 ≤ ms ∧ w_is h a2 2 (wp_X2_fact G mc3 ms3 h a2 x1 (fun r4 h5 => w_nn r4 (fun a8 => w_getf h5 a8 14 4 (fun r9 => Q r9 h5))) (fun E q6 h7 => X E q6 h7)))))
set_option maxHeartbeats 4000000 in
theorem snd_X1_trust (l : Launch) (hl0 : l.stackTraces = false) (G : GG) (sz : Nat) (mc : Nat) (ms : Nat) (h : HH) (a0 : Nat) (x1 : Int32) (Q : UInt32 → HH → Prop) (X : String → Nat → HH → Prop) (hw : wp_X1_trust G mc ms h a0 x1 Q X) : vx_Met l yX1_trust (ws_ yX1_trust cX1_trust 2 (some FieldType.float)) (rm_X1_trust mc ms) (hv_Pc G h sz [.ref a0, .int x1]) (hv_Qf G h sz Q) (hv_XC G h sz X) mc ms (hv_A h sz) := by
  refine vx_ofW (cc := cX1_trust) (maxL := 2) (ret := (some FieldType.float)) (by decide) rfl ?_
  intro p e s m args below meth c s₁ B hml ht hv
  obtain ⟨rfl, rfl, hE, hI⟩ := hv_open B hml hv
  have hE : hv_E p s m ([.ref a0, .int x1] : List Value).toArray meth c cX1_trust 2 (some FieldType.float) RX1 G h := hE
  obtain ⟨⟨hx, hb, hml, hown, hts⟩, hr, hlocks, hXX⟩ := id hE
  have hl := lv_entry ([.ref a0, .int x1] : List Value) (n := 2) (Nat.le_of_ble_eq_true rfl)
  rw [lg_entry_eq]
  generalize (lg_sl ([.ref a0, .int x1] : List Value) ++ List.replicate (2 - (lg_sl ([.ref a0, .int x1] : List Value)).length) Slot.unset).toArray = ls at hl ⊢
  have hl : lv_has ls 2 [(0, .ref a0), (1, .int x1)] := hl
  have hc : 0 ≤ mc := Nat.zero_le _
  have hs : 0 ≤ ms := Nat.zero_le _
  unfold wp_X1_trust at hw
  refine lv_aload_n hx hb dX1_trust_0 rfl (lv_at hl 0 rfl) ?_
  refine hv_wgetq hE hI in_X1 (ci := 1) rfl 0 (by decide) (hts _ q300) (fun _ hx => hx) hw dX1_trust_1 (fun r1 hw => ?_)
  refine lv_iload_n hx hb dX1_trust_4 rfl (lv_at hl 1 rfl) ?_
  obtain ⟨a2, hz, hwa2⟩ := hw; have hla2 := hl; subst hz; have hw := hwa2; have hl := hla2
  obtain ⟨mc3, ms3, hc, hs, hw⟩ := hw
  obtain ⟨⟨fs, hre⟩, hw⟩ := hw
  refine hx_rcq hI (vx_runV (As := [.int x1]) (b := a2) (rest := []) hE.1 (snd_X2_fact l hl0 G _ mc3 ms3 h a2 x1 _ _ hw) (cwV 1 hts (lw_V q1368 q1369 q1370 q98 q1371) rfl rfl rfl (by decide +kernel) ⟨Nat.le_of_ble_eq_true rfl, Nat.le_of_ble_eq_true rfl⟩) (hv_preV hE hI (ci := 2) rfl hre) rfl rfl hl.1 rfl (lv_room (Nat.le_of_ble_eq_true rfl)) dX1_trust_5 ⟨hc, hs⟩) ?_ (fun r4 h5 H locs hw hI => ?_)
  · intro E q6 h7 H locs hw hI hT
    exact hx_out hE hI hT hc hs (fun z hz => (ht z hz).elim) hw
  obtain ⟨a8, hz, hwa8⟩ := hw; have hla8 := hl; subst hz; have hw := hwa8; have hl := hla8
  refine hv_wgetfN hE hI in_X10 (ci := 14) rfl 4 (by decide) (hE.2.2.2.2.1.F 11 rfl) (fun _ hx => hx) hw dX1_trust_8 (fun r9 hw => ?_)
  exact vx_ret (hv_fret hE hI hc hs hw dX1_trust_11)

/-- MatchmakerRules.trustBits(I)I -/
abbrev rm_X1_trustBits (mc ms : Nat) : Room := { frames := 8, cells := mc, slots := ms, locals := 131 }
def wp_X1_trustBits (G : GG) (mc : Nat) (ms : Nat) (h : HH) (a0 : Nat) (x1 : Int32) (Q : Int32 → HH → Prop) (X : String → Nat → HH → Prop) : Prop := w_getq h a0 1 0 (fun r1 => w_nn r1 (fun a2 => (∃ mc3 ms3, 0 + mc3 ≤ mc ∧ 0 + ms3 ≤ ms ∧ w_is h a2 2 (wp_X2_fact G mc3 ms3 h a2 x1 (fun r4 h5 => w_nn r4 (fun a8 => w_getf h5 a8 14 4 (fun r9 => wp_J23_floatToIntBits r9 (fun r10 => Q r10 h5)))) (fun E q6 h7 => X E q6 h7)))))
set_option maxHeartbeats 4000000 in
theorem snd_X1_trustBits (l : Launch) (hl0 : l.stackTraces = false) (G : GG) (sz : Nat) (mc : Nat) (ms : Nat) (h : HH) (a0 : Nat) (x1 : Int32) (Q : Int32 → HH → Prop) (X : String → Nat → HH → Prop) (hw : wp_X1_trustBits G mc ms h a0 x1 Q X) : vx_Met l yX1_trustBits (ws_ yX1_trustBits cX1_trustBits 2 (some FieldType.int)) (rm_X1_trustBits mc ms) (hv_Pc G h sz [.ref a0, .int x1]) (hv_Qi G h sz Q) (hv_XC G h sz X) mc ms (hv_A h sz) := by
  refine vx_ofW (cc := cX1_trustBits) (maxL := 2) (ret := (some FieldType.int)) (by decide) rfl ?_
  intro p e s m args below meth c s₁ B hml ht hv
  obtain ⟨rfl, rfl, hE, hI⟩ := hv_open B hml hv
  have hE : hv_E p s m ([.ref a0, .int x1] : List Value).toArray meth c cX1_trustBits 2 (some FieldType.int) RX1 G h := hE
  obtain ⟨⟨hx, hb, hml, hown, hts⟩, hr, hlocks, hXX⟩ := id hE
  have hl := lv_entry ([.ref a0, .int x1] : List Value) (n := 2) (Nat.le_of_ble_eq_true rfl)
  rw [lg_entry_eq]
  generalize (lg_sl ([.ref a0, .int x1] : List Value) ++ List.replicate (2 - (lg_sl ([.ref a0, .int x1] : List Value)).length) Slot.unset).toArray = ls at hl ⊢
  have hl : lv_has ls 2 [(0, .ref a0), (1, .int x1)] := hl
  have hc : 0 ≤ mc := Nat.zero_le _
  have hs : 0 ≤ ms := Nat.zero_le _
  unfold wp_X1_trustBits at hw
  refine lv_aload_n hx hb dX1_trustBits_0 rfl (lv_at hl 0 rfl) ?_
  refine hv_wgetq hE hI in_X1 (ci := 1) rfl 0 (by decide) (hts _ q300) (fun _ hx => hx) hw dX1_trustBits_1 (fun r1 hw => ?_)
  refine lv_iload_n hx hb dX1_trustBits_4 rfl (lv_at hl 1 rfl) ?_
  obtain ⟨a2, hz, hwa2⟩ := hw; have hla2 := hl; subst hz; have hw := hwa2; have hl := hla2
  obtain ⟨mc3, ms3, hc, hs, hw⟩ := hw
  obtain ⟨⟨fs, hre⟩, hw⟩ := hw
  refine hx_rcq hI (vx_runV (As := [.int x1]) (b := a2) (rest := []) hE.1 (snd_X2_fact l hl0 G _ mc3 ms3 h a2 x1 _ _ hw) (cwV 1 hts (lw_V q1368 q1369 q1370 q98 q1371) rfl rfl rfl (by decide +kernel) ⟨Nat.le_of_ble_eq_true rfl, Nat.le_of_ble_eq_true rfl⟩) (hv_preV hE hI (ci := 2) rfl hre) rfl rfl hl.1 rfl (lv_room (Nat.le_of_ble_eq_true rfl)) dX1_trustBits_5 ⟨hc, hs⟩) ?_ (fun r4 h5 H locs hw hI => ?_)
  · intro E q6 h7 H locs hw hI hT
    exact hx_out hE hI hT hc hs (fun z hz => (ht z hz).elim) hw
  obtain ⟨a8, hz, hwa8⟩ := hw; have hla8 := hl; subst hz; have hw := hwa8; have hl := hla8
  refine hv_wgetfN hE hI in_X10 (ci := 14) rfl 4 (by decide) (hE.2.2.2.2.1.F 11 rfl) (fun _ hx => hx) hw dX1_trustBits_8 (fun r9 hw => ?_)
  refine pu_calls (As := [.float r9]) (rest := []) hE hI (snd_J23_floatToIntBits l G _ _ r9 _ hw) (va_cwS 1 hts (lw_S q1397 q1398 q134 q1399) rfl rfl rfl (by decide +kernel) ⟨Nat.le_of_ble_eq_true rfl, Nat.le_of_ble_eq_true rfl⟩) rfl hl.1 (Nat.le_of_ble_eq_true rfl) dX1_trustBits_11 ⟨hc, hs⟩ (fun r10 H locs hw hI => ?_)
  exact vx_ret (hv_iret hE hI hc hs hw dX1_trustBits_14)

/-- MatchmakerRules$Book.isAhead(LMatchmakerRules$Fact;LMatchmakerRules$Fact;)Z -/
abbrev rm_X2_isAhead : Room := { frames := 1, cells := 0, slots := 0, locals := 12 }
def wp_X2_isAhead (G : GG) (h : HH) (a0 : Nat) (x1 : Option Nat) (x2 : Option Nat) (Q : Int32 → HH → Prop) : Prop := w_nn x1 (fun a1 => w_getf h a1 14 4 (fun r2 => w_nn x2 (fun a3 => w_getf h a3 14 4 (fun r4 => ((0 < (Op.cmpValue (FP.fcmp r2 r4) .l) → Q (1 : Int32) h) ∧ (¬ 0 < (Op.cmpValue (FP.fcmp r2 r4) .l) → w_getf h a1 14 4 (fun r5 => w_getf h a3 14 4 (fun r6 => ((¬ (Op.cmpValue (FP.fcmp r5 r6) .l) = 0 → Q (0 : Int32) h) ∧ ((Op.cmpValue (FP.fcmp r5 r6) .l) = 0 → w_geti h a1 14 0 (fun r7 => w_geti h a3 14 0 (fun r8 => ((r8 ≤ r7 → Q (0 : Int32) h) ∧ (¬ r8 ≤ r7 → Q (1 : Int32) h))))))))))))))
set_option maxHeartbeats 4000000 in
theorem snd_X2_isAhead (l : Launch) (G : GG) (sz : Nat) (h : HH) (a0 : Nat) (x1 : Option Nat) (x2 : Option Nat) (Q : Int32 → HH → Prop) (hw : wp_X2_isAhead G h a0 x1 x2 Q) : Met l yX2_isAhead (ws_ yX2_isAhead cX2_isAhead 3 (some FieldType.boolean)) rm_X2_isAhead (hv_Pc G h sz [.ref a0, va_rf x1, va_rf x2]) (hv_Qi G h sz Q) 0 0 (hv_A h sz) := by
  refine Met.ofW (cc := cX2_isAhead) (maxL := 3) (ret := (some FieldType.boolean)) (by decide) rfl ?_
  intro p e s m args below meth c s₁ B hml hv
  obtain ⟨rfl, rfl, hE, hI⟩ := hv_open B hml hv
  have hE : hv_E p s m ([.ref a0, va_rf x1, va_rf x2] : List Value).toArray meth c cX2_isAhead 3 (some FieldType.boolean) RX2 G h := hE
  obtain ⟨⟨hx, hb, hml, hown, hts⟩, hr, hlocks, hXX⟩ := id hE
  have hl := lv_entry ([.ref a0, va_rf x1, va_rf x2] : List Value) (n := 3) (by cases x1 <;> cases x2 <;> exact Nat.le_of_ble_eq_true rfl)
  rw [lg_entry_eq]
  generalize (lg_sl ([.ref a0, va_rf x1, va_rf x2] : List Value) ++ List.replicate (3 - (lg_sl ([.ref a0, va_rf x1, va_rf x2] : List Value)).length) Slot.unset).toArray = ls at hl ⊢
  have hl : lv_has ls 3 [(0, .ref a0), (1, va_rf x1), (2, va_rf x2)] := (by cases x1 <;> cases x2 <;> exact hl)
  unfold wp_X2_isAhead at hw
  refine lv_aload_nq hx hb dX2_isAhead_0 rfl (lv_at hl 1 rfl) ?_
  obtain ⟨a1, hz, hwa1⟩ := hw; have hla1 := hl; subst hz; have hw := hwa1; have hl := hla1
  refine hv_wgetfN hE hI in_X10 (ci := 14) rfl 4 (by decide) (hE.2.2.2.2.1.F 28 rfl) (fun _ hx => hx) hw dX2_isAhead_1 (fun r2 hw => ?_)
  refine lv_aload_nq hx hb dX2_isAhead_4 rfl (lv_at hl 2 rfl) ?_
  obtain ⟨a3, hz, hwa3⟩ := hw; have hla3 := hl; subst hz; have hw := hwa3; have hl := hla3
  refine hv_wgetfN hE hI in_X10 (ci := 14) rfl 4 (by decide) (hE.2.2.2.2.1.F 28 rfl) (fun _ hx => hx) hw dX2_isAhead_5 (fun r4 hw => ?_)
  refine lv_fcmp hx hb dX2_isAhead_8 ?_
  refine lv_if_gt (tgt := 35) hx hb dX2_isAhead_9 (by decide) (fun c_9 => ?_) (fun c_9 => ?_)
  · have hw := hw.1 c_9
    refine lv_iconst (v := 1) hx hb dX2_isAhead_35 (by decide) ?_
    refine lv_goto (tgt := 40) hx hb dX2_isAhead_36 (by decide) ?_
    exact hv_zret hE hI (Nat.le_refl _) (Nat.le_refl _) rfl hw dX2_isAhead_40
  · have hw := hw.2 c_9
    refine lv_aload_n hx hb dX2_isAhead_12 rfl (lv_at hl 1 rfl) ?_
    refine hv_wgetfN hE hI in_X10 (ci := 14) rfl 4 (by decide) (hE.2.2.2.2.1.F 28 rfl) (fun _ hx => hx) hw dX2_isAhead_13 (fun r5 hw => ?_)
    refine lv_aload_n hx hb dX2_isAhead_16 rfl (lv_at hl 2 rfl) ?_
    refine hv_wgetfN hE hI in_X10 (ci := 14) rfl 4 (by decide) (hE.2.2.2.2.1.F 28 rfl) (fun _ hx => hx) hw dX2_isAhead_17 (fun r6 hw => ?_)
    refine lv_fcmp hx hb dX2_isAhead_20 ?_
    refine lv_if_ne (tgt := 39) hx hb dX2_isAhead_21 (by decide) (fun c_21 => ?_) (fun c_21 => ?_)
    · have hw := hw.1 c_21
      refine lv_iconst (v := 0) hx hb dX2_isAhead_39 (by decide) ?_
      exact hv_zret hE hI (Nat.le_refl _) (Nat.le_refl _) rfl hw dX2_isAhead_40
    · have hw := hw.2 c_21
      refine lv_aload_n hx hb dX2_isAhead_24 rfl (lv_at hl 1 rfl) ?_
      refine hv_wgetiN hE hI in_X10 (ci := 14) rfl 0 (by decide) (hE.2.2.2.2.1.F 24 rfl) (fun _ hx => hx) hw dX2_isAhead_25 (fun r7 hw => ?_)
      refine lv_aload_n hx hb dX2_isAhead_28 rfl (lv_at hl 2 rfl) ?_
      refine hv_wgetiN hE hI in_X10 (ci := 14) rfl 0 (by decide) (hE.2.2.2.2.1.F 24 rfl) (fun _ hx => hx) hw dX2_isAhead_29 (fun r8 hw => ?_)
      refine lv_icmp_ge (tgt := 39) hx hb dX2_isAhead_32 (by decide) (fun c_32 => ?_) (fun c_32 => ?_)
      · have hw := hw.1 c_32
        refine lv_iconst (v := 0) hx hb dX2_isAhead_39 (by decide) ?_
        exact hv_zret hE hI (Nat.le_refl _) (Nat.le_refl _) rfl hw dX2_isAhead_40
      · have hw := hw.2 c_32
        refine lv_iconst (v := 1) hx hb dX2_isAhead_35 (by decide) ?_
        refine lv_goto (tgt := 40) hx hb dX2_isAhead_36 (by decide) ?_
        exact hv_zret hE hI (Nat.le_refl _) (Nat.le_refl _) rfl hw dX2_isAhead_40

/-- MatchmakerRules$Book.trusted(I)LMatchmakerRules$Fact; -/
abbrev rm_X2_trusted (mc ms : Nat) : Room := { frames := 3, cells := mc, slots := ms, locals := 73 }
def wp_X2_trusted_L39 (G : GG) (mc : Nat) (ms : Nat) (a0 : Nat) (Q : Option Nat → HH → Prop) (k8 : (HH) → (Nat) → (Nat) → (Int32) → (Option Nat) → Prop) : Nat → (HH) → (Nat) → (Nat) → (Int32) → (Nat) → (Nat) → (Int32) → (Option Nat) → Prop
  | 0, _, _, _, _, _, _, _, _ => False
  | n + 1, h, nc, nk, x1, x2, x3, x4, x5 => w_nn x5 (fun a17 => w_is h a17 13 (wp_J15_hasNext G h a17 (fun r18 h19 => ((r18 = 0 → ((¬ x4 = x1 → k8 h19 nc nk x1 (some x2)) ∧ (x4 = x1 → Q (some x3) h19))) ∧ (¬ r18 = 0 → w_is h19 a17 13 (wp_J15_next G h19 a17 (fun r20 h21 => w_nn r20 (fun a22 => w_cast h21 a22 14 (w_is h21 a0 2 (wp_X2_isAhead G h21 a0 (some a22) (some x3) (fun r23 h24 => ((r23 = 0 → wp_X2_trusted_L39 G mc ms a0 Q k8 n h24 nc nk x1 x2 x3 (x4 + (0 : Int32)) (some a17)) ∧ (¬ r23 = 0 → wp_X2_trusted_L39 G mc ms a0 Q k8 n h24 nc nk x1 x2 x3 (x4 + (1 : Int32)) (some a17))))))))))))))
set_option maxHeartbeats 4000000 in
theorem snd_X2_trusted_L39 {p : Program} {l : Launch} {e : Env} {s : State} {m : MethodId} {args : Array Value} {below : List Frame} {meth : Method} {c : Code} {h0 : HH} (G : GG) (mc : Nat) (ms : Nat) (a0 : Nat) (Q : Option Nat → HH → Prop) (hE : hv_E p s m args meth c cX2_trusted 7 (some (FieldType.object "MatchmakerRules$Fact")) RX2 G h0) (k8 : (HH) → (Nat) → (Nat) → (Int32) → (Option Nat) → Prop) (hk8 : ∀ (h : HH) (nc : Nat) (nk : Nat) (x1 : Int32) (x2 : Option Nat), k8 h nc nk x1 x2 → nc ≤ mc → nk ≤ ms → ∀ (H : Heap) (locs : List Loc) (ls : Array Slot), hv_I G h0 s.heap h H locs → lv_has ls 7 [(0, .ref a0), (1, .int x1), (2, va_rf x2)] → W p l e (headSpec (ws_ yX2_trusted cX2_trusted 7 (some (FieldType.object "MatchmakerRules$Fact"))) (rm_X2_trusted mc ms)).room s m args below meth c H locs nc nk (MQ below (hv_Qq G h0 s.heap.size Q) args s mc ms (hv_A h0 s.heap.size)) (F0 m 8 ls [])) : ∀ (n : Nat) (h : HH) (nc : Nat) (nk : Nat) (x1 : Int32) (x2 : Nat) (x3 : Nat) (x4 : Int32) (x5 : Option Nat), wp_X2_trusted_L39 G mc ms a0 Q k8 n h nc nk x1 x2 x3 x4 x5 → nc ≤ mc → nk ≤ ms → ∀ (H : Heap) (locs : List Loc) (ls : Array Slot), hv_I G h0 s.heap h H locs → lv_has ls 7 [(0, .ref a0), (1, .int x1), (2, .ref x2), (3, .ref x3), (4, .int x4), (5, va_rf x5)] → W p l e (headSpec (ws_ yX2_trusted cX2_trusted 7 (some (FieldType.object "MatchmakerRules$Fact"))) (rm_X2_trusted mc ms)).room s m args below meth c H locs nc nk (MQ below (hv_Qq G h0 s.heap.size Q) args s mc ms (hv_A h0 s.heap.size)) (F0 m 39 ls []) := by
  obtain ⟨⟨hx, hb, hml, hown, hts⟩, hr, hlocks, hXX⟩ := id hE
  intro n
  induction n with
  | zero => intro h nc nk x1 x2 x3 x4 x5 hw; exact hw.elim
  | succ n ih =>
    intro h nc nk x1 x2 x3 x4 x5 hw hc hs H locs ls hI hl
    unfold wp_X2_trusted_L39 at hw
    refine lv_aloadq hx hb dX2_trusted_39 (lv_at hl 5 rfl) ?_
    obtain ⟨a17, hz, hwa17⟩ := hw; have hla17 := hl; subst hz; have hw := hwa17; have hl := hla17
    obtain ⟨⟨fs, hre⟩, hw⟩ := hw
    refine hv_rFi hI (va_runF (As := []) (b := a17) (rest := []) (hXX.1.1 13 _ rfl).2 hE.1 (snd_J15_hasNext l G _ h a17 _ hw) (va_cwF 0 hts (lw_F q375 q379 q381 q121 q383) rfl rfl rfl (hv_fw0 hE.2.2.2.2.1) (by decide +kernel) ⟨Nat.le_of_ble_eq_true rfl, Nat.le_of_ble_eq_true rfl⟩) (hv_preV hE hI (ci := 13) rfl hre) rfl rfl hl.1 rfl (lv_room (Nat.le_of_ble_eq_true rfl)) dX2_trusted_41 ⟨hc, hs⟩) (fun r18 h19 H locs hw hI => ?_)
    refine lv_if_eq (tgt := 84) hx hb dX2_trusted_46 (by decide) (fun c_46 => ?_) (fun c_46 => ?_)
    · have hw := hw.1 c_46
      refine lv_iload hx hb dX2_trusted_84 (lv_at hl 4 rfl) ?_
      refine lv_iload_n hx hb dX2_trusted_86 rfl (lv_at hl 1 rfl) ?_
      refine lv_icmp_ne (tgt := 92) hx hb dX2_trusted_87 (by decide) (fun c_87 => ?_) (fun c_87 => ?_)
      · have hw := hw.1 c_87
        refine lv_goto (tgt := 8) hx hb dX2_trusted_92 (by decide) ?_
        exact hk8 h19 nc nk x1 (some x2) hw hc hs _ _ _ hI (lv_sub hl [0, 1, 2] rfl)
      · have hw := hw.2 c_87
        refine lv_aload_n hx hb dX2_trusted_90 rfl (lv_at hl 3 rfl) ?_
        exact hv_qret (v := (some x3)) hE (Or.inl ⟨_, rfl⟩) hI hc hs hw dX2_trusted_91
    · have hw := hw.2 c_46
      refine lv_aload hx hb dX2_trusted_49 (lv_at hl 5 rfl) ?_
      obtain ⟨⟨fs, hre⟩, hw⟩ := hw
      refine hv_rFq hI (va_runF (As := []) (b := a17) (rest := []) (hXX.1.1 13 _ rfl).2 hE.1 (snd_J15_next l G _ h19 a17 _ hw) (va_cwF 0 hts (lw_F q385 q388 q390 q121 q392) rfl rfl rfl (hv_fw1 hE.2.2.2.2.1) (by decide +kernel) ⟨Nat.le_of_ble_eq_true rfl, Nat.le_of_ble_eq_true rfl⟩) (hv_preV hE hI (ci := 13) rfl hre) rfl rfl hl.1 rfl (lv_room (Nat.le_of_ble_eq_true rfl)) dX2_trusted_51 ⟨hc, hs⟩) (fun r20 h21 H locs hw hI => ?_)
      obtain ⟨a22, hz, hwa22⟩ := hw; have hla22 := hl; subst hz; have hw := hwa22; have hl := hla22
      refine hv_wcast (ci := 14) hE hI (hts _ q469) rfl hw dX2_trusted_56 (fun hw => ?_)
      refine lv_astore (lv' := [(6, .ref a22), (0, .ref a0), (1, .int x1), (2, .ref x2), (3, .ref x3), (4, .int x4), (5, .ref a17)]) hx hb dX2_trusted_59 hl (by decide) rfl (fun ls hl => ?_)
      refine lv_iload hx hb dX2_trusted_61 (lv_at hl 5 rfl) ?_
      refine lv_aload_n hx hb dX2_trusted_63 rfl (lv_at hl 1 rfl) ?_
      refine lv_aload hx hb dX2_trusted_64 (lv_at hl 0 rfl) ?_
      refine lv_aload_n hx hb dX2_trusted_66 rfl (lv_at hl 4 rfl) ?_
      obtain ⟨⟨fs, hre⟩, hw⟩ := hw
      refine hv_rci hI (va_runV (As := [.ref a22, .ref x3]) (b := a0) (rest := [.int x4]) hE.1 (snd_X2_isAhead l G _ h21 a0 (some a22) (some x3) _ hw) (cwV 2 hts (lw_V q1418 q1420 qs28 q98 q1421) rfl rfl rfl (by decide +kernel) ⟨Nat.le_of_ble_eq_true rfl, Nat.le_of_ble_eq_true rfl⟩) (hv_preV hE hI (ci := 2) rfl hre) rfl rfl hl.1 rfl (lv_room (Nat.le_of_ble_eq_true rfl)) dX2_trusted_67 ⟨hc, hs⟩) (fun r23 h24 H locs hw hI => ?_)
      refine lv_if_eq (tgt := 77) hx hb dX2_trusted_70 (by decide) (fun c_70 => ?_) (fun c_70 => ?_)
      · have hw := hw.1 c_70
        refine lv_iconst (v := 0) hx hb dX2_trusted_77 (by decide) ?_
        refine lv_iadd hx hb dX2_trusted_78 ?_
        refine lv_istore (lv' := [(4, .int (x4 + (0 : Int32))), (6, .ref a22), (0, .ref a0), (1, .int x1), (2, .ref x2), (3, .ref x3), (5, .ref a17)]) hx hb dX2_trusted_79 hl (by decide) rfl (fun ls hl => ?_)
        refine lv_goto (tgt := 39) hx hb dX2_trusted_81 (by decide) ?_
        exact ih h24 nc nk x1 x2 x3 (x4 + (0 : Int32)) (some a17) hw hc hs _ _ _ hI (lv_sub hl [2, 3, 4, 5, 0, 6] rfl)
      · have hw := hw.2 c_70
        refine lv_iconst (v := 1) hx hb dX2_trusted_73 (by decide) ?_
        refine lv_goto (tgt := 78) hx hb dX2_trusted_74 (by decide) ?_
        refine lv_iadd hx hb dX2_trusted_78 ?_
        refine lv_istore (lv' := [(4, .int (x4 + (1 : Int32))), (6, .ref a22), (0, .ref a0), (1, .int x1), (2, .ref x2), (3, .ref x3), (5, .ref a17)]) hx hb dX2_trusted_79 hl (by decide) rfl (fun ls hl => ?_)
        refine lv_goto (tgt := 39) hx hb dX2_trusted_81 (by decide) ?_
        exact ih h24 nc nk x1 x2 x3 (x4 + (1 : Int32)) (some a17) hw hc hs _ _ _ hI (lv_sub hl [2, 3, 4, 5, 0, 6] rfl)
def wp_X2_trusted_L8 (G : GG) (mc : Nat) (ms : Nat) (a0 : Nat) (Q : Option Nat → HH → Prop) : Nat → (HH) → (Nat) → (Nat) → (Int32) → (Option Nat) → Prop
  | 0, _, _, _, _, _ => False
  | n + 1, h, nc, nk, x1, x2 => w_nn x2 (fun a6 => w_is h a6 13 (wp_J15_hasNext G h a6 (fun r7 h8 => ((r7 = 0 → Q none h8) ∧ (¬ r7 = 0 → w_is h8 a6 13 (wp_J15_next G h8 a6 (fun r9 h10 => w_nn r9 (fun a11 => w_cast h10 a11 14 (w_getq h10 a0 2 2 (fun r12 => w_nn r12 (fun a13 => (∃ mc14 ms14, nc + mc14 ≤ mc ∧ nk + ms14 ≤ ms ∧ w_is h10 a13 4 (wp_J2_iterator G mc14 ms14 h10 a13 (fun r15 h16 => (∃ n39, wp_X2_trusted_L39 G mc ms a0 Q (fun h nc nk x1 x2 => wp_X2_trusted_L8 G mc ms a0 Q n h nc nk x1 x2) n39 h16 (nc + mc14) (nk + ms14) x1 a6 a11 (0 : Int32) r15)))))))))))))))
set_option maxHeartbeats 4000000 in
theorem snd_X2_trusted_L8 {p : Program} {l : Launch} {e : Env} {s : State} {m : MethodId} {args : Array Value} {below : List Frame} {meth : Method} {c : Code} {h0 : HH} (G : GG) (mc : Nat) (ms : Nat) (a0 : Nat) (Q : Option Nat → HH → Prop) (hE : hv_E p s m args meth c cX2_trusted 7 (some (FieldType.object "MatchmakerRules$Fact")) RX2 G h0) : ∀ (n : Nat) (h : HH) (nc : Nat) (nk : Nat) (x1 : Int32) (x2 : Option Nat), wp_X2_trusted_L8 G mc ms a0 Q n h nc nk x1 x2 → nc ≤ mc → nk ≤ ms → ∀ (H : Heap) (locs : List Loc) (ls : Array Slot), hv_I G h0 s.heap h H locs → lv_has ls 7 [(0, .ref a0), (1, .int x1), (2, va_rf x2)] → W p l e (headSpec (ws_ yX2_trusted cX2_trusted 7 (some (FieldType.object "MatchmakerRules$Fact"))) (rm_X2_trusted mc ms)).room s m args below meth c H locs nc nk (MQ below (hv_Qq G h0 s.heap.size Q) args s mc ms (hv_A h0 s.heap.size)) (F0 m 8 ls []) := by
  obtain ⟨⟨hx, hb, hml, hown, hts⟩, hr, hlocks, hXX⟩ := id hE
  intro n
  induction n with
  | zero => intro h nc nk x1 x2 hw; exact hw.elim
  | succ n ih =>
    intro h nc nk x1 x2 hw hc hs H locs ls hI hl
    unfold wp_X2_trusted_L8 at hw
    refine lv_aload_nq hx hb dX2_trusted_8 rfl (lv_at hl 2 rfl) ?_
    obtain ⟨a6, hz, hwa6⟩ := hw; have hla6 := hl; subst hz; have hw := hwa6; have hl := hla6
    obtain ⟨⟨fs, hre⟩, hw⟩ := hw
    refine hv_rFi hI (va_runF (As := []) (b := a6) (rest := []) (hXX.1.1 13 _ rfl).2 hE.1 (snd_J15_hasNext l G _ h a6 _ hw) (va_cwF 0 hts (lw_F q375 q379 q381 q121 q383) rfl rfl rfl (hv_fw0 hE.2.2.2.2.1) (by decide +kernel) ⟨Nat.le_of_ble_eq_true rfl, Nat.le_of_ble_eq_true rfl⟩) (hv_preV hE hI (ci := 13) rfl hre) rfl rfl hl.1 rfl (lv_room (Nat.le_of_ble_eq_true rfl)) dX2_trusted_9 ⟨hc, hs⟩) (fun r7 h8 H locs hw hI => ?_)
    refine lv_if_eq (tgt := 95) hx hb dX2_trusted_14 (by decide) (fun c_14 => ?_) (fun c_14 => ?_)
    · have hw := hw.1 c_14
      refine lv_null hx hb dX2_trusted_95 ?_
      exact hv_qret (v := none) hE (Or.inl ⟨_, rfl⟩) hI hc hs hw dX2_trusted_96
    · have hw := hw.2 c_14
      refine lv_aload_n hx hb dX2_trusted_17 rfl (lv_at hl 2 rfl) ?_
      obtain ⟨⟨fs, hre⟩, hw⟩ := hw
      refine hv_rFq hI (va_runF (As := []) (b := a6) (rest := []) (hXX.1.1 13 _ rfl).2 hE.1 (snd_J15_next l G _ h8 a6 _ hw) (va_cwF 0 hts (lw_F q385 q388 q390 q121 q392) rfl rfl rfl (hv_fw1 hE.2.2.2.2.1) (by decide +kernel) ⟨Nat.le_of_ble_eq_true rfl, Nat.le_of_ble_eq_true rfl⟩) (hv_preV hE hI (ci := 13) rfl hre) rfl rfl hl.1 rfl (lv_room (Nat.le_of_ble_eq_true rfl)) dX2_trusted_18 ⟨hc, hs⟩) (fun r9 h10 H locs hw hI => ?_)
      obtain ⟨a11, hz, hwa11⟩ := hw; have hla11 := hl; subst hz; have hw := hwa11; have hl := hla11
      refine hv_wcast (ci := 14) hE hI (hts _ q469) rfl hw dX2_trusted_23 (fun hw => ?_)
      refine lv_astore_n (lv' := [(3, .ref a11), (0, .ref a0), (1, .int x1), (2, .ref a6)]) hx hb dX2_trusted_26 rfl hl (by decide) rfl (fun ls hl => ?_)
      refine lv_iconst (v := 0) hx hb dX2_trusted_27 (by decide) ?_
      refine lv_istore (lv' := [(4, .int (0 : Int32)), (3, .ref a11), (0, .ref a0), (1, .int x1), (2, .ref a6)]) hx hb dX2_trusted_28 hl (by decide) rfl (fun ls hl => ?_)
      refine lv_aload_n hx hb dX2_trusted_30 rfl (lv_at hl 2 rfl) ?_
      refine hv_wgetq hE hI in_X2 (ci := 2) rfl 2 (by decide) (hts _ q222) (fun _ hx => hx) hw dX2_trusted_31 (fun r12 hw => ?_)
      obtain ⟨a13, hz, hwa13⟩ := hw; have hla13 := hl; subst hz; have hw := hwa13; have hl := hla13
      obtain ⟨mc14, ms14, hc, hs, hw⟩ := hw
      obtain ⟨⟨fs, hre⟩, hw⟩ := hw
      refine hv_rcq hI (va_runV (As := []) (b := a13) (rest := []) hE.1 (snd_J2_iterator l G _ mc14 ms14 h10 a13 _ hw) (cwV 0 hts (lw_V q351 q352 q353 q102 q354) rfl rfl rfl (by decide +kernel) ⟨Nat.le_of_ble_eq_true rfl, Nat.le_of_ble_eq_true rfl⟩) (hv_preV hE hI (ci := 4) rfl hre) rfl rfl hl.1 rfl (lv_room (Nat.le_of_ble_eq_true rfl)) dX2_trusted_34 ⟨hc, hs⟩) (fun r15 h16 H locs hw hI => ?_)
      refine lv_astoreq (lv' := [(5, va_rf r15), (4, .int (0 : Int32)), (3, .ref a11), (0, .ref a0), (1, .int x1), (2, .ref a6)]) hx hb dX2_trusted_37 hl (by decide) rfl (fun ls hl => ?_)
      obtain ⟨n39, hw⟩ := hw
      exact snd_X2_trusted_L39 G mc ms a0 Q hE (fun h nc nk x1 x2 => wp_X2_trusted_L8 G mc ms a0 Q n h nc nk x1 x2) (fun h nc nk x1 x2 => ih h nc nk x1 x2) n39 h16 (nc + mc14) (nk + ms14) x1 a6 a11 (0 : Int32) r15 hw hc hs _ _ _ hI (lv_sub hl [3, 4, 5, 2, 1, 0] rfl)
def wp_X2_trusted (G : GG) (mc : Nat) (ms : Nat) (h : HH) (a0 : Nat) (x1 : Int32) (Q : Option Nat → HH → Prop) : Prop := w_getq h a0 2 2 (fun r1 => w_nn r1 (fun a2 => (∃ mc3 ms3, 0 + mc3 ≤ mc ∧ 0 + ms3 ≤ ms ∧ w_is h a2 4 (wp_J2_iterator G mc3 ms3 h a2 (fun r4 h5 => (∃ n8, wp_X2_trusted_L8 G mc ms a0 Q n8 h5 (0 + mc3) (0 + ms3) x1 r4))))))
set_option maxHeartbeats 4000000 in
theorem snd_X2_trusted (l : Launch) (G : GG) (sz : Nat) (mc : Nat) (ms : Nat) (h : HH) (a0 : Nat) (x1 : Int32) (Q : Option Nat → HH → Prop) (hw : wp_X2_trusted G mc ms h a0 x1 Q) : Met l yX2_trusted (ws_ yX2_trusted cX2_trusted 7 (some (FieldType.object "MatchmakerRules$Fact"))) (rm_X2_trusted mc ms) (hv_Pc G h sz [.ref a0, .int x1]) (hv_Qq G h sz Q) mc ms (hv_A h sz) := by
  refine Met.ofW (cc := cX2_trusted) (maxL := 7) (ret := (some (FieldType.object "MatchmakerRules$Fact"))) (by decide) rfl ?_
  intro p e s m args below meth c s₁ B hml hv
  obtain ⟨rfl, rfl, hE, hI⟩ := hv_open B hml hv
  have hE : hv_E p s m ([.ref a0, .int x1] : List Value).toArray meth c cX2_trusted 7 (some (FieldType.object "MatchmakerRules$Fact")) RX2 G h := hE
  obtain ⟨⟨hx, hb, hml, hown, hts⟩, hr, hlocks, hXX⟩ := id hE
  have hl := lv_entry ([.ref a0, .int x1] : List Value) (n := 7) (Nat.le_of_ble_eq_true rfl)
  rw [lg_entry_eq]
  generalize (lg_sl ([.ref a0, .int x1] : List Value) ++ List.replicate (7 - (lg_sl ([.ref a0, .int x1] : List Value)).length) Slot.unset).toArray = ls at hl ⊢
  have hl : lv_has ls 7 [(0, .ref a0), (1, .int x1)] := hl
  have hc : 0 ≤ mc := Nat.zero_le _
  have hs : 0 ≤ ms := Nat.zero_le _
  unfold wp_X2_trusted at hw
  refine lv_aload_n hx hb dX2_trusted_0 rfl (lv_at hl 0 rfl) ?_
  refine hv_wgetq hE hI in_X2 (ci := 2) rfl 2 (by decide) (hts _ q222) (fun _ hx => hx) hw dX2_trusted_1 (fun r1 hw => ?_)
  obtain ⟨a2, hz, hwa2⟩ := hw; have hla2 := hl; subst hz; have hw := hwa2; have hl := hla2
  obtain ⟨mc3, ms3, hc, hs, hw⟩ := hw
  obtain ⟨⟨fs, hre⟩, hw⟩ := hw
  refine hv_rcq hI (va_runV (As := []) (b := a2) (rest := []) hE.1 (snd_J2_iterator l G _ mc3 ms3 h a2 _ hw) (cwV 0 hts (lw_V q351 q352 q353 q102 q354) rfl rfl rfl (by decide +kernel) ⟨Nat.le_of_ble_eq_true rfl, Nat.le_of_ble_eq_true rfl⟩) (hv_preV hE hI (ci := 4) rfl hre) rfl rfl hl.1 rfl (lv_room (Nat.le_of_ble_eq_true rfl)) dX2_trusted_4 ⟨hc, hs⟩) (fun r4 h5 H locs hw hI => ?_)
  refine lv_astore_nq (lv' := [(2, va_rf r4), (0, .ref a0), (1, .int x1)]) hx hb dX2_trusted_7 rfl hl (by decide) rfl (fun ls hl => ?_)
  obtain ⟨n8, hw⟩ := hw
  exact snd_X2_trusted_L8 G mc ms a0 Q hE n8 h5 (0 + mc3) (0 + ms3) x1 r4 hw hc hs _ _ _ hI (lv_sub hl [1, 2, 0] rfl)

/-- MatchmakerRules.trusted(I)I -/
abbrev rm_X1_trusted (mc ms : Nat) : Room := { frames := 8, cells := mc, slots := ms, locals := 129 }
def wp_X1_trusted (G : GG) (mc : Nat) (ms : Nat) (h : HH) (a0 : Nat) (x1 : Int32) (Q : Int32 → HH → Prop) (X : String → Nat → HH → Prop) : Prop := w_getq h a0 1 0 (fun r1 => w_nn r1 (fun a2 => (∃ mc3 ms3, 0 + mc3 ≤ mc ∧ 0 + ms3 ≤ ms ∧ w_is h a2 2 (wp_X2_trusted G mc3 ms3 h a2 x1 (fun r4 h5 => (∃ mc6 ms6, (0 + mc3) + mc6 ≤ mc ∧ (0 + ms3) + ms6 ≤ ms ∧ wp_X1_numberOf G mc6 ms6 h5 r4 (fun r7 h8 => Q r7 h8) (fun E q9 h10 => X E q9 h10)))))))
set_option maxHeartbeats 4000000 in
theorem snd_X1_trusted (l : Launch) (hl0 : l.stackTraces = false) (G : GG) (sz : Nat) (mc : Nat) (ms : Nat) (h : HH) (a0 : Nat) (x1 : Int32) (Q : Int32 → HH → Prop) (X : String → Nat → HH → Prop) (hw : wp_X1_trusted G mc ms h a0 x1 Q X) : vx_Met l yX1_trusted (ws_ yX1_trusted cX1_trusted 2 (some FieldType.int)) (rm_X1_trusted mc ms) (hv_Pc G h sz [.ref a0, .int x1]) (hv_Qi G h sz Q) (hv_XC G h sz X) mc ms (hv_A h sz) := by
  refine vx_ofW (cc := cX1_trusted) (maxL := 2) (ret := (some FieldType.int)) (by decide) rfl ?_
  intro p e s m args below meth c s₁ B hml ht hv
  obtain ⟨rfl, rfl, hE, hI⟩ := hv_open B hml hv
  have hE : hv_E p s m ([.ref a0, .int x1] : List Value).toArray meth c cX1_trusted 2 (some FieldType.int) RX1 G h := hE
  obtain ⟨⟨hx, hb, hml, hown, hts⟩, hr, hlocks, hXX⟩ := id hE
  have hl := lv_entry ([.ref a0, .int x1] : List Value) (n := 2) (Nat.le_of_ble_eq_true rfl)
  rw [lg_entry_eq]
  generalize (lg_sl ([.ref a0, .int x1] : List Value) ++ List.replicate (2 - (lg_sl ([.ref a0, .int x1] : List Value)).length) Slot.unset).toArray = ls at hl ⊢
  have hl : lv_has ls 2 [(0, .ref a0), (1, .int x1)] := hl
  have hc : 0 ≤ mc := Nat.zero_le _
  have hs : 0 ≤ ms := Nat.zero_le _
  unfold wp_X1_trusted at hw
  refine lv_aload_n hx hb dX1_trusted_0 rfl (lv_at hl 0 rfl) ?_
  refine hv_wgetq hE hI in_X1 (ci := 1) rfl 0 (by decide) (hts _ q300) (fun _ hx => hx) hw dX1_trusted_1 (fun r1 hw => ?_)
  refine lv_iload_n hx hb dX1_trusted_4 rfl (lv_at hl 1 rfl) ?_
  obtain ⟨a2, hz, hwa2⟩ := hw; have hla2 := hl; subst hz; have hw := hwa2; have hl := hla2
  obtain ⟨mc3, ms3, hc, hs, hw⟩ := hw
  obtain ⟨⟨fs, hre⟩, hw⟩ := hw
  refine hv_rcq hI (va_runV (As := [.int x1]) (b := a2) (rest := []) hE.1 (snd_X2_trusted l G _ mc3 ms3 h a2 x1 _ hw) (cwV 1 hts (lw_V q1414 q1415 q1416 q98 q1417) rfl rfl rfl (by decide +kernel) ⟨Nat.le_of_ble_eq_true rfl, Nat.le_of_ble_eq_true rfl⟩) (hv_preV hE hI (ci := 2) rfl hre) rfl rfl hl.1 rfl (lv_room (Nat.le_of_ble_eq_true rfl)) dX1_trusted_5 ⟨hc, hs⟩) (fun r4 h5 H locs hw hI => ?_)
  obtain ⟨mc6, ms6, hc, hs, hw⟩ := hw
  refine hx_rci hI (vx_runS (As := [va_rf r4]) (rest := []) hE.1 (snd_X1_numberOf l hl0 G _ mc6 ms6 h5 r4 _ _ hw) (va_cwS 1 hts (lw_S q1343 q1344 q97 q1345) rfl rfl rfl (by decide +kernel) ⟨Nat.le_of_ble_eq_true rfl, Nat.le_of_ble_eq_true rfl⟩) (hv_preS hE hI) rfl rfl hl.1 rfl (lv_room (Nat.le_of_ble_eq_true rfl)) dX1_trusted_8 ⟨hc, hs⟩) ?_ (fun r7 h8 H locs hw hI => ?_)
  · intro E q9 h10 H locs hw hI hT
    exact hx_out hE hI hT hc hs (fun z hz => (ht z hz).elim) hw
  exact vx_ret (hv_iret hE hI hc hs hw dX1_trusted_11)

/-- MatchmakerRules$Book.agenda(I)LMatchmakerRules$Firing; -/
abbrev rm_X2_agenda (mc ms : Nat) : Room := { frames := 8, cells := mc, slots := ms, locals := 174 }
def wp_X2_agenda_L66 (G : GG) (mc : Nat) (ms : Nat) (a0 : Nat) (Q : Option Nat → HH → Prop) (h : HH) (nc : Nat) (nk : Nat) (x3 : Nat) (x4 : Int32) : Prop := ((x4 = 0 → Q none h) ∧ (¬ x4 = 0 → Q (some x3) h))
set_option maxHeartbeats 4000000 in
theorem snd_X2_agenda_L66 {p : Program} {l : Launch} {e : Env} {s : State} {m : MethodId} {args : Array Value} {below : List Frame} {meth : Method} {c : Code} {h0 : HH} (G : GG) (mc : Nat) (ms : Nat) (a0 : Nat) (Q : Option Nat → HH → Prop) (hE : hv_E p s m args meth c cX2_agenda 7 (some (FieldType.object "MatchmakerRules$Firing")) RX2 G h0) : ∀ (h : HH) (nc : Nat) (nk : Nat) (x3 : Nat) (x4 : Int32), wp_X2_agenda_L66 G mc ms a0 Q h nc nk x3 x4 → nc ≤ mc → nk ≤ ms → ∀ (H : Heap) (locs : List Loc) (ls : Array Slot), hv_I G h0 s.heap h H locs → lv_has ls 7 [(3, .ref x3), (4, .int x4)] → W p l e (headSpec (ws_ yX2_agenda cX2_agenda 7 (some (FieldType.object "MatchmakerRules$Firing"))) (rm_X2_agenda mc ms)).room s m args below meth c H locs nc nk (MQ below (hv_Qq G h0 s.heap.size Q) args s mc ms (hv_A h0 s.heap.size)) (F0 m 66 ls []) := by
  obtain ⟨⟨hx, hb, hml, hown, hts⟩, hr, hlocks, hXX⟩ := id hE
  intro h nc nk x3 x4 hw hc hs H locs ls hI hl
  unfold wp_X2_agenda_L66 at hw
  refine lv_iload hx hb dX2_agenda_66 (lv_at hl 1 rfl) ?_
  refine lv_if_eq (tgt := 75) hx hb dX2_agenda_68 (by decide) (fun c_68 => ?_) (fun c_68 => ?_)
  · have hw := hw.1 c_68
    refine lv_null hx hb dX2_agenda_75 ?_
    exact hv_qret (v := none) hE (Or.inl ⟨_, rfl⟩) hI hc hs hw dX2_agenda_76
  · have hw := hw.2 c_68
    refine lv_aload_n hx hb dX2_agenda_71 rfl (lv_at hl 0 rfl) ?_
    refine lv_goto (tgt := 76) hx hb dX2_agenda_72 (by decide) ?_
    exact hv_qret (v := (some x3)) hE (Or.inl ⟨_, rfl⟩) hI hc hs hw dX2_agenda_76
def wp_X2_agenda_L33 (G : GG) (mc : Nat) (ms : Nat) (a0 : Nat) (Q : Option Nat → HH → Prop) : Nat → (HH) → (Nat) → (Nat) → (Int32) → (Nat) → (Nat) → (Int32) → (Int32) → Prop
  | 0, _, _, _, _, _, _, _, _ => False
  | n + 1, h, nc, nk, x1, x2, x3, x4, x5 => ((x1 ≤ x5 → wp_X2_agenda_L66 G mc ms a0 Q h nc nk x3 x4) ∧ (¬ x1 ≤ x5 → ((x4 = 0 → wp_X2_agenda_L66 G mc ms a0 Q h nc nk x3 x4) ∧ (¬ x4 = 0 → w_is h a0 2 (wp_X2_isNext G h a0 (some x3) (some x2) (fun r9 h10 => wp_X2_agenda_L33 G mc ms a0 Q n h10 nc nk x1 x3 x2 r9 (x5 + (1 : Int32))))))))
set_option maxHeartbeats 4000000 in
theorem snd_X2_agenda_L33 {p : Program} {l : Launch} {e : Env} {s : State} {m : MethodId} {args : Array Value} {below : List Frame} {meth : Method} {c : Code} {h0 : HH} (G : GG) (mc : Nat) (ms : Nat) (a0 : Nat) (Q : Option Nat → HH → Prop) (hE : hv_E p s m args meth c cX2_agenda 7 (some (FieldType.object "MatchmakerRules$Firing")) RX2 G h0) : ∀ (n : Nat) (h : HH) (nc : Nat) (nk : Nat) (x1 : Int32) (x2 : Nat) (x3 : Nat) (x4 : Int32) (x5 : Int32), wp_X2_agenda_L33 G mc ms a0 Q n h nc nk x1 x2 x3 x4 x5 → nc ≤ mc → nk ≤ ms → ∀ (H : Heap) (locs : List Loc) (ls : Array Slot), hv_I G h0 s.heap h H locs → lv_has ls 7 [(0, .ref a0), (1, .int x1), (2, .ref x2), (3, .ref x3), (4, .int x4), (5, .int x5)] → W p l e (headSpec (ws_ yX2_agenda cX2_agenda 7 (some (FieldType.object "MatchmakerRules$Firing"))) (rm_X2_agenda mc ms)).room s m args below meth c H locs nc nk (MQ below (hv_Qq G h0 s.heap.size Q) args s mc ms (hv_A h0 s.heap.size)) (F0 m 33 ls []) := by
  obtain ⟨⟨hx, hb, hml, hown, hts⟩, hr, hlocks, hXX⟩ := id hE
  intro n
  induction n with
  | zero => intro h nc nk x1 x2 x3 x4 x5 hw; exact hw.elim
  | succ n ih =>
    intro h nc nk x1 x2 x3 x4 x5 hw hc hs H locs ls hI hl
    unfold wp_X2_agenda_L33 at hw
    refine lv_iload hx hb dX2_agenda_33 (lv_at hl 5 rfl) ?_
    refine lv_iload_n hx hb dX2_agenda_35 rfl (lv_at hl 1 rfl) ?_
    refine lv_icmp_ge (tgt := 66) hx hb dX2_agenda_36 (by decide) (fun c_36 => ?_) (fun c_36 => ?_)
    · have hw := hw.1 c_36
      exact snd_X2_agenda_L66 G mc ms a0 Q hE h nc nk x3 x4 hw hc hs _ _ _ hI (lv_sub hl [3, 4] rfl)
    · have hw := hw.2 c_36
      refine lv_iload hx hb dX2_agenda_39 (lv_at hl 4 rfl) ?_
      refine lv_if_eq (tgt := 66) hx hb dX2_agenda_41 (by decide) (fun c_41 => ?_) (fun c_41 => ?_)
      · have hw := hw.1 c_41
        exact snd_X2_agenda_L66 G mc ms a0 Q hE h nc nk x3 x4 hw hc hs _ _ _ hI (lv_sub hl [3, 4] rfl)
      · have hw := hw.2 c_41
        refine lv_aload_n hx hb dX2_agenda_44 rfl (lv_at hl 3 rfl) ?_
        refine lv_astore (lv' := [(6, .ref x3), (0, .ref a0), (1, .int x1), (2, .ref x2), (3, .ref x3), (4, .int x4), (5, .int x5)]) hx hb dX2_agenda_45 hl (by decide) rfl (fun ls hl => ?_)
        refine lv_aload_n hx hb dX2_agenda_47 rfl (lv_at hl 3 rfl) ?_
        refine lv_astore_n (lv' := [(3, .ref x2), (6, .ref x3), (0, .ref a0), (1, .int x1), (2, .ref x2), (4, .int x4), (5, .int x5)]) hx hb dX2_agenda_48 rfl hl (by decide) rfl (fun ls hl => ?_)
        refine lv_aload hx hb dX2_agenda_49 (lv_at hl 1 rfl) ?_
        refine lv_astore_n (lv' := [(2, .ref x3), (3, .ref x2), (6, .ref x3), (0, .ref a0), (1, .int x1), (4, .int x4), (5, .int x5)]) hx hb dX2_agenda_51 rfl hl (by decide) rfl (fun ls hl => ?_)
        refine lv_aload_n hx hb dX2_agenda_52 rfl (lv_at hl 3 rfl) ?_
        refine lv_aload_n hx hb dX2_agenda_53 rfl (lv_at hl 0 rfl) ?_
        refine lv_aload_n hx hb dX2_agenda_54 rfl (lv_at hl 1 rfl) ?_
        obtain ⟨⟨fs, hre⟩, hw⟩ := hw
        refine hv_rci hI (va_runV (As := [.ref x3, .ref x2]) (b := a0) (rest := []) hE.1 (snd_X2_isNext l G _ h a0 (some x3) (some x2) _ hw) (cwV 2 hts (lw_V q1201 q1203 qs23 q98 q1204) rfl rfl rfl (by decide +kernel) ⟨Nat.le_of_ble_eq_true rfl, Nat.le_of_ble_eq_true rfl⟩) (hv_preV hE hI (ci := 2) rfl hre) rfl rfl hl.1 rfl (lv_room (Nat.le_of_ble_eq_true rfl)) dX2_agenda_55 ⟨hc, hs⟩) (fun r9 h10 H locs hw hI => ?_)
        refine lv_istore (lv' := [(4, .int r9), (2, .ref x3), (3, .ref x2), (6, .ref x3), (0, .ref a0), (1, .int x1), (5, .int x5)]) hx hb dX2_agenda_58 hl (by decide) rfl (fun ls hl => ?_)
        refine lv_iinc (v := (x5 + (1 : Int32))) (lv' := [(5, .int (x5 + (1 : Int32))), (4, .int r9), (2, .ref x3), (3, .ref x2), (6, .ref x3), (0, .ref a0), (1, .int x1)]) hx hb dX2_agenda_60 hl (k := 6) rfl rfl (by decide) rfl (fun ls hl => ?_)
        refine lv_goto (tgt := 33) hx hb dX2_agenda_63 (by decide) ?_
        exact ih h10 nc nk x1 x3 x2 r9 (x5 + (1 : Int32)) hw hc hs _ _ _ hI (lv_sub hl [5, 6, 2, 3, 1, 0] rfl)
def wp_X2_agenda (G : GG) (mc : Nat) (ms : Nat) (h : HH) (a0 : Nat) (x1 : Int32) (Q : Option Nat → HH → Prop) : Prop := ((0 ≤ x1 → (0 + 1 ≤ mc ∧ 0 + 3 ≤ ms ∧ w_new h (.inr (16, df_X12)) (fun a1 h2 => wp_X12_init G h2 a1 (fun h3 => ((0 + 1) + 1 ≤ mc ∧ (0 + 3) + 3 ≤ ms ∧ w_new h3 (.inr (16, df_X12)) (fun a4 h5 => wp_X12_init G h5 a4 (fun h6 => w_is h6 a0 2 (wp_X2_isNext G h6 a0 none (some a4) (fun r7 h8 => (∃ n33, wp_X2_agenda_L33 G mc ms a0 Q n33 h8 ((0 + 1) + 1) ((0 + 3) + 3) x1 a1 a4 r7 (0 : Int32))))))))))) ∧ (¬ 0 ≤ x1 → Q none h))
set_option maxHeartbeats 4000000 in
theorem snd_X2_agenda (l : Launch) (G : GG) (sz : Nat) (mc : Nat) (ms : Nat) (h : HH) (a0 : Nat) (x1 : Int32) (Q : Option Nat → HH → Prop) (hw : wp_X2_agenda G mc ms h a0 x1 Q) : Met l yX2_agenda (ws_ yX2_agenda cX2_agenda 7 (some (FieldType.object "MatchmakerRules$Firing"))) (rm_X2_agenda mc ms) (hv_Pc G h sz [.ref a0, .int x1]) (hv_Qq G h sz Q) mc ms (hv_A h sz) := by
  refine Met.ofW (cc := cX2_agenda) (maxL := 7) (ret := (some (FieldType.object "MatchmakerRules$Firing"))) (by decide) rfl ?_
  intro p e s m args below meth c s₁ B hml hv
  obtain ⟨rfl, rfl, hE, hI⟩ := hv_open B hml hv
  have hE : hv_E p s m ([.ref a0, .int x1] : List Value).toArray meth c cX2_agenda 7 (some (FieldType.object "MatchmakerRules$Firing")) RX2 G h := hE
  obtain ⟨⟨hx, hb, hml, hown, hts⟩, hr, hlocks, hXX⟩ := id hE
  have hl := lv_entry ([.ref a0, .int x1] : List Value) (n := 7) (Nat.le_of_ble_eq_true rfl)
  rw [lg_entry_eq]
  generalize (lg_sl ([.ref a0, .int x1] : List Value) ++ List.replicate (7 - (lg_sl ([.ref a0, .int x1] : List Value)).length) Slot.unset).toArray = ls at hl ⊢
  have hl : lv_has ls 7 [(0, .ref a0), (1, .int x1)] := hl
  have hc : 0 ≤ mc := Nat.zero_le _
  have hs : 0 ≤ ms := Nat.zero_le _
  unfold wp_X2_agenda at hw
  refine lv_iload_n hx hb dX2_agenda_0 rfl (lv_at hl 1 rfl) ?_
  refine lv_if_ge (tgt := 6) hx hb dX2_agenda_1 (by decide) (fun c_1 => ?_) (fun c_1 => ?_)
  · have hw := hw.1 c_1
    obtain ⟨hc, hs, hw⟩ := hw
    refine hv_wnew tyX12 hE hI in_X12 tyX12_ok (hts _ q560) (hts _ q1180) (hts _ q132) (ci := 16) rfl df_X12_ok hw hc hs dX2_agenda_6 (fun a1 h2 H hw hI => ?_)
    refine lv_dup hx hb dX2_agenda_9 rfl ?_
    refine hv_rcv hI (va_runIN (As := []) (b := a1) (rest := [.ref a1]) hE.1 (snd_X12_init l G _ h2 a1 _ hw) ⟨va_cnB 0 hts (lw_meth q1183) rfl rfl rfl (hE.2.2.2.2.1.M 6 rfl) (hts _ q132) (by decide +kernel) ⟨Nat.le_of_ble_eq_true rfl, Nat.le_of_ble_eq_true rfl⟩, rfl, hts _ q1182⟩ (hv_preS hE hI) rfl rfl hl.1 rfl (lv_room (Nat.le_of_ble_eq_true rfl)) dX2_agenda_10 ⟨hc, hs⟩) (fun h3 H locs hw hI => ?_)
    refine lv_astore_n (lv' := [(2, .ref a1), (0, .ref a0), (1, .int x1)]) hx hb dX2_agenda_13 rfl hl (by decide) rfl (fun ls hl => ?_)
    obtain ⟨hc, hs, hw⟩ := hw
    refine hv_wnew tyX12 hE hI in_X12 tyX12_ok (hts _ q560) (hts _ q1180) (hts _ q132) (ci := 16) rfl df_X12_ok hw hc hs dX2_agenda_14 (fun a4 h5 H hw hI => ?_)
    refine lv_dup hx hb dX2_agenda_17 rfl ?_
    refine hv_rcv hI (va_runIN (As := []) (b := a4) (rest := [.ref a4]) hE.1 (snd_X12_init l G _ h5 a4 _ hw) ⟨va_cnB 0 hts (lw_meth q1183) rfl rfl rfl (hE.2.2.2.2.1.M 6 rfl) (hts _ q132) (by decide +kernel) ⟨Nat.le_of_ble_eq_true rfl, Nat.le_of_ble_eq_true rfl⟩, rfl, hts _ q1182⟩ (hv_preS hE hI) rfl rfl hl.1 rfl (lv_room (Nat.le_of_ble_eq_true rfl)) dX2_agenda_18 ⟨hc, hs⟩) (fun h6 H locs hw hI => ?_)
    refine lv_astore_n (lv' := [(3, .ref a4), (2, .ref a1), (0, .ref a0), (1, .int x1)]) hx hb dX2_agenda_21 rfl hl (by decide) rfl (fun ls hl => ?_)
    refine lv_aload_n hx hb dX2_agenda_22 rfl (lv_at hl 2 rfl) ?_
    refine lv_null hx hb dX2_agenda_23 ?_
    refine lv_aload_n hx hb dX2_agenda_24 rfl (lv_at hl 0 rfl) ?_
    obtain ⟨⟨fs, hre⟩, hw⟩ := hw
    refine hv_rci hI (va_runV (As := [.null, .ref a4]) (b := a0) (rest := []) hE.1 (snd_X2_isNext l G _ h6 a0 none (some a4) _ hw) (cwV 2 hts (lw_V q1201 q1203 qs23 q98 q1204) rfl rfl rfl (by decide +kernel) ⟨Nat.le_of_ble_eq_true rfl, Nat.le_of_ble_eq_true rfl⟩) (hv_preV hE hI (ci := 2) rfl hre) rfl rfl hl.1 rfl (lv_room (Nat.le_of_ble_eq_true rfl)) dX2_agenda_25 ⟨hc, hs⟩) (fun r7 h8 H locs hw hI => ?_)
    refine lv_istore (lv' := [(4, .int r7), (3, .ref a4), (2, .ref a1), (0, .ref a0), (1, .int x1)]) hx hb dX2_agenda_28 hl (by decide) rfl (fun ls hl => ?_)
    refine lv_iconst (v := 0) hx hb dX2_agenda_30 (by decide) ?_
    refine lv_istore (lv' := [(5, .int (0 : Int32)), (4, .int r7), (3, .ref a4), (2, .ref a1), (0, .ref a0), (1, .int x1)]) hx hb dX2_agenda_31 hl (by decide) rfl (fun ls hl => ?_)
    obtain ⟨n33, hw⟩ := hw
    exact snd_X2_agenda_L33 G mc ms a0 Q hE n33 h8 ((0 + 1) + 1) ((0 + 3) + 3) x1 a1 a4 r7 (0 : Int32) hw hc hs _ _ _ hI (lv_sub hl [4, 5, 3, 2, 1, 0] rfl)
  · have hw := hw.2 c_1
    refine lv_null hx hb dX2_agenda_4 ?_
    exact hv_qret (v := none) hE (Or.inl ⟨_, rfl⟩) hI hc hs hw dX2_agenda_5
