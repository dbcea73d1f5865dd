/-! walks over a world (by gen/hvrun.py) -/
set_option maxRecDepth 100000
/-- MatchmakerRules.isInOrder()Z -/
abbrev rm_X1_isInOrder (mc ms : Nat) : Room := { frames := 9, cells := mc, slots := ms, locals := 3125 }
def wp_X1_isInOrder (G : GG) (mc : Nat) (ms : Nat) (h : HH) (a0 : Nat) (Q : Int32 → HH → Prop) : Prop := w_getq h a0 1 0 (fun r1 => w_nn r1 (fun a2 => (∃ mc3 ms3, 0 + mc3 ≤ mc ∧ 0 + ms3 ≤ ms ∧ w_is h a2 2 (wp_X2_isInOrder G mc3 ms3 h a2 (fun r4 h5 => (narrow .boolean (.int r4) = .int r4 ∧ Q r4 h5))))))
set_option maxHeartbeats 4000000 in
theorem snd_X1_isInOrder (l : Launch) (G : GG) (sz : Nat) (mc : Nat) (ms : Nat) (h : HH) (a0 : Nat) (Q : Int32 → HH → Prop) (hw : wp_X1_isInOrder G mc ms h a0 Q) : Met l yX1_isInOrder (ws_ yX1_isInOrder cX1_isInOrder 1 (some FieldType.boolean)) (rm_X1_isInOrder mc ms) (hv_Pc G h sz [.ref a0]) (hv_Qi G h sz Q) mc ms (hv_A h sz) := by
  refine Met.ofW (cc := cX1_isInOrder) (maxL := 1) (ret := (some FieldType.boolean)) (by decide) rfl ?_
  intro p e s m args below meth c s₁ B hml hv
  obtain ⟨rfl, rfl, hE, hI⟩ := hv_open B hml hv
  have hE : hv_E p s m ([.ref a0] : List Value).toArray meth c cX1_isInOrder 1 (some FieldType.boolean) RX1 G h := hE
  obtain ⟨⟨hx, hb, hml, hown, hts⟩, hr, hlocks, hXX⟩ := id hE
  have hl := lv_entry ([.ref a0] : List Value) (n := 1) (Nat.le_of_ble_eq_true rfl)
  rw [lg_entry_eq]
  generalize (lg_sl ([.ref a0] : List Value) ++ List.replicate (1 - (lg_sl ([.ref a0] : List Value)).length) Slot.unset).toArray = ls at hl ⊢
  have hl : lv_has ls 1 [(0, .ref a0)] := hl
  have hc : 0 ≤ mc := Nat.zero_le _
  have hs : 0 ≤ ms := Nat.zero_le _
  unfold wp_X1_isInOrder at hw
  refine lv_aload_n hx hb dX1_isInOrder_0 rfl (lv_at hl 0 rfl) ?_
  refine hv_wgetq hE hI in_X1 (ci := 1) rfl 0 (by decide) (hts _ q300) (fun _ hx => hx) hw dX1_isInOrder_1 (fun r1 hw => ?_)
  obtain ⟨a2, hz, hwa2⟩ := hw; have hla2 := hl; subst hz; have hw := hwa2; have hl := hla2
  obtain ⟨mc3, ms3, hc, hs, hw⟩ := hw
  obtain ⟨⟨fs, hre⟩, hw⟩ := hw
  refine hv_rci hI (va_runV (As := []) (b := a2) (rest := []) hE.1 (snd_X2_isInOrder l G _ mc3 ms3 h a2 _ hw) (cwV 0 hts (lw_V q548 q549 q550 q98 q551) rfl rfl rfl (by decide +kernel) ⟨Nat.le_of_ble_eq_true rfl, Nat.le_of_ble_eq_true rfl⟩) (hv_preV hE hI (ci := 2) rfl hre) rfl rfl hl.1 rfl (lv_room (Nat.le_of_ble_eq_true rfl)) dX1_isInOrder_4 ⟨hc, hs⟩) (fun r4 h5 H locs hw hI => ?_)
  obtain ⟨hnr, hw⟩ := hw
  exact hv_zret hE hI hc hs hnr hw dX1_isInOrder_7

/-- MatchmakerRules.snapshot()I -/
abbrev rm_X1_snapshot : Room := { frames := 2, cells := 0, slots := 0, locals := 32 }
def wp_X1_snapshot (G : GG) (h : HH) (a0 : Nat) (Q : Int32 → HH → Prop) : Prop := w_getq h a0 1 0 (fun r1 => w_put h a0 1 2 (va_rf r1) (fun h2 => w_getq h2 a0 1 0 (fun r3 => w_nn r3 (fun a4 => w_getq h2 a4 2 2 (fun r5 => w_nn r5 (fun a6 => w_is h2 a6 4 (wp_J2_size G h2 a6 (fun r7 h8 => Q r7 h8))))))))
set_option maxHeartbeats 4000000 in
theorem snd_X1_snapshot (l : Launch) (G : GG) (sz : Nat) (h : HH) (a0 : Nat) (Q : Int32 → HH → Prop) (hw : wp_X1_snapshot G h a0 Q) : Met l yX1_snapshot (ws_ yX1_snapshot cX1_snapshot 1 (some FieldType.int)) rm_X1_snapshot (hv_Pc G h sz [.ref a0]) (hv_Qi G h sz Q) 0 0 (hv_A h sz) := by
  refine Met.ofW (cc := cX1_snapshot) (maxL := 1) (ret := (some FieldType.int)) (by decide) rfl ?_
  intro p e s m args below meth c s₁ B hml hv
  obtain ⟨rfl, rfl, hE, hI⟩ := hv_open B hml hv
  have hE : hv_E p s m ([.ref a0] : List Value).toArray meth c cX1_snapshot 1 (some FieldType.int) RX1 G h := hE
  obtain ⟨⟨hx, hb, hml, hown, hts⟩, hr, hlocks, hXX⟩ := id hE
  have hl := lv_entry ([.ref a0] : List Value) (n := 1) (Nat.le_of_ble_eq_true rfl)
  rw [lg_entry_eq]
  generalize (lg_sl ([.ref a0] : List Value) ++ List.replicate (1 - (lg_sl ([.ref a0] : List Value)).length) Slot.unset).toArray = ls at hl ⊢
  have hl : lv_has ls 1 [(0, .ref a0)] := hl
  unfold wp_X1_snapshot at hw
  refine lv_aload_n hx hb dX1_snapshot_0 rfl (lv_at hl 0 rfl) ?_
  refine lv_aload_n hx hb dX1_snapshot_1 rfl (lv_at hl 0 rfl) ?_
  refine hv_wgetq hE hI in_X1 (ci := 1) rfl 0 (by decide) (hts _ q300) (fun _ hx => hx) hw dX1_snapshot_2 (fun r1 hw => ?_)
  refine hv_wput (v := va_rf r1) tyX1 hE hI in_X1 tyX1_ok nmX1 (ci := 1) rfl 2 (by decide) (hts _ q302) (fun _ hx => hx) rfl (ty := (.object "MatchmakerRules$Book")) rfl (va_rf_nar _ _) (va_rf_fit _ _) hw dX1_snapshot_5 (fun h2 H locs hw hI => ?_)
  refine lv_aload_n hx hb dX1_snapshot_8 rfl (lv_at hl 0 rfl) ?_
  refine hv_wgetq hE hI in_X1 (ci := 1) rfl 0 (by decide) (hts _ q300) (fun _ hx => hx) hw dX1_snapshot_9 (fun r3 hw => ?_)
  obtain ⟨a4, hz, hwa4⟩ := hw; have hla4 := hl; subst hz; have hw := hwa4; have hl := hla4
  refine hv_wgetqN hE hI in_X2 (ci := 2) rfl 2 (by decide) (hE.2.2.2.2.1.F 1 rfl) (fun _ hx => hx) hw dX1_snapshot_12 (fun r5 hw => ?_)
  obtain ⟨a6, hz, hwa6⟩ := hw; have hla6 := hl; subst hz; have hw := hwa6; have hl := hla6
  obtain ⟨⟨fs, hre⟩, hw⟩ := hw
  refine hv_rci hI (va_runV (As := []) (b := a6) (rest := []) hE.1 (snd_J2_size l G _ h2 a6 _ hw) (cwV 0 hts (lw_V q332 q333 q334 q102 q335) rfl rfl rfl (by decide +kernel) ⟨Nat.le_of_ble_eq_true rfl, Nat.le_of_ble_eq_true rfl⟩) (hv_preV hE hI (ci := 4) rfl hre) rfl rfl hl.1 rfl (lv_room (Nat.le_of_ble_eq_true rfl)) dX1_snapshot_15 ⟨Nat.le_of_ble_eq_true rfl, Nat.le_of_ble_eq_true rfl⟩) (fun r7 h8 H locs hw hI => ?_)
  exact hv_iret hE hI (Nat.le_refl _) (Nat.le_refl _) hw dX1_snapshot_18

/-- MatchmakerRules$Parser.<init>(Ljava/lang/CharSequence;)V -/
abbrev rm_X6_init : Room := { frames := 1, cells := 0, slots := 0, locals := 32 }
def wp_X6_init (G : GG) (h : HH) (a0 : Nat) (x1 : Option Nat) (Q : HH → Prop) : Prop := w_put h a0 9 0 (va_rf x1) (fun h1 => Q h1)
set_option maxHeartbeats 4000000 in
theorem snd_X6_init (l : Launch) (G : GG) (sz : Nat) (h : HH) (a0 : Nat) (x1 : Option Nat) (Q : HH → Prop) (hw : wp_X6_init G h a0 x1 Q) : Met l yX6_init (ws_ yX6_init cX6_init 2 (none : Option FieldType)) rm_X6_init (hv_Pc G h sz [.ref a0, va_rf x1]) (hv_Qv G h sz Q) 0 0 (hv_A h sz) := by
  refine Met.ofW (cc := cX6_init) (maxL := 2) (ret := (none : Option FieldType)) (by decide) rfl ?_
  intro p e s m args below meth c s₁ B hml hv
  have hin2 : meth.name = "<init>" := (name_of_methodNamed B.named B.method).1
  obtain ⟨rfl, rfl, hE, hI⟩ := hv_open B hml hv
  have hE : hv_E p s m ([.ref a0, va_rf x1] : List Value).toArray meth c cX6_init 2 (none : Option FieldType) RX6 G h := hE
  obtain ⟨⟨hx, hb, hml, hown, hts⟩, hr, hlocks, hXX⟩ := id hE
  have hl := lv_entry ([.ref a0, va_rf x1] : List Value) (n := 2) (by cases x1 <;> exact Nat.le_of_ble_eq_true rfl)
  rw [lg_entry_eq]
  generalize (lg_sl ([.ref a0, va_rf x1] : List Value) ++ List.replicate (2 - (lg_sl ([.ref a0, va_rf x1] : List Value)).length) Slot.unset).toArray = ls at hl ⊢
  have hl : lv_has ls 2 [(0, .ref a0), (1, va_rf x1)] := (by cases x1 <;> exact hl)
  unfold wp_X6_init at hw
  refine lv_aload_n hx hb dX6_init_0 rfl (lv_at hl 0 rfl) ?_
  refine hv_objI (rest := []) hE (hts _ q674) (hts _ q146) (hts _ q147) hl.1 dX6_init_1 (Nat.le_of_ble_eq_true rfl) (Nat.le_of_ble_eq_true rfl) ?_
  refine lv_aload_n hx hb dX6_init_4 rfl (lv_at hl 0 rfl) ?_
  refine lv_aload_nq hx hb dX6_init_5 rfl (lv_at hl 1 rfl) ?_
  refine hv_wputF (v := va_rf x1) tyX6 hE hI in_X6 tyX6_ok nmX6 (ci := 9) rfl 0 (by decide) (hts _ q675) (fun _ hx => hx) rfl hin2 rfl (ty := (.object "java/lang/CharSequence")) rfl (va_rf_nar _ _) (va_rf_fit _ _) hw dX6_init_6 (fun h1 H locs hw hI => ?_)
  exact hv_vret hE hI (Nat.le_refl _) (Nat.le_refl _) hw dX6_init_9

/-- MatchmakerRules.takeInput()LMatchmakerRules$Parser; -/
abbrev rm_X1_takeInput (mc ms : Nat) : Room := { frames := 3, cells := mc, slots := ms, locals := 73 }
def wp_X1_takeInput (G : GG) (mc : Nat) (ms : Nat) (h : HH) (a0 : Nat) (Q : Option Nat → HH → Prop) : Prop := (0 + 1 ≤ mc ∧ 0 + 2 ≤ ms ∧ w_new h (.inr (9, df_X6)) (fun a1 h2 => w_getq h2 a0 1 4 (fun r3 => wp_X6_init G h2 a1 r3 (fun h4 => ((0 + 1) + 1 ≤ mc ∧ (0 + 2) + 4 ≤ ms ∧ w_new h4 (.inr (6, df_J5)) (fun a5 h6 => (∃ mc7 ms7, ((0 + 1) + 1) + mc7 ≤ mc ∧ ((0 + 2) + 4) + ms7 ≤ ms ∧ wp_J5_init G mc7 ms7 h6 a5 (fun h8 => w_put h8 a0 1 4 (.ref a5) (fun h9 => Q (some a1) h9)))))))))
set_option maxHeartbeats 4000000 in
theorem snd_X1_takeInput (l : Launch) (G : GG) (sz : Nat) (mc : Nat) (ms : Nat) (h : HH) (a0 : Nat) (Q : Option Nat → HH → Prop) (hw : wp_X1_takeInput G mc ms h a0 Q) : Met l yX1_takeInput (ws_ yX1_takeInput cX1_takeInput 2 (some (FieldType.object "MatchmakerRules$Parser"))) (rm_X1_takeInput mc ms) (hv_Pc G h sz [.ref a0]) (hv_Qq G h sz Q) mc ms (hv_A h sz) := by
  refine Met.ofW (cc := cX1_takeInput) (maxL := 2) (ret := (some (FieldType.object "MatchmakerRules$Parser"))) (by decide) rfl ?_
  intro p e s m args below meth c s₁ B hml hv
  obtain ⟨rfl, rfl, hE, hI⟩ := hv_open B hml hv
  have hE : hv_E p s m ([.ref a0] : List Value).toArray meth c cX1_takeInput 2 (some (FieldType.object "MatchmakerRules$Parser")) RX1 G h := hE
  obtain ⟨⟨hx, hb, hml, hown, hts⟩, hr, hlocks, hXX⟩ := id hE
  have hl := lv_entry ([.ref a0] : List Value) (n := 2) (Nat.le_of_ble_eq_true rfl)
  rw [lg_entry_eq]
  generalize (lg_sl ([.ref a0] : List Value) ++ List.replicate (2 - (lg_sl ([.ref a0] : List Value)).length) Slot.unset).toArray = ls at hl ⊢
  have hl : lv_has ls 2 [(0, .ref a0)] := hl
  have hc : 0 ≤ mc := Nat.zero_le _
  have hs : 0 ≤ ms := Nat.zero_le _
  unfold wp_X1_takeInput at hw
  obtain ⟨hc, hs, hw⟩ := hw
  refine hv_wnew tyX6 hE hI in_X6 tyX6_ok (hts _ q669) (hts _ q670) (hts _ q110) (ci := 9) rfl df_X6_ok hw hc hs dX1_takeInput_0 (fun a1 h2 H hw hI => ?_)
  refine lv_dup hx hb dX1_takeInput_3 rfl ?_
  refine lv_aload_n hx hb dX1_takeInput_4 rfl (lv_at hl 0 rfl) ?_
  refine hv_wgetq hE hI in_X1 (ci := 1) rfl 4 (by decide) (hts _ q304) (fun _ hx => hx) hw dX1_takeInput_5 (fun r3 hw => ?_)
  refine hv_rcv hI (va_runI (As := [va_rf r3]) (b := a1) (rest := [.ref a1]) hE.1 (snd_X6_init l G _ h2 a1 r3 _ hw) (cwI 1 hts (lw_meth q673) rfl rfl rfl (hts _ q110) (hts _ q671) (hts _ q672) rfl (by decide +kernel) ⟨Nat.le_of_ble_eq_true rfl, Nat.le_of_ble_eq_true rfl⟩) (hv_preS hE hI) rfl rfl hl.1 rfl (lv_room (Nat.le_of_ble_eq_true rfl)) dX1_takeInput_8 ⟨hc, hs⟩) (fun h4 H locs hw hI => ?_)
  refine lv_astore_n (lv' := [(1, .ref a1), (0, .ref a0)]) hx hb dX1_takeInput_11 rfl hl (by decide) rfl (fun ls hl => ?_)
  refine lv_aload_n hx hb dX1_takeInput_12 rfl (lv_at hl 1 rfl) ?_
  obtain ⟨hc, hs, hw⟩ := hw
  refine hv_wnew tyJ5 hE hI in_J5 tyJ5_ok (hts _ q267) (hts _ q268) (hts _ q105) (ci := 6) rfl df_J5_ok hw hc hs dX1_takeInput_13 (fun a5 h6 H hw hI => ?_)
  refine lv_dup hx hb dX1_takeInput_16 rfl ?_
  obtain ⟨mc7, ms7, hc, hs, hw⟩ := hw
  refine hv_rcv hI (va_runI (As := []) (b := a5) (rest := [.ref a5, .ref a0]) hE.1 (snd_J5_init l G _ mc7 ms7 h6 a5 _ hw) (cwI 0 hts (lw_meth q271) rfl rfl rfl (hts _ q105) (hts _ q269) (hts _ q270) rfl (by decide +kernel) ⟨Nat.le_of_ble_eq_true rfl, Nat.le_of_ble_eq_true rfl⟩) (hv_preS hE hI) rfl rfl hl.1 rfl (lv_room (Nat.le_of_ble_eq_true rfl)) dX1_takeInput_17 ⟨hc, hs⟩) (fun h8 H locs hw hI => ?_)
  refine hv_wput (v := .ref a5) tyX1 hE hI in_X1 tyX1_ok nmX1 (ci := 1) rfl 4 (by decide) (hts _ q304) (fun _ hx => hx) rfl (ty := (.object "java/lang/StringBuilder")) rfl rfl rfl hw dX1_takeInput_20 (fun h9 H locs hw hI => ?_)
  refine lv_aload_n hx hb dX1_takeInput_23 rfl (lv_at hl 0 rfl) ?_
  exact hv_qret (v := (some a1)) hE (Or.inl ⟨_, rfl⟩) hI hc hs hw dX1_takeInput_24

/-- java/lang/AbstractStringBuilder.length()I -/
abbrev rm_J4_length : Room := { frames := 1, cells := 0, slots := 0, locals := 12 }
def wp_J4_length (G : GG) (h : HH) (a0 : Nat) (Q : Int32 → HH → Prop) : Prop := w_geti h a0 6 3 (fun r1 => Q r1 h)
set_option maxHeartbeats 4000000 in
theorem snd_J4_length (l : Launch) (G : GG) (sz : Nat) (h : HH) (a0 : Nat) (Q : Int32 → HH → Prop) (hw : wp_J4_length G h a0 Q) : Met l yJ4_length (ws_ yJ4_length cJ4_length 1 (some FieldType.int)) rm_J4_length (hv_Pc G h sz [.ref a0]) (hv_Qi G h sz Q) 0 0 (hv_A h sz) := by
  refine Met.ofW (cc := cJ4_length) (maxL := 1) (ret := (some FieldType.int)) (by decide) rfl ?_
  intro p e s m args below meth c s₁ B hml hv
  obtain ⟨rfl, rfl, hE, hI⟩ := hv_open B hml hv
  have hE : hv_E p s m ([.ref a0] : List Value).toArray meth c cJ4_length 1 (some FieldType.int) RJ4 G h := hE
  obtain ⟨⟨hx, hb, hml, hown, hts⟩, hr, hlocks, hXX⟩ := id hE
  have hl := lv_entry ([.ref a0] : List Value) (n := 1) (Nat.le_of_ble_eq_true rfl)
  rw [lg_entry_eq]
  generalize (lg_sl ([.ref a0] : List Value) ++ List.replicate (1 - (lg_sl ([.ref a0] : List Value)).length) Slot.unset).toArray = ls at hl ⊢
  have hl : lv_has ls 1 [(0, .ref a0)] := hl
  unfold wp_J4_length at hw
  refine lv_aload_n hx hb dJ4_length_0 rfl (lv_at hl 0 rfl) ?_
  refine hv_wgeti hE hI in_J5 (ci := 6) rfl 3 (by decide) (hts _ q288) (fun _ hx => hx) hw dJ4_length_1 (fun r1 hw => ?_)
  exact hv_iret hE hI (Nat.le_refl _) (Nat.le_refl _) hw dJ4_length_4

/-- java/lang/StringBuilder.length()I -/
abbrev rm_J5_length : Room := { frames := 2, cells := 0, slots := 0, locals := 32 }
def wp_J5_length (G : GG) (h : HH) (a0 : Nat) (Q : Int32 → HH → Prop) : Prop := w_is h a0 6 (wp_J4_length G h a0 (fun r1 h2 => Q r1 h2))
set_option maxHeartbeats 4000000 in
theorem snd_J5_length (l : Launch) (G : GG) (sz : Nat) (h : HH) (a0 : Nat) (Q : Int32 → HH → Prop) (hw : wp_J5_length G h a0 Q) : Met l yJ5_length (ws_ yJ5_length cJ5_length 1 (some FieldType.int)) rm_J5_length (hv_Pc G h sz [.ref a0]) (hv_Qi G h sz Q) 0 0 (hv_A h sz) := by
  refine Met.ofW (cc := cJ5_length) (maxL := 1) (ret := (some FieldType.int)) (by decide) rfl ?_
  intro p e s m args below meth c s₁ B hml hv
  obtain ⟨rfl, rfl, hE, hI⟩ := hv_open B hml hv
  have hE : hv_E p s m ([.ref a0] : List Value).toArray meth c cJ5_length 1 (some FieldType.int) RJ5 G h := hE
  obtain ⟨⟨hx, hb, hml, hown, hts⟩, hr, hlocks, hXX⟩ := id hE
  have hl := lv_entry ([.ref a0] : List Value) (n := 1) (Nat.le_of_ble_eq_true rfl)
  rw [lg_entry_eq]
  generalize (lg_sl ([.ref a0] : List Value) ++ List.replicate (1 - (lg_sl ([.ref a0] : List Value)).length) Slot.unset).toArray = ls at hl ⊢
  have hl : lv_has ls 1 [(0, .ref a0)] := hl
  unfold wp_J5_length at hw
  refine lv_aload_n hx hb dJ5_length_0 rfl (lv_at hl 0 rfl) ?_
  obtain ⟨⟨fs, hre⟩, hw⟩ := hw
  refine hv_rci hI (va_runSU (As := []) (b := a0) (rest := []) (hXX.1.1 6 _ rfl).2 hE.1 (snd_J4_length l G _ h a0 _ hw) (va_cwSU 0 hts (lw_SU q726 q2510 q297 q727 q104 q728) rfl rfl rfl (by decide +kernel) ⟨Nat.le_of_ble_eq_true rfl, Nat.le_of_ble_eq_true rfl⟩) (hv_preV hE hI (ci := 6) rfl hre) rfl rfl hl.1 rfl (lv_room (Nat.le_of_ble_eq_true rfl)) dJ5_length_1 ⟨Nat.le_of_ble_eq_true rfl, Nat.le_of_ble_eq_true rfl⟩) (fun r1 h2 H locs hw hI => ?_)
  exact hv_iret hE hI (Nat.le_refl _) (Nat.le_refl _) hw dJ5_length_4

/-- java/lang/String.checkIndex(II)V -/
abbrev rm_J6_checkIndex : Room := { frames := 2, cells := 0, slots := 0, locals := 34 }
def wp_J6_checkIndex (G : GG) (h : HH) (x0 : Int32) (x1 : Int32) (Q : HH → Prop) : Prop := (∀ r1 : Option Nat, wp_J9_checkIndex G h x0 x1 r1 (fun r2 h3 => Q h3))
set_option maxHeartbeats 4000000 in
theorem snd_J6_checkIndex (l : Launch) (G : GG) (sz : Nat) (h : HH) (x0 : Int32) (x1 : Int32) (Q : HH → Prop) (hw : wp_J6_checkIndex G h x0 x1 Q) : Met l yJ6_checkIndex (ws_ yJ6_checkIndex cJ6_checkIndex 2 (none : Option FieldType)) rm_J6_checkIndex (hv_Pc G h sz [.int x0, .int x1]) (hv_Qv G h sz Q) 0 0 (hv_A h sz) := by
  refine Met.ofW (cc := cJ6_checkIndex) (maxL := 2) (ret := (none : Option FieldType)) (by decide) rfl ?_
  intro p e s m args below meth c s₁ B hml hv
  obtain ⟨rfl, rfl, hE, hI⟩ := hv_open B hml hv
  have hE : hv_E p s m ([.int x0, .int x1] : List Value).toArray meth c cJ6_checkIndex 2 (none : Option FieldType) RJ6 G h := hE
  obtain ⟨⟨hx, hb, hml, hown, hts⟩, hr, hlocks, hXX⟩ := id hE
  have hl := lv_entry ([.int x0, .int x1] : List Value) (n := 2) (Nat.le_of_ble_eq_true rfl)
  rw [lg_entry_eq]
  generalize (lg_sl ([.int x0, .int x1] : List Value) ++ List.replicate (2 - (lg_sl ([.int x0, .int x1] : List Value)).length) Slot.unset).toArray = ls at hl ⊢
  have hl : lv_has ls 2 [(0, .int x0), (1, .int x1)] := hl
  unfold wp_J6_checkIndex at hw
  refine lv_iload_n hx hb dJ6_checkIndex_0 rfl (lv_at hl 0 rfl) ?_
  refine lv_iload_n hx hb dJ6_checkIndex_1 rfl (lv_at hl 1 rfl) ?_
  refine hv_getsQ hE hI (hv_zH hE).2.2.2.2.2.2.2.1 (hts _ q748) (fun _ hx => hx) dJ6_checkIndex_2 (fun r1 => ?_)
  have hw := hw r1
  refine hv_rci hI (va_runS (As := [.int x0, .int x1, va_rf r1]) (rest := []) hE.1 (snd_J9_checkIndex l G _ h x0 x1 r1 _ hw) (va_cwS 3 hts (lw_S q750 q479 q112 q480) rfl rfl rfl (by decide +kernel) ⟨Nat.le_of_ble_eq_true rfl, Nat.le_of_ble_eq_true rfl⟩) (hv_preS hE hI) rfl rfl hl.1 rfl (lv_room (Nat.le_of_ble_eq_true rfl)) dJ6_checkIndex_5 ⟨Nat.le_of_ble_eq_true rfl, Nat.le_of_ble_eq_true rfl⟩) (fun r2 h3 H locs hw hI => ?_)
  refine lv_pop hx hb dJ6_checkIndex_8 rfl ?_
  exact hv_vret hE hI (Nat.le_refl _) (Nat.le_refl _) hw dJ6_checkIndex_9

/-- java/lang/AbstractStringBuilder.charAt(I)C -/
abbrev rm_J4_charAt : Room := { frames := 3, cells := 0, slots := 0, locals := 55 }
def wp_J4_charAt (G : GG) (h : HH) (a0 : Nat) (x1 : Int32) (Q : Int32 → HH → Prop) : Prop := w_geti h a0 6 1 (fun r1 => w_getq h a0 6 0 (fun r2 => w_geti h a0 6 3 (fun r3 => w_nn r2 (fun a4 => w_len G h a4 (fun r5 => wp_J6_checkIndex G h x1 (if (r5 >>> (r1 &&& 31)) < r3 then (r5 >>> (r1 &&& 31)) else r3) (fun h6 => ((¬ r1 = 0 → False) ∧ (r1 = 0 → w_bld G h6 a4 x1 (fun r7 => (narrow .char (.int (((Int32.toUInt32 (r7 &&& (255 : Int32))) % 65536).toInt32)) = .int (((Int32.toUInt32 (r7 &&& (255 : Int32))) % 65536).toInt32) ∧ Q (((Int32.toUInt32 (r7 &&& (255 : Int32))) % 65536).toInt32) h6))))))))))
set_option maxHeartbeats 4000000 in
theorem snd_J4_charAt (l : Launch) (G : GG) (sz : Nat) (h : HH) (a0 : Nat) (x1 : Int32) (Q : Int32 → HH → Prop) (hw : wp_J4_charAt G h a0 x1 Q) : Met l yJ4_charAt (ws_ yJ4_charAt cJ4_charAt 5 (some FieldType.char)) rm_J4_charAt (hv_Pc G h sz [.ref a0, .int x1]) (hv_Qi G h sz Q) 0 0 (hv_A h sz) := by
  refine Met.ofW (cc := cJ4_charAt) (maxL := 5) (ret := (some FieldType.char)) (by decide) rfl ?_
  intro p e s m args below meth c s₁ B hml hv
  obtain ⟨rfl, rfl, hE, hI⟩ := hv_open B hml hv
  have hE : hv_E p s m ([.ref a0, .int x1] : List Value).toArray meth c cJ4_charAt 5 (some FieldType.char) RJ4 G h := hE
  obtain ⟨⟨hx, hb, hml, hown, hts⟩, hr, hlocks, hXX⟩ := id hE
  have hl := lv_entry ([.ref a0, .int x1] : List Value) (n := 5) (Nat.le_of_ble_eq_true rfl)
  rw [lg_entry_eq]
  generalize (lg_sl ([.ref a0, .int x1] : List Value) ++ List.replicate (5 - (lg_sl ([.ref a0, .int x1] : List Value)).length) Slot.unset).toArray = ls at hl ⊢
  have hl : lv_has ls 5 [(0, .ref a0), (1, .int x1)] := hl
  unfold wp_J4_charAt at hw
  refine lv_aload_n hx hb dJ4_charAt_0 rfl (lv_at hl 0 rfl) ?_
  refine hv_wgeti hE hI in_J5 (ci := 6) rfl 1 (by decide) (hts _ q286) (fun _ hx => hx) hw dJ4_charAt_1 (fun r1 hw => ?_)
  refine lv_istore_n (lv' := [(2, .int r1), (0, .ref a0), (1, .int x1)]) hx hb dJ4_charAt_4 rfl hl (by decide) rfl (fun ls hl => ?_)
  refine lv_aload_n hx hb dJ4_charAt_5 rfl (lv_at hl 1 rfl) ?_
  refine hv_wgetq hE hI in_J5 (ci := 6) rfl 0 (by decide) (hts _ q285) (fun _ hx => hx) hw dJ4_charAt_6 (fun r2 hw => ?_)
  refine lv_astore_nq (lv' := [(3, va_rf r2), (2, .int r1), (0, .ref a0), (1, .int x1)]) hx hb dJ4_charAt_9 rfl hl (by decide) rfl (fun ls hl => ?_)
  refine lv_aload_n hx hb dJ4_charAt_10 rfl (lv_at hl 2 rfl) ?_
  refine hv_wgeti hE hI in_J5 (ci := 6) rfl 3 (by decide) (hts _ q288) (fun _ hx => hx) hw dJ4_charAt_11 (fun r3 hw => ?_)
  refine lv_aload_nq hx hb dJ4_charAt_14 rfl (lv_at hl 0 rfl) ?_
  obtain ⟨a4, hz, hwa4⟩ := hw; have hla4 := hl; subst hz; have hw := hwa4; have hl := hla4
  refine hv_len hE hI hw dJ4_charAt_15 (fun r5 hw => ?_)
  refine lv_iload_n hx hb dJ4_charAt_16 rfl (lv_at hl 1 rfl) ?_
  refine lv_ishr hx hb dJ4_charAt_17 ?_
  refine va_mmin (rest := []) hx hb (hml.trans hl.1.symm) hown (hts _ q778) (hts _ q612) (hts _ q113) (hts _ q613) (Nat.le_of_ble_eq_true rfl) (Nat.le_of_ble_eq_true rfl) (Nat.le_refl _) (Nat.le_refl _) dJ4_charAt_18 ?_
  refine lv_istore (lv' := [(4, .int (if (r5 >>> (r1 &&& 31)) < r3 then (r5 >>> (r1 &&& 31)) else r3)), (3, .ref a4), (2, .int r1), (0, .ref a0), (1, .int x1)]) hx hb dJ4_charAt_21 hl (by decide) rfl (fun ls hl => ?_)
  refine lv_iload_n hx hb dJ4_charAt_23 rfl (lv_at hl 4 rfl) ?_
  refine lv_iload hx hb dJ4_charAt_24 (lv_at hl 0 rfl) ?_
  refine hv_rcv hI (va_runS (As := [.int x1, .int (if (r5 >>> (r1 &&& 31)) < r3 then (r5 >>> (r1 &&& 31)) else r3)]) (rest := []) hE.1 (snd_J6_checkIndex l G _ h x1 (if (r5 >>> (r1 &&& 31)) < r3 then (r5 >>> (r1 &&& 31)) else r3) _ hw) (va_cwS 2 hts (lw_S q779 q746 q106 q747) rfl rfl rfl (by decide +kernel) ⟨Nat.le_of_ble_eq_true rfl, Nat.le_of_ble_eq_true rfl⟩) (hv_preS hE hI) rfl rfl hl.1 rfl (lv_room (Nat.le_of_ble_eq_true rfl)) dJ4_charAt_26 ⟨Nat.le_of_ble_eq_true rfl, Nat.le_of_ble_eq_true rfl⟩) (fun h6 H locs hw hI => ?_)
  refine lv_iload_n hx hb dJ4_charAt_29 rfl (lv_at hl 2 rfl) ?_
  refine lv_if_ne (tgt := 42) hx hb dJ4_charAt_30 (by decide) (fun c_30 => ?_) (fun c_30 => ?_)
  · have hw := hw.1 c_30
    refine lv_aload_n hx hb dJ4_charAt_42 rfl (lv_at hl 1 rfl) ?_
    refine lv_iload_n hx hb dJ4_charAt_43 rfl (lv_at hl 4 rfl) ?_
    exact hw.elim
  · have hw := hw.2 c_30
    refine lv_aload_n hx hb dJ4_charAt_33 rfl (lv_at hl 1 rfl) ?_
    refine lv_iload_n hx hb dJ4_charAt_34 rfl (lv_at hl 4 rfl) ?_
    refine hv_wbld hE hI hw dJ4_charAt_35 (fun r7 hw => ?_)
    refine lv_sipush (v := 255) hx hb dJ4_charAt_36 (by decide) ?_
    refine lv_iand hx hb dJ4_charAt_39 ?_
    refine lv_i2c (v := ((Int32.toUInt32 (r7 &&& (255 : Int32))) % 65536).toInt32) hx hb dJ4_charAt_40 rfl ?_
    obtain ⟨hnr, hw⟩ := hw
    exact hv_zret hE hI (Nat.le_refl _) (Nat.le_refl _) hnr hw dJ4_charAt_41

/-- java/lang/StringBuilder.charAt(I)C -/
abbrev rm_J5_charAt : Room := { frames := 4, cells := 0, slots := 0, locals := 79 }
def wp_J5_charAt (G : GG) (h : HH) (a0 : Nat) (x1 : Int32) (Q : Int32 → HH → Prop) : Prop := w_is h a0 6 (wp_J4_charAt G h a0 x1 (fun r1 h2 => (narrow .char (.int r1) = .int r1 ∧ Q r1 h2)))
set_option maxHeartbeats 4000000 in
theorem snd_J5_charAt (l : Launch) (G : GG) (sz : Nat) (h : HH) (a0 : Nat) (x1 : Int32) (Q : Int32 → HH → Prop) (hw : wp_J5_charAt G h a0 x1 Q) : Met l yJ5_charAt (ws_ yJ5_charAt cJ5_charAt 2 (some FieldType.char)) rm_J5_charAt (hv_Pc G h sz [.ref a0, .int x1]) (hv_Qi G h sz Q) 0 0 (hv_A h sz) := by
  refine Met.ofW (cc := cJ5_charAt) (maxL := 2) (ret := (some FieldType.char)) (by decide) rfl ?_
  intro p e s m args below meth c s₁ B hml hv
  obtain ⟨rfl, rfl, hE, hI⟩ := hv_open B hml hv
  have hE : hv_E p s m ([.ref a0, .int x1] : List Value).toArray meth c cJ5_charAt 2 (some FieldType.char) RJ5 G h := hE
  obtain ⟨⟨hx, hb, hml, hown, hts⟩, hr, hlocks, hXX⟩ := id hE
  have hl := lv_entry ([.ref a0, .int x1] : List Value) (n := 2) (Nat.le_of_ble_eq_true rfl)
  rw [lg_entry_eq]
  generalize (lg_sl ([.ref a0, .int x1] : List Value) ++ List.replicate (2 - (lg_sl ([.ref a0, .int x1] : List Value)).length) Slot.unset).toArray = ls at hl ⊢
  have hl : lv_has ls 2 [(0, .ref a0), (1, .int x1)] := hl
  unfold wp_J5_charAt at hw
  refine lv_aload_n hx hb dJ5_charAt_0 rfl (lv_at hl 0 rfl) ?_
  refine lv_iload_n hx hb dJ5_charAt_1 rfl (lv_at hl 1 rfl) ?_
  obtain ⟨⟨fs, hre⟩, hw⟩ := hw
  refine hv_rci hI (va_runSU (As := [.int x1]) (b := a0) (rest := []) (hXX.1.1 6 _ rfl).2 hE.1 (snd_J4_charAt l G _ h a0 x1 _ hw) (va_cwSU 1 hts (lw_SU q775 q2511 q297 q776 q104 q777) rfl rfl rfl (by decide +kernel) ⟨Nat.le_of_ble_eq_true rfl, Nat.le_of_ble_eq_true rfl⟩) (hv_preV hE hI (ci := 6) rfl hre) rfl rfl hl.1 rfl (lv_room (Nat.le_of_ble_eq_true rfl)) dJ5_charAt_2 ⟨Nat.le_of_ble_eq_true rfl, Nat.le_of_ble_eq_true rfl⟩) (fun r1 h2 H locs hw hI => ?_)
  obtain ⟨hnr, hw⟩ := hw
  exact hv_zret hE hI (Nat.le_refl _) (Nat.le_refl _) hnr hw dJ5_charAt_5

/-- MatchmakerRules.inRange(JJJ)Z -/
abbrev rm_X1_inRange : Room := { frames := 1, cells := 0, slots := 0, locals := 12 }
def wp_X1_inRange (G : GG) (h : HH) (x0 : Int64) (x2 : Int64) (x4 : Int64) (Q : Int32 → HH → Prop) : Prop := (((lg_cmp x0 x2) < 0 → Q (0 : Int32) h) ∧ (¬ (lg_cmp x0 x2) < 0 → ((0 < (lg_cmp x0 x4) → Q (0 : Int32) h) ∧ (¬ 0 < (lg_cmp x0 x4) → Q (1 : Int32) h))))
set_option maxHeartbeats 4000000 in
theorem snd_X1_inRange (l : Launch) (G : GG) (sz : Nat) (h : HH) (x0 : Int64) (x2 : Int64) (x4 : Int64) (Q : Int32 → HH → Prop) (hw : wp_X1_inRange G h x0 x2 x4 Q) : Met l yX1_inRange (ws_ yX1_inRange cX1_inRange 6 (some FieldType.boolean)) rm_X1_inRange (hv_Pc G h sz [.long x0, .long x2, .long x4]) (hv_Qi G h sz Q) 0 0 (hv_A h sz) := by
  refine Met.ofW (cc := cX1_inRange) (maxL := 6) (ret := (some FieldType.boolean)) (by decide) rfl ?_
  intro p e s m args below meth c s₁ B hml hv
  obtain ⟨rfl, rfl, hE, hI⟩ := hv_open B hml hv
  have hE : hv_E p s m ([.long x0, .long x2, .long x4] : List Value).toArray meth c cX1_inRange 6 (some FieldType.boolean) RX1 G h := hE
  obtain ⟨⟨hx, hb, hml, hown, hts⟩, hr, hlocks, hXX⟩ := id hE
  have hl := lv_entry ([.long x0, .long x2, .long x4] : List Value) (n := 6) (Nat.le_of_ble_eq_true rfl)
  rw [lg_entry_eq]
  generalize (lg_sl ([.long x0, .long x2, .long x4] : List Value) ++ List.replicate (6 - (lg_sl ([.long x0, .long x2, .long x4] : List Value)).length) Slot.unset).toArray = ls at hl ⊢
  have hl : lv_has ls 6 [(0, .long x0), (2, .long x2), (4, .long x4)] := hl
  unfold wp_X1_inRange at hw
  refine lv_lload_n hx hb dX1_inRange_0 rfl (lv_at hl 0 rfl) ?_
  refine lv_lload_n hx hb dX1_inRange_1 rfl (lv_at hl 1 rfl) ?_
  refine W.lcmp hx hb dX1_inRange_2 ?_
  refine lv_if_lt (tgt := 17) hx hb dX1_inRange_3 (by decide) (fun c_3 => ?_) (fun c_3 => ?_)
  · have hw := hw.1 c_3
    refine lv_iconst (v := 0) hx hb dX1_inRange_17 (by decide) ?_
    exact hv_zret hE hI (Nat.le_refl _) (Nat.le_refl _) rfl hw dX1_inRange_18
  · have hw := hw.2 c_3
    refine lv_lload_n hx hb dX1_inRange_6 rfl (lv_at hl 0 rfl) ?_
    refine lv_lload hx hb dX1_inRange_7 (lv_at hl 2 rfl) ?_
    refine W.lcmp hx hb dX1_inRange_9 ?_
    refine lv_if_gt (tgt := 17) hx hb dX1_inRange_10 (by decide) (fun c_10 => ?_) (fun c_10 => ?_)
    · have hw := hw.1 c_10
      refine lv_iconst (v := 0) hx hb dX1_inRange_17 (by decide) ?_
      exact hv_zret hE hI (Nat.le_refl _) (Nat.le_refl _) rfl hw dX1_inRange_18
    · have hw := hw.2 c_10
      refine lv_iconst (v := 1) hx hb dX1_inRange_13 (by decide) ?_
      refine lv_goto (tgt := 18) hx hb dX1_inRange_14 (by decide) ?_
      exact hv_zret hE hI (Nat.le_refl _) (Nat.le_refl _) rfl hw dX1_inRange_18

/-- MatchmakerRules$Parser.isNext(II)Z -/
abbrev rm_X6_isNext : Room := { frames := 5, cells := 0, slots := 0, locals := 100 }
def wp_X6_isNext (G : GG) (h : HH) (a0 : Nat) (x1 : Int32) (x2 : Int32) (Q : Int32 → HH → Prop) : Prop := w_geti h a0 9 1 (fun r1 => w_getq h a0 9 0 (fun r2 => w_nn r2 (fun a3 => w_is h a3 6 (wp_J5_length G h a3 (fun r4 h5 => ((r4 ≤ r1 → Q (0 : Int32) h5) ∧ (¬ r4 ≤ r1 → w_getq h5 a0 9 0 (fun r6 => w_geti h5 a0 9 1 (fun r7 => w_nn r6 (fun a8 => w_is h5 a8 6 (wp_J5_charAt G h5 a8 r7 (fun r9 h10 => wp_X1_inRange G h10 (Int32.toInt64 r9) (Int32.toInt64 x1) (Int32.toInt64 x2) (fun r11 h12 => ((r11 = 0 → Q (0 : Int32) h12) ∧ (¬ r11 = 0 → Q (1 : Int32) h12)))))))))))))))
set_option maxHeartbeats 4000000 in
theorem snd_X6_isNext (l : Launch) (G : GG) (sz : Nat) (h : HH) (a0 : Nat) (x1 : Int32) (x2 : Int32) (Q : Int32 → HH → Prop) (hw : wp_X6_isNext G h a0 x1 x2 Q) : Met l yX6_isNext (ws_ yX6_isNext cX6_isNext 3 (some FieldType.boolean)) rm_X6_isNext (hv_Pc G h sz [.ref a0, .int x1, .int x2]) (hv_Qi G h sz Q) 0 0 (hv_A h sz) := by
  refine Met.ofW (cc := cX6_isNext) (maxL := 3) (ret := (some FieldType.boolean)) (by decide) rfl ?_
  intro p e s m args below meth c s₁ B hml hv
  obtain ⟨rfl, rfl, hE, hI⟩ := hv_open B hml hv
  have hE : hv_E p s m ([.ref a0, .int x1, .int x2] : List Value).toArray meth c cX6_isNext 3 (some FieldType.boolean) RX6 G h := hE
  obtain ⟨⟨hx, hb, hml, hown, hts⟩, hr, hlocks, hXX⟩ := id hE
  have hl := lv_entry ([.ref a0, .int x1, .int x2] : List Value) (n := 3) (Nat.le_of_ble_eq_true rfl)
  rw [lg_entry_eq]
  generalize (lg_sl ([.ref a0, .int x1, .int x2] : List Value) ++ List.replicate (3 - (lg_sl ([.ref a0, .int x1, .int x2] : List Value)).length) Slot.unset).toArray = ls at hl ⊢
  have hl : lv_has ls 3 [(0, .ref a0), (1, .int x1), (2, .int x2)] := hl
  unfold wp_X6_isNext at hw
  refine lv_aload_n hx hb dX6_isNext_0 rfl (lv_at hl 0 rfl) ?_
  refine hv_wgeti hE hI in_X6 (ci := 9) rfl 1 (by decide) (hts _ q676) (fun _ hx => hx) hw dX6_isNext_1 (fun r1 hw => ?_)
  refine lv_aload_n hx hb dX6_isNext_4 rfl (lv_at hl 0 rfl) ?_
  refine hv_wgetq hE hI in_X6 (ci := 9) rfl 0 (by decide) (hts _ q675) (fun _ hx => hx) hw dX6_isNext_5 (fun r2 hw => ?_)
  obtain ⟨a3, hz, hwa3⟩ := hw; have hla3 := hl; subst hz; have hw := hwa3; have hl := hla3
  obtain ⟨⟨fs, hre⟩, hw⟩ := hw
  refine hv_rFi hI (va_runF (As := []) (b := a3) (rest := [.int r1]) (hXX.1.1 6 _ rfl).2 hE.1 (snd_J5_length l G _ h a3 _ hw) (va_cwF 0 hts (lw_F q707 q721 q723 q105 q725) rfl rfl rfl (hv_fw3 hE.2.2.2.2.1) (by decide +kernel) ⟨Nat.le_of_ble_eq_true rfl, Nat.le_of_ble_eq_true rfl⟩) (hv_preV hE hI (ci := 6) rfl hre) rfl rfl hl.1 rfl (lv_room (Nat.le_of_ble_eq_true rfl)) dX6_isNext_8 ⟨Nat.le_of_ble_eq_true rfl, Nat.le_of_ble_eq_true rfl⟩) (fun r4 h5 H locs hw hI => ?_)
  refine lv_icmp_ge (tgt := 44) hx hb dX6_isNext_13 (by decide) (fun c_13 => ?_) (fun c_13 => ?_)
  · have hw := hw.1 c_13
    refine lv_iconst (v := 0) hx hb dX6_isNext_44 (by decide) ?_
    exact hv_zret hE hI (Nat.le_refl _) (Nat.le_refl _) rfl hw dX6_isNext_45
  · have hw := hw.2 c_13
    refine lv_aload_n hx hb dX6_isNext_16 rfl (lv_at hl 0 rfl) ?_
    refine hv_wgetq hE hI in_X6 (ci := 9) rfl 0 (by decide) (hts _ q675) (fun _ hx => hx) hw dX6_isNext_17 (fun r6 hw => ?_)
    refine lv_aload_n hx hb dX6_isNext_20 rfl (lv_at hl 0 rfl) ?_
    refine hv_wgeti hE hI in_X6 (ci := 9) rfl 1 (by decide) (hts _ q676) (fun _ hx => hx) hw dX6_isNext_21 (fun r7 hw => ?_)
    obtain ⟨a8, hz, hwa8⟩ := hw; have hla8 := hl; subst hz; have hw := hwa8; have hl := hla8
    obtain ⟨⟨fs, hre⟩, hw⟩ := hw
    refine hv_rFi hI (va_runF (As := [.int r7]) (b := a8) (rest := []) (hXX.1.1 6 _ rfl).2 hE.1 (snd_J5_charAt l G _ h5 a8 r7 _ hw) (va_cwF 1 hts (lw_F q730 q770 q772 q105 q774) rfl rfl rfl (hv_fw4 hE.2.2.2.2.1) (by decide +kernel) ⟨Nat.le_of_ble_eq_true rfl, Nat.le_of_ble_eq_true rfl⟩) (hv_preV hE hI (ci := 6) rfl hre) rfl rfl hl.1 rfl (lv_room (Nat.le_of_ble_eq_true rfl)) dX6_isNext_24 ⟨Nat.le_of_ble_eq_true rfl, Nat.le_of_ble_eq_true rfl⟩) (fun r9 h10 H locs hw hI => ?_)
    refine lv_i2l (v := (Int32.toInt64 r9)) hx hb dX6_isNext_29 rfl ?_
    refine lv_iload_n hx hb dX6_isNext_30 rfl (lv_at hl 1 rfl) ?_
    refine lv_i2l (v := (Int32.toInt64 x1)) hx hb dX6_isNext_31 rfl ?_
    refine lv_iload_n hx hb dX6_isNext_32 rfl (lv_at hl 2 rfl) ?_
    refine lv_i2l (v := (Int32.toInt64 x2)) hx hb dX6_isNext_33 rfl ?_
    refine hv_rci hI (va_runSN (As := [.long (Int32.toInt64 r9), .long (Int32.toInt64 x1), .long (Int32.toInt64 x2)]) (rest := []) hE.1 (snd_X1_inRange l G _ h10 (Int32.toInt64 r9) (Int32.toInt64 x1) (Int32.toInt64 x2) _ hw) ⟨va_cnB 3 hts (lw_meth q783) rfl rfl rfl (hE.2.2.2.2.1.M 10 rfl) (hts _ q97) (by decide +kernel) ⟨Nat.le_of_ble_eq_true rfl, Nat.le_of_ble_eq_true rfl⟩, hts _ q782, trivial⟩ (hv_preS hE hI) rfl rfl hl.1 rfl (lv_room (Nat.le_of_ble_eq_true rfl)) dX6_isNext_34 ⟨Nat.le_of_ble_eq_true rfl, Nat.le_of_ble_eq_true rfl⟩) (fun r11 h12 H locs hw hI => ?_)
    refine lv_if_eq (tgt := 44) hx hb dX6_isNext_37 (by decide) (fun c_37 => ?_) (fun c_37 => ?_)
    · have hw := hw.1 c_37
      refine lv_iconst (v := 0) hx hb dX6_isNext_44 (by decide) ?_
      exact hv_zret hE hI (Nat.le_refl _) (Nat.le_refl _) rfl hw dX6_isNext_45
    · have hw := hw.2 c_37
      refine lv_iconst (v := 1) hx hb dX6_isNext_40 (by decide) ?_
      refine lv_goto (tgt := 45) hx hb dX6_isNext_41 (by decide) ?_
      exact hv_zret hE hI (Nat.le_refl _) (Nat.le_refl _) rfl hw dX6_isNext_45

/-- java/lang/Throwable.<init>(Ljava/lang/String;Ljava/lang/Throwable;ZZ)V on MatchmakerRules$SyntaxException -/
abbrev rm_J11_init_2_X7 : Room := { frames := 1, cells := 0, slots := 0, locals := 32 }
def wp_J11_init_2_X7_L41 (G : GG) (a0 : Nat) (Q : HH → Prop) (h : HH) (x1 : Option Nat) (x2 : Option Nat) (x3 : Int32) : Prop := w_put h a0 10 3 (va_rf x1) (fun h7 => w_put h7 a0 10 0 (va_rf x2) (fun h8 => ((¬ x3 = 0 → Q h8) ∧ (x3 = 0 → w_put h8 a0 10 2 (.null) (fun h9 => Q h9)))))
set_option maxHeartbeats 4000000 in
theorem snd_J11_init_2_X7_L41 {p : Program} {l : Launch} {e : Env} {s : State} {m : MethodId} {args : Array Value} {below : List Frame} {meth : Method} {c : Code} {h0 : HH} (G : GG) (a0 : Nat) (Q : HH → Prop) (hin2 : meth.name = "<init>") (hE : hv_E p s m args meth c cJ11_init_2 5 (none : Option FieldType) RJ11 G h0) : ∀ (h : HH) (x1 : Option Nat) (x2 : Option Nat) (x3 : Int32), wp_J11_init_2_X7_L41 G a0 Q h x1 x2 x3 → ∀ (H : Heap) (locs : List Loc) (ls : Array Slot), hv_I G h0 s.heap h H locs → lv_has ls 5 [(0, .ref a0), (1, va_rf x1), (2, va_rf x2), (3, .int x3)] → W p l e (headSpec (ws_ yJ11_init_2 cJ11_init_2 5 (none : Option FieldType)) rm_J11_init_2_X7).room s m args below meth c H locs 0 0 (MQ below (hv_Qv G h0 s.heap.size Q) args s 0 0 (hv_A h0 s.heap.size)) (F0 m 41 ls []) := by
  obtain ⟨⟨hx, hb, hml, hown, hts⟩, hr, hlocks, hXX⟩ := id hE
  intro h x1 x2 x3 hw H locs ls hI hl
  unfold wp_J11_init_2_X7_L41 at hw
  refine lv_aload_n hx hb dJ11_init_2_41 rfl (lv_at hl 0 rfl) ?_
  refine lv_aload_nq hx hb dJ11_init_2_42 rfl (lv_at hl 1 rfl) ?_
  refine hv_wput (v := va_rf x1) tyX7 hE hI in_X7 tyX7_ok nmX7 (ci := 10) rfl 3 (by decide) (hts _ q457) (fun _ hx => hx) rfl (ty := (.object "java/lang/String")) rfl (va_rf_nar _ _) (va_rf_fit _ _) hw dJ11_init_2_43 (fun h7 H locs hw hI => ?_)
  refine lv_aload_n hx hb dJ11_init_2_46 rfl (lv_at hl 0 rfl) ?_
  refine lv_aload_nq hx hb dJ11_init_2_47 rfl (lv_at hl 2 rfl) ?_
  refine hv_wput (v := va_rf x2) tyX7 hE hI in_X7 tyX7_ok nmX7 (ci := 10) rfl 0 (by decide) (hts _ q458) (fun _ hx => hx) rfl (ty := (.object "java/lang/Throwable")) rfl (va_rf_nar _ _) (va_rf_fit _ _) hw dJ11_init_2_48 (fun h8 H locs hw hI => ?_)
  refine lv_iload_n hx hb dJ11_init_2_51 rfl (lv_at hl 3 rfl) ?_
  refine lv_if_ne (tgt := 60) hx hb dJ11_init_2_52 (by decide) (fun c_52 => ?_) (fun c_52 => ?_)
  · have hw := hw.1 c_52
    exact hv_vret hE hI (Nat.le_refl _) (Nat.le_refl _) hw dJ11_init_2_60
  · have hw := hw.2 c_52
    refine lv_aload_n hx hb dJ11_init_2_55 rfl (lv_at hl 0 rfl) ?_
    refine lv_null hx hb dJ11_init_2_56 ?_
    refine hv_wput (v := .null) tyX7 hE hI in_X7 tyX7_ok nmX7 (ci := 10) rfl 2 (by decide) (hts _ q460) (fun _ hx => hx) rfl (ty := (.object "java/util/List")) rfl rfl rfl hw dJ11_init_2_57 (fun h9 H locs hw hI => ?_)
    exact hv_vret hE hI (Nat.le_refl _) (Nat.le_refl _) hw dJ11_init_2_60
def wp_J11_init_2_X7 (G : GG) (h : HH) (a0 : Nat) (x1 : Option Nat) (x2 : Option Nat) (x3 : Int32) (x4 : Int32) (Q : HH → Prop) : Prop := w_put h a0 10 0 (.ref a0) (fun h1 => (∀ r2 : Option Nat, w_put h1 a0 10 1 (va_rf r2) (fun h3 => (∀ r4 : Option Nat, w_put h3 a0 10 2 (va_rf r4) (fun h5 => ((x4 = 0 → w_put h5 a0 10 1 (.null) (fun h6 => wp_J11_init_2_X7_L41 G a0 Q h6 x1 x2 x3)) ∧ (¬ x4 = 0 → False)))))))
set_option maxHeartbeats 4000000 in
theorem snd_J11_init_2_X7 (l : Launch) (G : GG) (sz : Nat) (h : HH) (a0 : Nat) (x1 : Option Nat) (x2 : Option Nat) (x3 : Int32) (x4 : Int32) (Q : HH → Prop) (hw : wp_J11_init_2_X7 G h a0 x1 x2 x3 x4 Q) : Met l yJ11_init_2 (ws_ yJ11_init_2 cJ11_init_2 5 (none : Option FieldType)) rm_J11_init_2_X7 (hv_Pc G h sz [.ref a0, va_rf x1, va_rf x2, .int x3, .int x4]) (hv_Qv G h sz Q) 0 0 (hv_A h sz) := by
  refine Met.ofW (cc := cJ11_init_2) (maxL := 5) (ret := (none : Option FieldType)) (by decide) rfl ?_
  intro p e s m args below meth c s₁ B hml hv
  have hin2 : meth.name = "<init>" := (name_of_methodNamed B.named B.method).1
  obtain ⟨rfl, rfl, hE, hI⟩ := hv_open B hml hv
  have hE : hv_E p s m ([.ref a0, va_rf x1, va_rf x2, .int x3, .int x4] : List Value).toArray meth c cJ11_init_2 5 (none : Option FieldType) RJ11 G h := hE
  obtain ⟨⟨hx, hb, hml, hown, hts⟩, hr, hlocks, hXX⟩ := id hE
  have hl := lv_entry ([.ref a0, va_rf x1, va_rf x2, .int x3, .int x4] : List Value) (n := 5) (by cases x1 <;> cases x2 <;> exact Nat.le_of_ble_eq_true rfl)
  rw [lg_entry_eq]
  generalize (lg_sl ([.ref a0, va_rf x1, va_rf x2, .int x3, .int x4] : List Value) ++ List.replicate (5 - (lg_sl ([.ref a0, va_rf x1, va_rf x2, .int x3, .int x4] : List Value)).length) Slot.unset).toArray = ls at hl ⊢
  have hl : lv_has ls 5 [(0, .ref a0), (1, va_rf x1), (2, va_rf x2), (3, .int x3), (4, .int x4)] := (by cases x1 <;> cases x2 <;> exact hl)
  unfold wp_J11_init_2_X7 at hw
  refine lv_aload_n hx hb dJ11_init_2_0 rfl (lv_at hl 0 rfl) ?_
  refine hv_objI (rest := []) hE (hts _ q422) (hts _ q146) (hts _ q147) hl.1 dJ11_init_2_1 (Nat.le_of_ble_eq_true rfl) (Nat.le_of_ble_eq_true rfl) ?_
  refine lv_aload_n hx hb dJ11_init_2_4 rfl (lv_at hl 0 rfl) ?_
  refine lv_aload_n hx hb dJ11_init_2_5 rfl (lv_at hl 0 rfl) ?_
  refine hv_wput (v := .ref a0) tyX7 hE hI in_X7 tyX7_ok nmX7 (ci := 10) rfl 0 (by decide) (hts _ q458) (fun _ hx => hx) rfl (ty := (.object "java/lang/Throwable")) rfl rfl rfl hw dJ11_init_2_6 (fun h1 H locs hw hI => ?_)
  refine lv_aload_n hx hb dJ11_init_2_9 rfl (lv_at hl 0 rfl) ?_
  refine hv_getsQ hE hI (hv_zH hE).2.2.2.2.2.2.2.2.1.1 (hts _ q423) (fun _ hx => hx) dJ11_init_2_10 (fun r2 => ?_)
  have hw := hw r2
  refine hv_wput (v := va_rf r2) tyX7 hE hI in_X7 tyX7_ok nmX7 (ci := 10) rfl 1 (by decide) (hts _ q459) (fun _ hx => hx) rfl (ty := (.array (.object "java/lang/StackTraceElement"))) rfl (va_rf_narA _ _) (va_rf_fitA _ _) hw dJ11_init_2_13 (fun h3 H locs hw hI => ?_)
  refine lv_aload_n hx hb dJ11_init_2_16 rfl (lv_at hl 0 rfl) ?_
  refine hv_getsQ hE hI (hv_zH hE).2.2.2.2.2.2.2.2.2.1.1 (hts _ q425) (fun _ hx => hx) dJ11_init_2_17 (fun r4 => ?_)
  have hw := hw r4
  refine hv_wput (v := va_rf r4) tyX7 hE hI in_X7 tyX7_ok nmX7 (ci := 10) rfl 2 (by decide) (hts _ q460) (fun _ hx => hx) rfl (ty := (.object "java/util/List")) rfl (va_rf_nar _ _) (va_rf_fit _ _) hw dJ11_init_2_20 (fun h5 H locs hw hI => ?_)
  refine lv_iload hx hb dJ11_init_2_23 (lv_at hl 4 rfl) ?_
  refine lv_if_eq (tgt := 36) hx hb dJ11_init_2_25 (by decide) (fun c_25 => ?_) (fun c_25 => ?_)
  · have hw := hw.1 c_25
    refine lv_aload_n hx hb dJ11_init_2_36 rfl (lv_at hl 0 rfl) ?_
    refine lv_null hx hb dJ11_init_2_37 ?_
    refine hv_wput (v := .null) tyX7 hE hI in_X7 tyX7_ok nmX7 (ci := 10) rfl 1 (by decide) (hts _ q459) (fun _ hx => hx) rfl (ty := (.array (.object "java/lang/StackTraceElement"))) rfl rfl rfl hw dJ11_init_2_38 (fun h6 H locs hw hI => ?_)
    exact snd_J11_init_2_X7_L41 G a0 Q hin2 hE h6 x1 x2 x3 hw _ _ _ hI (lv_sub hl [0, 1, 2, 3] rfl)
  · have hw := hw.2 c_25
    refine lv_aload_n hx hb dJ11_init_2_28 rfl (lv_at hl 0 rfl) ?_
    exact hw.elim

/-- java/lang/Exception.<init>(Ljava/lang/String;Ljava/lang/Throwable;ZZ)V on MatchmakerRules$SyntaxException -/
abbrev rm_J12_init_2_X7 : Room := { frames := 2, cells := 0, slots := 0, locals := 56 }
def wp_J12_init_2_X7 (G : GG) (h : HH) (a0 : Nat) (x1 : Option Nat) (x2 : Option Nat) (x3 : Int32) (x4 : Int32) (Q : HH → Prop) : Prop := wp_J11_init_2_X7 G h a0 x1 x2 x3 x4 (fun h1 => Q h1)
set_option maxHeartbeats 4000000 in
theorem snd_J12_init_2_X7 (l : Launch) (G : GG) (sz : Nat) (h : HH) (a0 : Nat) (x1 : Option Nat) (x2 : Option Nat) (x3 : Int32) (x4 : Int32) (Q : HH → Prop) (hw : wp_J12_init_2_X7 G h a0 x1 x2 x3 x4 Q) : Met l yJ12_init_2 (ws_ yJ12_init_2 cJ12_init_2 5 (none : Option FieldType)) rm_J12_init_2_X7 (hv_Pc G h sz [.ref a0, va_rf x1, va_rf x2, .int x3, .int x4]) (hv_Qv G h sz Q) 0 0 (hv_A h sz) := by
  refine Met.ofW (cc := cJ12_init_2) (maxL := 5) (ret := (none : Option FieldType)) (by decide) rfl ?_
  intro p e s m args below meth c s₁ B hml hv
  have hin2 : meth.name = "<init>" := (name_of_methodNamed B.named B.method).1
  obtain ⟨rfl, rfl, hE, hI⟩ := hv_open B hml hv
  have hE : hv_E p s m ([.ref a0, va_rf x1, va_rf x2, .int x3, .int x4] : List Value).toArray meth c cJ12_init_2 5 (none : Option FieldType) RJ12 G h := hE
  obtain ⟨⟨hx, hb, hml, hown, hts⟩, hr, hlocks, hXX⟩ := id hE
  have hl := lv_entry ([.ref a0, va_rf x1, va_rf x2, .int x3, .int x4] : List Value) (n := 5) (by cases x1 <;> cases x2 <;> exact Nat.le_of_ble_eq_true rfl)
  rw [lg_entry_eq]
  generalize (lg_sl ([.ref a0, va_rf x1, va_rf x2, .int x3, .int x4] : List Value) ++ List.replicate (5 - (lg_sl ([.ref a0, va_rf x1, va_rf x2, .int x3, .int x4] : List Value)).length) Slot.unset).toArray = ls at hl ⊢
  have hl : lv_has ls 5 [(0, .ref a0), (1, va_rf x1), (2, va_rf x2), (3, .int x3), (4, .int x4)] := (by cases x1 <;> cases x2 <;> exact hl)
  unfold wp_J12_init_2_X7 at hw
  refine lv_aload_n hx hb dJ12_init_2_0 rfl (lv_at hl 0 rfl) ?_
  refine lv_aload_nq hx hb dJ12_init_2_1 rfl (lv_at hl 1 rfl) ?_
  refine lv_aload_nq hx hb dJ12_init_2_2 rfl (lv_at hl 2 rfl) ?_
  refine lv_iload_n hx hb dJ12_init_2_3 rfl (lv_at hl 3 rfl) ?_
  refine lv_iload hx hb dJ12_init_2_4 (lv_at hl 4 rfl) ?_
  refine hv_rcv hI (va_runI (As := [va_rf x1, va_rf x2, .int x3, .int x4]) (b := a0) (rest := []) hE.1 (snd_J11_init_2_X7 l G _ h a0 x1 x2 x3 x4 _ hw) (cwI 4 hts (lw_meth q801) rfl rfl rfl (hts _ q114) (hts _ q799) (hts _ q800) rfl (by decide +kernel) ⟨Nat.le_of_ble_eq_true rfl, Nat.le_of_ble_eq_true rfl⟩) (hv_preS hE hI) rfl rfl hl.1 rfl (lv_room (Nat.le_of_ble_eq_true rfl)) dJ12_init_2_6 ⟨Nat.le_of_ble_eq_true rfl, Nat.le_of_ble_eq_true rfl⟩) (fun h1 H locs hw hI => ?_)
  exact hv_vret hE hI (Nat.le_refl _) (Nat.le_refl _) hw dJ12_init_2_9

/-- MatchmakerRules$SyntaxException.<init>(I)V -/
abbrev rm_X7_init : Room := { frames := 3, cells := 0, slots := 0, locals := 80 }
def wp_X7_init (G : GG) (h : HH) (a0 : Nat) (x1 : Int32) (Q : HH → Prop) : Prop := wp_J12_init_2_X7 G h a0 none none (0 : Int32) (0 : Int32) (fun h1 => w_put h1 a0 10 6 (.int x1) (fun h2 => Q h2))
set_option maxHeartbeats 4000000 in
theorem snd_X7_init (l : Launch) (G : GG) (sz : Nat) (h : HH) (a0 : Nat) (x1 : Int32) (Q : HH → Prop) (hw : wp_X7_init G h a0 x1 Q) : Met l yX7_init (ws_ yX7_init cX7_init 2 (none : Option FieldType)) rm_X7_init (hv_Pc G h sz [.ref a0, .int x1]) (hv_Qv G h sz Q) 0 0 (hv_A h sz) := by
  refine Met.ofW (cc := cX7_init) (maxL := 2) (ret := (none : Option FieldType)) (by decide) rfl ?_
  intro p e s m args below meth c s₁ B hml hv
  have hin2 : meth.name = "<init>" := (name_of_methodNamed B.named B.method).1
  obtain ⟨rfl, rfl, hE, hI⟩ := hv_open B hml hv
  have hE : hv_E p s m ([.ref a0, .int x1] : List Value).toArray meth c cX7_init 2 (none : Option FieldType) RX7 G h := hE
  obtain ⟨⟨hx, hb, hml, hown, hts⟩, hr, hlocks, hXX⟩ := id hE
  have hl := lv_entry ([.ref a0, .int x1] : List Value) (n := 2) (Nat.le_of_ble_eq_true rfl)
  rw [lg_entry_eq]
  generalize (lg_sl ([.ref a0, .int x1] : List Value) ++ List.replicate (2 - (lg_sl ([.ref a0, .int x1] : List Value)).length) Slot.unset).toArray = ls at hl ⊢
  have hl : lv_has ls 2 [(0, .ref a0), (1, .int x1)] := hl
  unfold wp_X7_init at hw
  refine lv_aload_n hx hb dX7_init_0 rfl (lv_at hl 0 rfl) ?_
  refine lv_null hx hb dX7_init_1 ?_
  refine lv_null hx hb dX7_init_2 ?_
  refine lv_iconst (v := 0) hx hb dX7_init_3 (by decide) ?_
  refine lv_iconst (v := 0) hx hb dX7_init_4 (by decide) ?_
  refine hv_rcv hI (va_runI (As := [.null, .null, .int (0 : Int32), .int (0 : Int32)]) (b := a0) (rest := []) hE.1 (snd_J12_init_2_X7 l G _ h a0 none none (0 : Int32) (0 : Int32) _ hw) (cwI 4 hts (lw_meth q798) rfl rfl rfl (hts _ q115) (hts _ q796) (hts _ q797) rfl (by decide +kernel) ⟨Nat.le_of_ble_eq_true rfl, Nat.le_of_ble_eq_true rfl⟩) (hv_preS hE hI) rfl rfl hl.1 rfl (lv_room (Nat.le_of_ble_eq_true rfl)) dX7_init_5 ⟨Nat.le_of_ble_eq_true rfl, Nat.le_of_ble_eq_true rfl⟩) (fun h1 H locs hw hI => ?_)
  refine lv_aload_n hx hb dX7_init_8 rfl (lv_at hl 0 rfl) ?_
  refine lv_iload_n hx hb dX7_init_9 rfl (lv_at hl 1 rfl) ?_
  refine hv_wputF (v := .int x1) tyX7 hE hI in_X7 tyX7_ok nmX7 (ci := 10) rfl 6 (by decide) (hts _ q802) (fun _ hx => hx) rfl hin2 rfl (ty := .int) rfl rfl rfl hw dX7_init_10 (fun h2 H locs hw hI => ?_)
  exact hv_vret hE hI (Nat.le_refl _) (Nat.le_refl _) hw dX7_init_13

/-- MatchmakerRules$Parser.take(II)I -/
abbrev rm_X6_take (mc ms : Nat) : Room := { frames := 6, cells := mc, slots := ms, locals := 122 }
def wp_X6_take (G : GG) (mc : Nat) (ms : Nat) (h : HH) (a0 : Nat) (x1 : Int32) (x2 : Int32) (Q : Int32 → HH → Prop) (X : String → Nat → HH → Prop) : Prop := w_is h a0 9 (wp_X6_isNext G h a0 x1 x2 (fun r1 h2 => ((¬ r1 = 0 → w_geti h2 a0 9 1 (fun r3 => w_put h2 a0 9 1 (.int (r3 + (1 : Int32))) (fun h4 => w_getq h4 a0 9 0 (fun r5 => w_geti h4 a0 9 1 (fun r6 => w_nn r5 (fun a7 => w_is h4 a7 6 (wp_J5_charAt G h4 a7 (r6 - (1 : Int32)) (fun r8 h9 => Q (r8 - x1) h9)))))))) ∧ (r1 = 0 → (0 + 1 ≤ mc ∧ 0 + 7 ≤ ms ∧ w_new h2 (.inr (10, df_X7)) (fun a10 h11 => w_geti h11 a0 9 1 (fun r12 => wp_X7_init G h11 a10 r12 (fun h13 => w_is h13 a10 10 (X "MatchmakerRules$SyntaxException" a10 h13)))))))))
set_option maxHeartbeats 4000000 in
theorem snd_X6_take (l : Launch) (G : GG) (sz : Nat) (mc : Nat) (ms : Nat) (h : HH) (a0 : Nat) (x1 : Int32) (x2 : Int32) (Q : Int32 → HH → Prop) (X : String → Nat → HH → Prop) (hw : wp_X6_take G mc ms h a0 x1 x2 Q X) : vx_Met l yX6_take (ws_ yX6_take cX6_take 3 (some FieldType.int)) (rm_X6_take mc ms) (hv_Pc G h sz [.ref a0, .int x1, .int x2]) (hv_Qi G h sz Q) (hv_XC G h sz X) mc ms (hv_A h sz) := by
  refine vx_ofW (cc := cX6_take) (maxL := 3) (ret := (some FieldType.int)) (by decide) rfl ?_
  intro p e s m args below meth c s₁ B hml ht hv
  obtain ⟨rfl, rfl, hE, hI⟩ := hv_open B hml hv
  have hE : hv_E p s m ([.ref a0, .int x1, .int x2] : List Value).toArray meth c cX6_take 3 (some FieldType.int) RX6 G h := hE
  obtain ⟨⟨hx, hb, hml, hown, hts⟩, hr, hlocks, hXX⟩ := id hE
  have hl := lv_entry ([.ref a0, .int x1, .int x2] : List Value) (n := 3) (Nat.le_of_ble_eq_true rfl)
  rw [lg_entry_eq]
  generalize (lg_sl ([.ref a0, .int x1, .int x2] : List Value) ++ List.replicate (3 - (lg_sl ([.ref a0, .int x1, .int x2] : List Value)).length) Slot.unset).toArray = ls at hl ⊢
  have hl : lv_has ls 3 [(0, .ref a0), (1, .int x1), (2, .int x2)] := hl
  have hc : 0 ≤ mc := Nat.zero_le _
  have hs : 0 ≤ ms := Nat.zero_le _
  unfold wp_X6_take at hw
  refine lv_aload_n hx hb dX6_take_0 rfl (lv_at hl 0 rfl) ?_
  refine lv_iload_n hx hb dX6_take_1 rfl (lv_at hl 1 rfl) ?_
  refine lv_iload_n hx hb dX6_take_2 rfl (lv_at hl 2 rfl) ?_
  obtain ⟨⟨fs, hre⟩, hw⟩ := hw
  refine hv_rci hI (va_runV (As := [.int x1, .int x2]) (b := a0) (rest := []) hE.1 (snd_X6_isNext l G _ h a0 x1 x2 _ hw) (cwV 2 hts (lw_V q702 q704 qs12 q110 q705) rfl rfl rfl (by decide +kernel) ⟨Nat.le_of_ble_eq_true rfl, Nat.le_of_ble_eq_true rfl⟩) (hv_preV hE hI (ci := 9) rfl hre) rfl rfl hl.1 rfl (lv_room (Nat.le_of_ble_eq_true rfl)) dX6_take_3 ⟨hc, hs⟩) (fun r1 h2 H locs hw hI => ?_)
  refine lv_if_ne (tgt := 21) hx hb dX6_take_6 (by decide) (fun c_6 => ?_) (fun c_6 => ?_)
  · have hw := hw.1 c_6
    refine lv_aload_n hx hb dX6_take_21 rfl (lv_at hl 0 rfl) ?_
    refine lv_dup hx hb dX6_take_22 rfl ?_
    refine hv_wgeti hE hI in_X6 (ci := 9) rfl 1 (by decide) (hts _ q676) (fun _ hx => hx) hw dX6_take_23 (fun r3 hw => ?_)
    refine lv_iconst (v := 1) hx hb dX6_take_26 (by decide) ?_
    refine lv_iadd hx hb dX6_take_27 ?_
    refine hv_wput (v := .int (r3 + (1 : Int32))) tyX6 hE hI in_X6 tyX6_ok nmX6 (ci := 9) rfl 1 (by decide) (hts _ q676) (fun _ hx => hx) rfl (ty := .int) rfl rfl rfl hw dX6_take_28 (fun h4 H locs hw hI => ?_)
    refine lv_aload_n hx hb dX6_take_31 rfl (lv_at hl 0 rfl) ?_
    refine hv_wgetq hE hI in_X6 (ci := 9) rfl 0 (by decide) (hts _ q675) (fun _ hx => hx) hw dX6_take_32 (fun r5 hw => ?_)
    refine lv_aload_n hx hb dX6_take_35 rfl (lv_at hl 0 rfl) ?_
    refine hv_wgeti hE hI in_X6 (ci := 9) rfl 1 (by decide) (hts _ q676) (fun _ hx => hx) hw dX6_take_36 (fun r6 hw => ?_)
    refine lv_iconst (v := 1) hx hb dX6_take_39 (by decide) ?_
    refine lv_isub hx hb dX6_take_40 ?_
    obtain ⟨a7, hz, hwa7⟩ := hw; have hla7 := hl; subst hz; have hw := hwa7; have hl := hla7
    obtain ⟨⟨fs, hre⟩, hw⟩ := hw
    refine hv_rFi hI (va_runF (As := [.int (r6 - (1 : Int32))]) (b := a7) (rest := []) (hXX.1.1 6 _ rfl).2 hE.1 (snd_J5_charAt l G _ h4 a7 (r6 - (1 : Int32)) _ hw) (va_cwF 1 hts (lw_F q730 q770 q772 q105 q774) rfl rfl rfl (hv_fw4 hE.2.2.2.2.1) (by decide +kernel) ⟨Nat.le_of_ble_eq_true rfl, Nat.le_of_ble_eq_true rfl⟩) (hv_preV hE hI (ci := 6) rfl hre) rfl rfl hl.1 rfl (lv_room (Nat.le_of_ble_eq_true rfl)) dX6_take_41 ⟨hc, hs⟩) (fun r8 h9 H locs hw hI => ?_)
    refine lv_iload_n hx hb dX6_take_46 rfl (lv_at hl 1 rfl) ?_
    refine lv_isub hx hb dX6_take_47 ?_
    exact vx_ret (hv_iret hE hI hc hs hw dX6_take_48)
  · have hw := hw.2 c_6
    obtain ⟨hc, hs, hw⟩ := hw
    refine hv_wnew tyX7 hE hI in_X7 tyX7_ok (hts _ q784) (hts _ q785) (hts _ q116) (ci := 10) rfl df_X7_ok hw hc hs dX6_take_9 (fun a10 h11 H hw hI => ?_)
    refine lv_dup hx hb dX6_take_12 rfl ?_
    refine lv_aload_n hx hb dX6_take_13 rfl (lv_at hl 0 rfl) ?_
    refine hv_wgeti hE hI in_X6 (ci := 9) rfl 1 (by decide) (hts _ q676) (fun _ hx => hx) hw dX6_take_14 (fun r12 hw => ?_)
    refine hv_rcv hI (va_runI (As := [.int r12]) (b := a10) (rest := [.ref a10]) hE.1 (snd_X7_init l G _ h11 a10 r12 _ hw) (cwI 1 hts (lw_meth q795) rfl rfl rfl (hts _ q116) (hts _ q793) (hts _ q794) rfl (by decide +kernel) ⟨Nat.le_of_ble_eq_true rfl, Nat.le_of_ble_eq_true rfl⟩) (hv_preS hE hI) rfl rfl hl.1 rfl (lv_room (Nat.le_of_ble_eq_true rfl)) dX6_take_17 ⟨hc, hs⟩) (fun h13 H locs hw hI => ?_)
    obtain ⟨⟨fs, hre⟩, hw⟩ := hw
    exact hx_athrow (E := "MatchmakerRules$SyntaxException") hE dX6_take_20 (hx_out hE hI (hv_Tof (ci := 10) hE hI rfl hre) hc hs (fun z hz => (ht z hz).elim) hw)

/-- MatchmakerRules$Parser.kind()C -/
abbrev rm_X6_kind (mc ms : Nat) : Room := { frames := 7, cells := mc, slots := ms, locals := 144 }
def wp_X6_kind (G : GG) (mc : Nat) (ms : Nat) (h : HH) (a0 : Nat) (Q : Int32 → HH → Prop) (X : String → Nat → HH → Prop) : Prop := (∃ mc1 ms1, 0 + mc1 ≤ mc ∧ 0 + ms1 ≤ ms ∧ w_is h a0 9 (wp_X6_take G mc1 ms1 h a0 (97 : Int32) (102 : Int32) (fun r2 h3 => (narrow .char (.int (((Int32.toUInt32 ((97 : Int32) + r2)) % 65536).toInt32)) = .int (((Int32.toUInt32 ((97 : Int32) + r2)) % 65536).toInt32) ∧ Q (((Int32.toUInt32 ((97 : Int32) + r2)) % 65536).toInt32) h3)) (fun E q4 h5 => X E q4 h5)))
set_option maxHeartbeats 4000000 in
theorem snd_X6_kind (l : Launch) (G : GG) (sz : Nat) (mc : Nat) (ms : Nat) (h : HH) (a0 : Nat) (Q : Int32 → HH → Prop) (X : String → Nat → HH → Prop) (hw : wp_X6_kind G mc ms h a0 Q X) : vx_Met l yX6_kind (ws_ yX6_kind cX6_kind 1 (some FieldType.char)) (rm_X6_kind mc ms) (hv_Pc G h sz [.ref a0]) (hv_Qi G h sz Q) (hv_XC G h sz X) mc ms (hv_A h sz) := by
  refine vx_ofW (cc := cX6_kind) (maxL := 1) (ret := (some FieldType.char)) (by decide) rfl ?_
  intro p e s m args below meth c s₁ B hml ht hv
  obtain ⟨rfl, rfl, hE, hI⟩ := hv_open B hml hv
  have hE : hv_E p s m ([.ref a0] : List Value).toArray meth c cX6_kind 1 (some FieldType.char) RX6 G h := hE
  obtain ⟨⟨hx, hb, hml, hown, hts⟩, hr, hlocks, hXX⟩ := id hE
  have hl := lv_entry ([.ref a0] : List Value) (n := 1) (Nat.le_of_ble_eq_true rfl)
  rw [lg_entry_eq]
  generalize (lg_sl ([.ref a0] : List Value) ++ List.replicate (1 - (lg_sl ([.ref a0] : List Value)).length) Slot.unset).toArray = ls at hl ⊢
  have hl : lv_has ls 1 [(0, .ref a0)] := hl
  have hc : 0 ≤ mc := Nat.zero_le _
  have hs : 0 ≤ ms := Nat.zero_le _
  unfold wp_X6_kind at hw
  refine lv_bipush (v := 97) hx hb dX6_kind_0 (by decide) ?_
  refine lv_aload_n hx hb dX6_kind_2 rfl (lv_at hl 0 rfl) ?_
  refine lv_bipush (v := 97) hx hb dX6_kind_3 (by decide) ?_
  refine lv_bipush (v := 102) hx hb dX6_kind_5 (by decide) ?_
  obtain ⟨mc1, ms1, hc, hs, hw⟩ := hw
  obtain ⟨⟨fs, hre⟩, hw⟩ := hw
  refine hx_rci hI (vx_runV (As := [.int (97 : Int32), .int (102 : Int32)]) (b := a0) (rest := [.int (97 : Int32)]) hE.1 (snd_X6_take l G _ mc1 ms1 h a0 (97 : Int32) (102 : Int32) _ _ hw) (cwV 2 hts (lw_V q698 q700 qs11 q110 q701) rfl rfl rfl (by decide +kernel) ⟨Nat.le_of_ble_eq_true rfl, Nat.le_of_ble_eq_true rfl⟩) (hv_preV hE hI (ci := 9) rfl hre) rfl rfl hl.1 rfl (lv_room (Nat.le_of_ble_eq_true rfl)) dX6_kind_7 ⟨hc, hs⟩) ?_ (fun r2 h3 H locs hw hI => ?_)
  · intro E q4 h5 H locs hw hI hT
    exact hx_out hE hI hT hc hs (fun z hz => (ht z hz).elim) hw
  refine lv_iadd hx hb dX6_kind_10 ?_
  refine lv_i2c (v := ((Int32.toUInt32 ((97 : Int32) + r2)) % 65536).toInt32) hx hb dX6_kind_11 rfl ?_
  obtain ⟨hnr, hw⟩ := hw
  exact vx_ret (hv_zret hE hI hc hs hnr hw dX6_kind_12)

/-- MatchmakerRules$Parser.digit()I -/
abbrev rm_X6_digit (mc ms : Nat) : Room := { frames := 7, cells := mc, slots := ms, locals := 144 }
def wp_X6_digit (G : GG) (mc : Nat) (ms : Nat) (h : HH) (a0 : Nat) (Q : Int32 → HH → Prop) (X : String → Nat → HH → Prop) : Prop := (∃ mc1 ms1, 0 + mc1 ≤ mc ∧ 0 + ms1 ≤ ms ∧ w_is h a0 9 (wp_X6_take G mc1 ms1 h a0 (48 : Int32) (57 : Int32) (fun r2 h3 => Q r2 h3) (fun E q4 h5 => X E q4 h5)))
set_option maxHeartbeats 4000000 in
theorem snd_X6_digit (l : Launch) (G : GG) (sz : Nat) (mc : Nat) (ms : Nat) (h : HH) (a0 : Nat) (Q : Int32 → HH → Prop) (X : String → Nat → HH → Prop) (hw : wp_X6_digit G mc ms h a0 Q X) : vx_Met l yX6_digit (ws_ yX6_digit cX6_digit 1 (some FieldType.int)) (rm_X6_digit mc ms) (hv_Pc G h sz [.ref a0]) (hv_Qi G h sz Q) (hv_XC G h sz X) mc ms (hv_A h sz) := by
  refine vx_ofW (cc := cX6_digit) (maxL := 1) (ret := (some FieldType.int)) (by decide) rfl ?_
  intro p e s m args below meth c s₁ B hml ht hv
  obtain ⟨rfl, rfl, hE, hI⟩ := hv_open B hml hv
  have hE : hv_E p s m ([.ref a0] : List Value).toArray meth c cX6_digit 1 (some FieldType.int) RX6 G h := hE
  obtain ⟨⟨hx, hb, hml, hown, hts⟩, hr, hlocks, hXX⟩ := id hE
  have hl := lv_entry ([.ref a0] : List Value) (n := 1) (Nat.le_of_ble_eq_true rfl)
  rw [lg_entry_eq]
  generalize (lg_sl ([.ref a0] : List Value) ++ List.replicate (1 - (lg_sl ([.ref a0] : List Value)).length) Slot.unset).toArray = ls at hl ⊢
  have hl : lv_has ls 1 [(0, .ref a0)] := hl
  have hc : 0 ≤ mc := Nat.zero_le _
  have hs : 0 ≤ ms := Nat.zero_le _
  unfold wp_X6_digit at hw
  refine lv_aload_n hx hb dX6_digit_0 rfl (lv_at hl 0 rfl) ?_
  refine lv_bipush (v := 48) hx hb dX6_digit_1 (by decide) ?_
  refine lv_bipush (v := 57) hx hb dX6_digit_3 (by decide) ?_
  obtain ⟨mc1, ms1, hc, hs, hw⟩ := hw
  obtain ⟨⟨fs, hre⟩, hw⟩ := hw
  refine hx_rci hI (vx_runV (As := [.int (48 : Int32), .int (57 : Int32)]) (b := a0) (rest := []) hE.1 (snd_X6_take l G _ mc1 ms1 h a0 (48 : Int32) (57 : Int32) _ _ hw) (cwV 2 hts (lw_V q698 q700 qs11 q110 q701) rfl rfl rfl (by decide +kernel) ⟨Nat.le_of_ble_eq_true rfl, Nat.le_of_ble_eq_true rfl⟩) (hv_preV hE hI (ci := 9) rfl hre) rfl rfl hl.1 rfl (lv_room (Nat.le_of_ble_eq_true rfl)) dX6_digit_5 ⟨hc, hs⟩) ?_ (fun r2 h3 H locs hw hI => ?_)
  · intro E q4 h5 H locs hw hI hT
    exact hx_out hE hI hT hc hs (fun z hz => (ht z hz).elim) hw
  exact vx_ret (hv_iret hE hI hc hs hw dX6_digit_8)

/-- MatchmakerRules$Parser.term(I)I -/
abbrev rm_X6_term (mc ms : Nat) : Room := { frames := 8, cells := mc, slots := ms, locals := 164 }
def wp_X6_term (G : GG) (mc : Nat) (ms : Nat) (h : HH) (a0 : Nat) (x1 : Int32) (Q : Int32 → HH → Prop) (X : String → Nat → HH → Prop) : Prop := w_is h a0 9 (wp_X6_isNext G h a0 (88 : Int32) (90 : Int32) (fun r1 h2 => ((¬ r1 = 0 → w_getq h2 a0 9 0 (fun r3 => w_geti h2 a0 9 1 (fun r4 => w_nn r3 (fun a5 => w_is h2 a5 6 (wp_J5_charAt G h2 a5 r4 (fun r6 h7 => ((¬ ((x1 >>> ((r6 - (88 : Int32)) &&& 31)) &&& (1 : Int32)) = 0 → w_geti h7 a0 9 1 (fun r8 => w_put h7 a0 9 1 (.int (r8 + (1 : Int32))) (fun h9 => Q ((10 : Int32) + (r6 - (88 : Int32))) h9))) ∧ (((x1 >>> ((r6 - (88 : Int32)) &&& 31)) &&& (1 : Int32)) = 0 → (0 + 1 ≤ mc ∧ 0 + 7 ≤ ms ∧ w_new h7 (.inr (10, df_X7)) (fun a10 h11 => w_geti h11 a0 9 1 (fun r12 => wp_X7_init G h11 a10 r12 (fun h13 => w_is h13 a10 10 (X "MatchmakerRules$SyntaxException" a10 h13))))))))))))) ∧ (r1 = 0 → (∃ mc14 ms14, 0 + mc14 ≤ mc ∧ 0 + ms14 ≤ ms ∧ w_is h2 a0 9 (wp_X6_digit G mc14 ms14 h2 a0 (fun r15 h16 => Q r15 h16) (fun E q17 h18 => X E q17 h18)))))))
set_option maxHeartbeats 4000000 in
theorem snd_X6_term (l : Launch) (G : GG) (sz : Nat) (mc : Nat) (ms : Nat) (h : HH) (a0 : Nat) (x1 : Int32) (Q : Int32 → HH → Prop) (X : String → Nat → HH → Prop) (hw : wp_X6_term G mc ms h a0 x1 Q X) : vx_Met l yX6_term (ws_ yX6_term cX6_term 3 (some FieldType.int)) (rm_X6_term mc ms) (hv_Pc G h sz [.ref a0, .int x1]) (hv_Qi G h sz Q) (hv_XC G h sz X) mc ms (hv_A h sz) := by
  refine vx_ofW (cc := cX6_term) (maxL := 3) (ret := (some FieldType.int)) (by decide) rfl ?_
  intro p e s m args below meth c s₁ B hml ht hv
  obtain ⟨rfl, rfl, hE, hI⟩ := hv_open B hml hv
  have hE : hv_E p s m ([.ref a0, .int x1] : List Value).toArray meth c cX6_term 3 (some FieldType.int) RX6 G h := hE
  obtain ⟨⟨hx, hb, hml, hown, hts⟩, hr, hlocks, hXX⟩ := id hE
  have hl := lv_entry ([.ref a0, .int x1] : List Value) (n := 3) (Nat.le_of_ble_eq_true rfl)
  rw [lg_entry_eq]
  generalize (lg_sl ([.ref a0, .int x1] : List Value) ++ List.replicate (3 - (lg_sl ([.ref a0, .int x1] : List Value)).length) Slot.unset).toArray = ls at hl ⊢
  have hl : lv_has ls 3 [(0, .ref a0), (1, .int x1)] := hl
  have hc : 0 ≤ mc := Nat.zero_le _
  have hs : 0 ≤ ms := Nat.zero_le _
  unfold wp_X6_term at hw
  refine lv_aload_n hx hb dX6_term_0 rfl (lv_at hl 0 rfl) ?_
  refine lv_bipush (v := 88) hx hb dX6_term_1 (by decide) ?_
  refine lv_bipush (v := 90) hx hb dX6_term_3 (by decide) ?_
  obtain ⟨⟨fs, hre⟩, hw⟩ := hw
  refine hv_rci hI (va_runV (As := [.int (88 : Int32), .int (90 : Int32)]) (b := a0) (rest := []) hE.1 (snd_X6_isNext l G _ h a0 (88 : Int32) (90 : Int32) _ hw) (cwV 2 hts (lw_V q702 q704 qs12 q110 q705) rfl rfl rfl (by decide +kernel) ⟨Nat.le_of_ble_eq_true rfl, Nat.le_of_ble_eq_true rfl⟩) (hv_preV hE hI (ci := 9) rfl hre) rfl rfl hl.1 rfl (lv_room (Nat.le_of_ble_eq_true rfl)) dX6_term_5 ⟨hc, hs⟩) (fun r1 h2 H locs hw hI => ?_)
  refine lv_if_ne (tgt := 16) hx hb dX6_term_8 (by decide) (fun c_8 => ?_) (fun c_8 => ?_)
  · have hw := hw.1 c_8
    refine lv_aload_n hx hb dX6_term_16 rfl (lv_at hl 0 rfl) ?_
    refine hv_wgetq hE hI in_X6 (ci := 9) rfl 0 (by decide) (hts _ q675) (fun _ hx => hx) hw dX6_term_17 (fun r3 hw => ?_)
    refine lv_aload_n hx hb dX6_term_20 rfl (lv_at hl 0 rfl) ?_
    refine hv_wgeti hE hI in_X6 (ci := 9) rfl 1 (by decide) (hts _ q676) (fun _ hx => hx) hw dX6_term_21 (fun r4 hw => ?_)
    obtain ⟨a5, hz, hwa5⟩ := hw; have hla5 := hl; subst hz; have hw := hwa5; have hl := hla5
    obtain ⟨⟨fs, hre⟩, hw⟩ := hw
    refine hv_rFi hI (va_runF (As := [.int r4]) (b := a5) (rest := []) (hXX.1.1 6 _ rfl).2 hE.1 (snd_J5_charAt l G _ h2 a5 r4 _ hw) (va_cwF 1 hts (lw_F q730 q770 q772 q105 q774) rfl rfl rfl (hv_fw4 hE.2.2.2.2.1) (by decide +kernel) ⟨Nat.le_of_ble_eq_true rfl, Nat.le_of_ble_eq_true rfl⟩) (hv_preV hE hI (ci := 6) rfl hre) rfl rfl hl.1 rfl (lv_room (Nat.le_of_ble_eq_true rfl)) dX6_term_24 ⟨hc, hs⟩) (fun r6 h7 H locs hw hI => ?_)
    refine lv_bipush (v := 88) hx hb dX6_term_29 (by decide) ?_
    refine lv_isub hx hb dX6_term_31 ?_
    refine lv_istore_n (lv' := [(2, .int (r6 - (88 : Int32))), (0, .ref a0), (1, .int x1)]) hx hb dX6_term_32 rfl hl (by decide) rfl (fun ls hl => ?_)
    refine lv_iload_n hx hb dX6_term_33 rfl (lv_at hl 2 rfl) ?_
    refine lv_iload_n hx hb dX6_term_34 rfl (lv_at hl 0 rfl) ?_
    refine lv_ishr hx hb dX6_term_35 ?_
    refine lv_iconst (v := 1) hx hb dX6_term_36 (by decide) ?_
    refine lv_iand hx hb dX6_term_37 ?_
    refine lv_if_ne (tgt := 53) hx hb dX6_term_38 (by decide) (fun c_38 => ?_) (fun c_38 => ?_)
    · have hw := hw.1 c_38
      refine lv_aload_n hx hb dX6_term_53 rfl (lv_at hl 1 rfl) ?_
      refine lv_dup hx hb dX6_term_54 rfl ?_
      refine hv_wgeti hE hI in_X6 (ci := 9) rfl 1 (by decide) (hts _ q676) (fun _ hx => hx) hw dX6_term_55 (fun r8 hw => ?_)
      refine lv_iconst (v := 1) hx hb dX6_term_58 (by decide) ?_
      refine lv_iadd hx hb dX6_term_59 ?_
      refine hv_wput (v := .int (r8 + (1 : Int32))) tyX6 hE hI in_X6 tyX6_ok nmX6 (ci := 9) rfl 1 (by decide) (hts _ q676) (fun _ hx => hx) rfl (ty := .int) rfl rfl rfl hw dX6_term_60 (fun h9 H locs hw hI => ?_)
      refine lv_bipush (v := 10) hx hb dX6_term_63 (by decide) ?_
      refine lv_iload_n hx hb dX6_term_65 rfl (lv_at hl 0 rfl) ?_
      refine lv_iadd hx hb dX6_term_66 ?_
      exact vx_ret (hv_iret hE hI hc hs hw dX6_term_67)
    · have hw := hw.2 c_38
      obtain ⟨hc, hs, hw⟩ := hw
      refine hv_wnew tyX7 hE hI in_X7 tyX7_ok (hts _ q784) (hts _ q785) (hts _ q116) (ci := 10) rfl df_X7_ok hw hc hs dX6_term_41 (fun a10 h11 H hw hI => ?_)
      refine lv_dup hx hb dX6_term_44 rfl ?_
      refine lv_aload_n hx hb dX6_term_45 rfl (lv_at hl 1 rfl) ?_
      refine hv_wgeti hE hI in_X6 (ci := 9) rfl 1 (by decide) (hts _ q676) (fun _ hx => hx) hw dX6_term_46 (fun r12 hw => ?_)
      refine hv_rcv hI (va_runI (As := [.int r12]) (b := a10) (rest := [.ref a10]) hE.1 (snd_X7_init l G _ h11 a10 r12 _ hw) (cwI 1 hts (lw_meth q795) rfl rfl rfl (hts _ q116) (hts _ q793) (hts _ q794) rfl (by decide +kernel) ⟨Nat.le_of_ble_eq_true rfl, Nat.le_of_ble_eq_true rfl⟩) (hv_preS hE hI) rfl rfl hl.1 rfl (lv_room (Nat.le_of_ble_eq_true rfl)) dX6_term_49 ⟨hc, hs⟩) (fun h13 H locs hw hI => ?_)
      obtain ⟨⟨fs, hre⟩, hw⟩ := hw
      exact hx_athrow (E := "MatchmakerRules$SyntaxException") hE dX6_term_52 (hx_out hE hI (hv_Tof (ci := 10) hE hI rfl hre) hc hs (fun z hz => (ht z hz).elim) hw)
  · have hw := hw.2 c_8
    refine lv_aload_n hx hb dX6_term_11 rfl (lv_at hl 0 rfl) ?_
    obtain ⟨mc14, ms14, hc, hs, hw⟩ := hw
    obtain ⟨⟨fs, hre⟩, hw⟩ := hw
    refine hx_rci hI (vx_runV (As := []) (b := a0) (rest := []) hE.1 (snd_X6_digit l G _ mc14 ms14 h2 a0 _ _ hw) (cwV 0 hts (lw_V q812 q814 qs14 q110 q815) rfl rfl rfl (by decide +kernel) ⟨Nat.le_of_ble_eq_true rfl, Nat.le_of_ble_eq_true rfl⟩) (hv_preV hE hI (ci := 9) rfl hre) rfl rfl hl.1 rfl (lv_room (Nat.le_of_ble_eq_true rfl)) dX6_term_12 ⟨hc, hs⟩) ?_ (fun r15 h16 H locs hw hI => ?_)
    · intro E q17 h18 H locs hw hI hT
      exact hx_out hE hI hT hc hs (fun z hz => (ht z hz).elim) hw
    exact vx_ret (hv_iret hE hI hc hs hw dX6_term_15)
