/-! walks over a world (by gen/hvrun.py) -/
set_option maxRecDepth 100000
/-- java/lang/AbstractStringBuilder.append(I)Ljava/lang/AbstractStringBuilder; -/
abbrev rm_J4_append_2 (mc ms : Nat) : Room := { frames := 4, cells := mc, slots := ms, locals := 108 }
def wp_J4_append_2 (G : GG) (mc : Nat) (ms : Nat) (h : HH) (a0 : Nat) (x1 : Int32) (Q : Option Nat → HH → Prop) : Prop := w_geti h a0 6 3 (fun r1 => wp_J26_stringSize G h x1 (fun r2 h3 => (∃ mc4 ms4, 0 + mc4 ≤ mc ∧ 0 + ms4 ≤ ms ∧ w_is h3 a0 6 (wp_J4_ensureCapacityInternal G mc4 ms4 h3 a0 (r1 + r2) (fun h5 => w_is h5 a0 6 (wp_J4_isLatin1 G h5 a0 (fun r6 h7 => ((r6 = 0 → w_getq h7 a0 6 0 (fun r8 => False)) ∧ (¬ r6 = 0 → w_getq h7 a0 6 0 (fun r9 => wp_J26_getChars G h7 x1 (r1 + r2) r9 (fun r10 h11 => w_put h11 a0 6 3 (.int (r1 + r2)) (fun h12 => Q (some a0) h12))))))))))))
set_option maxHeartbeats 4000000 in
theorem snd_J4_append_2 (l : Launch) (G : GG) (sz : Nat) (mc : Nat) (ms : Nat) (h : HH) (a0 : Nat) (x1 : Int32) (Q : Option Nat → HH → Prop) (hw : wp_J4_append_2 G mc ms h a0 x1 Q) : Met l yJ4_append_2 (ws_ yJ4_append_2 cJ4_append_2 4 (some (FieldType.object "java/lang/AbstractStringBuilder"))) (rm_J4_append_2 mc ms) (hv_Pc G h sz [.ref a0, .int x1]) (hv_Qq G h sz Q) mc ms (hv_A h sz) := by
  refine Met.ofW (cc := cJ4_append_2) (maxL := 4) (ret := (some (FieldType.object "java/lang/AbstractStringBuilder"))) (by decide) rfl ?_
  intro p e s m args below meth c s₁ B hml hv
  obtain ⟨rfl, rfl, hE, hI⟩ := hv_open B hml hv
  have hE : hv_E p s m ([.ref a0, .int x1] : List Value).toArray meth c cJ4_append_2 4 (some (FieldType.object "java/lang/AbstractStringBuilder")) RJ4 G h := hE
  obtain ⟨⟨hx, hb, hml, hown, hts⟩, hr, hlocks, hXX⟩ := id hE
  have hl := lv_entry ([.ref a0, .int x1] : List Value) (n := 4) (Nat.le_of_ble_eq_true rfl)
  rw [lg_entry_eq]
  generalize (lg_sl ([.ref a0, .int x1] : List Value) ++ List.replicate (4 - (lg_sl ([.ref a0, .int x1] : List Value)).length) Slot.unset).toArray = ls at hl ⊢
  have hl : lv_has ls 4 [(0, .ref a0), (1, .int x1)] := hl
  have hc : 0 ≤ mc := Nat.zero_le _
  have hs : 0 ≤ ms := Nat.zero_le _
  unfold wp_J4_append_2 at hw
  refine lv_aload_n hx hb dJ4_append_2_0 rfl (lv_at hl 0 rfl) ?_
  refine hv_wgeti hE hI in_J5 (ci := 6) rfl 3 (by decide) (hts _ q288) (fun _ hx => hx) hw dJ4_append_2_1 (fun r1 hw => ?_)
  refine lv_istore_n (lv' := [(2, .int r1), (0, .ref a0), (1, .int x1)]) hx hb dJ4_append_2_4 rfl hl (by decide) rfl (fun ls hl => ?_)
  refine lv_iload_n hx hb dJ4_append_2_5 rfl (lv_at hl 0 rfl) ?_
  refine lv_iload_n hx hb dJ4_append_2_6 rfl (lv_at hl 2 rfl) ?_
  refine hv_rci hI (va_runS (As := [.int x1]) (rest := [.int r1]) hE.1 (snd_J26_stringSize l G _ h x1 _ hw) (va_cwS 1 hts (lw_S q1627 q1628 q137 q1629) rfl rfl rfl (by decide +kernel) ⟨Nat.le_of_ble_eq_true rfl, Nat.le_of_ble_eq_true rfl⟩) (hv_preS hE hI) rfl rfl hl.1 rfl (lv_room (Nat.le_of_ble_eq_true rfl)) dJ4_append_2_7 ⟨hc, hs⟩) (fun r2 h3 H locs hw hI => ?_)
  refine lv_iadd hx hb dJ4_append_2_10 ?_
  refine lv_istore_n (lv' := [(3, .int (r1 + r2)), (2, .int r1), (0, .ref a0), (1, .int x1)]) hx hb dJ4_append_2_11 rfl hl (by decide) rfl (fun ls hl => ?_)
  refine lv_aload_n hx hb dJ4_append_2_12 rfl (lv_at hl 2 rfl) ?_
  refine lv_iload_n hx hb dJ4_append_2_13 rfl (lv_at hl 0 rfl) ?_
  obtain ⟨mc4, ms4, hc, hs, hw⟩ := hw
  obtain ⟨⟨fs, hre⟩, hw⟩ := hw
  refine hv_rcv hI (va_runU (As := [.int (r1 + r2)]) (b := a0) (rest := []) hE.1 (snd_J4_ensureCapacityInternal l G _ mc4 ms4 h3 a0 (r1 + r2) _ hw) (hv_cwUP 1 hts q1565 q2513 q1567 q104 q1568 (hv_selP (z := ⟨"java/lang/AbstractStringBuilder", "isLatin1", "()Z"⟩) (by decide +kernel) (hts _ q268) ((hE.2.2.2.2.1.P 0 rfl).use rfl) (hts _ q1567) (hts _ q1586) rfl) rfl rfl (by decide +kernel) ⟨Nat.le_of_ble_eq_true rfl, Nat.le_of_ble_eq_true rfl⟩) (hv_preV hE hI (ci := 6) rfl hre) rfl rfl hl.1 rfl (lv_room (Nat.le_of_ble_eq_true rfl)) dJ4_append_2_14 ⟨hc, hs⟩) (fun h5 H locs hw hI => ?_)
  refine lv_aload_n hx hb dJ4_append_2_17 rfl (lv_at hl 2 rfl) ?_
  obtain ⟨⟨fs, hre⟩, hw⟩ := hw
  refine hv_rci hI (va_runU (As := []) (b := a0) (rest := []) hE.1 (snd_J4_isLatin1 l G _ h5 a0 _ hw) (va_cwU 0 hts (lw_U q1583 q1585 q1586 q1584 q104 q1587) rfl rfl rfl rfl (by decide +kernel) ⟨Nat.le_of_ble_eq_true rfl, Nat.le_of_ble_eq_true rfl⟩) (hv_preV hE hI (ci := 6) rfl hre) rfl rfl hl.1 rfl (lv_room (Nat.le_of_ble_eq_true rfl)) dJ4_append_2_18 ⟨hc, hs⟩) (fun r6 h7 H locs hw hI => ?_)
  refine lv_if_eq (tgt := 37) hx hb dJ4_append_2_21 (by decide) (fun c_21 => ?_) (fun c_21 => ?_)
  · have hw := hw.1 c_21
    refine lv_iload_n hx hb dJ4_append_2_37 rfl (lv_at hl 3 rfl) ?_
    refine lv_iload_n hx hb dJ4_append_2_38 rfl (lv_at hl 1 rfl) ?_
    refine lv_iload_n hx hb dJ4_append_2_39 rfl (lv_at hl 0 rfl) ?_
    refine lv_aload_n hx hb dJ4_append_2_40 rfl (lv_at hl 2 rfl) ?_
    refine hv_wgetq hE hI in_J5 (ci := 6) rfl 0 (by decide) (hts _ q285) (fun _ hx => hx) hw dJ4_append_2_41 (fun r8 hw => ?_)
    exact hw.elim
  · have hw := hw.2 c_21
    refine lv_iload_n hx hb dJ4_append_2_24 rfl (lv_at hl 3 rfl) ?_
    refine lv_iload_n hx hb dJ4_append_2_25 rfl (lv_at hl 0 rfl) ?_
    refine lv_aload_n hx hb dJ4_append_2_26 rfl (lv_at hl 2 rfl) ?_
    refine hv_wgetq hE hI in_J5 (ci := 6) rfl 0 (by decide) (hts _ q285) (fun _ hx => hx) hw dJ4_append_2_27 (fun r9 hw => ?_)
    refine hv_rci hI (va_runS (As := [.int x1, .int (r1 + r2), va_rf r9]) (rest := []) hE.1 (snd_J26_getChars l G _ h7 x1 (r1 + r2) r9 _ hw) (va_cwS 3 hts (lw_S q1630 q1631 q137 q1632) rfl rfl rfl (by decide +kernel) ⟨Nat.le_of_ble_eq_true rfl, Nat.le_of_ble_eq_true rfl⟩) (hv_preS hE hI) rfl rfl hl.1 rfl (lv_room (Nat.le_of_ble_eq_true rfl)) dJ4_append_2_30 ⟨hc, hs⟩) (fun r10 h11 H locs hw hI => ?_)
    refine lv_pop hx hb dJ4_append_2_33 rfl ?_
    refine lv_goto (tgt := 48) hx hb dJ4_append_2_34 (by decide) ?_
    refine lv_aload_n hx hb dJ4_append_2_48 rfl (lv_at hl 2 rfl) ?_
    refine lv_iload_n hx hb dJ4_append_2_49 rfl (lv_at hl 0 rfl) ?_
    refine hv_wput (v := .int (r1 + r2)) tyJ5 hE hI in_J5 tyJ5_ok nmJ5 (ci := 6) rfl 3 (by decide) (hts _ q288) (fun _ hx => hx) rfl (ty := .int) rfl rfl rfl hw dJ4_append_2_50 (fun h12 H locs hw hI => ?_)
    refine lv_aload_n hx hb dJ4_append_2_53 rfl (lv_at hl 2 rfl) ?_
    exact hv_qret (v := (some a0)) hE (Or.inl ⟨_, rfl⟩) hI hc hs hw dJ4_append_2_54

/-- java/lang/StringBuilder.append(I)Ljava/lang/StringBuilder; -/
abbrev rm_J5_append_2 (mc ms : Nat) : Room := { frames := 5, cells := mc, slots := ms, locals := 131 }
def wp_J5_append_2 (G : GG) (mc : Nat) (ms : Nat) (h : HH) (a0 : Nat) (x1 : Int32) (Q : Option Nat → HH → Prop) : Prop := (∃ mc1 ms1, 0 + mc1 ≤ mc ∧ 0 + ms1 ≤ ms ∧ w_is h a0 6 (wp_J4_append_2 G mc1 ms1 h a0 x1 (fun r2 h3 => Q (some a0) h3)))
set_option maxHeartbeats 4000000 in
theorem snd_J5_append_2 (l : Launch) (G : GG) (sz : Nat) (mc : Nat) (ms : Nat) (h : HH) (a0 : Nat) (x1 : Int32) (Q : Option Nat → HH → Prop) (hw : wp_J5_append_2 G mc ms h a0 x1 Q) : Met l yJ5_append_2 (ws_ yJ5_append_2 cJ5_append_2 2 (some (FieldType.object "java/lang/StringBuilder"))) (rm_J5_append_2 mc ms) (hv_Pc G h sz [.ref a0, .int x1]) (hv_Qq G h sz Q) mc ms (hv_A h sz) := by
  refine Met.ofW (cc := cJ5_append_2) (maxL := 2) (ret := (some (FieldType.object "java/lang/StringBuilder"))) (by decide) rfl ?_
  intro p e s m args below meth c s₁ B hml hv
  obtain ⟨rfl, rfl, hE, hI⟩ := hv_open B hml hv
  have hE : hv_E p s m ([.ref a0, .int x1] : List Value).toArray meth c cJ5_append_2 2 (some (FieldType.object "java/lang/StringBuilder")) RJ5 G h := hE
  obtain ⟨⟨hx, hb, hml, hown, hts⟩, hr, hlocks, hXX⟩ := id hE
  have hl := lv_entry ([.ref a0, .int x1] : List Value) (n := 2) (Nat.le_of_ble_eq_true rfl)
  rw [lg_entry_eq]
  generalize (lg_sl ([.ref a0, .int x1] : List Value) ++ List.replicate (2 - (lg_sl ([.ref a0, .int x1] : List Value)).length) Slot.unset).toArray = ls at hl ⊢
  have hl : lv_has ls 2 [(0, .ref a0), (1, .int x1)] := hl
  have hc : 0 ≤ mc := Nat.zero_le _
  have hs : 0 ≤ ms := Nat.zero_le _
  unfold wp_J5_append_2 at hw
  refine lv_aload_n hx hb dJ5_append_2_0 rfl (lv_at hl 0 rfl) ?_
  refine lv_iload_n hx hb dJ5_append_2_1 rfl (lv_at hl 1 rfl) ?_
  obtain ⟨mc1, ms1, hc, hs, hw⟩ := hw
  obtain ⟨⟨fs, hre⟩, hw⟩ := hw
  refine hv_rcq hI (va_runSU (As := [.int x1]) (b := a0) (rest := []) (hXX.1.1 6 _ rfl).2 hE.1 (snd_J4_append_2 l G _ mc1 ms1 h a0 x1 _ hw) (va_cwSU 1 hts (lw_SU q1624 q2516 q297 q1625 q104 q1626) rfl rfl rfl (by decide +kernel) ⟨Nat.le_of_ble_eq_true rfl, Nat.le_of_ble_eq_true rfl⟩) (hv_preV hE hI (ci := 6) rfl hre) rfl rfl hl.1 rfl (lv_room (Nat.le_of_ble_eq_true rfl)) dJ5_append_2_2 ⟨hc, hs⟩) (fun r2 h3 H locs hw hI => ?_)
  refine lv_pop hx hb dJ5_append_2_5 (va_rf_cat _) ?_
  refine lv_aload_n hx hb dJ5_append_2_6 rfl (lv_at hl 0 rfl) ?_
  exact hv_qret (v := (some a0)) hE (Or.inl ⟨_, rfl⟩) hI hc hs hw dJ5_append_2_7

/-- java/lang/AbstractStringBuilder.getValue()[B -/
abbrev rm_J4_getValue : Room := { frames := 1, cells := 0, slots := 0, locals := 12 }
def wp_J4_getValue (G : GG) (h : HH) (a0 : Nat) (Q : Option Nat → HH → Prop) : Prop := w_getq h a0 6 0 (fun r1 => Q r1 h)
set_option maxHeartbeats 4000000 in
theorem snd_J4_getValue (l : Launch) (G : GG) (sz : Nat) (h : HH) (a0 : Nat) (Q : Option Nat → HH → Prop) (hw : wp_J4_getValue G h a0 Q) : Met l yJ4_getValue (ws_ yJ4_getValue cJ4_getValue 1 (some (FieldType.array FieldType.byte))) rm_J4_getValue (hv_Pc G h sz [.ref a0]) (hv_Qq G h sz Q) 0 0 (hv_A h sz) := by
  refine Met.ofW (cc := cJ4_getValue) (maxL := 1) (ret := (some (FieldType.array FieldType.byte))) (by decide) rfl ?_
  intro p e s m args below meth c s₁ B hml hv
  obtain ⟨rfl, rfl, hE, hI⟩ := hv_open B hml hv
  have hE : hv_E p s m ([.ref a0] : List Value).toArray meth c cJ4_getValue 1 (some (FieldType.array FieldType.byte)) RJ4 G h := hE
  obtain ⟨⟨hx, hb, hml, hown, hts⟩, hr, hlocks, hXX⟩ := id hE
  have hl := lv_entry ([.ref a0] : List Value) (n := 1) (Nat.le_of_ble_eq_true rfl)
  rw [lg_entry_eq]
  generalize (lg_sl ([.ref a0] : List Value) ++ List.replicate (1 - (lg_sl ([.ref a0] : List Value)).length) Slot.unset).toArray = ls at hl ⊢
  have hl : lv_has ls 1 [(0, .ref a0)] := hl
  unfold wp_J4_getValue at hw
  refine lv_aload_n hx hb dJ4_getValue_0 rfl (lv_at hl 0 rfl) ?_
  refine hv_wgetq hE hI in_J5 (ci := 6) rfl 0 (by decide) (hts _ q285) (fun _ hx => hx) hw dJ4_getValue_1 (fun r1 hw => ?_)
  exact hv_qret (v := r1) hE (Or.inr ⟨_, rfl⟩) hI (Nat.le_refl _) (Nat.le_refl _) hw dJ4_getValue_4

/-- java/lang/String.coder()B -/
abbrev rm_J6_coder : Room := { frames := 1, cells := 0, slots := 0, locals := 12 }
def wp_J6_coder (G : GG) (h : HH) (a0 : Nat) (Q : Int32 → HH → Prop) : Prop := (((1 : Int32) = 0 → Q (1 : Int32) h) ∧ (¬ (1 : Int32) = 0 → w_getSc G h a0 (fun r1 => (narrow .byte (.int r1) = .int r1 ∧ Q r1 h))))
set_option maxHeartbeats 4000000 in
theorem snd_J6_coder (l : Launch) (G : GG) (sz : Nat) (h : HH) (a0 : Nat) (Q : Int32 → HH → Prop) (hw : wp_J6_coder G h a0 Q) : Met l yJ6_coder (ws_ yJ6_coder cJ6_coder 1 (some FieldType.byte)) rm_J6_coder (hv_Pc G h sz [.ref a0]) (hv_Qi G h sz Q) 0 0 (hv_A h sz) := by
  refine Met.ofW (cc := cJ6_coder) (maxL := 1) (ret := (some FieldType.byte)) (by decide) rfl ?_
  intro p e s m args below meth c s₁ B hml hv
  obtain ⟨rfl, rfl, hE, hI⟩ := hv_open B hml hv
  have hE : hv_E p s m ([.ref a0] : List Value).toArray meth c cJ6_coder 1 (some FieldType.byte) RJ6 G h := hE
  obtain ⟨⟨hx, hb, hml, hown, hts⟩, hr, hlocks, hXX⟩ := id hE
  have hl := lv_entry ([.ref a0] : List Value) (n := 1) (Nat.le_of_ble_eq_true rfl)
  rw [lg_entry_eq]
  generalize (lg_sl ([.ref a0] : List Value) ++ List.replicate (1 - (lg_sl ([.ref a0] : List Value)).length) Slot.unset).toArray = ls at hl ⊢
  have hl : lv_has ls 1 [(0, .ref a0)] := hl
  unfold wp_J6_coder at hw
  refine hv_gets hE hI (hv_zH hE).2.2.1 (hts _ q603) (fun _ hx => hx) dJ6_coder_0 ?_
  refine lv_if_eq (tgt := 13) hx hb dJ6_coder_3 (by decide) (fun c_3 => ?_) (fun c_3 => ?_)
  · have hw := hw.1 c_3
    refine lv_iconst (v := 1) hx hb dJ6_coder_13 (by decide) ?_
    exact hv_zret hE hI (Nat.le_refl _) (Nat.le_refl _) rfl hw dJ6_coder_14
  · have hw := hw.2 c_3
    refine lv_aload_n hx hb dJ6_coder_6 rfl (lv_at hl 0 rfl) ?_
    refine hv_wgetSc hE hI (hts _ q1733) hw dJ6_coder_7 (fun r1 hw => ?_)
    refine lv_goto (tgt := 14) hx hb dJ6_coder_10 (by decide) ?_
    obtain ⟨hnr, hw⟩ := hw
    exact hv_zret hE hI (Nat.le_refl _) (Nat.le_refl _) hnr hw dJ6_coder_14

/-- java/lang/String.length()I -/
abbrev rm_J6_length : Room := { frames := 2, cells := 0, slots := 0, locals := 32 }
def wp_J6_length (G : GG) (h : HH) (a0 : Nat) (Q : Int32 → HH → Prop) : Prop := w_getSv G h a0 (fun r1 => w_nn r1 (fun a2 => w_len G h a2 (fun r3 => w_isS G h a0 (wp_J6_coder G h a0 (fun r4 h5 => Q (r3 >>> (r4 &&& 31)) h5)))))
set_option maxHeartbeats 4000000 in
theorem snd_J6_length (l : Launch) (G : GG) (sz : Nat) (h : HH) (a0 : Nat) (Q : Int32 → HH → Prop) (hw : wp_J6_length G h a0 Q) : Met l yJ6_length (ws_ yJ6_length cJ6_length 1 (some FieldType.int)) rm_J6_length (hv_Pc G h sz [.ref a0]) (hv_Qi G h sz Q) 0 0 (hv_A h sz) := by
  refine Met.ofW (cc := cJ6_length) (maxL := 1) (ret := (some FieldType.int)) (by decide) rfl ?_
  intro p e s m args below meth c s₁ B hml hv
  obtain ⟨rfl, rfl, hE, hI⟩ := hv_open B hml hv
  have hE : hv_E p s m ([.ref a0] : List Value).toArray meth c cJ6_length 1 (some FieldType.int) RJ6 G h := hE
  obtain ⟨⟨hx, hb, hml, hown, hts⟩, hr, hlocks, hXX⟩ := id hE
  have hl := lv_entry ([.ref a0] : List Value) (n := 1) (Nat.le_of_ble_eq_true rfl)
  rw [lg_entry_eq]
  generalize (lg_sl ([.ref a0] : List Value) ++ List.replicate (1 - (lg_sl ([.ref a0] : List Value)).length) Slot.unset).toArray = ls at hl ⊢
  have hl : lv_has ls 1 [(0, .ref a0)] := hl
  unfold wp_J6_length at hw
  refine lv_aload_n hx hb dJ6_length_0 rfl (lv_at hl 0 rfl) ?_
  refine hv_wgetSv hE hI (hts _ q1732) hw dJ6_length_1 (fun r1 hw => ?_)
  obtain ⟨a2, hz, hwa2⟩ := hw; have hla2 := hl; subst hz; have hw := hwa2; have hl := hla2
  refine hv_len hE hI hw dJ6_length_4 (fun r3 hw => ?_)
  refine lv_aload_n hx hb dJ6_length_5 rfl (lv_at hl 0 rfl) ?_
  obtain ⟨hre, hw⟩ := hw
  refine hv_rci hI (va_runV (As := []) (b := a0) (rest := [.int r3]) hE.1 (snd_J6_coder l G _ h a0 _ hw) (cwV 0 hts (lw_V q716 q717 q718 q106 q719) rfl rfl rfl (by decide +kernel) ⟨Nat.le_of_ble_eq_true rfl, Nat.le_of_ble_eq_true rfl⟩) (hv_preVS hE hI hre) rfl rfl hl.1 rfl (lv_room (Nat.le_of_ble_eq_true rfl)) dJ6_length_6 ⟨Nat.le_of_ble_eq_true rfl, Nat.le_of_ble_eq_true rfl⟩) (fun r4 h5 H locs hw hI => ?_)
  refine lv_ishr hx hb dJ6_length_9 ?_
  exact hv_iret hE hI (Nat.le_refl _) (Nat.le_refl _) hw dJ6_length_10

/-- java/lang/AbstractStringBuilder.inflateIfNeededFor(Ljava/lang/String;)V -/
abbrev rm_J4_inflateIfNeededFor : Room := { frames := 2, cells := 0, slots := 0, locals := 32 }
def wp_J4_inflateIfNeededFor (G : GG) (h : HH) (a0 : Nat) (x1 : Option Nat) (Q : HH → Prop) : Prop := (((1 : Int32) = 0 → Q h) ∧ (¬ (1 : Int32) = 0 → w_geti h a0 6 1 (fun r1 => w_nn x1 (fun a2 => w_isS G h a2 (wp_J6_coder G h a2 (fun r3 h4 => ((r1 = r3 → Q h4) ∧ (¬ r1 = r3 → False))))))))
set_option maxHeartbeats 4000000 in
theorem snd_J4_inflateIfNeededFor (l : Launch) (G : GG) (sz : Nat) (h : HH) (a0 : Nat) (x1 : Option Nat) (Q : HH → Prop) (hw : wp_J4_inflateIfNeededFor G h a0 x1 Q) : Met l yJ4_inflateIfNeededFor (ws_ yJ4_inflateIfNeededFor cJ4_inflateIfNeededFor 2 (none : Option FieldType)) rm_J4_inflateIfNeededFor (hv_Pc G h sz [.ref a0, va_rf x1]) (hv_Qv G h sz Q) 0 0 (hv_A h sz) := by
  refine Met.ofW (cc := cJ4_inflateIfNeededFor) (maxL := 2) (ret := (none : Option FieldType)) (by decide) rfl ?_
  intro p e s m args below meth c s₁ B hml hv
  obtain ⟨rfl, rfl, hE, hI⟩ := hv_open B hml hv
  have hE : hv_E p s m ([.ref a0, va_rf x1] : List Value).toArray meth c cJ4_inflateIfNeededFor 2 (none : Option FieldType) RJ4 G h := hE
  obtain ⟨⟨hx, hb, hml, hown, hts⟩, hr, hlocks, hXX⟩ := id hE
  have hl := lv_entry ([.ref a0, va_rf x1] : List Value) (n := 2) (by cases x1 <;> exact Nat.le_of_ble_eq_true rfl)
  rw [lg_entry_eq]
  generalize (lg_sl ([.ref a0, va_rf x1] : List Value) ++ List.replicate (2 - (lg_sl ([.ref a0, va_rf x1] : List Value)).length) Slot.unset).toArray = ls at hl ⊢
  have hl : lv_has ls 2 [(0, .ref a0), (1, va_rf x1)] := (by cases x1 <;> exact hl)
  unfold wp_J4_inflateIfNeededFor at hw
  refine hv_gets hE hI (hv_zH hE).2.2.1 (hts _ q276) (fun _ hx => hx) dJ4_inflateIfNeededFor_0 ?_
  refine lv_if_eq (tgt := 21) hx hb dJ4_inflateIfNeededFor_3 (by decide) (fun c_3 => ?_) (fun c_3 => ?_)
  · have hw := hw.1 c_3
    exact hv_vret hE hI (Nat.le_refl _) (Nat.le_refl _) hw dJ4_inflateIfNeededFor_21
  · have hw := hw.2 c_3
    refine lv_aload_n hx hb dJ4_inflateIfNeededFor_6 rfl (lv_at hl 0 rfl) ?_
    refine hv_wgeti hE hI in_J5 (ci := 6) rfl 1 (by decide) (hts _ q286) (fun _ hx => hx) hw dJ4_inflateIfNeededFor_7 (fun r1 hw => ?_)
    refine lv_aload_nq hx hb dJ4_inflateIfNeededFor_10 rfl (lv_at hl 1 rfl) ?_
    obtain ⟨a2, hz, hwa2⟩ := hw; have hla2 := hl; subst hz; have hw := hwa2; have hl := hla2
    obtain ⟨hre, hw⟩ := hw
    refine hv_rci hI (va_runV (As := []) (b := a2) (rest := [.int r1]) hE.1 (snd_J6_coder l G _ h a2 _ hw) (cwV 0 hts (lw_V q1710 q717 q718 q106 q719) rfl rfl rfl (by decide +kernel) ⟨Nat.le_of_ble_eq_true rfl, Nat.le_of_ble_eq_true rfl⟩) (hv_preVS hE hI hre) rfl rfl hl.1 rfl (lv_room (Nat.le_of_ble_eq_true rfl)) dJ4_inflateIfNeededFor_11 ⟨Nat.le_of_ble_eq_true rfl, Nat.le_of_ble_eq_true rfl⟩) (fun r3 h4 H locs hw hI => ?_)
    refine lv_icmp_eq (tgt := 21) hx hb dJ4_inflateIfNeededFor_14 (by decide) (fun c_14 => ?_) (fun c_14 => ?_)
    · have hw := hw.1 c_14
      exact hv_vret hE hI (Nat.le_refl _) (Nat.le_refl _) hw dJ4_inflateIfNeededFor_21
    · have hw := hw.2 c_14
      refine lv_aload_n hx hb dJ4_inflateIfNeededFor_17 rfl (lv_at hl 0 rfl) ?_
      exact hw.elim

/-- java/lang/String.getBytes([BIB)V -/
abbrev rm_J6_getBytes : Room := { frames := 2, cells := 0, slots := 0, locals := 64 }
def wp_J6_getBytes (G : GG) (h : HH) (a0 : Nat) (x1 : Option Nat) (x2 : Int32) (x3 : Int32) (Q : HH → Prop) : Prop := w_isS G h a0 (wp_J6_coder G h a0 (fun r1 h2 => ((¬ r1 = x3 → w_getSv G h2 a0 (fun r3 => w_getSv G h2 a0 (fun r4 => w_nn r4 (fun a5 => w_len G h2 a5 (fun r6 => False))))) ∧ (r1 = x3 → w_getSv G h2 a0 (fun r7 => w_getSv G h2 a0 (fun r8 => w_nn r8 (fun a9 => w_len G h2 a9 (fun r10 => w_nn r7 (fun a11 => w_nn x1 (fun a12 => w_cpb G h2 a11 (0 : Int32) a12 (x2 <<< (x3 &&& 31)) r10 (fun h13 => Q h13)))))))))))
set_option maxHeartbeats 4000000 in
theorem snd_J6_getBytes (l : Launch) (G : GG) (sz : Nat) (h : HH) (a0 : Nat) (x1 : Option Nat) (x2 : Int32) (x3 : Int32) (Q : HH → Prop) (hw : wp_J6_getBytes G h a0 x1 x2 x3 Q) : Met l yJ6_getBytes (ws_ yJ6_getBytes cJ6_getBytes 4 (none : Option FieldType)) rm_J6_getBytes (hv_Pc G h sz [.ref a0, va_rf x1, .int x2, .int x3]) (hv_Qv G h sz Q) 0 0 (hv_A h sz) := by
  refine Met.ofW (cc := cJ6_getBytes) (maxL := 4) (ret := (none : Option FieldType)) (by decide) rfl ?_
  intro p e s m args below meth c s₁ B hml hv
  obtain ⟨rfl, rfl, hE, hI⟩ := hv_open B hml hv
  have hE : hv_E p s m ([.ref a0, va_rf x1, .int x2, .int x3] : List Value).toArray meth c cJ6_getBytes 4 (none : Option FieldType) RJ6 G h := hE
  obtain ⟨⟨hx, hb, hml, hown, hts⟩, hr, hlocks, hXX⟩ := id hE
  have hl := lv_entry ([.ref a0, va_rf x1, .int x2, .int x3] : List Value) (n := 4) (by cases x1 <;> exact Nat.le_of_ble_eq_true rfl)
  rw [lg_entry_eq]
  generalize (lg_sl ([.ref a0, va_rf x1, .int x2, .int x3] : List Value) ++ List.replicate (4 - (lg_sl ([.ref a0, va_rf x1, .int x2, .int x3] : List Value)).length) Slot.unset).toArray = ls at hl ⊢
  have hl : lv_has ls 4 [(0, .ref a0), (1, va_rf x1), (2, .int x2), (3, .int x3)] := (by cases x1 <;> exact hl)
  unfold wp_J6_getBytes at hw
  refine lv_aload_n hx hb dJ6_getBytes_0 rfl (lv_at hl 0 rfl) ?_
  obtain ⟨hre, hw⟩ := hw
  refine hv_rci hI (va_runV (As := []) (b := a0) (rest := []) hE.1 (snd_J6_coder l G _ h a0 _ hw) (cwV 0 hts (lw_V q716 q717 q718 q106 q719) rfl rfl rfl (by decide +kernel) ⟨Nat.le_of_ble_eq_true rfl, Nat.le_of_ble_eq_true rfl⟩) (hv_preVS hE hI hre) rfl rfl hl.1 rfl (lv_room (Nat.le_of_ble_eq_true rfl)) dJ6_getBytes_1 ⟨Nat.le_of_ble_eq_true rfl, Nat.le_of_ble_eq_true rfl⟩) (fun r1 h2 H locs hw hI => ?_)
  refine lv_iload_n hx hb dJ6_getBytes_4 rfl (lv_at hl 3 rfl) ?_
  refine lv_icmp_ne (tgt := 28) hx hb dJ6_getBytes_5 (by decide) (fun c_5 => ?_) (fun c_5 => ?_)
  · have hw := hw.1 c_5
    refine lv_aload_n hx hb dJ6_getBytes_28 rfl (lv_at hl 0 rfl) ?_
    refine hv_wgetSv hE hI (hts _ q1732) hw dJ6_getBytes_29 (fun r3 hw => ?_)
    refine lv_iconst (v := 0) hx hb dJ6_getBytes_32 (by decide) ?_
    refine lv_aload_nq hx hb dJ6_getBytes_33 rfl (lv_at hl 1 rfl) ?_
    refine lv_iload_n hx hb dJ6_getBytes_34 rfl (lv_at hl 2 rfl) ?_
    refine lv_aload_n hx hb dJ6_getBytes_35 rfl (lv_at hl 0 rfl) ?_
    refine hv_wgetSv hE hI (hts _ q1732) hw dJ6_getBytes_36 (fun r4 hw => ?_)
    obtain ⟨a5, hz, hwa5⟩ := hw; have hla5 := hl; subst hz; have hw := hwa5; have hl := hla5
    refine hv_len hE hI hw dJ6_getBytes_39 (fun r6 hw => ?_)
    exact hw.elim
  · have hw := hw.2 c_5
    refine lv_aload_n hx hb dJ6_getBytes_8 rfl (lv_at hl 0 rfl) ?_
    refine hv_wgetSv hE hI (hts _ q1732) hw dJ6_getBytes_9 (fun r7 hw => ?_)
    refine lv_iconst (v := 0) hx hb dJ6_getBytes_12 (by decide) ?_
    refine lv_aload_nq hx hb dJ6_getBytes_13 rfl (lv_at hl 1 rfl) ?_
    refine lv_iload_n hx hb dJ6_getBytes_14 rfl (lv_at hl 2 rfl) ?_
    refine lv_iload_n hx hb dJ6_getBytes_15 rfl (lv_at hl 3 rfl) ?_
    refine lv_ishl hx hb dJ6_getBytes_16 ?_
    refine lv_aload_n hx hb dJ6_getBytes_17 rfl (lv_at hl 0 rfl) ?_
    refine hv_wgetSv hE hI (hts _ q1732) hw dJ6_getBytes_18 (fun r8 hw => ?_)
    obtain ⟨a9, hz, hwa9⟩ := hw; have hla9 := hl; subst hz; have hw := hwa9; have hl := hla9
    refine hv_len hE hI hw dJ6_getBytes_21 (fun r10 hw => ?_)
    obtain ⟨a11, hz, hwa11⟩ := hw; have hla11 := hl; subst hz; have hw := hwa11; have hl := hla11
    obtain ⟨a12, hz, hwa12⟩ := hw; have hla12 := hl; subst hz; have hw := hwa12; have hl := hla12
    refine hv_cpb (rest := []) hE hI hw hl.1 (hts _ q1715) (hts _ q523) (hts _ q522) (hts _ q125) (Nat.le_of_ble_eq_true rfl) (Nat.le_of_ble_eq_true rfl) dJ6_getBytes_22 (fun h13 H locs hw hI => ?_)
    refine lv_goto (tgt := 43) hx hb dJ6_getBytes_25 (by decide) ?_
    exact hv_vret hE hI (Nat.le_refl _) (Nat.le_refl _) hw dJ6_getBytes_43

/-- java/lang/AbstractStringBuilder.putStringAt(ILjava/lang/String;)V -/
abbrev rm_J4_putStringAt : Room := { frames := 3, cells := 0, slots := 0, locals := 87 }
def wp_J4_putStringAt (G : GG) (h : HH) (a0 : Nat) (x1 : Int32) (x2 : Option Nat) (Q : HH → Prop) : Prop := w_is h a0 6 (wp_J4_inflateIfNeededFor G h a0 x2 (fun h1 => w_getq h1 a0 6 0 (fun r2 => w_geti h1 a0 6 1 (fun r3 => w_nn x2 (fun a4 => w_isS G h1 a4 (wp_J6_getBytes G h1 a4 r2 x1 r3 (fun h5 => Q h5)))))))
set_option maxHeartbeats 4000000 in
theorem snd_J4_putStringAt (l : Launch) (G : GG) (sz : Nat) (h : HH) (a0 : Nat) (x1 : Int32) (x2 : Option Nat) (Q : HH → Prop) (hw : wp_J4_putStringAt G h a0 x1 x2 Q) : Met l yJ4_putStringAt (ws_ yJ4_putStringAt cJ4_putStringAt 3 (none : Option FieldType)) rm_J4_putStringAt (hv_Pc G h sz [.ref a0, .int x1, va_rf x2]) (hv_Qv G h sz Q) 0 0 (hv_A h sz) := by
  refine Met.ofW (cc := cJ4_putStringAt) (maxL := 3) (ret := (none : Option FieldType)) (by decide) rfl ?_
  intro p e s m args below meth c s₁ B hml hv
  obtain ⟨rfl, rfl, hE, hI⟩ := hv_open B hml hv
  have hE : hv_E p s m ([.ref a0, .int x1, va_rf x2] : List Value).toArray meth c cJ4_putStringAt 3 (none : Option FieldType) RJ4 G h := hE
  obtain ⟨⟨hx, hb, hml, hown, hts⟩, hr, hlocks, hXX⟩ := id hE
  have hl := lv_entry ([.ref a0, .int x1, va_rf x2] : List Value) (n := 3) (by cases x2 <;> exact Nat.le_of_ble_eq_true rfl)
  rw [lg_entry_eq]
  generalize (lg_sl ([.ref a0, .int x1, va_rf x2] : List Value) ++ List.replicate (3 - (lg_sl ([.ref a0, .int x1, va_rf x2] : List Value)).length) Slot.unset).toArray = ls at hl ⊢
  have hl : lv_has ls 3 [(0, .ref a0), (1, .int x1), (2, va_rf x2)] := (by cases x2 <;> exact hl)
  unfold wp_J4_putStringAt at hw
  refine lv_aload_n hx hb dJ4_putStringAt_0 rfl (lv_at hl 0 rfl) ?_
  refine lv_aload_nq hx hb dJ4_putStringAt_1 rfl (lv_at hl 2 rfl) ?_
  obtain ⟨⟨fs, hre⟩, hw⟩ := hw
  refine hv_rcv hI (va_runU (As := [va_rf x2]) (b := a0) (rest := []) hE.1 (snd_J4_inflateIfNeededFor l G _ h a0 x2 _ hw) (hv_cwUP 1 hts q1706 q2522 q1708 q104 q1709 (hv_selP (z := ⟨"java/lang/AbstractStringBuilder", "isLatin1", "()Z"⟩) (by decide +kernel) (hts _ q268) ((hE.2.2.2.2.1.P 3 rfl).use rfl) (hts _ q1708) (hts _ q1586) rfl) rfl rfl (by decide +kernel) ⟨Nat.le_of_ble_eq_true rfl, Nat.le_of_ble_eq_true rfl⟩) (hv_preV hE hI (ci := 6) rfl hre) rfl rfl hl.1 rfl (lv_room (Nat.le_of_ble_eq_true rfl)) dJ4_putStringAt_2 ⟨Nat.le_of_ble_eq_true rfl, Nat.le_of_ble_eq_true rfl⟩) (fun h1 H locs hw hI => ?_)
  refine lv_aload_nq hx hb dJ4_putStringAt_5 rfl (lv_at hl 2 rfl) ?_
  refine lv_aload_n hx hb dJ4_putStringAt_6 rfl (lv_at hl 0 rfl) ?_
  refine hv_wgetq hE hI in_J5 (ci := 6) rfl 0 (by decide) (hts _ q285) (fun _ hx => hx) hw dJ4_putStringAt_7 (fun r2 hw => ?_)
  refine lv_iload_n hx hb dJ4_putStringAt_10 rfl (lv_at hl 1 rfl) ?_
  refine lv_aload_n hx hb dJ4_putStringAt_11 rfl (lv_at hl 0 rfl) ?_
  refine hv_wgeti hE hI in_J5 (ci := 6) rfl 1 (by decide) (hts _ q286) (fun _ hx => hx) hw dJ4_putStringAt_12 (fun r3 hw => ?_)
  obtain ⟨a4, hz, hwa4⟩ := hw; have hla4 := hl; subst hz; have hw := hwa4; have hl := hla4
  obtain ⟨hre, hw⟩ := hw
  refine hv_rcv hI (va_runV (As := [va_rf r2, .int x1, .int r3]) (b := a4) (rest := []) hE.1 (snd_J6_getBytes l G _ h1 a4 r2 x1 r3 _ hw) (cwV 3 hts (lw_V q1711 q1712 q1713 q106 q1714) rfl rfl rfl (by decide +kernel) ⟨Nat.le_of_ble_eq_true rfl, Nat.le_of_ble_eq_true rfl⟩) (hv_preVS hE hI hre) rfl rfl hl.1 rfl (lv_room (Nat.le_of_ble_eq_true rfl)) dJ4_putStringAt_15 ⟨Nat.le_of_ble_eq_true rfl, Nat.le_of_ble_eq_true rfl⟩) (fun h5 H locs hw hI => ?_)
  exact hv_vret hE hI (Nat.le_refl _) (Nat.le_refl _) hw dJ4_putStringAt_18

/-- java/lang/AbstractStringBuilder.append(Ljava/lang/String;)Ljava/lang/AbstractStringBuilder; -/
abbrev rm_J4_append_3 (mc ms : Nat) : Room := { frames := 4, cells := mc, slots := ms, locals := 109 }
def wp_J4_append_3 (G : GG) (mc : Nat) (ms : Nat) (h : HH) (a0 : Nat) (x1 : Option Nat) (Q : Option Nat → HH → Prop) : Prop := ((x1 = none → False) ∧ (∀ a1, x1 = some a1 → w_isS G h a1 (wp_J6_length G h a1 (fun r2 h3 => w_geti h3 a0 6 3 (fun r4 => (∃ mc5 ms5, 0 + mc5 ≤ mc ∧ 0 + ms5 ≤ ms ∧ w_is h3 a0 6 (wp_J4_ensureCapacityInternal G mc5 ms5 h3 a0 (r4 + r2) (fun h6 => w_geti h6 a0 6 3 (fun r7 => w_is h6 a0 6 (wp_J4_putStringAt G h6 a0 r7 (some a1) (fun h8 => w_geti h8 a0 6 3 (fun r9 => w_put h8 a0 6 3 (.int (r9 + r2)) (fun h10 => Q (some a0) h10)))))))))))))
set_option maxHeartbeats 4000000 in
theorem snd_J4_append_3 (l : Launch) (G : GG) (sz : Nat) (mc : Nat) (ms : Nat) (h : HH) (a0 : Nat) (x1 : Option Nat) (Q : Option Nat → HH → Prop) (hw : wp_J4_append_3 G mc ms h a0 x1 Q) : Met l yJ4_append_3 (ws_ yJ4_append_3 cJ4_append_3 3 (some (FieldType.object "java/lang/AbstractStringBuilder"))) (rm_J4_append_3 mc ms) (hv_Pc G h sz [.ref a0, va_rf x1]) (hv_Qq G h sz Q) mc ms (hv_A h sz) := by
  refine Met.ofW (cc := cJ4_append_3) (maxL := 3) (ret := (some (FieldType.object "java/lang/AbstractStringBuilder"))) (by decide) rfl ?_
  intro p e s m args below meth c s₁ B hml hv
  obtain ⟨rfl, rfl, hE, hI⟩ := hv_open B hml hv
  have hE : hv_E p s m ([.ref a0, va_rf x1] : List Value).toArray meth c cJ4_append_3 3 (some (FieldType.object "java/lang/AbstractStringBuilder")) RJ4 G h := hE
  obtain ⟨⟨hx, hb, hml, hown, hts⟩, hr, hlocks, hXX⟩ := id hE
  have hl := lv_entry ([.ref a0, va_rf x1] : List Value) (n := 3) (by cases x1 <;> exact Nat.le_of_ble_eq_true rfl)
  rw [lg_entry_eq]
  generalize (lg_sl ([.ref a0, va_rf x1] : List Value) ++ List.replicate (3 - (lg_sl ([.ref a0, va_rf x1] : List Value)).length) Slot.unset).toArray = ls at hl ⊢
  have hl : lv_has ls 3 [(0, .ref a0), (1, va_rf x1)] := (by cases x1 <;> exact hl)
  have hc : 0 ≤ mc := Nat.zero_le _
  have hs : 0 ≤ ms := Nat.zero_le _
  unfold wp_J4_append_3 at hw
  refine lv_aload_nq hx hb dJ4_append_3_0 rfl (lv_at hl 1 rfl) ?_
  refine lv_ifnonnullq (tgt := 9) hx hb dJ4_append_3_1 (by decide) (fun c_1 => ?_) (fun c_1 => ?_)
  · obtain ⟨a1, hz⟩ := Option.ne_none_iff_exists.mp c_1
    have hwa1 := hw.2 a1 hz.symm; have hla1 := hl; subst hz; have hw := hwa1; have hl := hla1
    refine lv_aload_n hx hb dJ4_append_3_9 rfl (lv_at hl 1 rfl) ?_
    obtain ⟨hre, hw⟩ := hw
    refine hv_rci hI (va_runV (As := []) (b := a1) (rest := []) hE.1 (snd_J6_length l G _ h a1 _ hw) (cwV 0 hts (lw_V q1701 q713 q2520 q106 q715) rfl rfl rfl (by decide +kernel) ⟨Nat.le_of_ble_eq_true rfl, Nat.le_of_ble_eq_true rfl⟩) (hv_preVS hE hI hre) rfl rfl hl.1 rfl (lv_room (Nat.le_of_ble_eq_true rfl)) dJ4_append_3_10 ⟨hc, hs⟩) (fun r2 h3 H locs hw hI => ?_)
    refine lv_istore_n (lv' := [(2, .int r2), (0, .ref a0), (1, .ref a1)]) hx hb dJ4_append_3_13 rfl hl (by decide) rfl (fun ls hl => ?_)
    refine lv_aload_n hx hb dJ4_append_3_14 rfl (lv_at hl 1 rfl) ?_
    refine lv_aload_n hx hb dJ4_append_3_15 rfl (lv_at hl 1 rfl) ?_
    refine hv_wgeti hE hI in_J5 (ci := 6) rfl 3 (by decide) (hts _ q288) (fun _ hx => hx) hw dJ4_append_3_16 (fun r4 hw => ?_)
    refine lv_iload_n hx hb dJ4_append_3_19 rfl (lv_at hl 0 rfl) ?_
    refine lv_iadd hx hb dJ4_append_3_20 ?_
    obtain ⟨mc5, ms5, hc, hs, hw⟩ := hw
    obtain ⟨⟨fs, hre⟩, hw⟩ := hw
    refine hv_rcv hI (va_runU (As := [.int (r4 + r2)]) (b := a0) (rest := []) hE.1 (snd_J4_ensureCapacityInternal l G _ mc5 ms5 h3 a0 (r4 + r2) _ hw) (hv_cwUP 1 hts q1565 q2513 q1567 q104 q1568 (hv_selP (z := ⟨"java/lang/AbstractStringBuilder", "isLatin1", "()Z"⟩) (by decide +kernel) (hts _ q268) ((hE.2.2.2.2.1.P 0 rfl).use rfl) (hts _ q1567) (hts _ q1586) rfl) rfl rfl (by decide +kernel) ⟨Nat.le_of_ble_eq_true rfl, Nat.le_of_ble_eq_true rfl⟩) (hv_preV hE hI (ci := 6) rfl hre) rfl rfl hl.1 rfl (lv_room (Nat.le_of_ble_eq_true rfl)) dJ4_append_3_21 ⟨hc, hs⟩) (fun h6 H locs hw hI => ?_)
    refine lv_aload_n hx hb dJ4_append_3_24 rfl (lv_at hl 1 rfl) ?_
    refine lv_aload_n hx hb dJ4_append_3_25 rfl (lv_at hl 1 rfl) ?_
    refine hv_wgeti hE hI in_J5 (ci := 6) rfl 3 (by decide) (hts _ q288) (fun _ hx => hx) hw dJ4_append_3_26 (fun r7 hw => ?_)
    refine lv_aload_n hx hb dJ4_append_3_29 rfl (lv_at hl 2 rfl) ?_
    obtain ⟨⟨fs, hre⟩, hw⟩ := hw
    refine hv_rcv hI (va_runU (As := [.int r7, .ref a1]) (b := a0) (rest := []) hE.1 (snd_J4_putStringAt l G _ h6 a0 r7 (some a1) _ hw) (hv_cwUP 2 hts q1702 q2521 q1704 q104 q1705 (hv_selP (z := ⟨"java/lang/AbstractStringBuilder", "isLatin1", "()Z"⟩) (by decide +kernel) (hts _ q268) ((hE.2.2.2.2.1.P 2 rfl).use rfl) (hts _ q1704) (hts _ q1586) rfl) rfl rfl (by decide +kernel) ⟨Nat.le_of_ble_eq_true rfl, Nat.le_of_ble_eq_true rfl⟩) (hv_preV hE hI (ci := 6) rfl hre) rfl rfl hl.1 rfl (lv_room (Nat.le_of_ble_eq_true rfl)) dJ4_append_3_30 ⟨hc, hs⟩) (fun h8 H locs hw hI => ?_)
    refine lv_aload_n hx hb dJ4_append_3_33 rfl (lv_at hl 1 rfl) ?_
    refine lv_dup hx hb dJ4_append_3_34 rfl ?_
    refine hv_wgeti hE hI in_J5 (ci := 6) rfl 3 (by decide) (hts _ q288) (fun _ hx => hx) hw dJ4_append_3_35 (fun r9 hw => ?_)
    refine lv_iload_n hx hb dJ4_append_3_38 rfl (lv_at hl 0 rfl) ?_
    refine lv_iadd hx hb dJ4_append_3_39 ?_
    refine hv_wput (v := .int (r9 + r2)) tyJ5 hE hI in_J5 tyJ5_ok nmJ5 (ci := 6) rfl 3 (by decide) (hts _ q288) (fun _ hx => hx) rfl (ty := .int) rfl rfl rfl hw dJ4_append_3_40 (fun h10 H locs hw hI => ?_)
    refine lv_aload_n hx hb dJ4_append_3_43 rfl (lv_at hl 1 rfl) ?_
    exact hv_qret (v := (some a0)) hE (Or.inl ⟨_, rfl⟩) hI hc hs hw dJ4_append_3_44
  · have hwa1 := hw.1 c_1; have hla1 := hl; subst c_1; have hw := hwa1; have hl := hla1
    refine lv_aload_n hx hb dJ4_append_3_4 rfl (lv_at hl 0 rfl) ?_
    exact hw.elim

/-- java/lang/StringBuilder.append(Ljava/lang/String;)Ljava/lang/StringBuilder; -/
abbrev rm_J5_append_3 (mc ms : Nat) : Room := { frames := 5, cells := mc, slots := ms, locals := 131 }
def wp_J5_append_3 (G : GG) (mc : Nat) (ms : Nat) (h : HH) (a0 : Nat) (x1 : Option Nat) (Q : Option Nat → HH → Prop) : Prop := (∃ mc1 ms1, 0 + mc1 ≤ mc ∧ 0 + ms1 ≤ ms ∧ w_is h a0 6 (wp_J4_append_3 G mc1 ms1 h a0 x1 (fun r2 h3 => Q (some a0) h3)))
set_option maxHeartbeats 4000000 in
theorem snd_J5_append_3 (l : Launch) (G : GG) (sz : Nat) (mc : Nat) (ms : Nat) (h : HH) (a0 : Nat) (x1 : Option Nat) (Q : Option Nat → HH → Prop) (hw : wp_J5_append_3 G mc ms h a0 x1 Q) : Met l yJ5_append_3 (ws_ yJ5_append_3 cJ5_append_3 2 (some (FieldType.object "java/lang/StringBuilder"))) (rm_J5_append_3 mc ms) (hv_Pc G h sz [.ref a0, va_rf x1]) (hv_Qq G h sz Q) mc ms (hv_A h sz) := by
  refine Met.ofW (cc := cJ5_append_3) (maxL := 2) (ret := (some (FieldType.object "java/lang/StringBuilder"))) (by decide) rfl ?_
  intro p e s m args below meth c s₁ B hml hv
  obtain ⟨rfl, rfl, hE, hI⟩ := hv_open B hml hv
  have hE : hv_E p s m ([.ref a0, va_rf x1] : List Value).toArray meth c cJ5_append_3 2 (some (FieldType.object "java/lang/StringBuilder")) RJ5 G h := hE
  obtain ⟨⟨hx, hb, hml, hown, hts⟩, hr, hlocks, hXX⟩ := id hE
  have hl := lv_entry ([.ref a0, va_rf x1] : List Value) (n := 2) (by cases x1 <;> exact Nat.le_of_ble_eq_true rfl)
  rw [lg_entry_eq]
  generalize (lg_sl ([.ref a0, va_rf x1] : List Value) ++ List.replicate (2 - (lg_sl ([.ref a0, va_rf x1] : List Value)).length) Slot.unset).toArray = ls at hl ⊢
  have hl : lv_has ls 2 [(0, .ref a0), (1, va_rf x1)] := (by cases x1 <;> exact hl)
  have hc : 0 ≤ mc := Nat.zero_le _
  have hs : 0 ≤ ms := Nat.zero_le _
  unfold wp_J5_append_3 at hw
  refine lv_aload_n hx hb dJ5_append_3_0 rfl (lv_at hl 0 rfl) ?_
  refine lv_aload_nq hx hb dJ5_append_3_1 rfl (lv_at hl 1 rfl) ?_
  obtain ⟨mc1, ms1, hc, hs, hw⟩ := hw
  obtain ⟨⟨fs, hre⟩, hw⟩ := hw
  refine hv_rcq hI (va_runSU (As := [va_rf x1]) (b := a0) (rest := []) (hXX.1.1 6 _ rfl).2 hE.1 (snd_J4_append_3 l G _ mc1 ms1 h a0 x1 _ hw) (va_cwSU 1 hts (lw_SU q1691 q2518 q297 q1692 q104 q1693) rfl rfl rfl (by decide +kernel) ⟨Nat.le_of_ble_eq_true rfl, Nat.le_of_ble_eq_true rfl⟩) (hv_preV hE hI (ci := 6) rfl hre) rfl rfl hl.1 rfl (lv_room (Nat.le_of_ble_eq_true rfl)) dJ5_append_3_2 ⟨hc, hs⟩) (fun r2 h3 H locs hw hI => ?_)
  refine lv_pop hx hb dJ5_append_3_5 (va_rf_cat _) ?_
  refine lv_aload_n hx hb dJ5_append_3_6 rfl (lv_at hl 0 rfl) ?_
  exact hv_qret (v := (some a0)) hE (Or.inl ⟨_, rfl⟩) hI hc hs hw dJ5_append_3_7

/-- java/util/Arrays.checkLength(II)V -/
abbrev rm_J18_checkLength : Room := { frames := 1, cells := 0, slots := 0, locals := 12 }
def wp_J18_checkLength (G : GG) (h : HH) (x0 : Int32) (x1 : Int32) (Q : HH → Prop) : Prop := ((x0 ≤ x1 → Q h) ∧ (¬ x0 ≤ x1 → False))
set_option maxHeartbeats 4000000 in
theorem snd_J18_checkLength (l : Launch) (G : GG) (sz : Nat) (h : HH) (x0 : Int32) (x1 : Int32) (Q : HH → Prop) (hw : wp_J18_checkLength G h x0 x1 Q) : Met l yJ18_checkLength (ws_ yJ18_checkLength cJ18_checkLength 2 (none : Option FieldType)) rm_J18_checkLength (hv_Pc G h sz [.int x0, .int x1]) (hv_Qv G h sz Q) 0 0 (hv_A h sz) := by
  refine Met.ofW (cc := cJ18_checkLength) (maxL := 2) (ret := (none : Option FieldType)) (by decide) rfl ?_
  intro p e s m args below meth c s₁ B hml hv
  obtain ⟨rfl, rfl, hE, hI⟩ := hv_open B hml hv
  have hE : hv_E p s m ([.int x0, .int x1] : List Value).toArray meth c cJ18_checkLength 2 (none : Option FieldType) RJ18 G h := hE
  obtain ⟨⟨hx, hb, hml, hown, hts⟩, hr, hlocks, hXX⟩ := id hE
  have hl := lv_entry ([.int x0, .int x1] : List Value) (n := 2) (Nat.le_of_ble_eq_true rfl)
  rw [lg_entry_eq]
  generalize (lg_sl ([.int x0, .int x1] : List Value) ++ List.replicate (2 - (lg_sl ([.int x0, .int x1] : List Value)).length) Slot.unset).toArray = ls at hl ⊢
  have hl : lv_has ls 2 [(0, .int x0), (1, .int x1)] := hl
  unfold wp_J18_checkLength at hw
  refine lv_iload_n hx hb dJ18_checkLength_0 rfl (lv_at hl 1 rfl) ?_
  refine lv_iload_n hx hb dJ18_checkLength_1 rfl (lv_at hl 0 rfl) ?_
  refine lv_icmp_ge (tgt := 37) hx hb dJ18_checkLength_2 (by decide) (fun c_2 => ?_) (fun c_2 => ?_)
  · have hw := hw.1 c_2
    exact hv_vret hE hI (Nat.le_refl _) (Nat.le_refl _) hw dJ18_checkLength_37
  · have hw := hw.2 c_2
    exact hw.elim

/-- java/util/Arrays.copyOfRangeByte([BII)[B -/
abbrev rm_J18_copyOfRangeByte (mc ms : Nat) : Room := { frames := 2, cells := mc, slots := ms, locals := 64 }
def wp_J18_copyOfRangeByte (G : GG) (mc : Nat) (ms : Nat) (h : HH) (x0 : Option Nat) (x1 : Int32) (x2 : Int32) (Q : Option Nat → HH → Prop) : Prop := wp_J18_checkLength G h x1 x2 (fun h1 => (¬ (x2 - x1) < 0 ∧ (Int32.toNatClampNeg (x2 - x1)) ≤ 1000000 ∧ (0 + 1 ≤ mc ∧ 0 + (Int32.toNatClampNeg (x2 - x1)) ≤ ms ∧ w_new h1 (.inl (G.2.1 1, (Int32.toNatClampNeg (x2 - x1)), .inl (fun _ => 0))) (fun a2 h3 => w_nn x0 (fun a4 => w_len G h3 a4 (fun r5 => w_cpb G h3 a4 x1 a2 (0 : Int32) (if (x2 - x1) < (r5 - x1) then (x2 - x1) else (r5 - x1)) (fun h6 => Q (some a2) h6)))))))
set_option maxHeartbeats 4000000 in
theorem snd_J18_copyOfRangeByte (l : Launch) (G : GG) (sz : Nat) (mc : Nat) (ms : Nat) (h : HH) (x0 : Option Nat) (x1 : Int32) (x2 : Int32) (Q : Option Nat → HH → Prop) (hw : wp_J18_copyOfRangeByte G mc ms h x0 x1 x2 Q) : Met l yJ18_copyOfRangeByte (ws_ yJ18_copyOfRangeByte cJ18_copyOfRangeByte 5 (some (FieldType.array FieldType.byte))) (rm_J18_copyOfRangeByte mc ms) (hv_Pc G h sz [va_rf x0, .int x1, .int x2]) (hv_Qq G h sz Q) mc ms (hv_A h sz) := by
  refine Met.ofW (cc := cJ18_copyOfRangeByte) (maxL := 5) (ret := (some (FieldType.array FieldType.byte))) (by decide) rfl ?_
  intro p e s m args below meth c s₁ B hml hv
  obtain ⟨rfl, rfl, hE, hI⟩ := hv_open B hml hv
  have hE : hv_E p s m ([va_rf x0, .int x1, .int x2] : List Value).toArray meth c cJ18_copyOfRangeByte 5 (some (FieldType.array FieldType.byte)) RJ18 G h := hE
  obtain ⟨⟨hx, hb, hml, hown, hts⟩, hr, hlocks, hXX⟩ := id hE
  have hl := lv_entry ([va_rf x0, .int x1, .int x2] : List Value) (n := 5) (by cases x0 <;> exact Nat.le_of_ble_eq_true rfl)
  rw [lg_entry_eq]
  generalize (lg_sl ([va_rf x0, .int x1, .int x2] : List Value) ++ List.replicate (5 - (lg_sl ([va_rf x0, .int x1, .int x2] : List Value)).length) Slot.unset).toArray = ls at hl ⊢
  have hl : lv_has ls 5 [(0, va_rf x0), (1, .int x1), (2, .int x2)] := (by cases x0 <;> exact hl)
  have hc : 0 ≤ mc := Nat.zero_le _
  have hs : 0 ≤ ms := Nat.zero_le _
  unfold wp_J18_copyOfRangeByte at hw
  refine lv_iload_n hx hb dJ18_copyOfRangeByte_0 rfl (lv_at hl 1 rfl) ?_
  refine lv_iload_n hx hb dJ18_copyOfRangeByte_1 rfl (lv_at hl 2 rfl) ?_
  refine hv_rcv hI (va_runS (As := [.int x1, .int x2]) (rest := []) hE.1 (snd_J18_checkLength l G _ h x1 x2 _ hw) (va_cwS 2 hts (lw_S q1679 q1680 q124 q1681) rfl rfl rfl (by decide +kernel) ⟨Nat.le_of_ble_eq_true rfl, Nat.le_of_ble_eq_true rfl⟩) (hv_preS hE hI) rfl rfl hl.1 rfl (lv_room (Nat.le_of_ble_eq_true rfl)) dJ18_copyOfRangeByte_2 ⟨hc, hs⟩) (fun h1 H locs hw hI => ?_)
  refine lv_iload_n hx hb dJ18_copyOfRangeByte_5 rfl (lv_at hl 2 rfl) ?_
  refine lv_iload_n hx hb dJ18_copyOfRangeByte_6 rfl (lv_at hl 1 rfl) ?_
  refine lv_isub hx hb dJ18_copyOfRangeByte_7 ?_
  refine lv_istore_n (lv' := [(3, .int (x2 - x1)), (0, va_rf x0), (1, .int x1), (2, .int x2)]) hx hb dJ18_copyOfRangeByte_8 rfl hl (by decide) rfl (fun ls hl => ?_)
  refine lv_iload_n hx hb dJ18_copyOfRangeByte_9 rfl (lv_at hl 0 rfl) ?_
  obtain ⟨hneg, hby, hw⟩ := hw
  obtain ⟨hc, hs, hw⟩ := hw
  refine hv_wnewa_byte (N' := (Int32.toNatClampNeg (x2 - x1))) hE hI (hts _ q298) rfl hneg hby hw hc hs dJ18_copyOfRangeByte_10 (fun a2 h3 H hw hI => ?_)
  refine lv_astore (lv' := [(4, .ref a2), (3, .int (x2 - x1)), (0, va_rf x0), (1, .int x1), (2, .int x2)]) hx hb dJ18_copyOfRangeByte_12 hl (by decide) rfl (fun ls hl => ?_)
  refine lv_aload_nq hx hb dJ18_copyOfRangeByte_14 rfl (lv_at hl 2 rfl) ?_
  refine lv_iload_n hx hb dJ18_copyOfRangeByte_15 rfl (lv_at hl 3 rfl) ?_
  refine lv_aload hx hb dJ18_copyOfRangeByte_16 (lv_at hl 0 rfl) ?_
  refine lv_iconst (v := 0) hx hb dJ18_copyOfRangeByte_18 (by decide) ?_
  refine lv_aload_nq hx hb dJ18_copyOfRangeByte_19 rfl (lv_at hl 2 rfl) ?_
  obtain ⟨a4, hz, hwa4⟩ := hw; have hla4 := hl; subst hz; have hw := hwa4; have hl := hla4
  refine hv_len hE hI hw dJ18_copyOfRangeByte_20 (fun r5 hw => ?_)
  refine lv_iload_n hx hb dJ18_copyOfRangeByte_21 rfl (lv_at hl 3 rfl) ?_
  refine lv_isub hx hb dJ18_copyOfRangeByte_22 ?_
  refine lv_iload_n hx hb dJ18_copyOfRangeByte_23 rfl (lv_at hl 1 rfl) ?_
  refine va_mmin (rest := [.int (0 : Int32), .ref a2, .int x1, .ref a4]) hx hb (hml.trans hl.1.symm) hown (hts _ q971) (hts _ q612) (hts _ q113) (hts _ q613) (Nat.le_of_ble_eq_true rfl) (Nat.le_of_ble_eq_true rfl) hc hs dJ18_copyOfRangeByte_24 ?_
  refine hv_cpb (rest := []) hE hI hw hl.1 (hts _ q972) (hts _ q523) (hts _ q522) (hts _ q125) (Nat.le_of_ble_eq_true rfl) (Nat.le_of_ble_eq_true rfl) dJ18_copyOfRangeByte_27 (fun h6 H locs hw hI => ?_)
  refine lv_aload hx hb dJ18_copyOfRangeByte_30 (lv_at hl 0 rfl) ?_
  exact hv_qret (v := (some a2)) hE (Or.inr ⟨_, rfl⟩) hI hc hs hw dJ18_copyOfRangeByte_32

/-- java/util/Arrays.copyOfRange([BII)[B -/
abbrev rm_J18_copyOfRange (mc ms : Nat) : Room := { frames := 3, cells := mc, slots := ms, locals := 88 }
def wp_J18_copyOfRange (G : GG) (mc : Nat) (ms : Nat) (h : HH) (x0 : Option Nat) (x1 : Int32) (x2 : Int32) (Q : Option Nat → HH → Prop) : Prop := ((¬ x1 = 0 → (∃ mc1 ms1, 0 + mc1 ≤ mc ∧ 0 + ms1 ≤ ms ∧ wp_J18_copyOfRangeByte G mc1 ms1 h x0 x1 x2 (fun r2 h3 => Q r2 h3))) ∧ (x1 = 0 → w_nn x0 (fun a4 => w_len G h a4 (fun r5 => ((x2 = r5 → w_clone G h a4 1 mc ms 0 0 (fun a6 h8 nn7 => w_castA G h8 a6 1 (Q (some a6) h8))) ∧ (¬ x2 = r5 → (∃ mc9 ms9, 0 + mc9 ≤ mc ∧ 0 + ms9 ≤ ms ∧ wp_J18_copyOfRangeByte G mc9 ms9 h (some a4) x1 x2 (fun r10 h11 => Q r10 h11))))))))
set_option maxHeartbeats 4000000 in
theorem snd_J18_copyOfRange (l : Launch) (G : GG) (sz : Nat) (mc : Nat) (ms : Nat) (h : HH) (x0 : Option Nat) (x1 : Int32) (x2 : Int32) (Q : Option Nat → HH → Prop) (hw : wp_J18_copyOfRange G mc ms h x0 x1 x2 Q) : Met l yJ18_copyOfRange (ws_ yJ18_copyOfRange cJ18_copyOfRange 3 (some (FieldType.array FieldType.byte))) (rm_J18_copyOfRange mc ms) (hv_Pc G h sz [va_rf x0, .int x1, .int x2]) (hv_Qq G h sz Q) mc ms (hv_A h sz) := by
  refine Met.ofW (cc := cJ18_copyOfRange) (maxL := 3) (ret := (some (FieldType.array FieldType.byte))) (by decide) rfl ?_
  intro p e s m args below meth c s₁ B hml hv
  obtain ⟨rfl, rfl, hE, hI⟩ := hv_open B hml hv
  have hE : hv_E p s m ([va_rf x0, .int x1, .int x2] : List Value).toArray meth c cJ18_copyOfRange 3 (some (FieldType.array FieldType.byte)) RJ18 G h := hE
  obtain ⟨⟨hx, hb, hml, hown, hts⟩, hr, hlocks, hXX⟩ := id hE
  have hl := lv_entry ([va_rf x0, .int x1, .int x2] : List Value) (n := 3) (by cases x0 <;> exact Nat.le_of_ble_eq_true rfl)
  rw [lg_entry_eq]
  generalize (lg_sl ([va_rf x0, .int x1, .int x2] : List Value) ++ List.replicate (3 - (lg_sl ([va_rf x0, .int x1, .int x2] : List Value)).length) Slot.unset).toArray = ls at hl ⊢
  have hl : lv_has ls 3 [(0, va_rf x0), (1, .int x1), (2, .int x2)] := (by cases x0 <;> exact hl)
  have hc : 0 ≤ mc := Nat.zero_le _
  have hs : 0 ≤ ms := Nat.zero_le _
  unfold wp_J18_copyOfRange at hw
  refine lv_iload_n hx hb dJ18_copyOfRange_0 rfl (lv_at hl 1 rfl) ?_
  refine lv_if_ne (tgt := 10) hx hb dJ18_copyOfRange_1 (by decide) (fun c_1 => ?_) (fun c_1 => ?_)
  · have hw := hw.1 c_1
    refine lv_aload_nq hx hb dJ18_copyOfRange_10 rfl (lv_at hl 0 rfl) ?_
    refine lv_iload_n hx hb dJ18_copyOfRange_11 rfl (lv_at hl 1 rfl) ?_
    refine lv_iload_n hx hb dJ18_copyOfRange_12 rfl (lv_at hl 2 rfl) ?_
    obtain ⟨mc1, ms1, hc, hs, hw⟩ := hw
    refine hv_rcq hI (va_runS (As := [va_rf x0, .int x1, .int x2]) (rest := []) hE.1 (snd_J18_copyOfRangeByte l G _ mc1 ms1 h x0 x1 x2 _ hw) (va_cwS 3 hts (lw_S q1676 q1677 q124 q1678) rfl rfl rfl (by decide +kernel) ⟨Nat.le_of_ble_eq_true rfl, Nat.le_of_ble_eq_true rfl⟩) (hv_preS hE hI) rfl rfl hl.1 rfl (lv_room (Nat.le_of_ble_eq_true rfl)) dJ18_copyOfRange_13 ⟨hc, hs⟩) (fun r2 h3 H locs hw hI => ?_)
    exact hv_qret (v := r2) hE (Or.inr ⟨_, rfl⟩) hI hc hs hw dJ18_copyOfRange_16
  · have hw := hw.2 c_1
    refine lv_iload_n hx hb dJ18_copyOfRange_4 rfl (lv_at hl 2 rfl) ?_
    refine lv_aload_nq hx hb dJ18_copyOfRange_5 rfl (lv_at hl 0 rfl) ?_
    obtain ⟨a4, hz, hwa4⟩ := hw; have hla4 := hl; subst hz; have hw := hwa4; have hl := hla4
    refine hv_len hE hI hw dJ18_copyOfRange_6 (fun r5 hw => ?_)
    refine lv_icmp_eq (tgt := 17) hx hb dJ18_copyOfRange_7 (by decide) (fun c_7 => ?_) (fun c_7 => ?_)
    · have hw := hw.1 c_7
      refine lv_aload_n hx hb dJ18_copyOfRange_17 rfl (lv_at hl 0 rfl) ?_
      refine hv_clone (rest := []) (ad := "[B") (t := 1) hE hI hw hl.1 (Nat.le_refl _) (Nat.le_refl _) (hts _ q1578) (hts _ q1579) (hts _ q823) (hts _ q824) (hts _ q1580) (hE.2.2.2.2.1.C 44 rfl) (ty := .byte) rfl rfl rfl (by decide +kernel) (Nat.le_of_ble_eq_true rfl) (Nat.le_of_ble_eq_true rfl) dJ18_copyOfRange_18 (fun a6 nn7 h8 H hw hc hs hI => ?_)
      refine hv_wcastA (t := 1) (ty := .byte) hE hI (hts _ q1582) rfl rfl (by decide +kernel) hw dJ18_copyOfRange_21 (fun hw => ?_)
      exact hv_qret (v := (some a6)) hE (Or.inr ⟨_, rfl⟩) hI hc hs hw dJ18_copyOfRange_24
    · have hw := hw.2 c_7
      refine lv_aload_n hx hb dJ18_copyOfRange_10 rfl (lv_at hl 0 rfl) ?_
      refine lv_iload_n hx hb dJ18_copyOfRange_11 rfl (lv_at hl 1 rfl) ?_
      refine lv_iload_n hx hb dJ18_copyOfRange_12 rfl (lv_at hl 2 rfl) ?_
      obtain ⟨mc9, ms9, hc, hs, hw⟩ := hw
      refine hv_rcq hI (va_runS (As := [.ref a4, .int x1, .int x2]) (rest := []) hE.1 (snd_J18_copyOfRangeByte l G _ mc9 ms9 h (some a4) x1 x2 _ hw) (va_cwS 3 hts (lw_S q1676 q1677 q124 q1678) rfl rfl rfl (by decide +kernel) ⟨Nat.le_of_ble_eq_true rfl, Nat.le_of_ble_eq_true rfl⟩) (hv_preS hE hI) rfl rfl hl.1 rfl (lv_room (Nat.le_of_ble_eq_true rfl)) dJ18_copyOfRange_13 ⟨hc, hs⟩) (fun r10 h11 H locs hw hI => ?_)
      exact hv_qret (v := r10) hE (Or.inr ⟨_, rfl⟩) hI hc hs hw dJ18_copyOfRange_16

/-- java/lang/String.<init>(Ljava/lang/AbstractStringBuilder;Ljava/lang/Void;)V -/
abbrev rm_J6_init_2 (mc ms : Nat) : Room := { frames := 4, cells := mc, slots := ms, locals := 110 }
def wp_J6_init_2_L79 (G : GG) (mc : Nat) (ms : Nat) (a0 : Nat) (Q : HH → Prop) (h : HH) (nc : Nat) (nk : Nat) (x3 : Option Nat) (x4 : Int32) : Prop := w_put h a0 7 1 (.int (1 : Int32)) (fun h8 => (∃ mc9 ms9, nc + mc9 ≤ mc ∧ nk + ms9 ≤ ms ∧ wp_J18_copyOfRange G mc9 ms9 h8 x3 (0 : Int32) (x4 <<< ((1 : Int32) &&& 31)) (fun r10 h11 => w_put h11 a0 7 0 (va_rf r10) (fun h12 => Q h12))))
set_option maxHeartbeats 4000000 in
theorem snd_J6_init_2_L79 {p : Program} {l : Launch} {e : Env} {s : State} {m : MethodId} {args : Array Value} {below : List Frame} {meth : Method} {c : Code} {h0 : HH} (G : GG) (mc : Nat) (ms : Nat) (a0 : Nat) (Q : HH → Prop) (hin2 : meth.name = "<init>") (hE : hv_E p s m args meth c cJ6_init_2 5 (none : Option FieldType) RJ6 G h0) : ∀ (h : HH) (nc : Nat) (nk : Nat) (x3 : Option Nat) (x4 : Int32), wp_J6_init_2_L79 G mc ms a0 Q h nc nk x3 x4 → nc ≤ mc → nk ≤ ms → ∀ (H : Heap) (locs : List Loc) (ls : Array Slot), hv_I G h0 s.heap h H locs → lv_has ls 5 [(0, .ref a0), (3, va_rf x3), (4, .int x4)] → W p l e (headSpec (ws_ yJ6_init_2 cJ6_init_2 5 (none : Option FieldType)) (rm_J6_init_2 mc ms)).room s m args below meth c H locs nc nk (MQ below (hv_Qv G h0 s.heap.size Q) args s mc ms (hv_A h0 s.heap.size)) (F0 m 79 ls []) := by
  obtain ⟨⟨hx, hb, hml, hown, hts⟩, hr, hlocks, hXX⟩ := id hE
  intro h nc nk x3 x4 hw hc hs H locs ls hI hl
  unfold wp_J6_init_2_L79 at hw
  refine lv_aload_n hx hb dJ6_init_2_79 rfl (lv_at hl 0 rfl) ?_
  refine lv_iconst (v := 1) hx hb dJ6_init_2_80 (by decide) ?_
  refine hv_wputF (v := .int (1 : Int32)) tyJ6 hE hI in_J6 tyJ6_ok nmJ6 (ci := 7) rfl 1 (by decide) (hts _ q1733) (fun _ hx => hx) rfl hin2 rfl (ty := .byte) rfl (by decide +kernel) (by decide +kernel) hw dJ6_init_2_81 (fun h8 H locs hw hI => ?_)
  refine lv_aload_n hx hb dJ6_init_2_84 rfl (lv_at hl 0 rfl) ?_
  refine lv_aload_nq hx hb dJ6_init_2_85 rfl (lv_at hl 1 rfl) ?_
  refine lv_iconst (v := 0) hx hb dJ6_init_2_86 (by decide) ?_
  refine lv_iload hx hb dJ6_init_2_87 (lv_at hl 2 rfl) ?_
  refine lv_iconst (v := 1) hx hb dJ6_init_2_89 (by decide) ?_
  refine lv_ishl hx hb dJ6_init_2_90 ?_
  obtain ⟨mc9, ms9, hc, hs, hw⟩ := hw
  refine hv_rcq hI (va_runS (As := [va_rf x3, .int (0 : Int32), .int (x4 <<< ((1 : Int32) &&& 31))]) (rest := [.ref a0]) hE.1 (snd_J18_copyOfRange l G _ mc9 ms9 h8 x3 (0 : Int32) (x4 <<< ((1 : Int32) &&& 31)) _ hw) (va_cwS 3 hts (lw_S q1673 q1674 q124 q1675) rfl rfl rfl (by decide +kernel) ⟨Nat.le_of_ble_eq_true rfl, Nat.le_of_ble_eq_true rfl⟩) (hv_preS hE hI) rfl rfl hl.1 rfl (lv_room (Nat.le_of_ble_eq_true rfl)) dJ6_init_2_91 ⟨hc, hs⟩) (fun r10 h11 H locs hw hI => ?_)
  refine hv_wputF (v := va_rf r10) tyJ6 hE hI in_J6 tyJ6_ok nmJ6 (ci := 7) rfl 0 (by decide) (hts _ q1732) (fun _ hx => hx) rfl hin2 rfl (ty := (.array .byte)) rfl (va_rf_narA _ _) (va_rf_fitA _ _) hw dJ6_init_2_94 (fun h12 H locs hw hI => ?_)
  exact hv_vret hE hI hc hs hw dJ6_init_2_97
def wp_J6_init_2 (G : GG) (mc : Nat) (ms : Nat) (h : HH) (a0 : Nat) (x1 : Option Nat) (x2 : Option Nat) (Q : HH → Prop) : Prop := w_nn x1 (fun a1 => w_is h a1 6 (wp_J4_getValue G h a1 (fun r2 h3 => w_is h3 a1 6 (wp_J5_length G h3 a1 (fun r4 h5 => w_is h5 a1 6 (wp_J4_isLatin1 G h5 a1 (fun r6 h7 => ((r6 = 0 → (((1 : Int32) = 0 → wp_J6_init_2_L79 G mc ms a0 Q h7 0 0 r2 r4) ∧ (¬ (1 : Int32) = 0 → w_geti h7 a1 6 2 (fun r13 => ((r13 = 0 → wp_J6_init_2_L79 G mc ms a0 Q h7 0 0 r2 r4) ∧ (¬ r13 = 0 → False)))))) ∧ (¬ r6 = 0 → w_put h7 a0 7 1 (.int (0 : Int32)) (fun h14 => (∃ mc15 ms15, 0 + mc15 ≤ mc ∧ 0 + ms15 ≤ ms ∧ wp_J18_copyOfRange G mc15 ms15 h14 r2 (0 : Int32) r4 (fun r16 h17 => w_put h17 a0 7 0 (va_rf r16) (fun h18 => Q h18)))))))))))))
set_option maxHeartbeats 4000000 in
theorem snd_J6_init_2 (l : Launch) (G : GG) (sz : Nat) (mc : Nat) (ms : Nat) (h : HH) (a0 : Nat) (x1 : Option Nat) (x2 : Option Nat) (Q : HH → Prop) (hw : wp_J6_init_2 G mc ms h a0 x1 x2 Q) : Met l yJ6_init_2 (ws_ yJ6_init_2 cJ6_init_2 5 (none : Option FieldType)) (rm_J6_init_2 mc ms) (hv_Pc G h sz [.ref a0, va_rf x1, va_rf x2]) (hv_Qv G h sz Q) mc ms (hv_A h sz) := by
  refine Met.ofW (cc := cJ6_init_2) (maxL := 5) (ret := (none : Option FieldType)) (by decide) rfl ?_
  intro p e s m args below meth c s₁ B hml hv
  have hin2 : meth.name = "<init>" := (name_of_methodNamed B.named B.method).1
  obtain ⟨rfl, rfl, hE, hI⟩ := hv_open B hml hv
  have hE : hv_E p s m ([.ref a0, va_rf x1, va_rf x2] : List Value).toArray meth c cJ6_init_2 5 (none : Option FieldType) RJ6 G h := hE
  obtain ⟨⟨hx, hb, hml, hown, hts⟩, hr, hlocks, hXX⟩ := id hE
  have hl := lv_entry ([.ref a0, va_rf x1, va_rf x2] : List Value) (n := 5) (by cases x1 <;> cases x2 <;> exact Nat.le_of_ble_eq_true rfl)
  rw [lg_entry_eq]
  generalize (lg_sl ([.ref a0, va_rf x1, va_rf x2] : List Value) ++ List.replicate (5 - (lg_sl ([.ref a0, va_rf x1, va_rf x2] : List Value)).length) Slot.unset).toArray = ls at hl ⊢
  have hl : lv_has ls 5 [(0, .ref a0), (1, va_rf x1), (2, va_rf x2)] := (by cases x1 <;> cases x2 <;> exact hl)
  have hc : 0 ≤ mc := Nat.zero_le _
  have hs : 0 ≤ ms := Nat.zero_le _
  unfold wp_J6_init_2 at hw
  refine lv_aload_n hx hb dJ6_init_2_0 rfl (lv_at hl 0 rfl) ?_
  refine hv_objI (rest := []) hE (hts _ q1665) (hts _ q146) (hts _ q147) hl.1 dJ6_init_2_1 (Nat.le_of_ble_eq_true rfl) (Nat.le_of_ble_eq_true rfl) ?_
  refine lv_aload_nq hx hb dJ6_init_2_4 rfl (lv_at hl 1 rfl) ?_
  obtain ⟨a1, hz, hwa1⟩ := hw; have hla1 := hl; subst hz; have hw := hwa1; have hl := hla1
  obtain ⟨⟨fs, hre⟩, hw⟩ := hw
  refine hv_rcq hI (va_runU (As := []) (b := a1) (rest := []) hE.1 (snd_J4_getValue l G _ h a1 _ hw) (va_cwU 0 hts (lw_U q1666 q1668 q1669 q1667 q104 q1670) rfl rfl rfl rfl (by decide +kernel) ⟨Nat.le_of_ble_eq_true rfl, Nat.le_of_ble_eq_true rfl⟩) (hv_preV hE hI (ci := 6) rfl hre) rfl rfl hl.1 rfl (lv_room (Nat.le_of_ble_eq_true rfl)) dJ6_init_2_5 ⟨hc, hs⟩) (fun r2 h3 H locs hw hI => ?_)
  refine lv_astore_nq (lv' := [(3, va_rf r2), (0, .ref a0), (1, .ref a1), (2, va_rf x2)]) hx hb dJ6_init_2_8 rfl hl (by decide) (by cases x2 <;> exact rfl) (fun ls hl => ?_)
  refine lv_aload_n hx hb dJ6_init_2_9 rfl (lv_at hl 2 rfl) ?_
  obtain ⟨⟨fs, hre⟩, hw⟩ := hw
  refine hv_rci hI (va_runU (As := []) (b := a1) (rest := []) hE.1 (snd_J5_length l G _ h3 a1 _ hw) (va_cwO 0 hts (lw_O (owner := "java/lang/AbstractStringBuilder") q1671 q2510 q727 q2517 q723 q105 q725) rfl rfl rfl q728 (by decide +kernel) ⟨Nat.le_of_ble_eq_true rfl, Nat.le_of_ble_eq_true rfl⟩) (hv_preV hE hI (ci := 6) rfl hre) rfl rfl hl.1 rfl (lv_room (Nat.le_of_ble_eq_true rfl)) dJ6_init_2_10 ⟨hc, hs⟩) (fun r4 h5 H locs hw hI => ?_)
  refine lv_istore (lv' := [(4, .int r4), (3, va_rf r2), (0, .ref a0), (1, .ref a1), (2, va_rf x2)]) hx hb dJ6_init_2_13 hl (by decide) (by cases r2 <;> exact rfl) (fun ls hl => ?_)
  refine lv_aload_n hx hb dJ6_init_2_15 rfl (lv_at hl 3 rfl) ?_
  obtain ⟨⟨fs, hre⟩, hw⟩ := hw
  refine hv_rci hI (va_runU (As := []) (b := a1) (rest := []) hE.1 (snd_J4_isLatin1 l G _ h5 a1 _ hw) (va_cwU 0 hts (lw_U q1672 q1585 q1586 q1584 q104 q1587) rfl rfl rfl rfl (by decide +kernel) ⟨Nat.le_of_ble_eq_true rfl, Nat.le_of_ble_eq_true rfl⟩) (hv_preV hE hI (ci := 6) rfl hre) rfl rfl hl.1 rfl (lv_room (Nat.le_of_ble_eq_true rfl)) dJ6_init_2_16 ⟨hc, hs⟩) (fun r6 h7 H locs hw hI => ?_)
  refine lv_if_eq (tgt := 41) hx hb dJ6_init_2_19 (by decide) (fun c_19 => ?_) (fun c_19 => ?_)
  · have hw := hw.1 c_19
    refine hv_gets hE hI (hv_zH hE).2.2.1 (hts _ q603) (fun _ hx => hx) dJ6_init_2_41 ?_
    refine lv_if_eq (tgt := 79) hx hb dJ6_init_2_44 (by decide) (fun c_44 => ?_) (fun c_44 => ?_)
    · have hw := hw.1 c_44
      exact snd_J6_init_2_L79 G mc ms a0 Q hin2 hE h7 0 0 r2 r4 hw hc hs _ _ _ hI (lv_sub hl [2, 1, 0] rfl)
    · have hw := hw.2 c_44
      refine lv_aload_n hx hb dJ6_init_2_47 rfl (lv_at hl 3 rfl) ?_
      refine hv_wgeti hE hI in_J5 (ci := 6) rfl 2 (by decide) (hts _ q287) (fun _ hx => hx) hw dJ6_init_2_48 (fun r13 hw => ?_)
      refine lv_if_eq (tgt := 79) hx hb dJ6_init_2_51 (by decide) (fun c_51 => ?_) (fun c_51 => ?_)
      · have hw := hw.1 c_51
        exact snd_J6_init_2_L79 G mc ms a0 Q hin2 hE h7 0 0 r2 r4 hw hc hs _ _ _ hI (lv_sub hl [2, 1, 0] rfl)
      · have hw := hw.2 c_51
        refine lv_aload_n hx hb dJ6_init_2_54 rfl (lv_at hl 2 rfl) ?_
        refine lv_aload_nq hx hb dJ6_init_2_55 rfl (lv_at hl 1 rfl) ?_
        refine lv_iconst (v := 0) hx hb dJ6_init_2_56 (by decide) ?_
        refine lv_iload hx hb dJ6_init_2_57 (lv_at hl 0 rfl) ?_
        exact hw.elim
  · have hw := hw.2 c_19
    refine lv_aload_n hx hb dJ6_init_2_22 rfl (lv_at hl 2 rfl) ?_
    refine lv_iconst (v := 0) hx hb dJ6_init_2_23 (by decide) ?_
    refine hv_wputF (v := .int (0 : Int32)) tyJ6 hE hI in_J6 tyJ6_ok nmJ6 (ci := 7) rfl 1 (by decide) (hts _ q1733) (fun _ hx => hx) rfl hin2 rfl (ty := .byte) rfl (by decide +kernel) (by decide +kernel) hw dJ6_init_2_24 (fun h14 H locs hw hI => ?_)
    refine lv_aload_n hx hb dJ6_init_2_27 rfl (lv_at hl 2 rfl) ?_
    refine lv_aload_nq hx hb dJ6_init_2_28 rfl (lv_at hl 1 rfl) ?_
    refine lv_iconst (v := 0) hx hb dJ6_init_2_29 (by decide) ?_
    refine lv_iload hx hb dJ6_init_2_30 (lv_at hl 0 rfl) ?_
    obtain ⟨mc15, ms15, hc, hs, hw⟩ := hw
    refine hv_rcq hI (va_runS (As := [va_rf r2, .int (0 : Int32), .int r4]) (rest := [.ref a0]) hE.1 (snd_J18_copyOfRange l G _ mc15 ms15 h14 r2 (0 : Int32) r4 _ hw) (va_cwS 3 hts (lw_S q1673 q1674 q124 q1675) rfl rfl rfl (by decide +kernel) ⟨Nat.le_of_ble_eq_true rfl, Nat.le_of_ble_eq_true rfl⟩) (hv_preS hE hI) rfl rfl hl.1 rfl (lv_room (Nat.le_of_ble_eq_true rfl)) dJ6_init_2_32 ⟨hc, hs⟩) (fun r16 h17 H locs hw hI => ?_)
    refine hv_wputF (v := va_rf r16) tyJ6 hE hI in_J6 tyJ6_ok nmJ6 (ci := 7) rfl 0 (by decide) (hts _ q1732) (fun _ hx => hx) rfl hin2 rfl (ty := (.array .byte)) rfl (va_rf_narA _ _) (va_rf_fitA _ _) hw dJ6_init_2_35 (fun h18 H locs hw hI => ?_)
    refine lv_goto (tgt := 97) hx hb dJ6_init_2_38 (by decide) ?_
    exact hv_vret hE hI hc hs hw dJ6_init_2_97

/-- java/lang/String.<init>(Ljava/lang/StringBuilder;)V -/
abbrev rm_J6_init (mc ms : Nat) : Room := { frames := 5, cells := mc, slots := ms, locals := 134 }
def wp_J6_init (G : GG) (mc : Nat) (ms : Nat) (h : HH) (a0 : Nat) (x1 : Option Nat) (Q : HH → Prop) : Prop := (∃ mc1 ms1, 0 + mc1 ≤ mc ∧ 0 + ms1 ≤ ms ∧ wp_J6_init_2 G mc1 ms1 h a0 x1 none (fun h2 => Q h2))
set_option maxHeartbeats 4000000 in
theorem snd_J6_init (l : Launch) (G : GG) (sz : Nat) (mc : Nat) (ms : Nat) (h : HH) (a0 : Nat) (x1 : Option Nat) (Q : HH → Prop) (hw : wp_J6_init G mc ms h a0 x1 Q) : Met l yJ6_init (ws_ yJ6_init cJ6_init 2 (none : Option FieldType)) (rm_J6_init mc ms) (hv_Pc G h sz [.ref a0, va_rf x1]) (hv_Qv G h sz Q) mc ms (hv_A h sz) := by
  refine Met.ofW (cc := cJ6_init) (maxL := 2) (ret := (none : Option FieldType)) (by decide) rfl ?_
  intro p e s m args below meth c s₁ B hml hv
  have hin2 : meth.name = "<init>" := (name_of_methodNamed B.named B.method).1
  obtain ⟨rfl, rfl, hE, hI⟩ := hv_open B hml hv
  have hE : hv_E p s m ([.ref a0, va_rf x1] : List Value).toArray meth c cJ6_init 2 (none : Option FieldType) RJ6 G h := hE
  obtain ⟨⟨hx, hb, hml, hown, hts⟩, hr, hlocks, hXX⟩ := id hE
  have hl := lv_entry ([.ref a0, va_rf x1] : List Value) (n := 2) (by cases x1 <;> exact Nat.le_of_ble_eq_true rfl)
  rw [lg_entry_eq]
  generalize (lg_sl ([.ref a0, va_rf x1] : List Value) ++ List.replicate (2 - (lg_sl ([.ref a0, va_rf x1] : List Value)).length) Slot.unset).toArray = ls at hl ⊢
  have hl : lv_has ls 2 [(0, .ref a0), (1, va_rf x1)] := (by cases x1 <;> exact hl)
  have hc : 0 ≤ mc := Nat.zero_le _
  have hs : 0 ≤ ms := Nat.zero_le _
  unfold wp_J6_init at hw
  refine lv_aload_n hx hb dJ6_init_0 rfl (lv_at hl 0 rfl) ?_
  refine lv_aload_nq hx hb dJ6_init_1 rfl (lv_at hl 1 rfl) ?_
  refine lv_null hx hb dJ6_init_2 ?_
  obtain ⟨mc1, ms1, hc, hs, hw⟩ := hw
  refine hv_rcv hI (va_runI (As := [va_rf x1, .null]) (b := a0) (rest := []) hE.1 (snd_J6_init_2 l G _ mc1 ms1 h a0 x1 none _ hw) (cwI 2 hts (lw_meth q1664) rfl rfl rfl (hts _ q106) (hts _ q1662) (hts _ q1663) rfl (by decide +kernel) ⟨Nat.le_of_ble_eq_true rfl, Nat.le_of_ble_eq_true rfl⟩) (hv_preS hE hI) rfl rfl hl.1 rfl (lv_room (Nat.le_of_ble_eq_true rfl)) dJ6_init_3 ⟨hc, hs⟩) (fun h2 H locs hw hI => ?_)
  exact hv_vret hE hI hc hs hw dJ6_init_6

/-- java/lang/StringBuilder.toString()Ljava/lang/String; -/
abbrev rm_J5_toString (mc ms : Nat) : Room := { frames := 6, cells := mc, slots := ms, locals := 155 }
def wp_J5_toString (G : GG) (mc : Nat) (ms : Nat) (h : HH) (a0 : Nat) (Q : Option Nat → HH → Prop) : Prop := (0 + 1 ≤ mc ∧ 0 + 4 ≤ ms ∧ w_new h (.inr (7, df_J6)) (fun a1 h2 => (∃ mc3 ms3, (0 + 1) + mc3 ≤ mc ∧ (0 + 4) + ms3 ≤ ms ∧ wp_J6_init G mc3 ms3 h2 a1 (some a0) (fun h4 => Q (some a1) h4))))
set_option maxHeartbeats 4000000 in
theorem snd_J5_toString (l : Launch) (G : GG) (sz : Nat) (mc : Nat) (ms : Nat) (h : HH) (a0 : Nat) (Q : Option Nat → HH → Prop) (hw : wp_J5_toString G mc ms h a0 Q) : Met l yJ5_toString (ws_ yJ5_toString cJ5_toString 1 (some (FieldType.object "java/lang/String"))) (rm_J5_toString mc ms) (hv_Pc G h sz [.ref a0]) (hv_Qq G h sz Q) mc ms (hv_A h sz) := by
  refine Met.ofW (cc := cJ5_toString) (maxL := 1) (ret := (some (FieldType.object "java/lang/String"))) (by decide) rfl ?_
  intro p e s m args below meth c s₁ B hml hv
  obtain ⟨rfl, rfl, hE, hI⟩ := hv_open B hml hv
  have hE : hv_E p s m ([.ref a0] : List Value).toArray meth c cJ5_toString 1 (some (FieldType.object "java/lang/String")) RJ5 G h := hE
  obtain ⟨⟨hx, hb, hml, hown, hts⟩, hr, hlocks, hXX⟩ := id hE
  have hl := lv_entry ([.ref a0] : List Value) (n := 1) (Nat.le_of_ble_eq_true rfl)
  rw [lg_entry_eq]
  generalize (lg_sl ([.ref a0] : List Value) ++ List.replicate (1 - (lg_sl ([.ref a0] : List Value)).length) Slot.unset).toArray = ls at hl ⊢
  have hl : lv_has ls 1 [(0, .ref a0)] := hl
  have hc : 0 ≤ mc := Nat.zero_le _
  have hs : 0 ≤ ms := Nat.zero_le _
  unfold wp_J5_toString at hw
  obtain ⟨hc, hs, hw⟩ := hw
  refine hv_wnew tyJ6 hE hI in_J6 tyJ6_ok (hts _ q1658) (hts _ q1461) (hts _ q106) (ci := 7) rfl df_J6_ok hw hc hs dJ5_toString_0 (fun a1 h2 H hw hI => ?_)
  refine lv_dup hx hb dJ5_toString_3 rfl ?_
  refine lv_aload_n hx hb dJ5_toString_4 rfl (lv_at hl 0 rfl) ?_
  obtain ⟨mc3, ms3, hc, hs, hw⟩ := hw
  refine hv_rcv hI (va_runI (As := [.ref a0]) (b := a1) (rest := [.ref a1]) hE.1 (snd_J6_init l G _ mc3 ms3 h2 a1 (some a0) _ hw) (cwI 1 hts (lw_meth q1661) rfl rfl rfl (hts _ q106) (hts _ q1659) (hts _ q1660) rfl (by decide +kernel) ⟨Nat.le_of_ble_eq_true rfl, Nat.le_of_ble_eq_true rfl⟩) (hv_preS hE hI) rfl rfl hl.1 rfl (lv_room (Nat.le_of_ble_eq_true rfl)) dJ5_toString_5 ⟨hc, hs⟩) (fun h4 H locs hw hI => ?_)
  exact hv_qret (v := (some a1)) hE (Or.inl ⟨_, rfl⟩) hI hc hs hw dJ5_toString_8
