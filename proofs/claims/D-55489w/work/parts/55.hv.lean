/-! walks over a world (by gen/hvrun.py) -/
set_option maxRecDepth 100000
/-- MatchmakerRules$Book.wouldGo(I)I -/
abbrev rm_X2_wouldGo (mc ms : Nat) : Room := { frames := 9, cells := mc, slots := ms, locals := 3126 }
def wp_X2_wouldGo (G : GG) (mc : Nat) (ms : Nat) (h : HH) (a0 : Nat) (x1 : Int32) (Q : Int32 → HH → Prop) (X : String → Nat → HH → Prop) : Prop := (∃ mc1 ms1, 0 + mc1 ≤ mc ∧ 0 + ms1 ≤ ms ∧ w_is h a0 2 (wp_X2_fact G mc1 ms1 h a0 x1 (fun r2 h3 => w_nn r2 (fun a6 => w_geti h3 a6 14 6 (fun r7 => (∃ mc8 ms8, (0 + mc1) + mc8 ≤ mc ∧ (0 + ms1) + ms8 ≤ ms ∧ w_is h3 a0 2 (wp_X2_copy G mc8 ms8 h3 a0 (fun r9 h10 => w_nn r9 (fun a11 => (∃ mc12 ms12, ((0 + mc1) + mc8) + mc12 ≤ mc ∧ ((0 + ms1) + ms8) + ms12 ≤ ms ∧ w_is h10 a11 2 (wp_X2_find G mc12 ms12 h10 a11 x1 (fun r13 h14 => w_nn r13 (fun a15 => w_put h14 a15 14 6 (.int (0 : Int32)) (fun h16 => ((r7 = 0 → Q (0 : Int32) h16) ∧ (¬ r7 = 0 → (∃ mc17 ms17, (((0 + mc1) + mc8) + mc12) + mc17 ≤ mc ∧ (((0 + ms1) + ms8) + ms12) + ms17 ≤ ms ∧ w_is h16 a11 2 (wp_X2_loseGround G mc17 ms17 h16 a11 (fun r18 h19 => Q r18 h19))))))))))))))))) (fun E q4 h5 => X E q4 h5)))
set_option maxHeartbeats 4000000 in
theorem snd_X2_wouldGo (l : Launch) (hl0 : l.stackTraces = false) (G : GG) (sz : Nat) (mc : Nat) (ms : Nat) (h : HH) (a0 : Nat) (x1 : Int32) (Q : Int32 → HH → Prop) (X : String → Nat → HH → Prop) (hw : wp_X2_wouldGo G mc ms h a0 x1 Q X) : vx_Met l yX2_wouldGo (ws_ yX2_wouldGo cX2_wouldGo 4 (some FieldType.int)) (rm_X2_wouldGo mc ms) (hv_Pc G h sz [.ref a0, .int x1]) (hv_Qi G h sz Q) (hv_XC G h sz X) mc ms (hv_A h sz) := by
  refine vx_ofW (cc := cX2_wouldGo) (maxL := 4) (ret := (some FieldType.int)) (by decide) rfl ?_
  intro p e s m args below meth c s₁ B hml ht hv
  obtain ⟨rfl, rfl, hE, hI⟩ := hv_open B hml hv
  have hE : hv_E p s m ([.ref a0, .int x1] : List Value).toArray meth c cX2_wouldGo 4 (some FieldType.int) RX2 G h := hE
  obtain ⟨⟨hx, hb, hml, hown, hts⟩, hr, hlocks, hXX⟩ := id hE
  have hl := lv_entry ([.ref a0, .int x1] : List Value) (n := 4) (Nat.le_of_ble_eq_true rfl)
  rw [lg_entry_eq]
  generalize (lg_sl ([.ref a0, .int x1] : List Value) ++ List.replicate (4 - (lg_sl ([.ref a0, .int x1] : List Value)).length) Slot.unset).toArray = ls at hl ⊢
  have hl : lv_has ls 4 [(0, .ref a0), (1, .int x1)] := hl
  have hc : 0 ≤ mc := Nat.zero_le _
  have hs : 0 ≤ ms := Nat.zero_le _
  unfold wp_X2_wouldGo at hw
  refine lv_aload_n hx hb dX2_wouldGo_0 rfl (lv_at hl 0 rfl) ?_
  refine lv_iload_n hx hb dX2_wouldGo_1 rfl (lv_at hl 1 rfl) ?_
  obtain ⟨mc1, ms1, hc, hs, hw⟩ := hw
  obtain ⟨⟨fs, hre⟩, hw⟩ := hw
  refine hx_rcq hI (vx_runV (As := [.int x1]) (b := a0) (rest := []) hE.1 (snd_X2_fact l hl0 G _ mc1 ms1 h a0 x1 _ _ hw) (cwV 1 hts (lw_V q1540 q1369 q1370 q98 q1371) rfl rfl rfl (by decide +kernel) ⟨Nat.le_of_ble_eq_true rfl, Nat.le_of_ble_eq_true rfl⟩) (hv_preV hE hI (ci := 2) rfl hre) rfl rfl hl.1 rfl (lv_room (Nat.le_of_ble_eq_true rfl)) dX2_wouldGo_2 ⟨hc, hs⟩) ?_ (fun r2 h3 H locs hw hI => ?_)
  · intro E q4 h5 H locs hw hI hT
    exact hx_out hE hI hT hc hs (fun z hz => (ht z hz).elim) hw
  obtain ⟨a6, hz, hwa6⟩ := hw; have hla6 := hl; subst hz; have hw := hwa6; have hl := hla6
  refine hv_wgetiN hE hI in_X10 (ci := 14) rfl 6 (by decide) (hE.2.2.2.2.1.F 29 rfl) (fun _ hx => hx) hw dX2_wouldGo_5 (fun r7 hw => ?_)
  refine lv_istore_n (lv' := [(2, .int r7), (0, .ref a0), (1, .int x1)]) hx hb dX2_wouldGo_8 rfl hl (by decide) rfl (fun ls hl => ?_)
  refine lv_aload_n hx hb dX2_wouldGo_9 rfl (lv_at hl 1 rfl) ?_
  obtain ⟨mc8, ms8, hc, hs, hw⟩ := hw
  obtain ⟨⟨fs, hre⟩, hw⟩ := hw
  refine hv_rcq hI (va_runV (As := []) (b := a0) (rest := []) hE.1 (snd_X2_copy l G _ mc8 ms8 h3 a0 _ hw) (cwV 0 hts (lw_V q1521 q904 q905 q98 q906) rfl rfl rfl (by decide +kernel) ⟨Nat.le_of_ble_eq_true rfl, Nat.le_of_ble_eq_true rfl⟩) (hv_preV hE hI (ci := 2) rfl hre) rfl rfl hl.1 rfl (lv_room (Nat.le_of_ble_eq_true rfl)) dX2_wouldGo_10 ⟨hc, hs⟩) (fun r9 h10 H locs hw hI => ?_)
  refine lv_astore_nq (lv' := [(3, va_rf r9), (2, .int r7), (0, .ref a0), (1, .int x1)]) hx hb dX2_wouldGo_13 rfl hl (by decide) rfl (fun ls hl => ?_)
  refine lv_aload_nq hx hb dX2_wouldGo_14 rfl (lv_at hl 0 rfl) ?_
  refine lv_iload_n hx hb dX2_wouldGo_15 rfl (lv_at hl 3 rfl) ?_
  obtain ⟨a11, hz, hwa11⟩ := hw; have hla11 := hl; subst hz; have hw := hwa11; have hl := hla11
  obtain ⟨mc12, ms12, hc, hs, hw⟩ := hw
  obtain ⟨⟨fs, hre⟩, hw⟩ := hw
  refine hv_rcq hI (va_runV (As := [.int x1]) (b := a11) (rest := []) hE.1 (snd_X2_find l G _ mc12 ms12 h10 a11 x1 _ hw) (cwV 1 hts (lw_V q565 q566 q567 q98 q568) rfl rfl rfl (by decide +kernel) ⟨Nat.le_of_ble_eq_true rfl, Nat.le_of_ble_eq_true rfl⟩) (hv_preV hE hI (ci := 2) rfl hre) rfl rfl hl.1 rfl (lv_room (Nat.le_of_ble_eq_true rfl)) dX2_wouldGo_16 ⟨hc, hs⟩) (fun r13 h14 H locs hw hI => ?_)
  refine lv_iconst (v := 0) hx hb dX2_wouldGo_19 (by decide) ?_
  obtain ⟨a15, hz, hwa15⟩ := hw; have hla15 := hl; subst hz; have hw := hwa15; have hl := hla15
  refine hv_wputN (v := .int (0 : Int32)) tyX10 hE hI in_X10 tyX10_ok nmX10 (ci := 14) rfl 6 (by decide) (hE.2.2.2.2.1.F 29 rfl) (fun _ hx => hx) rfl (ty := .boolean) rfl (by decide +kernel) (by decide +kernel) hw dX2_wouldGo_20 (fun h16 H locs hw hI => ?_)
  refine lv_iload_n hx hb dX2_wouldGo_23 rfl (lv_at hl 1 rfl) ?_
  refine lv_if_eq (tgt := 34) hx hb dX2_wouldGo_24 (by decide) (fun c_24 => ?_) (fun c_24 => ?_)
  · have hw := hw.1 c_24
    refine lv_iconst (v := 0) hx hb dX2_wouldGo_34 (by decide) ?_
    exact vx_ret (hv_iret hE hI hc hs hw dX2_wouldGo_35)
  · have hw := hw.2 c_24
    refine lv_aload_n hx hb dX2_wouldGo_27 rfl (lv_at hl 0 rfl) ?_
    obtain ⟨mc17, ms17, hc, hs, hw⟩ := hw
    obtain ⟨⟨fs, hre⟩, hw⟩ := hw
    refine hv_rci hI (va_runV (As := []) (b := a11) (rest := []) hE.1 (snd_X2_loseGround l G _ mc17 ms17 h16 a11 _ hw) (cwV 0 hts (lw_V q1138 q1140 qs20 q98 q1141) rfl rfl rfl (by decide +kernel) ⟨Nat.le_of_ble_eq_true rfl, Nat.le_of_ble_eq_true rfl⟩) (hv_preV hE hI (ci := 2) rfl hre) rfl rfl hl.1 rfl (lv_room (Nat.le_of_ble_eq_true rfl)) dX2_wouldGo_28 ⟨hc, hs⟩) (fun r18 h19 H locs hw hI => ?_)
    refine lv_goto (tgt := 35) hx hb dX2_wouldGo_31 (by decide) ?_
    exact vx_ret (hv_iret hE hI hc hs hw dX2_wouldGo_35)

/-- MatchmakerRules.wouldGo(I)I -/
abbrev rm_X1_wouldGo (mc ms : Nat) : Room := { frames := 10, cells := mc, slots := ms, locals := 3149 }
def wp_X1_wouldGo (G : GG) (mc : Nat) (ms : Nat) (h : HH) (a0 : Nat) (x1 : Int32) (Q : Int32 → HH → Prop) (X : String → Nat → HH → Prop) : Prop := w_getq h a0 1 0 (fun r1 => w_nn r1 (fun a2 => (∃ mc3 ms3, 0 + mc3 ≤ mc ∧ 0 + ms3 ≤ ms ∧ w_is h a2 2 (wp_X2_wouldGo G mc3 ms3 h a2 x1 (fun r4 h5 => Q r4 h5) (fun E q6 h7 => X E q6 h7)))))
set_option maxHeartbeats 4000000 in
theorem snd_X1_wouldGo (l : Launch) (hl0 : l.stackTraces = false) (G : GG) (sz : Nat) (mc : Nat) (ms : Nat) (h : HH) (a0 : Nat) (x1 : Int32) (Q : Int32 → HH → Prop) (X : String → Nat → HH → Prop) (hw : wp_X1_wouldGo G mc ms h a0 x1 Q X) : vx_Met l yX1_wouldGo (ws_ yX1_wouldGo cX1_wouldGo 2 (some FieldType.int)) (rm_X1_wouldGo mc ms) (hv_Pc G h sz [.ref a0, .int x1]) (hv_Qi G h sz Q) (hv_XC G h sz X) mc ms (hv_A h sz) := by
  refine vx_ofW (cc := cX1_wouldGo) (maxL := 2) (ret := (some FieldType.int)) (by decide) rfl ?_
  intro p e s m args below meth c s₁ B hml ht hv
  obtain ⟨rfl, rfl, hE, hI⟩ := hv_open B hml hv
  have hE : hv_E p s m ([.ref a0, .int x1] : List Value).toArray meth c cX1_wouldGo 2 (some FieldType.int) RX1 G h := hE
  obtain ⟨⟨hx, hb, hml, hown, hts⟩, hr, hlocks, hXX⟩ := id hE
  have hl := lv_entry ([.ref a0, .int x1] : List Value) (n := 2) (Nat.le_of_ble_eq_true rfl)
  rw [lg_entry_eq]
  generalize (lg_sl ([.ref a0, .int x1] : List Value) ++ List.replicate (2 - (lg_sl ([.ref a0, .int x1] : List Value)).length) Slot.unset).toArray = ls at hl ⊢
  have hl : lv_has ls 2 [(0, .ref a0), (1, .int x1)] := hl
  have hc : 0 ≤ mc := Nat.zero_le _
  have hs : 0 ≤ ms := Nat.zero_le _
  unfold wp_X1_wouldGo at hw
  refine lv_aload_n hx hb dX1_wouldGo_0 rfl (lv_at hl 0 rfl) ?_
  refine hv_wgetq hE hI in_X1 (ci := 1) rfl 0 (by decide) (hts _ q300) (fun _ hx => hx) hw dX1_wouldGo_1 (fun r1 hw => ?_)
  refine lv_iload_n hx hb dX1_wouldGo_4 rfl (lv_at hl 1 rfl) ?_
  obtain ⟨a2, hz, hwa2⟩ := hw; have hla2 := hl; subst hz; have hw := hwa2; have hl := hla2
  obtain ⟨mc3, ms3, hc, hs, hw⟩ := hw
  obtain ⟨⟨fs, hre⟩, hw⟩ := hw
  refine hx_rci hI (vx_runV (As := [.int x1]) (b := a2) (rest := []) hE.1 (snd_X2_wouldGo l hl0 G _ mc3 ms3 h a2 x1 _ _ hw) (cwV 1 hts (lw_V q1536 q1537 q1538 q98 q1539) rfl rfl rfl (by decide +kernel) ⟨Nat.le_of_ble_eq_true rfl, Nat.le_of_ble_eq_true rfl⟩) (hv_preV hE hI (ci := 2) rfl hre) rfl rfl hl.1 rfl (lv_room (Nat.le_of_ble_eq_true rfl)) dX1_wouldGo_5 ⟨hc, hs⟩) ?_ (fun r4 h5 H locs hw hI => ?_)
  · intro E q6 h7 H locs hw hI hT
    exact hx_out hE hI hT hc hs (fun z hz => (ht z hz).elim) hw
  exact vx_ret (hv_iret hE hI hc hs hw dX1_wouldGo_8)

/-- java/lang/AbstractStringBuilder.newCapacity(I)I -/
abbrev rm_J4_newCapacity : Room := { frames := 2, cells := 0, slots := 0, locals := 55 }
def wp_J4_newCapacity (G : GG) (h : HH) (a0 : Nat) (x1 : Int32) (Q : Int32 → HH → Prop) : Prop := w_getq h a0 6 0 (fun r1 => w_nn r1 (fun a2 => w_len G h a2 (fun r3 => w_geti h a0 6 1 (fun r4 => w_geti h a0 6 1 (fun r5 => wp_J17_newLength G h r3 ((x1 <<< (r4 &&& 31)) - r3) (r3 + ((2 : Int32) <<< (r5 &&& 31))) (fun r6 h7 => ((¬ r6 = (2147483647 : Int32) → w_geti h7 a0 6 1 (fun r8 => Q (r6 >>> (r8 &&& 31)) h7)) ∧ (r6 = (2147483647 : Int32) → False))))))))
set_option maxHeartbeats 4000000 in
theorem snd_J4_newCapacity (l : Launch) (G : GG) (sz : Nat) (h : HH) (a0 : Nat) (x1 : Int32) (Q : Int32 → HH → Prop) (hw : wp_J4_newCapacity G h a0 x1 Q) : Met l yJ4_newCapacity (ws_ yJ4_newCapacity cJ4_newCapacity 6 (some FieldType.int)) rm_J4_newCapacity (hv_Pc G h sz [.ref a0, .int x1]) (hv_Qi G h sz Q) 0 0 (hv_A h sz) := by
  refine Met.ofW (cc := cJ4_newCapacity) (maxL := 6) (ret := (some FieldType.int)) (by decide) rfl ?_
  intro p e s m args below meth c s₁ B hml hv
  obtain ⟨rfl, rfl, hE, hI⟩ := hv_open B hml hv
  have hE : hv_E p s m ([.ref a0, .int x1] : List Value).toArray meth c cJ4_newCapacity 6 (some FieldType.int) RJ4 G h := hE
  obtain ⟨⟨hx, hb, hml, hown, hts⟩, hr, hlocks, hXX⟩ := id hE
  have hl := lv_entry ([.ref a0, .int x1] : List Value) (n := 6) (Nat.le_of_ble_eq_true rfl)
  rw [lg_entry_eq]
  generalize (lg_sl ([.ref a0, .int x1] : List Value) ++ List.replicate (6 - (lg_sl ([.ref a0, .int x1] : List Value)).length) Slot.unset).toArray = ls at hl ⊢
  have hl : lv_has ls 6 [(0, .ref a0), (1, .int x1)] := hl
  unfold wp_J4_newCapacity at hw
  refine lv_aload_n hx hb dJ4_newCapacity_0 rfl (lv_at hl 0 rfl) ?_
  refine hv_wgetq hE hI in_J5 (ci := 6) rfl 0 (by decide) (hts _ q285) (fun _ hx => hx) hw dJ4_newCapacity_1 (fun r1 hw => ?_)
  obtain ⟨a2, hz, hwa2⟩ := hw; have hla2 := hl; subst hz; have hw := hwa2; have hl := hla2
  refine hv_len hE hI hw dJ4_newCapacity_4 (fun r3 hw => ?_)
  refine lv_istore_n (lv' := [(2, .int r3), (0, .ref a0), (1, .int x1)]) hx hb dJ4_newCapacity_5 rfl hl (by decide) rfl (fun ls hl => ?_)
  refine lv_iload_n hx hb dJ4_newCapacity_6 rfl (lv_at hl 2 rfl) ?_
  refine lv_aload_n hx hb dJ4_newCapacity_7 rfl (lv_at hl 1 rfl) ?_
  refine hv_wgeti hE hI in_J5 (ci := 6) rfl 1 (by decide) (hts _ q286) (fun _ hx => hx) hw dJ4_newCapacity_8 (fun r4 hw => ?_)
  refine lv_ishl hx hb dJ4_newCapacity_11 ?_
  refine lv_istore_n (lv' := [(3, .int (x1 <<< (r4 &&& 31))), (2, .int r3), (0, .ref a0), (1, .int x1)]) hx hb dJ4_newCapacity_12 rfl hl (by decide) rfl (fun ls hl => ?_)
  refine lv_iload_n hx hb dJ4_newCapacity_13 rfl (lv_at hl 0 rfl) ?_
  refine lv_iload_n hx hb dJ4_newCapacity_14 rfl (lv_at hl 1 rfl) ?_
  refine lv_isub hx hb dJ4_newCapacity_15 ?_
  refine lv_istore (lv' := [(4, .int ((x1 <<< (r4 &&& 31)) - r3)), (3, .int (x1 <<< (r4 &&& 31))), (2, .int r3), (0, .ref a0), (1, .int x1)]) hx hb dJ4_newCapacity_16 hl (by decide) rfl (fun ls hl => ?_)
  refine lv_iload_n hx hb dJ4_newCapacity_18 rfl (lv_at hl 2 rfl) ?_
  refine lv_iload hx hb dJ4_newCapacity_19 (lv_at hl 0 rfl) ?_
  refine lv_iload_n hx hb dJ4_newCapacity_21 rfl (lv_at hl 2 rfl) ?_
  refine lv_iconst (v := 2) hx hb dJ4_newCapacity_22 (by decide) ?_
  refine lv_aload_n hx hb dJ4_newCapacity_23 rfl (lv_at hl 3 rfl) ?_
  refine hv_wgeti hE hI in_J5 (ci := 6) rfl 1 (by decide) (hts _ q286) (fun _ hx => hx) hw dJ4_newCapacity_24 (fun r5 hw => ?_)
  refine lv_ishl hx hb dJ4_newCapacity_27 ?_
  refine lv_iadd hx hb dJ4_newCapacity_28 ?_
  refine hv_rci hI (va_runS (As := [.int r3, .int ((x1 <<< (r4 &&& 31)) - r3), .int (r3 + ((2 : Int32) <<< (r5 &&& 31)))]) (rest := []) hE.1 (snd_J17_newLength l G _ h r3 ((x1 <<< (r4 &&& 31)) - r3) (r3 + ((2 : Int32) <<< (r5 &&& 31))) _ hw) (va_cwS 3 hts (lw_S q1573 q926 q123 q927) rfl rfl rfl (by decide +kernel) ⟨Nat.le_of_ble_eq_true rfl, Nat.le_of_ble_eq_true rfl⟩) (hv_preS hE hI) rfl rfl hl.1 rfl (lv_room (Nat.le_of_ble_eq_true rfl)) dJ4_newCapacity_29 ⟨Nat.le_of_ble_eq_true rfl, Nat.le_of_ble_eq_true rfl⟩) (fun r6 h7 H locs hw hI => ?_)
  refine lv_istore (lv' := [(5, .int r6), (4, .int ((x1 <<< (r4 &&& 31)) - r3)), (3, .int (x1 <<< (r4 &&& 31))), (2, .int r3), (0, .ref a0), (1, .int x1)]) hx hb dJ4_newCapacity_32 hl (by decide) rfl (fun ls hl => ?_)
  refine lv_iload hx hb dJ4_newCapacity_34 (lv_at hl 0 rfl) ?_
  refine lv_ldc (v := 2147483647) hx hb hown (hts _ q1574) dJ4_newCapacity_36 ?_
  refine lv_icmp_ne (tgt := 51) hx hb dJ4_newCapacity_38 (by decide) (fun c_38 => ?_) (fun c_38 => ?_)
  · have hw := hw.1 c_38
    refine lv_iload hx hb dJ4_newCapacity_51 (lv_at hl 0 rfl) ?_
    refine lv_aload_n hx hb dJ4_newCapacity_53 rfl (lv_at hl 4 rfl) ?_
    refine hv_wgeti hE hI in_J5 (ci := 6) rfl 1 (by decide) (hts _ q286) (fun _ hx => hx) hw dJ4_newCapacity_54 (fun r8 hw => ?_)
    refine lv_ishr hx hb dJ4_newCapacity_57 ?_
    exact hv_iret hE hI (Nat.le_refl _) (Nat.le_refl _) hw dJ4_newCapacity_58
  · have hw := hw.2 c_38
    exact hw.elim

/-- java/util/Arrays.copyOf([BI)[B -/
abbrev rm_J18_copyOf_3 (mc ms : Nat) : Room := { frames := 1, cells := mc, slots := ms, locals := 64 }
def wp_J18_copyOf_3 (G : GG) (mc : Nat) (ms : Nat) (h : HH) (x0 : Option Nat) (x1 : Int32) (Q : Option Nat → HH → Prop) : Prop := w_nn x0 (fun a1 => w_len G h a1 (fun r2 => ((¬ x1 = r2 → (¬ x1 < 0 ∧ (Int32.toNatClampNeg x1) ≤ 1000000 ∧ (0 + 1 ≤ mc ∧ 0 + (Int32.toNatClampNeg x1) ≤ ms ∧ w_new h (.inl (G.2.1 1, (Int32.toNatClampNeg x1), .inl (fun _ => 0))) (fun a3 h4 => w_len G h4 a1 (fun r5 => w_cpb G h4 a1 (0 : Int32) a3 (0 : Int32) (if x1 < r5 then x1 else r5) (fun h6 => Q (some a3) h6)))))) ∧ (x1 = r2 → w_clone G h a1 1 mc ms 0 0 (fun a7 h9 nn8 => w_castA G h9 a7 1 (Q (some a7) h9))))))
set_option maxHeartbeats 4000000 in
theorem snd_J18_copyOf_3 (l : Launch) (G : GG) (sz : Nat) (mc : Nat) (ms : Nat) (h : HH) (x0 : Option Nat) (x1 : Int32) (Q : Option Nat → HH → Prop) (hw : wp_J18_copyOf_3 G mc ms h x0 x1 Q) : Met l yJ18_copyOf_3 (ws_ yJ18_copyOf_3 cJ18_copyOf_3 3 (some (FieldType.array FieldType.byte))) (rm_J18_copyOf_3 mc ms) (hv_Pc G h sz [va_rf x0, .int x1]) (hv_Qq G h sz Q) mc ms (hv_A h sz) := by
  refine Met.ofW (cc := cJ18_copyOf_3) (maxL := 3) (ret := (some (FieldType.array FieldType.byte))) (by decide) rfl ?_
  intro p e s m args below meth c s₁ B hml hv
  obtain ⟨rfl, rfl, hE, hI⟩ := hv_open B hml hv
  have hE : hv_E p s m ([va_rf x0, .int x1] : List Value).toArray meth c cJ18_copyOf_3 3 (some (FieldType.array FieldType.byte)) RJ18 G h := hE
  obtain ⟨⟨hx, hb, hml, hown, hts⟩, hr, hlocks, hXX⟩ := id hE
  have hl := lv_entry ([va_rf x0, .int x1] : List Value) (n := 3) (by cases x0 <;> exact Nat.le_of_ble_eq_true rfl)
  rw [lg_entry_eq]
  generalize (lg_sl ([va_rf x0, .int x1] : List Value) ++ List.replicate (3 - (lg_sl ([va_rf x0, .int x1] : List Value)).length) Slot.unset).toArray = ls at hl ⊢
  have hl : lv_has ls 3 [(0, va_rf x0), (1, .int x1)] := (by cases x0 <;> exact hl)
  have hc : 0 ≤ mc := Nat.zero_le _
  have hs : 0 ≤ ms := Nat.zero_le _
  unfold wp_J18_copyOf_3 at hw
  refine lv_iload_n hx hb dJ18_copyOf_3_0 rfl (lv_at hl 1 rfl) ?_
  refine lv_aload_nq hx hb dJ18_copyOf_3_1 rfl (lv_at hl 0 rfl) ?_
  obtain ⟨a1, hz, hwa1⟩ := hw; have hla1 := hl; subst hz; have hw := hwa1; have hl := hla1
  refine hv_len hE hI hw dJ18_copyOf_3_2 (fun r2 hw => ?_)
  refine lv_icmp_ne (tgt := 14) hx hb dJ18_copyOf_3_3 (by decide) (fun c_3 => ?_) (fun c_3 => ?_)
  · have hw := hw.1 c_3
    refine lv_iload_n hx hb dJ18_copyOf_3_14 rfl (lv_at hl 1 rfl) ?_
    obtain ⟨hneg, hby, hw⟩ := hw
    obtain ⟨hc, hs, hw⟩ := hw
    refine hv_wnewa_byte (N' := (Int32.toNatClampNeg x1)) hE hI (hts _ q298) rfl hneg hby hw hc hs dJ18_copyOf_3_15 (fun a3 h4 H hw hI => ?_)
    refine lv_astore_n (lv' := [(2, .ref a3), (0, .ref a1), (1, .int x1)]) hx hb dJ18_copyOf_3_17 rfl hl (by decide) rfl (fun ls hl => ?_)
    refine lv_aload_n hx hb dJ18_copyOf_3_18 rfl (lv_at hl 1 rfl) ?_
    refine lv_iconst (v := 0) hx hb dJ18_copyOf_3_19 (by decide) ?_
    refine lv_aload_n hx hb dJ18_copyOf_3_20 rfl (lv_at hl 0 rfl) ?_
    refine lv_iconst (v := 0) hx hb dJ18_copyOf_3_21 (by decide) ?_
    refine lv_aload_n hx hb dJ18_copyOf_3_22 rfl (lv_at hl 1 rfl) ?_
    refine hv_len hE hI hw dJ18_copyOf_3_23 (fun r5 hw => ?_)
    refine lv_iload_n hx hb dJ18_copyOf_3_24 rfl (lv_at hl 2 rfl) ?_
    refine va_mmin (rest := [.int (0 : Int32), .ref a3, .int (0 : Int32), .ref a1]) hx hb (hml.trans hl.1.symm) hown (hts _ q971) (hts _ q612) (hts _ q113) (hts _ q613) (Nat.le_of_ble_eq_true rfl) (Nat.le_of_ble_eq_true rfl) hc hs dJ18_copyOf_3_25 ?_
    refine hv_cpb (rest := []) hE hI hw hl.1 (hts _ q972) (hts _ q523) (hts _ q522) (hts _ q125) (Nat.le_of_ble_eq_true rfl) (Nat.le_of_ble_eq_true rfl) dJ18_copyOf_3_28 (fun h6 H locs hw hI => ?_)
    refine lv_aload_n hx hb dJ18_copyOf_3_31 rfl (lv_at hl 0 rfl) ?_
    exact hv_qret (v := (some a3)) hE (Or.inr ⟨_, rfl⟩) hI hc hs hw dJ18_copyOf_3_32
  · have hw := hw.2 c_3
    refine lv_aload_n hx hb dJ18_copyOf_3_6 rfl (lv_at hl 0 rfl) ?_
    refine hv_clone (rest := []) (ad := "[B") (t := 1) hE hI hw hl.1 (Nat.le_refl _) (Nat.le_refl _) (hts _ q1578) (hts _ q1579) (hts _ q823) (hts _ q824) (hts _ q1580) (hE.2.2.2.2.1.C 44 rfl) (ty := .byte) rfl rfl rfl (by decide +kernel) (Nat.le_of_ble_eq_true rfl) (Nat.le_of_ble_eq_true rfl) dJ18_copyOf_3_7 (fun a7 nn8 h9 H hw hc hs hI => ?_)
    refine hv_wcastA (t := 1) (ty := .byte) hE hI (hts _ q1582) rfl rfl (by decide +kernel) hw dJ18_copyOf_3_10 (fun hw => ?_)
    exact hv_qret (v := (some a7)) hE (Or.inr ⟨_, rfl⟩) hI hc hs hw dJ18_copyOf_3_13

/-- java/lang/AbstractStringBuilder.ensureCapacityInternal(I)V -/
abbrev rm_J4_ensureCapacityInternal (mc ms : Nat) : Room := { frames := 3, cells := mc, slots := ms, locals := 86 }
def wp_J4_ensureCapacityInternal (G : GG) (mc : Nat) (ms : Nat) (h : HH) (a0 : Nat) (x1 : Int32) (Q : HH → Prop) : Prop := w_getq h a0 6 0 (fun r1 => w_nn r1 (fun a2 => w_len G h a2 (fun r3 => w_geti h a0 6 1 (fun r4 => (((x1 - (r3 >>> (r4 &&& 31))) ≤ 0 → Q h) ∧ (¬ (x1 - (r3 >>> (r4 &&& 31))) ≤ 0 → w_getq h a0 6 0 (fun r5 => w_is h a0 6 (wp_J4_newCapacity G h a0 x1 (fun r6 h7 => w_geti h7 a0 6 1 (fun r8 => (∃ mc9 ms9, 0 + mc9 ≤ mc ∧ 0 + ms9 ≤ ms ∧ wp_J18_copyOf_3 G mc9 ms9 h7 r5 (r6 <<< (r8 &&& 31)) (fun r10 h11 => w_put h11 a0 6 0 (va_rf r10) (fun h12 => Q h12)))))))))))))
set_option maxHeartbeats 4000000 in
theorem snd_J4_ensureCapacityInternal (l : Launch) (G : GG) (sz : Nat) (mc : Nat) (ms : Nat) (h : HH) (a0 : Nat) (x1 : Int32) (Q : HH → Prop) (hw : wp_J4_ensureCapacityInternal G mc ms h a0 x1 Q) : Met l yJ4_ensureCapacityInternal (ws_ yJ4_ensureCapacityInternal cJ4_ensureCapacityInternal 3 (none : Option FieldType)) (rm_J4_ensureCapacityInternal mc ms) (hv_Pc G h sz [.ref a0, .int x1]) (hv_Qv G h sz Q) mc ms (hv_A h sz) := by
  refine Met.ofW (cc := cJ4_ensureCapacityInternal) (maxL := 3) (ret := (none : Option FieldType)) (by decide) rfl ?_
  intro p e s m args below meth c s₁ B hml hv
  obtain ⟨rfl, rfl, hE, hI⟩ := hv_open B hml hv
  have hE : hv_E p s m ([.ref a0, .int x1] : List Value).toArray meth c cJ4_ensureCapacityInternal 3 (none : Option FieldType) RJ4 G h := hE
  obtain ⟨⟨hx, hb, hml, hown, hts⟩, hr, hlocks, hXX⟩ := id hE
  have hl := lv_entry ([.ref a0, .int x1] : List Value) (n := 3) (Nat.le_of_ble_eq_true rfl)
  rw [lg_entry_eq]
  generalize (lg_sl ([.ref a0, .int x1] : List Value) ++ List.replicate (3 - (lg_sl ([.ref a0, .int x1] : List Value)).length) Slot.unset).toArray = ls at hl ⊢
  have hl : lv_has ls 3 [(0, .ref a0), (1, .int x1)] := hl
  have hc : 0 ≤ mc := Nat.zero_le _
  have hs : 0 ≤ ms := Nat.zero_le _
  unfold wp_J4_ensureCapacityInternal at hw
  refine lv_aload_n hx hb dJ4_ensureCapacityInternal_0 rfl (lv_at hl 0 rfl) ?_
  refine hv_wgetq hE hI in_J5 (ci := 6) rfl 0 (by decide) (hts _ q285) (fun _ hx => hx) hw dJ4_ensureCapacityInternal_1 (fun r1 hw => ?_)
  obtain ⟨a2, hz, hwa2⟩ := hw; have hla2 := hl; subst hz; have hw := hwa2; have hl := hla2
  refine hv_len hE hI hw dJ4_ensureCapacityInternal_4 (fun r3 hw => ?_)
  refine lv_aload_n hx hb dJ4_ensureCapacityInternal_5 rfl (lv_at hl 0 rfl) ?_
  refine hv_wgeti hE hI in_J5 (ci := 6) rfl 1 (by decide) (hts _ q286) (fun _ hx => hx) hw dJ4_ensureCapacityInternal_6 (fun r4 hw => ?_)
  refine lv_ishr hx hb dJ4_ensureCapacityInternal_9 ?_
  refine lv_istore_n (lv' := [(2, .int (r3 >>> (r4 &&& 31))), (0, .ref a0), (1, .int x1)]) hx hb dJ4_ensureCapacityInternal_10 rfl hl (by decide) rfl (fun ls hl => ?_)
  refine lv_iload_n hx hb dJ4_ensureCapacityInternal_11 rfl (lv_at hl 2 rfl) ?_
  refine lv_iload_n hx hb dJ4_ensureCapacityInternal_12 rfl (lv_at hl 0 rfl) ?_
  refine lv_isub hx hb dJ4_ensureCapacityInternal_13 ?_
  refine lv_if_le (tgt := 38) hx hb dJ4_ensureCapacityInternal_14 (by decide) (fun c_14 => ?_) (fun c_14 => ?_)
  · have hw := hw.1 c_14
    exact hv_vret hE hI hc hs hw dJ4_ensureCapacityInternal_38
  · have hw := hw.2 c_14
    refine lv_aload_n hx hb dJ4_ensureCapacityInternal_17 rfl (lv_at hl 1 rfl) ?_
    refine lv_aload_n hx hb dJ4_ensureCapacityInternal_18 rfl (lv_at hl 1 rfl) ?_
    refine hv_wgetq hE hI in_J5 (ci := 6) rfl 0 (by decide) (hts _ q285) (fun _ hx => hx) hw dJ4_ensureCapacityInternal_19 (fun r5 hw => ?_)
    refine lv_aload_n hx hb dJ4_ensureCapacityInternal_22 rfl (lv_at hl 1 rfl) ?_
    refine lv_iload_n hx hb dJ4_ensureCapacityInternal_23 rfl (lv_at hl 2 rfl) ?_
    obtain ⟨⟨fs, hre⟩, hw⟩ := hw
    refine hv_rci hI (va_runU (As := [.int x1]) (b := a0) (rest := [va_rf r5, .ref a0]) hE.1 (snd_J4_newCapacity l G _ h a0 x1 _ hw) (hv_cwUP 1 hts q1569 q2514 q1571 q104 q1572 (hv_selP (z := ⟨"java/lang/AbstractStringBuilder", "isLatin1", "()Z"⟩) (by decide +kernel) (hts _ q268) ((hE.2.2.2.2.1.P 1 rfl).use rfl) (hts _ q1571) (hts _ q1586) rfl) rfl rfl (by decide +kernel) ⟨Nat.le_of_ble_eq_true rfl, Nat.le_of_ble_eq_true rfl⟩) (hv_preV hE hI (ci := 6) rfl hre) rfl rfl hl.1 rfl (lv_room (by cases r5 <;> exact Nat.le_of_ble_eq_true rfl)) dJ4_ensureCapacityInternal_24 ⟨hc, hs⟩) (fun r6 h7 H locs hw hI => ?_)
    refine lv_aload_n hx hb dJ4_ensureCapacityInternal_27 rfl (lv_at hl 1 rfl) ?_
    refine hv_wgeti hE hI in_J5 (ci := 6) rfl 1 (by decide) (hts _ q286) (fun _ hx => hx) hw dJ4_ensureCapacityInternal_28 (fun r8 hw => ?_)
    refine lv_ishl hx hb dJ4_ensureCapacityInternal_31 ?_
    obtain ⟨mc9, ms9, hc, hs, hw⟩ := hw
    refine hv_rcq hI (va_runS (As := [va_rf r5, .int (r6 <<< (r8 &&& 31))]) (rest := [.ref a0]) hE.1 (snd_J18_copyOf_3 l G _ mc9 ms9 h7 r5 (r6 <<< (r8 &&& 31)) _ hw) (va_cwS 2 hts (lw_S q1575 q1576 q124 q1577) rfl rfl rfl (by decide +kernel) ⟨Nat.le_of_ble_eq_true rfl, Nat.le_of_ble_eq_true rfl⟩) (hv_preS hE hI) rfl rfl hl.1 rfl (lv_room (Nat.le_of_ble_eq_true rfl)) dJ4_ensureCapacityInternal_32 ⟨hc, hs⟩) (fun r10 h11 H locs hw hI => ?_)
    refine hv_wput (v := va_rf r10) tyJ5 hE hI in_J5 tyJ5_ok nmJ5 (ci := 6) rfl 0 (by decide) (hts _ q285) (fun _ hx => hx) rfl (ty := (.array .byte)) rfl (va_rf_narA _ _) (va_rf_fitA _ _) hw dJ4_ensureCapacityInternal_35 (fun h12 H locs hw hI => ?_)
    exact hv_vret hE hI hc hs hw dJ4_ensureCapacityInternal_38

/-- java/lang/AbstractStringBuilder.isLatin1()Z -/
abbrev rm_J4_isLatin1 : Room := { frames := 1, cells := 0, slots := 0, locals := 12 }
def wp_J4_isLatin1 (G : GG) (h : HH) (a0 : Nat) (Q : Int32 → HH → Prop) : Prop := (((1 : Int32) = 0 → Q (0 : Int32) h) ∧ (¬ (1 : Int32) = 0 → w_geti h a0 6 1 (fun r1 => ((¬ r1 = 0 → Q (0 : Int32) h) ∧ (r1 = 0 → Q (1 : Int32) h)))))
set_option maxHeartbeats 4000000 in
theorem snd_J4_isLatin1 (l : Launch) (G : GG) (sz : Nat) (h : HH) (a0 : Nat) (Q : Int32 → HH → Prop) (hw : wp_J4_isLatin1 G h a0 Q) : Met l yJ4_isLatin1 (ws_ yJ4_isLatin1 cJ4_isLatin1 1 (some FieldType.boolean)) rm_J4_isLatin1 (hv_Pc G h sz [.ref a0]) (hv_Qi G h sz Q) 0 0 (hv_A h sz) := by
  refine Met.ofW (cc := cJ4_isLatin1) (maxL := 1) (ret := (some FieldType.boolean)) (by decide) rfl ?_
  intro p e s m args below meth c s₁ B hml hv
  obtain ⟨rfl, rfl, hE, hI⟩ := hv_open B hml hv
  have hE : hv_E p s m ([.ref a0] : List Value).toArray meth c cJ4_isLatin1 1 (some FieldType.boolean) RJ4 G h := hE
  obtain ⟨⟨hx, hb, hml, hown, hts⟩, hr, hlocks, hXX⟩ := id hE
  have hl := lv_entry ([.ref a0] : List Value) (n := 1) (Nat.le_of_ble_eq_true rfl)
  rw [lg_entry_eq]
  generalize (lg_sl ([.ref a0] : List Value) ++ List.replicate (1 - (lg_sl ([.ref a0] : List Value)).length) Slot.unset).toArray = ls at hl ⊢
  have hl : lv_has ls 1 [(0, .ref a0)] := hl
  unfold wp_J4_isLatin1 at hw
  refine hv_gets hE hI (hv_zH hE).2.2.1 (hts _ q276) (fun _ hx => hx) dJ4_isLatin1_0 ?_
  refine lv_if_eq (tgt := 17) hx hb dJ4_isLatin1_3 (by decide) (fun c_3 => ?_) (fun c_3 => ?_)
  · have hw := hw.1 c_3
    refine lv_iconst (v := 0) hx hb dJ4_isLatin1_17 (by decide) ?_
    exact hv_zret hE hI (Nat.le_refl _) (Nat.le_refl _) rfl hw dJ4_isLatin1_18
  · have hw := hw.2 c_3
    refine lv_aload_n hx hb dJ4_isLatin1_6 rfl (lv_at hl 0 rfl) ?_
    refine hv_wgeti hE hI in_J5 (ci := 6) rfl 1 (by decide) (hts _ q286) (fun _ hx => hx) hw dJ4_isLatin1_7 (fun r1 hw => ?_)
    refine lv_if_ne (tgt := 17) hx hb dJ4_isLatin1_10 (by decide) (fun c_10 => ?_) (fun c_10 => ?_)
    · have hw := hw.1 c_10
      refine lv_iconst (v := 0) hx hb dJ4_isLatin1_17 (by decide) ?_
      exact hv_zret hE hI (Nat.le_refl _) (Nat.le_refl _) rfl hw dJ4_isLatin1_18
    · have hw := hw.2 c_10
      refine lv_iconst (v := 1) hx hb dJ4_isLatin1_13 (by decide) ?_
      refine lv_goto (tgt := 18) hx hb dJ4_isLatin1_14 (by decide) ?_
      exact hv_zret hE hI (Nat.le_refl _) (Nat.le_refl _) rfl hw dJ4_isLatin1_18

/-- java/lang/StringLatin1.canEncode(C)Z -/
abbrev rm_J8_canEncode : Room := { frames := 1, cells := 0, slots := 0, locals := 12 }
def wp_J8_canEncode (G : GG) (h : HH) (x0 : Int32) (Q : Int32 → HH → Prop) : Prop := (((255 : Int32) < x0 → Q (0 : Int32) h) ∧ (¬ (255 : Int32) < x0 → Q (1 : Int32) h))
set_option maxHeartbeats 4000000 in
theorem snd_J8_canEncode (l : Launch) (G : GG) (sz : Nat) (h : HH) (x0 : Int32) (Q : Int32 → HH → Prop) (hw : wp_J8_canEncode G h x0 Q) : Met l yJ8_canEncode (ws_ yJ8_canEncode cJ8_canEncode 1 (some FieldType.boolean)) rm_J8_canEncode (hv_Pc G h sz [.int x0]) (hv_Qi G h sz Q) 0 0 (hv_A h sz) := by
  refine Met.ofW (cc := cJ8_canEncode) (maxL := 1) (ret := (some FieldType.boolean)) (by decide) rfl ?_
  intro p e s m args below meth c s₁ B hml hv
  obtain ⟨rfl, rfl, hE, hI⟩ := hv_open B hml hv
  have hE : hv_E p s m ([.int x0] : List Value).toArray meth c cJ8_canEncode 1 (some FieldType.boolean) RJ8 G h := hE
  obtain ⟨⟨hx, hb, hml, hown, hts⟩, hr, hlocks, hXX⟩ := id hE
  have hl := lv_entry ([.int x0] : List Value) (n := 1) (Nat.le_of_ble_eq_true rfl)
  rw [lg_entry_eq]
  generalize (lg_sl ([.int x0] : List Value) ++ List.replicate (1 - (lg_sl ([.int x0] : List Value)).length) Slot.unset).toArray = ls at hl ⊢
  have hl : lv_has ls 1 [(0, .int x0)] := hl
  unfold wp_J8_canEncode at hw
  refine lv_iload_n hx hb dJ8_canEncode_0 rfl (lv_at hl 0 rfl) ?_
  refine lv_sipush (v := 255) hx hb dJ8_canEncode_1 (by decide) ?_
  refine lv_icmp_gt (tgt := 11) hx hb dJ8_canEncode_4 (by decide) (fun c_4 => ?_) (fun c_4 => ?_)
  · have hw := hw.1 c_4
    refine lv_iconst (v := 0) hx hb dJ8_canEncode_11 (by decide) ?_
    exact hv_zret hE hI (Nat.le_refl _) (Nat.le_refl _) rfl hw dJ8_canEncode_12
  · have hw := hw.2 c_4
    refine lv_iconst (v := 1) hx hb dJ8_canEncode_7 (by decide) ?_
    refine lv_goto (tgt := 12) hx hb dJ8_canEncode_8 (by decide) ?_
    exact hv_zret hE hI (Nat.le_refl _) (Nat.le_refl _) rfl hw dJ8_canEncode_12

/-- java/lang/AbstractStringBuilder.append(C)Ljava/lang/AbstractStringBuilder; -/
abbrev rm_J4_append (mc ms : Nat) : Room := { frames := 4, cells := mc, slots := ms, locals := 108 }
def wp_J4_append_L56 (G : GG) (mc : Nat) (ms : Nat) (a0 : Nat) (Q : Option Nat → HH → Prop) (h : HH) (nc : Nat) (nk : Nat) (x1 : Int32) : Prop := w_getq h a0 6 0 (fun r8 => w_geti h a0 6 3 (fun r9 => w_put h a0 6 3 (.int (r9 + (1 : Int32))) (fun h10 => False)))
set_option maxHeartbeats 4000000 in
theorem snd_J4_append_L56 {p : Program} {l : Launch} {e : Env} {s : State} {m : MethodId} {args : Array Value} {below : List Frame} {meth : Method} {c : Code} {h0 : HH} (G : GG) (mc : Nat) (ms : Nat) (a0 : Nat) (Q : Option Nat → HH → Prop) (hE : hv_E p s m args meth c cJ4_append 2 (some (FieldType.object "java/lang/AbstractStringBuilder")) RJ4 G h0) : ∀ (h : HH) (nc : Nat) (nk : Nat) (x1 : Int32), wp_J4_append_L56 G mc ms a0 Q h nc nk x1 → nc ≤ mc → nk ≤ ms → ∀ (H : Heap) (locs : List Loc) (ls : Array Slot), hv_I G h0 s.heap h H locs → lv_has ls 2 [(0, .ref a0), (1, .int x1)] → W p l e (headSpec (ws_ yJ4_append cJ4_append 2 (some (FieldType.object "java/lang/AbstractStringBuilder"))) (rm_J4_append mc ms)).room s m args below meth c H locs nc nk (MQ below (hv_Qq G h0 s.heap.size Q) args s mc ms (hv_A h0 s.heap.size)) (F0 m 56 ls []) := by
  obtain ⟨⟨hx, hb, hml, hown, hts⟩, hr, hlocks, hXX⟩ := id hE
  intro h nc nk x1 hw hc hs H locs ls hI hl
  unfold wp_J4_append_L56 at hw
  refine lv_aload_n hx hb dJ4_append_56 rfl (lv_at hl 0 rfl) ?_
  refine hv_wgetq hE hI in_J5 (ci := 6) rfl 0 (by decide) (hts _ q285) (fun _ hx => hx) hw dJ4_append_57 (fun r8 hw => ?_)
  refine lv_aload_n hx hb dJ4_append_60 rfl (lv_at hl 0 rfl) ?_
  refine lv_dup hx hb dJ4_append_61 rfl ?_
  refine hv_wgeti hE hI in_J5 (ci := 6) rfl 3 (by decide) (hts _ q288) (fun _ hx => hx) hw dJ4_append_62 (fun r9 hw => ?_)
  refine lv_dup_x1 hx hb dJ4_append_65 rfl rfl ?_
  refine lv_iconst (v := 1) hx hb dJ4_append_66 (by decide) ?_
  refine lv_iadd hx hb dJ4_append_67 ?_
  refine hv_wput (v := .int (r9 + (1 : Int32))) tyJ5 hE hI in_J5 tyJ5_ok nmJ5 (ci := 6) rfl 3 (by decide) (hts _ q288) (fun _ hx => hx) rfl (ty := .int) rfl rfl rfl hw dJ4_append_68 (fun h10 H locs hw hI => ?_)
  refine lv_iload_n hx hb dJ4_append_71 rfl (lv_at hl 1 rfl) ?_
  exact hw.elim
def wp_J4_append_L45 (G : GG) (mc : Nat) (ms : Nat) (a0 : Nat) (Q : Option Nat → HH → Prop) (h : HH) (nc : Nat) (nk : Nat) (x1 : Int32) : Prop := w_is h a0 6 (wp_J4_isLatin1 G h a0 (fun r6 h7 => ((r6 = 0 → wp_J4_append_L56 G mc ms a0 Q h7 nc nk x1) ∧ (¬ r6 = 0 → False))))
set_option maxHeartbeats 4000000 in
theorem snd_J4_append_L45 {p : Program} {l : Launch} {e : Env} {s : State} {m : MethodId} {args : Array Value} {below : List Frame} {meth : Method} {c : Code} {h0 : HH} (G : GG) (mc : Nat) (ms : Nat) (a0 : Nat) (Q : Option Nat → HH → Prop) (hE : hv_E p s m args meth c cJ4_append 2 (some (FieldType.object "java/lang/AbstractStringBuilder")) RJ4 G h0) : ∀ (h : HH) (nc : Nat) (nk : Nat) (x1 : Int32), wp_J4_append_L45 G mc ms a0 Q h nc nk x1 → nc ≤ mc → nk ≤ ms → ∀ (H : Heap) (locs : List Loc) (ls : Array Slot), hv_I G h0 s.heap h H locs → lv_has ls 2 [(0, .ref a0), (1, .int x1)] → W p l e (headSpec (ws_ yJ4_append cJ4_append 2 (some (FieldType.object "java/lang/AbstractStringBuilder"))) (rm_J4_append mc ms)).room s m args below meth c H locs nc nk (MQ below (hv_Qq G h0 s.heap.size Q) args s mc ms (hv_A h0 s.heap.size)) (F0 m 45 ls []) := by
  obtain ⟨⟨hx, hb, hml, hown, hts⟩, hr, hlocks, hXX⟩ := id hE
  intro h nc nk x1 hw hc hs H locs ls hI hl
  unfold wp_J4_append_L45 at hw
  refine lv_aload_n hx hb dJ4_append_45 rfl (lv_at hl 0 rfl) ?_
  obtain ⟨⟨fs, hre⟩, hw⟩ := hw
  refine hv_rci hI (va_runU (As := []) (b := a0) (rest := []) hE.1 (snd_J4_isLatin1 l G _ h a0 _ hw) (va_cwU 0 hts (lw_U q1583 q1585 q1586 q1584 q104 q1587) rfl rfl rfl rfl (by decide +kernel) ⟨Nat.le_of_ble_eq_true rfl, Nat.le_of_ble_eq_true rfl⟩) (hv_preV hE hI (ci := 6) rfl hre) rfl rfl hl.1 rfl (lv_room (Nat.le_of_ble_eq_true rfl)) dJ4_append_46 ⟨hc, hs⟩) (fun r6 h7 H locs hw hI => ?_)
  refine lv_if_eq (tgt := 56) hx hb dJ4_append_49 (by decide) (fun c_49 => ?_) (fun c_49 => ?_)
  · have hw := hw.1 c_49
    exact snd_J4_append_L56 G mc ms a0 Q hE h7 nc nk x1 hw hc hs _ _ _ hI (lv_sub hl [0, 1] rfl)
  · have hw := hw.2 c_49
    refine lv_aload_n hx hb dJ4_append_52 rfl (lv_at hl 0 rfl) ?_
    exact hw.elim
def wp_J4_append (G : GG) (mc : Nat) (ms : Nat) (h : HH) (a0 : Nat) (x1 : Int32) (Q : Option Nat → HH → Prop) : Prop := w_geti h a0 6 3 (fun r1 => (∃ mc2 ms2, 0 + mc2 ≤ mc ∧ 0 + ms2 ≤ ms ∧ w_is h a0 6 (wp_J4_ensureCapacityInternal G mc2 ms2 h a0 (r1 + (1 : Int32)) (fun h3 => w_is h3 a0 6 (wp_J4_isLatin1 G h3 a0 (fun r4 h5 => ((r4 = 0 → wp_J4_append_L45 G mc ms a0 Q h5 (0 + mc2) (0 + ms2) x1) ∧ (¬ r4 = 0 → wp_J8_canEncode G h5 x1 (fun r11 h12 => ((r11 = 0 → wp_J4_append_L45 G mc ms a0 Q h12 (0 + mc2) (0 + ms2) x1) ∧ (¬ r11 = 0 → w_getq h12 a0 6 0 (fun r13 => w_geti h12 a0 6 3 (fun r14 => w_put h12 a0 6 3 (.int (r14 + (1 : Int32))) (fun h15 => w_nn r13 (fun a16 => w_bst G h15 a16 r14 (((Int32.toInt8 x1)).toInt32) (fun h17 => Q (some a0) h17))))))))))))))))
set_option maxHeartbeats 4000000 in
theorem snd_J4_append (l : Launch) (G : GG) (sz : Nat) (mc : Nat) (ms : Nat) (h : HH) (a0 : Nat) (x1 : Int32) (Q : Option Nat → HH → Prop) (hw : wp_J4_append G mc ms h a0 x1 Q) : Met l yJ4_append (ws_ yJ4_append cJ4_append 2 (some (FieldType.object "java/lang/AbstractStringBuilder"))) (rm_J4_append mc ms) (hv_Pc G h sz [.ref a0, .int x1]) (hv_Qq G h sz Q) mc ms (hv_A h sz) := by
  refine Met.ofW (cc := cJ4_append) (maxL := 2) (ret := (some (FieldType.object "java/lang/AbstractStringBuilder"))) (by decide) rfl ?_
  intro p e s m args below meth c s₁ B hml hv
  obtain ⟨rfl, rfl, hE, hI⟩ := hv_open B hml hv
  have hE : hv_E p s m ([.ref a0, .int x1] : List Value).toArray meth c cJ4_append 2 (some (FieldType.object "java/lang/AbstractStringBuilder")) RJ4 G h := hE
  obtain ⟨⟨hx, hb, hml, hown, hts⟩, hr, hlocks, hXX⟩ := id hE
  have hl := lv_entry ([.ref a0, .int x1] : List Value) (n := 2) (Nat.le_of_ble_eq_true rfl)
  rw [lg_entry_eq]
  generalize (lg_sl ([.ref a0, .int x1] : List Value) ++ List.replicate (2 - (lg_sl ([.ref a0, .int x1] : List Value)).length) Slot.unset).toArray = ls at hl ⊢
  have hl : lv_has ls 2 [(0, .ref a0), (1, .int x1)] := hl
  have hc : 0 ≤ mc := Nat.zero_le _
  have hs : 0 ≤ ms := Nat.zero_le _
  unfold wp_J4_append at hw
  refine lv_aload_n hx hb dJ4_append_0 rfl (lv_at hl 0 rfl) ?_
  refine lv_aload_n hx hb dJ4_append_1 rfl (lv_at hl 0 rfl) ?_
  refine hv_wgeti hE hI in_J5 (ci := 6) rfl 3 (by decide) (hts _ q288) (fun _ hx => hx) hw dJ4_append_2 (fun r1 hw => ?_)
  refine lv_iconst (v := 1) hx hb dJ4_append_5 (by decide) ?_
  refine lv_iadd hx hb dJ4_append_6 ?_
  obtain ⟨mc2, ms2, hc, hs, hw⟩ := hw
  obtain ⟨⟨fs, hre⟩, hw⟩ := hw
  refine hv_rcv hI (va_runU (As := [.int (r1 + (1 : Int32))]) (b := a0) (rest := []) hE.1 (snd_J4_ensureCapacityInternal l G _ mc2 ms2 h a0 (r1 + (1 : Int32)) _ hw) (hv_cwUP 1 hts q1565 q2513 q1567 q104 q1568 (hv_selP (z := ⟨"java/lang/AbstractStringBuilder", "isLatin1", "()Z"⟩) (by decide +kernel) (hts _ q268) ((hE.2.2.2.2.1.P 0 rfl).use rfl) (hts _ q1567) (hts _ q1586) rfl) rfl rfl (by decide +kernel) ⟨Nat.le_of_ble_eq_true rfl, Nat.le_of_ble_eq_true rfl⟩) (hv_preV hE hI (ci := 6) rfl hre) rfl rfl hl.1 rfl (lv_room (Nat.le_of_ble_eq_true rfl)) dJ4_append_7 ⟨hc, hs⟩) (fun h3 H locs hw hI => ?_)
  refine lv_aload_n hx hb dJ4_append_10 rfl (lv_at hl 0 rfl) ?_
  obtain ⟨⟨fs, hre⟩, hw⟩ := hw
  refine hv_rci hI (va_runU (As := []) (b := a0) (rest := []) hE.1 (snd_J4_isLatin1 l G _ h3 a0 _ hw) (va_cwU 0 hts (lw_U q1583 q1585 q1586 q1584 q104 q1587) rfl rfl rfl rfl (by decide +kernel) ⟨Nat.le_of_ble_eq_true rfl, Nat.le_of_ble_eq_true rfl⟩) (hv_preV hE hI (ci := 6) rfl hre) rfl rfl hl.1 rfl (lv_room (Nat.le_of_ble_eq_true rfl)) dJ4_append_11 ⟨hc, hs⟩) (fun r4 h5 H locs hw hI => ?_)
  refine lv_if_eq (tgt := 45) hx hb dJ4_append_14 (by decide) (fun c_14 => ?_) (fun c_14 => ?_)
  · have hw := hw.1 c_14
    exact snd_J4_append_L45 G mc ms a0 Q hE h5 (0 + mc2) (0 + ms2) x1 hw hc hs _ _ _ hI (lv_sub hl [0, 1] rfl)
  · have hw := hw.2 c_14
    refine lv_iload_n hx hb dJ4_append_17 rfl (lv_at hl 1 rfl) ?_
    refine hv_rci hI (va_runS (As := [.int x1]) (rest := []) hE.1 (snd_J8_canEncode l G _ h5 x1 _ hw) (va_cwS 1 hts (lw_S q1588 q1589 q111 q1590) rfl rfl rfl (by decide +kernel) ⟨Nat.le_of_ble_eq_true rfl, Nat.le_of_ble_eq_true rfl⟩) (hv_preS hE hI) rfl rfl hl.1 rfl (lv_room (Nat.le_of_ble_eq_true rfl)) dJ4_append_18 ⟨hc, hs⟩) (fun r11 h12 H locs hw hI => ?_)
    refine lv_if_eq (tgt := 45) hx hb dJ4_append_21 (by decide) (fun c_21 => ?_) (fun c_21 => ?_)
    · have hw := hw.1 c_21
      exact snd_J4_append_L45 G mc ms a0 Q hE h12 (0 + mc2) (0 + ms2) x1 hw hc hs _ _ _ hI (lv_sub hl [0, 1] rfl)
    · have hw := hw.2 c_21
      refine lv_aload_n hx hb dJ4_append_24 rfl (lv_at hl 0 rfl) ?_
      refine hv_wgetq hE hI in_J5 (ci := 6) rfl 0 (by decide) (hts _ q285) (fun _ hx => hx) hw dJ4_append_25 (fun r13 hw => ?_)
      refine lv_aload_n hx hb dJ4_append_28 rfl (lv_at hl 0 rfl) ?_
      refine lv_dup hx hb dJ4_append_29 rfl ?_
      refine hv_wgeti hE hI in_J5 (ci := 6) rfl 3 (by decide) (hts _ q288) (fun _ hx => hx) hw dJ4_append_30 (fun r14 hw => ?_)
      refine lv_dup_x1 hx hb dJ4_append_33 rfl rfl ?_
      refine lv_iconst (v := 1) hx hb dJ4_append_34 (by decide) ?_
      refine lv_iadd hx hb dJ4_append_35 ?_
      refine hv_wput (v := .int (r14 + (1 : Int32))) tyJ5 hE hI in_J5 tyJ5_ok nmJ5 (ci := 6) rfl 3 (by decide) (hts _ q288) (fun _ hx => hx) rfl (ty := .int) rfl rfl rfl hw dJ4_append_36 (fun h15 H locs hw hI => ?_)
      refine lv_iload_n hx hb dJ4_append_39 rfl (lv_at hl 1 rfl) ?_
      refine lv_i2b (v := ((Int32.toInt8 x1)).toInt32) hx hb dJ4_append_40 rfl ?_
      obtain ⟨a16, hz, hwa16⟩ := hw; have hla16 := hl; subst hz; have hw := hwa16; have hl := hla16
      refine hv_wbst hE hI hw dJ4_append_41 (fun h17 H locs hw hI => ?_)
      refine lv_goto (tgt := 75) hx hb dJ4_append_42 (by decide) ?_
      refine lv_aload_n hx hb dJ4_append_75 rfl (lv_at hl 0 rfl) ?_
      exact hv_qret (v := (some a0)) hE (Or.inl ⟨_, rfl⟩) hI hc hs hw dJ4_append_76

/-- java/lang/StringBuilder.append(C)Ljava/lang/StringBuilder; -/
abbrev rm_J5_append (mc ms : Nat) : Room := { frames := 5, cells := mc, slots := ms, locals := 129 }
def wp_J5_append (G : GG) (mc : Nat) (ms : Nat) (h : HH) (a0 : Nat) (x1 : Int32) (Q : Option Nat → HH → Prop) : Prop := (∃ mc1 ms1, 0 + mc1 ≤ mc ∧ 0 + ms1 ≤ ms ∧ w_is h a0 6 (wp_J4_append G mc1 ms1 h a0 x1 (fun r2 h3 => Q (some a0) h3)))
set_option maxHeartbeats 4000000 in
theorem snd_J5_append (l : Launch) (G : GG) (sz : Nat) (mc : Nat) (ms : Nat) (h : HH) (a0 : Nat) (x1 : Int32) (Q : Option Nat → HH → Prop) (hw : wp_J5_append G mc ms h a0 x1 Q) : Met l yJ5_append (ws_ yJ5_append cJ5_append 2 (some (FieldType.object "java/lang/StringBuilder"))) (rm_J5_append mc ms) (hv_Pc G h sz [.ref a0, .int x1]) (hv_Qq G h sz Q) mc ms (hv_A h sz) := by
  refine Met.ofW (cc := cJ5_append) (maxL := 2) (ret := (some (FieldType.object "java/lang/StringBuilder"))) (by decide) rfl ?_
  intro p e s m args below meth c s₁ B hml hv
  obtain ⟨rfl, rfl, hE, hI⟩ := hv_open B hml hv
  have hE : hv_E p s m ([.ref a0, .int x1] : List Value).toArray meth c cJ5_append 2 (some (FieldType.object "java/lang/StringBuilder")) RJ5 G h := hE
  obtain ⟨⟨hx, hb, hml, hown, hts⟩, hr, hlocks, hXX⟩ := id hE
  have hl := lv_entry ([.ref a0, .int x1] : List Value) (n := 2) (Nat.le_of_ble_eq_true rfl)
  rw [lg_entry_eq]
  generalize (lg_sl ([.ref a0, .int x1] : List Value) ++ List.replicate (2 - (lg_sl ([.ref a0, .int x1] : List Value)).length) Slot.unset).toArray = ls at hl ⊢
  have hl : lv_has ls 2 [(0, .ref a0), (1, .int x1)] := hl
  have hc : 0 ≤ mc := Nat.zero_le _
  have hs : 0 ≤ ms := Nat.zero_le _
  unfold wp_J5_append at hw
  refine lv_aload_n hx hb dJ5_append_0 rfl (lv_at hl 0 rfl) ?_
  refine lv_iload_n hx hb dJ5_append_1 rfl (lv_at hl 1 rfl) ?_
  obtain ⟨mc1, ms1, hc, hs, hw⟩ := hw
  obtain ⟨⟨fs, hre⟩, hw⟩ := hw
  refine hv_rcq hI (va_runSU (As := [.int x1]) (b := a0) (rest := []) (hXX.1.1 6 _ rfl).2 hE.1 (snd_J4_append l G _ mc1 ms1 h a0 x1 _ hw) (va_cwSU 1 hts (lw_SU q1562 q2512 q297 q1563 q104 q1564) rfl rfl rfl (by decide +kernel) ⟨Nat.le_of_ble_eq_true rfl, Nat.le_of_ble_eq_true rfl⟩) (hv_preV hE hI (ci := 6) rfl hre) rfl rfl hl.1 rfl (lv_room (Nat.le_of_ble_eq_true rfl)) dJ5_append_2 ⟨hc, hs⟩) (fun r2 h3 H locs hw hI => ?_)
  refine lv_pop hx hb dJ5_append_5 (va_rf_cat _) ?_
  refine lv_aload_n hx hb dJ5_append_6 rfl (lv_at hl 0 rfl) ?_
  exact hv_qret (v := (some a0)) hE (Or.inl ⟨_, rfl⟩) hI hc hs hw dJ5_append_7

/-- MatchmakerRules$Pattern.sign(I)C -/
abbrev rm_X8_sign : Room := { frames := 1, cells := 0, slots := 0, locals := 12 }
def wp_X8_sign (G : GG) (h : HH) (x0 : Int32) (Q : Int32 → HH → Prop) : Prop := (((9 : Int32) < x0 → (narrow .char (.int (((Int32.toUInt32 ((((88 : Int32) + x0) - (9 : Int32)) - (1 : Int32))) % 65536).toInt32)) = .int (((Int32.toUInt32 ((((88 : Int32) + x0) - (9 : Int32)) - (1 : Int32))) % 65536).toInt32) ∧ Q (((Int32.toUInt32 ((((88 : Int32) + x0) - (9 : Int32)) - (1 : Int32))) % 65536).toInt32) h)) ∧ (¬ (9 : Int32) < x0 → (narrow .char (.int (((Int32.toUInt32 ((48 : Int32) + x0)) % 65536).toInt32)) = .int (((Int32.toUInt32 ((48 : Int32) + x0)) % 65536).toInt32) ∧ Q (((Int32.toUInt32 ((48 : Int32) + x0)) % 65536).toInt32) h)))
set_option maxHeartbeats 4000000 in
theorem snd_X8_sign (l : Launch) (G : GG) (sz : Nat) (h : HH) (x0 : Int32) (Q : Int32 → HH → Prop) (hw : wp_X8_sign G h x0 Q) : Met l yX8_sign (ws_ yX8_sign cX8_sign 1 (some FieldType.char)) rm_X8_sign (hv_Pc G h sz [.int x0]) (hv_Qi G h sz Q) 0 0 (hv_A h sz) := by
  refine Met.ofW (cc := cX8_sign) (maxL := 1) (ret := (some FieldType.char)) (by decide) rfl ?_
  intro p e s m args below meth c s₁ B hml hv
  obtain ⟨rfl, rfl, hE, hI⟩ := hv_open B hml hv
  have hE : hv_E p s m ([.int x0] : List Value).toArray meth c cX8_sign 1 (some FieldType.char) RX8 G h := hE
  obtain ⟨⟨hx, hb, hml, hown, hts⟩, hr, hlocks, hXX⟩ := id hE
  have hl := lv_entry ([.int x0] : List Value) (n := 1) (Nat.le_of_ble_eq_true rfl)
  rw [lg_entry_eq]
  generalize (lg_sl ([.int x0] : List Value) ++ List.replicate (1 - (lg_sl ([.int x0] : List Value)).length) Slot.unset).toArray = ls at hl ⊢
  have hl : lv_has ls 1 [(0, .int x0)] := hl
  unfold wp_X8_sign at hw
  refine lv_iload_n hx hb dX8_sign_0 rfl (lv_at hl 0 rfl) ?_
  refine lv_bipush (v := 9) hx hb dX8_sign_1 (by decide) ?_
  refine lv_icmp_gt (tgt := 13) hx hb dX8_sign_3 (by decide) (fun c_3 => ?_) (fun c_3 => ?_)
  · have hw := hw.1 c_3
    refine lv_bipush (v := 88) hx hb dX8_sign_13 (by decide) ?_
    refine lv_iload_n hx hb dX8_sign_15 rfl (lv_at hl 0 rfl) ?_
    refine lv_iadd hx hb dX8_sign_16 ?_
    refine lv_bipush (v := 9) hx hb dX8_sign_17 (by decide) ?_
    refine lv_isub hx hb dX8_sign_19 ?_
    refine lv_iconst (v := 1) hx hb dX8_sign_20 (by decide) ?_
    refine lv_isub hx hb dX8_sign_21 ?_
    refine lv_i2c (v := ((Int32.toUInt32 ((((88 : Int32) + x0) - (9 : Int32)) - (1 : Int32))) % 65536).toInt32) hx hb dX8_sign_22 rfl ?_
    obtain ⟨hnr, hw⟩ := hw
    exact hv_zret hE hI (Nat.le_refl _) (Nat.le_refl _) hnr hw dX8_sign_23
  · have hw := hw.2 c_3
    refine lv_bipush (v := 48) hx hb dX8_sign_6 (by decide) ?_
    refine lv_iload_n hx hb dX8_sign_8 rfl (lv_at hl 0 rfl) ?_
    refine lv_iadd hx hb dX8_sign_9 ?_
    refine lv_goto (tgt := 22) hx hb dX8_sign_10 (by decide) ?_
    refine lv_i2c (v := ((Int32.toUInt32 ((48 : Int32) + x0)) % 65536).toInt32) hx hb dX8_sign_22 rfl ?_
    obtain ⟨hnr, hw⟩ := hw
    exact hv_zret hE hI (Nat.le_refl _) (Nat.le_refl _) hnr hw dX8_sign_23

/-- MatchmakerRules$Pattern.tell(Ljava/lang/StringBuilder;)V -/
abbrev rm_X8_tell (mc ms : Nat) : Room := { frames := 6, cells := mc, slots := ms, locals := 150 }
def wp_X8_tell (G : GG) (mc : Nat) (ms : Nat) (h : HH) (a0 : Nat) (x1 : Option Nat) (Q : HH → Prop) : Prop := w_geti h a0 11 0 (fun r1 => w_nn x1 (fun a2 => (∃ mc3 ms3, 0 + mc3 ≤ mc ∧ 0 + ms3 ≤ ms ∧ w_is h a2 6 (wp_J5_append G mc3 ms3 h a2 r1 (fun r4 h5 => w_getq h5 a0 11 1 (fun r6 => w_nn r6 (fun a7 => w_ild G h5 a7 (0 : Int32) (fun r8 => wp_X8_sign G h5 r8 (fun r9 h10 => w_nn r4 (fun a11 => (∃ mc12 ms12, (0 + mc3) + mc12 ≤ mc ∧ (0 + ms3) + ms12 ≤ ms ∧ w_is h10 a11 6 (wp_J5_append G mc12 ms12 h10 a11 r9 (fun r13 h14 => w_getq h14 a0 11 1 (fun r15 => w_nn r15 (fun a16 => w_ild G h14 a16 (1 : Int32) (fun r17 => wp_X8_sign G h14 r17 (fun r18 h19 => w_nn r13 (fun a20 => (∃ mc21 ms21, ((0 + mc3) + mc12) + mc21 ≤ mc ∧ ((0 + ms3) + ms12) + ms21 ≤ ms ∧ w_is h19 a20 6 (wp_J5_append G mc21 ms21 h19 a20 r18 (fun r22 h23 => Q h23)))))))))))))))))))))
set_option maxHeartbeats 4000000 in
theorem snd_X8_tell (l : Launch) (G : GG) (sz : Nat) (mc : Nat) (ms : Nat) (h : HH) (a0 : Nat) (x1 : Option Nat) (Q : HH → Prop) (hw : wp_X8_tell G mc ms h a0 x1 Q) : Met l yX8_tell (ws_ yX8_tell cX8_tell 3 (none : Option FieldType)) (rm_X8_tell mc ms) (hv_Pc G h sz [.ref a0, va_rf x1]) (hv_Qv G h sz Q) mc ms (hv_A h sz) := by
  refine Met.ofW (cc := cX8_tell) (maxL := 3) (ret := (none : Option FieldType)) (by decide) rfl ?_
  intro p e s m args below meth c s₁ B hml hv
  obtain ⟨rfl, rfl, hE, hI⟩ := hv_open B hml hv
  have hE : hv_E p s m ([.ref a0, va_rf x1] : List Value).toArray meth c cX8_tell 3 (none : Option FieldType) RX8 G h := hE
  obtain ⟨⟨hx, hb, hml, hown, hts⟩, hr, hlocks, hXX⟩ := id hE
  have hl := lv_entry ([.ref a0, va_rf x1] : List Value) (n := 3) (by cases x1 <;> exact Nat.le_of_ble_eq_true rfl)
  rw [lg_entry_eq]
  generalize (lg_sl ([.ref a0, va_rf x1] : List Value) ++ List.replicate (3 - (lg_sl ([.ref a0, va_rf x1] : List Value)).length) Slot.unset).toArray = ls at hl ⊢
  have hl : lv_has ls 3 [(0, .ref a0), (1, va_rf x1)] := (by cases x1 <;> exact hl)
  have hc : 0 ≤ mc := Nat.zero_le _
  have hs : 0 ≤ ms := Nat.zero_le _
  unfold wp_X8_tell at hw
  refine lv_aload_nq hx hb dX8_tell_0 rfl (lv_at hl 1 rfl) ?_
  refine lv_aload_n hx hb dX8_tell_1 rfl (lv_at hl 0 rfl) ?_
  refine hv_wgeti hE hI in_X8 (ci := 11) rfl 0 (by decide) (hts _ q828) (fun _ hx => hx) hw dX8_tell_2 (fun r1 hw => ?_)
  obtain ⟨a2, hz, hwa2⟩ := hw; have hla2 := hl; subst hz; have hw := hwa2; have hl := hla2
  obtain ⟨mc3, ms3, hc, hs, hw⟩ := hw
  obtain ⟨⟨fs, hre⟩, hw⟩ := hw
  refine hv_rcq hI (va_runV (As := [.int r1]) (b := a2) (rest := []) hE.1 (snd_J5_append l G _ mc3 ms3 h a2 r1 _ hw) (cwV 1 hts (lw_V q1558 q1559 q1560 q105 q1561) rfl rfl rfl (by decide +kernel) ⟨Nat.le_of_ble_eq_true rfl, Nat.le_of_ble_eq_true rfl⟩) (hv_preV hE hI (ci := 6) rfl hre) rfl rfl hl.1 rfl (lv_room (Nat.le_of_ble_eq_true rfl)) dX8_tell_5 ⟨hc, hs⟩) (fun r4 h5 H locs hw hI => ?_)
  refine lv_aload_n hx hb dX8_tell_8 rfl (lv_at hl 0 rfl) ?_
  refine hv_wgetq hE hI in_X8 (ci := 11) rfl 1 (by decide) (hts _ q830) (fun _ hx => hx) hw dX8_tell_9 (fun r6 hw => ?_)
  refine lv_iconst (v := 0) hx hb dX8_tell_12 (by decide) ?_
  obtain ⟨a7, hz, hwa7⟩ := hw; have hla7 := hl; subst hz; have hw := hwa7; have hl := hla7
  refine hv_wild hE hI hw dX8_tell_13 (fun r8 hw => ?_)
  refine hv_rci hI (va_runS (As := [.int r8]) (rest := [va_rf r4]) hE.1 (snd_X8_sign l G _ h5 r8 _ hw) (va_cwS 1 hts (lw_S q1616 q1617 q117 q1618) rfl rfl rfl (by decide +kernel) ⟨Nat.le_of_ble_eq_true rfl, Nat.le_of_ble_eq_true rfl⟩) (hv_preS hE hI) rfl rfl hl.1 rfl (lv_room (by cases r4 <;> exact Nat.le_of_ble_eq_true rfl)) dX8_tell_14 ⟨hc, hs⟩) (fun r9 h10 H locs hw hI => ?_)
  obtain ⟨a11, hz, hwa11⟩ := hw; have hla11 := hl; subst hz; have hw := hwa11; have hl := hla11
  obtain ⟨mc12, ms12, hc, hs, hw⟩ := hw
  obtain ⟨⟨fs, hre⟩, hw⟩ := hw
  refine hv_rcq hI (va_runV (As := [.int r9]) (b := a11) (rest := []) hE.1 (snd_J5_append l G _ mc12 ms12 h10 a11 r9 _ hw) (cwV 1 hts (lw_V q1558 q1559 q1560 q105 q1561) rfl rfl rfl (by decide +kernel) ⟨Nat.le_of_ble_eq_true rfl, Nat.le_of_ble_eq_true rfl⟩) (hv_preV hE hI (ci := 6) rfl hre) rfl rfl hl.1 rfl (lv_room (Nat.le_of_ble_eq_true rfl)) dX8_tell_17 ⟨hc, hs⟩) (fun r13 h14 H locs hw hI => ?_)
  refine lv_aload_n hx hb dX8_tell_20 rfl (lv_at hl 0 rfl) ?_
  refine hv_wgetq hE hI in_X8 (ci := 11) rfl 1 (by decide) (hts _ q830) (fun _ hx => hx) hw dX8_tell_21 (fun r15 hw => ?_)
  refine lv_iconst (v := 1) hx hb dX8_tell_24 (by decide) ?_
  obtain ⟨a16, hz, hwa16⟩ := hw; have hla16 := hl; subst hz; have hw := hwa16; have hl := hla16
  refine hv_wild hE hI hw dX8_tell_25 (fun r17 hw => ?_)
  refine hv_rci hI (va_runS (As := [.int r17]) (rest := [va_rf r13]) hE.1 (snd_X8_sign l G _ h14 r17 _ hw) (va_cwS 1 hts (lw_S q1616 q1617 q117 q1618) rfl rfl rfl (by decide +kernel) ⟨Nat.le_of_ble_eq_true rfl, Nat.le_of_ble_eq_true rfl⟩) (hv_preS hE hI) rfl rfl hl.1 rfl (lv_room (by cases r13 <;> exact Nat.le_of_ble_eq_true rfl)) dX8_tell_26 ⟨hc, hs⟩) (fun r18 h19 H locs hw hI => ?_)
  obtain ⟨a20, hz, hwa20⟩ := hw; have hla20 := hl; subst hz; have hw := hwa20; have hl := hla20
  obtain ⟨mc21, ms21, hc, hs, hw⟩ := hw
  obtain ⟨⟨fs, hre⟩, hw⟩ := hw
  refine hv_rcq hI (va_runV (As := [.int r18]) (b := a20) (rest := []) hE.1 (snd_J5_append l G _ mc21 ms21 h19 a20 r18 _ hw) (cwV 1 hts (lw_V q1558 q1559 q1560 q105 q1561) rfl rfl rfl (by decide +kernel) ⟨Nat.le_of_ble_eq_true rfl, Nat.le_of_ble_eq_true rfl⟩) (hv_preV hE hI (ci := 6) rfl hre) rfl rfl hl.1 rfl (lv_room (Nat.le_of_ble_eq_true rfl)) dX8_tell_29 ⟨hc, hs⟩) (fun r22 h23 H locs hw hI => ?_)
  refine lv_astore_nq (lv' := [(2, va_rf r22), (0, .ref a0), (1, .ref a2)]) hx hb dX8_tell_32 rfl hl (by decide) rfl (fun ls hl => ?_)
  exact hv_vret hE hI hc hs hw dX8_tell_33

/-- java/lang/Integer.stringSize(I)I -/
abbrev rm_J26_stringSize : Room := { frames := 1, cells := 0, slots := 0, locals := 12 }
def wp_J26_stringSize_L16 (G : GG) (Q : Int32 → HH → Prop) : Nat → (HH) → (Int32) → (Int32) → (Int32) → (Int32) → Prop
  | 0, _, _, _, _, _ => False
  | n + 1, h, x0, x1, x2, x3 => (((10 : Int32) ≤ x3 → Q ((10 : Int32) + x1) h) ∧ (¬ (10 : Int32) ≤ x3 → ((x0 ≤ x2 → wp_J26_stringSize_L16 G Q n h x0 x1 ((10 : Int32) * x2) (x3 + (1 : Int32))) ∧ (¬ x0 ≤ x2 → Q (x3 + x1) h))))
set_option maxHeartbeats 4000000 in
theorem snd_J26_stringSize_L16 {p : Program} {l : Launch} {e : Env} {s : State} {m : MethodId} {args : Array Value} {below : List Frame} {meth : Method} {c : Code} {h0 : HH} (G : GG) (Q : Int32 → HH → Prop) (hE : hv_E p s m args meth c cJ26_stringSize 4 (some FieldType.int) RJ26 G h0) : ∀ (n : Nat) (h : HH) (x0 : Int32) (x1 : Int32) (x2 : Int32) (x3 : Int32), wp_J26_stringSize_L16 G Q n h x0 x1 x2 x3 → ∀ (H : Heap) (locs : List Loc) (ls : Array Slot), hv_I G h0 s.heap h H locs → lv_has ls 4 [(0, .int x0), (1, .int x1), (2, .int x2), (3, .int x3)] → W p l e (headSpec (ws_ yJ26_stringSize cJ26_stringSize 4 (some FieldType.int)) rm_J26_stringSize).room s m args below meth c H locs 0 0 (MQ below (hv_Qi G h0 s.heap.size Q) args s 0 0 (hv_A h0 s.heap.size)) (F0 m 16 ls []) := by
  obtain ⟨⟨hx, hb, hml, hown, hts⟩, hr, hlocks, hXX⟩ := id hE
  intro n
  induction n with
  | zero => intro h x0 x1 x2 x3 hw; exact hw.elim
  | succ n ih =>
    intro h x0 x1 x2 x3 hw H locs ls hI hl
    unfold wp_J26_stringSize_L16 at hw
    refine lv_iload_n hx hb dJ26_stringSize_16 rfl (lv_at hl 3 rfl) ?_
    refine lv_bipush (v := 10) hx hb dJ26_stringSize_17 (by decide) ?_
    refine lv_icmp_ge (tgt := 42) hx hb dJ26_stringSize_19 (by decide) (fun c_19 => ?_) (fun c_19 => ?_)
    · have hw := hw.1 c_19
      refine lv_bipush (v := 10) hx hb dJ26_stringSize_42 (by decide) ?_
      refine lv_iload_n hx hb dJ26_stringSize_44 rfl (lv_at hl 1 rfl) ?_
      refine lv_iadd hx hb dJ26_stringSize_45 ?_
      exact hv_iret hE hI (Nat.le_refl _) (Nat.le_refl _) hw dJ26_stringSize_46
    · have hw := hw.2 c_19
      refine lv_iload_n hx hb dJ26_stringSize_22 rfl (lv_at hl 0 rfl) ?_
      refine lv_iload_n hx hb dJ26_stringSize_23 rfl (lv_at hl 2 rfl) ?_
      refine lv_icmp_le (tgt := 31) hx hb dJ26_stringSize_24 (by decide) (fun c_24 => ?_) (fun c_24 => ?_)
      · have hw := hw.1 c_24
        refine lv_bipush (v := 10) hx hb dJ26_stringSize_31 (by decide) ?_
        refine lv_iload_n hx hb dJ26_stringSize_33 rfl (lv_at hl 2 rfl) ?_
        refine lv_imul hx hb dJ26_stringSize_34 ?_
        refine lv_istore_n (lv' := [(2, .int ((10 : Int32) * x2)), (0, .int x0), (1, .int x1), (3, .int x3)]) hx hb dJ26_stringSize_35 rfl hl (by decide) rfl (fun ls hl => ?_)
        refine lv_iinc (v := (x3 + (1 : Int32))) (lv' := [(3, .int (x3 + (1 : Int32))), (2, .int ((10 : Int32) * x2)), (0, .int x0), (1, .int x1)]) hx hb dJ26_stringSize_36 hl (k := 3) rfl rfl (by decide) rfl (fun ls hl => ?_)
        refine lv_goto (tgt := 16) hx hb dJ26_stringSize_39 (by decide) ?_
        exact ih h x0 x1 ((10 : Int32) * x2) (x3 + (1 : Int32)) hw _ _ _ hI (lv_sub hl [2, 3, 1, 0] rfl)
      · have hw := hw.2 c_24
        refine lv_iload_n hx hb dJ26_stringSize_27 rfl (lv_at hl 3 rfl) ?_
        refine lv_iload_n hx hb dJ26_stringSize_28 rfl (lv_at hl 1 rfl) ?_
        refine lv_iadd hx hb dJ26_stringSize_29 ?_
        exact hv_iret hE hI (Nat.le_refl _) (Nat.le_refl _) hw dJ26_stringSize_30
def wp_J26_stringSize (G : GG) (h : HH) (x0 : Int32) (Q : Int32 → HH → Prop) : Prop := ((x0 < 0 → (∃ n16, wp_J26_stringSize_L16 G Q n16 h x0 (1 : Int32) (-10 : Int32) (1 : Int32))) ∧ (¬ x0 < 0 → (∃ n16, wp_J26_stringSize_L16 G Q n16 h (-x0) (0 : Int32) (-10 : Int32) (1 : Int32))))
set_option maxHeartbeats 4000000 in
theorem snd_J26_stringSize (l : Launch) (G : GG) (sz : Nat) (h : HH) (x0 : Int32) (Q : Int32 → HH → Prop) (hw : wp_J26_stringSize G h x0 Q) : Met l yJ26_stringSize (ws_ yJ26_stringSize cJ26_stringSize 4 (some FieldType.int)) rm_J26_stringSize (hv_Pc G h sz [.int x0]) (hv_Qi G h sz Q) 0 0 (hv_A h sz) := by
  refine Met.ofW (cc := cJ26_stringSize) (maxL := 4) (ret := (some FieldType.int)) (by decide) rfl ?_
  intro p e s m args below meth c s₁ B hml hv
  obtain ⟨rfl, rfl, hE, hI⟩ := hv_open B hml hv
  have hE : hv_E p s m ([.int x0] : List Value).toArray meth c cJ26_stringSize 4 (some FieldType.int) RJ26 G h := hE
  obtain ⟨⟨hx, hb, hml, hown, hts⟩, hr, hlocks, hXX⟩ := id hE
  have hl := lv_entry ([.int x0] : List Value) (n := 4) (Nat.le_of_ble_eq_true rfl)
  rw [lg_entry_eq]
  generalize (lg_sl ([.int x0] : List Value) ++ List.replicate (4 - (lg_sl ([.int x0] : List Value)).length) Slot.unset).toArray = ls at hl ⊢
  have hl : lv_has ls 4 [(0, .int x0)] := hl
  unfold wp_J26_stringSize at hw
  refine lv_iconst (v := 1) hx hb dJ26_stringSize_0 (by decide) ?_
  refine lv_istore_n (lv' := [(1, .int (1 : Int32)), (0, .int x0)]) hx hb dJ26_stringSize_1 rfl hl (by decide) rfl (fun ls hl => ?_)
  refine lv_iload_n hx hb dJ26_stringSize_2 rfl (lv_at hl 1 rfl) ?_
  refine lv_if_lt (tgt := 11) hx hb dJ26_stringSize_3 (by decide) (fun c_3 => ?_) (fun c_3 => ?_)
  · have hw := hw.1 c_3
    refine lv_bipush (v := -10) hx hb dJ26_stringSize_11 (by decide) ?_
    refine lv_istore_n (lv' := [(2, .int (-10 : Int32)), (1, .int (1 : Int32)), (0, .int x0)]) hx hb dJ26_stringSize_13 rfl hl (by decide) rfl (fun ls hl => ?_)
    refine lv_iconst (v := 1) hx hb dJ26_stringSize_14 (by decide) ?_
    refine lv_istore_n (lv' := [(3, .int (1 : Int32)), (2, .int (-10 : Int32)), (1, .int (1 : Int32)), (0, .int x0)]) hx hb dJ26_stringSize_15 rfl hl (by decide) rfl (fun ls hl => ?_)
    obtain ⟨n16, hw⟩ := hw
    exact snd_J26_stringSize_L16 G Q hE n16 h x0 (1 : Int32) (-10 : Int32) (1 : Int32) hw _ _ _ hI (lv_sub hl [3, 2, 1, 0] rfl)
  · have hw := hw.2 c_3
    refine lv_iconst (v := 0) hx hb dJ26_stringSize_6 (by decide) ?_
    refine lv_istore_n (lv' := [(1, .int (0 : Int32)), (0, .int x0)]) hx hb dJ26_stringSize_7 rfl hl (by decide) rfl (fun ls hl => ?_)
    refine lv_iload_n hx hb dJ26_stringSize_8 rfl (lv_at hl 1 rfl) ?_
    refine lv_ineg hx hb dJ26_stringSize_9 ?_
    refine lv_istore_n (lv' := [(0, .int (-x0)), (1, .int (0 : Int32))]) hx hb dJ26_stringSize_10 rfl hl (by decide) rfl (fun ls hl => ?_)
    refine lv_bipush (v := -10) hx hb dJ26_stringSize_11 (by decide) ?_
    refine lv_istore_n (lv' := [(2, .int (-10 : Int32)), (0, .int (-x0)), (1, .int (0 : Int32))]) hx hb dJ26_stringSize_13 rfl hl (by decide) rfl (fun ls hl => ?_)
    refine lv_iconst (v := 1) hx hb dJ26_stringSize_14 (by decide) ?_
    refine lv_istore_n (lv' := [(3, .int (1 : Int32)), (2, .int (-10 : Int32)), (0, .int (-x0)), (1, .int (0 : Int32))]) hx hb dJ26_stringSize_15 rfl hl (by decide) rfl (fun ls hl => ?_)
    obtain ⟨n16, hw⟩ := hw
    exact snd_J26_stringSize_L16 G Q hE n16 h (-x0) (0 : Int32) (-10 : Int32) (1 : Int32) hw _ _ _ hI (lv_sub hl [2, 3, 1, 0] rfl)

/-- java/lang/Integer.getChars(II[B)I -/
abbrev rm_J26_getChars : Room := { frames := 1, cells := 0, slots := 0, locals := 12 }
def wp_J26_getChars_L104 (G : GG) (Q : Int32 → HH → Prop) (h : HH) (x2 : Nat) (x5 : Int32) (x6 : Int32) : Prop := ((x6 = 0 → Q x5 h) ∧ (¬ x6 = 0 → w_bst G h x2 (x5 + (-1 : Int32)) (45 : Int32) (fun h4 => Q (x5 + (-1 : Int32)) h4)))
set_option maxHeartbeats 4000000 in
theorem snd_J26_getChars_L104 {p : Program} {l : Launch} {e : Env} {s : State} {m : MethodId} {args : Array Value} {below : List Frame} {meth : Method} {c : Code} {h0 : HH} (G : GG) (Q : Int32 → HH → Prop) (hE : hv_E p s m args meth c cJ26_getChars 7 (some FieldType.int) RJ26 G h0) : ∀ (h : HH) (x2 : Nat) (x5 : Int32) (x6 : Int32), wp_J26_getChars_L104 G Q h x2 x5 x6 → ∀ (H : Heap) (locs : List Loc) (ls : Array Slot), hv_I G h0 s.heap h H locs → lv_has ls 7 [(2, .ref x2), (5, .int x5), (6, .int x6)] → W p l e (headSpec (ws_ yJ26_getChars cJ26_getChars 7 (some FieldType.int)) rm_J26_getChars).room s m args below meth c H locs 0 0 (MQ below (hv_Qi G h0 s.heap.size Q) args s 0 0 (hv_A h0 s.heap.size)) (F0 m 104 ls []) := by
  obtain ⟨⟨hx, hb, hml, hown, hts⟩, hr, hlocks, hXX⟩ := id hE
  intro h x2 x5 x6 hw H locs ls hI hl
  unfold wp_J26_getChars_L104 at hw
  refine lv_iload hx hb dJ26_getChars_104 (lv_at hl 2 rfl) ?_
  refine lv_if_eq (tgt := 118) hx hb dJ26_getChars_106 (by decide) (fun c_106 => ?_) (fun c_106 => ?_)
  · have hw := hw.1 c_106
    refine lv_iload hx hb dJ26_getChars_118 (lv_at hl 1 rfl) ?_
    exact hv_iret hE hI (Nat.le_refl _) (Nat.le_refl _) hw dJ26_getChars_120
  · have hw := hw.2 c_106
    refine lv_aload_n hx hb dJ26_getChars_109 rfl (lv_at hl 0 rfl) ?_
    refine lv_iinc (v := (x5 + (-1 : Int32))) (lv' := [(5, .int (x5 + (-1 : Int32))), (2, .ref x2), (6, .int x6)]) hx hb dJ26_getChars_110 hl (k := 1) rfl rfl (by decide) rfl (fun ls hl => ?_)
    refine lv_iload hx hb dJ26_getChars_113 (lv_at hl 0 rfl) ?_
    refine lv_bipush (v := 45) hx hb dJ26_getChars_115 (by decide) ?_
    refine hv_wbst hE hI hw dJ26_getChars_117 (fun h4 H locs hw hI => ?_)
    refine lv_iload hx hb dJ26_getChars_118 (lv_at hl 0 rfl) ?_
    exact hv_iret hE hI (Nat.le_refl _) (Nat.le_refl _) hw dJ26_getChars_120
def wp_J26_getChars_L22 (G : GG) (Q : Int32 → HH → Prop) : Nat → (HH) → (Int32) → (Option Nat) → (Int32) → (Int32) → Prop
  | 0, _, _, _, _, _ => False
  | n + 1, h, x0, x2, x5, x6 => (((-100 : Int32) < x0 → w_bld G h (G.2.2 2) (-x0) (fun r1 => w_nn x2 (fun a2 => w_bst G h a2 (x5 + (-1 : Int32)) r1 (fun h3 => (((-9 : Int32) ≤ x0 → wp_J26_getChars_L104 G Q h3 a2 (x5 + (-1 : Int32)) x6) ∧ (¬ (-9 : Int32) ≤ x0 → w_bld G h3 (G.2.2 1) (-x0) (fun r5 => w_bst G h3 a2 ((x5 + (-1 : Int32)) + (-1 : Int32)) r5 (fun h6 => wp_J26_getChars_L104 G Q h6 a2 ((x5 + (-1 : Int32)) + (-1 : Int32)) x6)))))))) ∧ (¬ (-100 : Int32) < x0 → (¬ (100 : Int32) = 0 ∧ w_bld G h (G.2.2 2) (((x0 / (100 : Int32)) * (100 : Int32)) - x0) (fun r7 => w_nn x2 (fun a8 => w_bst G h a8 (x5 + (-1 : Int32)) r7 (fun h9 => w_bld G h9 (G.2.2 1) (((x0 / (100 : Int32)) * (100 : Int32)) - x0) (fun r10 => w_bst G h9 a8 ((x5 + (-1 : Int32)) + (-1 : Int32)) r10 (fun h11 => wp_J26_getChars_L22 G Q n h11 (x0 / (100 : Int32)) (some a8) ((x5 + (-1 : Int32)) + (-1 : Int32)) x6))))))))
set_option maxHeartbeats 4000000 in
theorem snd_J26_getChars_L22 {p : Program} {l : Launch} {e : Env} {s : State} {m : MethodId} {args : Array Value} {below : List Frame} {meth : Method} {c : Code} {h0 : HH} (G : GG) (Q : Int32 → HH → Prop) (hE : hv_E p s m args meth c cJ26_getChars 7 (some FieldType.int) RJ26 G h0) : ∀ (n : Nat) (h : HH) (x0 : Int32) (x2 : Option Nat) (x5 : Int32) (x6 : Int32), wp_J26_getChars_L22 G Q n h x0 x2 x5 x6 → ∀ (H : Heap) (locs : List Loc) (ls : Array Slot), hv_I G h0 s.heap h H locs → lv_has ls 7 [(0, .int x0), (2, va_rf x2), (5, .int x5), (6, .int x6)] → W p l e (headSpec (ws_ yJ26_getChars cJ26_getChars 7 (some FieldType.int)) rm_J26_getChars).room s m args below meth c H locs 0 0 (MQ below (hv_Qi G h0 s.heap.size Q) args s 0 0 (hv_A h0 s.heap.size)) (F0 m 22 ls []) := by
  obtain ⟨⟨hx, hb, hml, hown, hts⟩, hr, hlocks, hXX⟩ := id hE
  intro n
  induction n with
  | zero => intro h x0 x2 x5 x6 hw; exact hw.elim
  | succ n ih =>
    intro h x0 x2 x5 x6 hw H locs ls hI hl
    unfold wp_J26_getChars_L22 at hw
    refine lv_iload_n hx hb dJ26_getChars_22 rfl (lv_at hl 0 rfl) ?_
    refine lv_bipush (v := -100) hx hb dJ26_getChars_23 (by decide) ?_
    refine lv_icmp_gt (tgt := 72) hx hb dJ26_getChars_25 (by decide) (fun c_25 => ?_) (fun c_25 => ?_)
    · have hw := hw.1 c_25
      refine lv_aload_nq hx hb dJ26_getChars_72 rfl (lv_at hl 1 rfl) ?_
      refine lv_iinc (v := (x5 + (-1 : Int32))) (lv' := [(5, .int (x5 + (-1 : Int32))), (0, .int x0), (2, va_rf x2), (6, .int x6)]) hx hb dJ26_getChars_73 hl (k := 2) rfl rfl (by decide) rfl (fun ls hl => ?_)
      refine lv_iload hx hb dJ26_getChars_76 (lv_at hl 0 rfl) ?_
      refine hv_gets hE hI (hv_zH hE).2.2.2.2.2.1 (hts _ q1633) (fun _ hx => hx) dJ26_getChars_78 ?_
      refine lv_iload_n hx hb dJ26_getChars_81 rfl (lv_at hl 1 rfl) ?_
      refine lv_ineg hx hb dJ26_getChars_82 ?_
      refine hv_wbld hE hI hw dJ26_getChars_83 (fun r1 hw => ?_)
      obtain ⟨a2, hz, hwa2⟩ := hw; have hla2 := hl; subst hz; have hw := hwa2; have hl := hla2
      refine hv_wbst hE hI hw dJ26_getChars_84 (fun h3 H locs hw hI => ?_)
      refine lv_iload_n hx hb dJ26_getChars_85 rfl (lv_at hl 1 rfl) ?_
      refine lv_bipush (v := -9) hx hb dJ26_getChars_86 (by decide) ?_
      refine lv_icmp_ge (tgt := 104) hx hb dJ26_getChars_88 (by decide) (fun c_88 => ?_) (fun c_88 => ?_)
      · have hw := hw.1 c_88
        exact snd_J26_getChars_L104 G Q hE h3 a2 (x5 + (-1 : Int32)) x6 hw _ _ _ hI (lv_sub hl [2, 0, 3] rfl)
      · have hw := hw.2 c_88
        refine lv_aload_n hx hb dJ26_getChars_91 rfl (lv_at hl 2 rfl) ?_
        refine lv_iinc (v := ((x5 + (-1 : Int32)) + (-1 : Int32))) (lv' := [(5, .int ((x5 + (-1 : Int32)) + (-1 : Int32))), (0, .int x0), (2, .ref a2), (6, .int x6)]) hx hb dJ26_getChars_92 hl (k := 0) rfl rfl (by decide) rfl (fun ls hl => ?_)
        refine lv_iload hx hb dJ26_getChars_95 (lv_at hl 0 rfl) ?_
        refine hv_gets hE hI (hv_zH hE).2.2.2.1 (hts _ q1635) (fun _ hx => hx) dJ26_getChars_97 ?_
        refine lv_iload_n hx hb dJ26_getChars_100 rfl (lv_at hl 1 rfl) ?_
        refine lv_ineg hx hb dJ26_getChars_101 ?_
        refine hv_wbld hE hI hw dJ26_getChars_102 (fun r5 hw => ?_)
        refine hv_wbst hE hI hw dJ26_getChars_103 (fun h6 H locs hw hI => ?_)
        exact snd_J26_getChars_L104 G Q hE h6 a2 ((x5 + (-1 : Int32)) + (-1 : Int32)) x6 hw _ _ _ hI (lv_sub hl [2, 0, 3] rfl)
    · have hw := hw.2 c_25
      refine lv_iload_n hx hb dJ26_getChars_28 rfl (lv_at hl 0 rfl) ?_
      refine lv_bipush (v := 100) hx hb dJ26_getChars_29 (by decide) ?_
      obtain ⟨hne, hw⟩ := hw
      refine lv_idiv hx hb dJ26_getChars_31 hne ?_
      refine lv_istore_n (lv' := [(3, .int (x0 / (100 : Int32))), (0, .int x0), (2, va_rf x2), (5, .int x5), (6, .int x6)]) hx hb dJ26_getChars_32 rfl hl (by decide) (by cases x2 <;> exact rfl) (fun ls hl => ?_)
      refine lv_iload_n hx hb dJ26_getChars_33 rfl (lv_at hl 0 rfl) ?_
      refine lv_bipush (v := 100) hx hb dJ26_getChars_34 (by decide) ?_
      refine lv_imul hx hb dJ26_getChars_36 ?_
      refine lv_iload_n hx hb dJ26_getChars_37 rfl (lv_at hl 1 rfl) ?_
      refine lv_isub hx hb dJ26_getChars_38 ?_
      refine lv_istore (lv' := [(4, .int (((x0 / (100 : Int32)) * (100 : Int32)) - x0)), (3, .int (x0 / (100 : Int32))), (0, .int x0), (2, va_rf x2), (5, .int x5), (6, .int x6)]) hx hb dJ26_getChars_39 hl (by decide) rfl (fun ls hl => ?_)
      refine lv_iload_n hx hb dJ26_getChars_41 rfl (lv_at hl 1 rfl) ?_
      refine lv_istore_n (lv' := [(0, .int (x0 / (100 : Int32))), (4, .int (((x0 / (100 : Int32)) * (100 : Int32)) - x0)), (3, .int (x0 / (100 : Int32))), (2, va_rf x2), (5, .int x5), (6, .int x6)]) hx hb dJ26_getChars_42 rfl hl (by decide) rfl (fun ls hl => ?_)
      refine lv_aload_nq hx hb dJ26_getChars_43 rfl (lv_at hl 3 rfl) ?_
      refine lv_iinc (v := (x5 + (-1 : Int32))) (lv' := [(5, .int (x5 + (-1 : Int32))), (0, .int (x0 / (100 : Int32))), (4, .int (((x0 / (100 : Int32)) * (100 : Int32)) - x0)), (3, .int (x0 / (100 : Int32))), (2, va_rf x2), (6, .int x6)]) hx hb dJ26_getChars_44 hl (k := 4) rfl rfl (by decide) rfl (fun ls hl => ?_)
      refine lv_iload hx hb dJ26_getChars_47 (lv_at hl 0 rfl) ?_
      refine hv_gets hE hI (hv_zH hE).2.2.2.2.2.1 (hts _ q1633) (fun _ hx => hx) dJ26_getChars_49 ?_
      refine lv_iload hx hb dJ26_getChars_52 (lv_at hl 2 rfl) ?_
      refine hv_wbld hE hI hw dJ26_getChars_54 (fun r7 hw => ?_)
      obtain ⟨a8, hz, hwa8⟩ := hw; have hla8 := hl; subst hz; have hw := hwa8; have hl := hla8
      refine hv_wbst hE hI hw dJ26_getChars_55 (fun h9 H locs hw hI => ?_)
      refine lv_aload_n hx hb dJ26_getChars_56 rfl (lv_at hl 4 rfl) ?_
      refine lv_iinc (v := ((x5 + (-1 : Int32)) + (-1 : Int32))) (lv' := [(5, .int ((x5 + (-1 : Int32)) + (-1 : Int32))), (0, .int (x0 / (100 : Int32))), (4, .int (((x0 / (100 : Int32)) * (100 : Int32)) - x0)), (3, .int (x0 / (100 : Int32))), (2, .ref a8), (6, .int x6)]) hx hb dJ26_getChars_57 hl (k := 0) rfl rfl (by decide) rfl (fun ls hl => ?_)
      refine lv_iload hx hb dJ26_getChars_60 (lv_at hl 0 rfl) ?_
      refine hv_gets hE hI (hv_zH hE).2.2.2.1 (hts _ q1635) (fun _ hx => hx) dJ26_getChars_62 ?_
      refine lv_iload hx hb dJ26_getChars_65 (lv_at hl 2 rfl) ?_
      refine hv_wbld hE hI hw dJ26_getChars_67 (fun r10 hw => ?_)
      refine hv_wbst hE hI hw dJ26_getChars_68 (fun h11 H locs hw hI => ?_)
      refine lv_goto (tgt := 22) hx hb dJ26_getChars_69 (by decide) ?_
      exact ih h11 (x0 / (100 : Int32)) (some a8) ((x5 + (-1 : Int32)) + (-1 : Int32)) x6 hw _ _ _ hI (lv_sub hl [1, 4, 0, 5] rfl)
def wp_J26_getChars_L12 (G : GG) (Q : Int32 → HH → Prop) (h : HH) (x0 : Int32) (x2 : Option Nat) (x5 : Int32) (t0 : Int32) : Prop := ((¬ t0 = 0 → (∃ n22, wp_J26_getChars_L22 G Q n22 h x0 x2 x5 t0)) ∧ (t0 = 0 → (∃ n22, wp_J26_getChars_L22 G Q n22 h (-x0) x2 x5 t0)))
set_option maxHeartbeats 4000000 in
theorem snd_J26_getChars_L12 {p : Program} {l : Launch} {e : Env} {s : State} {m : MethodId} {args : Array Value} {below : List Frame} {meth : Method} {c : Code} {h0 : HH} (G : GG) (Q : Int32 → HH → Prop) (hE : hv_E p s m args meth c cJ26_getChars 7 (some FieldType.int) RJ26 G h0) : ∀ (h : HH) (x0 : Int32) (x2 : Option Nat) (x5 : Int32) (t0 : Int32), wp_J26_getChars_L12 G Q h x0 x2 x5 t0 → ∀ (H : Heap) (locs : List Loc) (ls : Array Slot), hv_I G h0 s.heap h H locs → lv_has ls 7 [(0, .int x0), (2, va_rf x2), (5, .int x5)] → W p l e (headSpec (ws_ yJ26_getChars cJ26_getChars 7 (some FieldType.int)) rm_J26_getChars).room s m args below meth c H locs 0 0 (MQ below (hv_Qi G h0 s.heap.size Q) args s 0 0 (hv_A h0 s.heap.size)) (F0 m 12 ls [.int t0]) := by
  obtain ⟨⟨hx, hb, hml, hown, hts⟩, hr, hlocks, hXX⟩ := id hE
  intro h x0 x2 x5 t0 hw H locs ls hI hl
  unfold wp_J26_getChars_L12 at hw
  refine lv_istore (lv' := [(6, .int t0), (0, .int x0), (2, va_rf x2), (5, .int x5)]) hx hb dJ26_getChars_12 hl (by decide) rfl (fun ls hl => ?_)
  refine lv_iload hx hb dJ26_getChars_14 (lv_at hl 0 rfl) ?_
  refine lv_if_ne (tgt := 22) hx hb dJ26_getChars_16 (by decide) (fun c_16 => ?_) (fun c_16 => ?_)
  · have hw := hw.1 c_16
    obtain ⟨n22, hw⟩ := hw
    exact snd_J26_getChars_L22 G Q hE n22 h x0 x2 x5 t0 hw _ _ _ hI (lv_sub hl [1, 2, 3, 0] rfl)
  · have hw := hw.2 c_16
    refine lv_iload_n hx hb dJ26_getChars_19 rfl (lv_at hl 1 rfl) ?_
    refine lv_ineg hx hb dJ26_getChars_20 ?_
    refine lv_istore_n (lv' := [(0, .int (-x0)), (6, .int t0), (2, va_rf x2), (5, .int x5)]) hx hb dJ26_getChars_21 rfl hl (by decide) rfl (fun ls hl => ?_)
    obtain ⟨n22, hw⟩ := hw
    exact snd_J26_getChars_L22 G Q hE n22 h (-x0) x2 x5 t0 hw _ _ _ hI (lv_sub hl [0, 2, 3, 1] rfl)
def wp_J26_getChars (G : GG) (h : HH) (x0 : Int32) (x1 : Int32) (x2 : Option Nat) (Q : Int32 → HH → Prop) : Prop := ((0 ≤ x0 → wp_J26_getChars_L12 G Q h x0 x2 x1 (0 : Int32)) ∧ (¬ 0 ≤ x0 → wp_J26_getChars_L12 G Q h x0 x2 x1 (1 : Int32)))
set_option maxHeartbeats 4000000 in
theorem snd_J26_getChars (l : Launch) (G : GG) (sz : Nat) (h : HH) (x0 : Int32) (x1 : Int32) (x2 : Option Nat) (Q : Int32 → HH → Prop) (hw : wp_J26_getChars G h x0 x1 x2 Q) : Met l yJ26_getChars (ws_ yJ26_getChars cJ26_getChars 7 (some FieldType.int)) rm_J26_getChars (hv_Pc G h sz [.int x0, .int x1, va_rf x2]) (hv_Qi G h sz Q) 0 0 (hv_A h sz) := by
  refine Met.ofW (cc := cJ26_getChars) (maxL := 7) (ret := (some FieldType.int)) (by decide) rfl ?_
  intro p e s m args below meth c s₁ B hml hv
  obtain ⟨rfl, rfl, hE, hI⟩ := hv_open B hml hv
  have hE : hv_E p s m ([.int x0, .int x1, va_rf x2] : List Value).toArray meth c cJ26_getChars 7 (some FieldType.int) RJ26 G h := hE
  obtain ⟨⟨hx, hb, hml, hown, hts⟩, hr, hlocks, hXX⟩ := id hE
  have hl := lv_entry ([.int x0, .int x1, va_rf x2] : List Value) (n := 7) (by cases x2 <;> exact Nat.le_of_ble_eq_true rfl)
  rw [lg_entry_eq]
  generalize (lg_sl ([.int x0, .int x1, va_rf x2] : List Value) ++ List.replicate (7 - (lg_sl ([.int x0, .int x1, va_rf x2] : List Value)).length) Slot.unset).toArray = ls at hl ⊢
  have hl : lv_has ls 7 [(0, .int x0), (1, .int x1), (2, va_rf x2)] := (by cases x2 <;> exact hl)
  unfold wp_J26_getChars at hw
  refine lv_iload_n hx hb dJ26_getChars_0 rfl (lv_at hl 1 rfl) ?_
  refine lv_istore (lv' := [(5, .int x1), (0, .int x0), (1, .int x1), (2, va_rf x2)]) hx hb dJ26_getChars_1 hl (by decide) rfl (fun ls hl => ?_)
  refine lv_iload_n hx hb dJ26_getChars_3 rfl (lv_at hl 1 rfl) ?_
  refine lv_if_ge (tgt := 11) hx hb dJ26_getChars_4 (by decide) (fun c_4 => ?_) (fun c_4 => ?_)
  · have hw := hw.1 c_4
    refine lv_iconst (v := 0) hx hb dJ26_getChars_11 (by decide) ?_
    exact snd_J26_getChars_L12 G Q hE h x0 x2 x1 (0 : Int32) hw _ _ _ hI (lv_sub hl [1, 3, 0] rfl)
  · have hw := hw.2 c_4
    refine lv_iconst (v := 1) hx hb dJ26_getChars_7 (by decide) ?_
    refine lv_goto (tgt := 12) hx hb dJ26_getChars_8 (by decide) ?_
    exact snd_J26_getChars_L12 G Q hE h x0 x2 x1 (1 : Int32) hw _ _ _ hI (lv_sub hl [1, 3, 0] rfl)
