/-! walks over a world (by gen/hvrun.py) -/
set_option maxRecDepth 100000
/-- MatchmakerRules.errorPosition()I -/
abbrev rm_X1_errorPosition (mc ms : Nat) : Room := { frames := 7, cells := mc, slots := ms, locals := 109 }
def wp_X1_errorPosition (G : GG) (mc : Nat) (ms : Nat) (h : HH) (a0 : Nat) (Q : Int32 → HH → Prop) (X : String → Nat → HH → Prop) : Prop := w_getq h a0 1 6 (fun r1 => ((r1 = none → (∃ mc3 ms3, 0 + mc3 ≤ mc ∧ 0 + ms3 ≤ ms ∧ wp_X1_checkElement G mc3 ms3 h (0 : Int32) (fun h4 => w_getq h4 a0 1 6 (fun r7 => w_nn r7 (fun a8 => w_geti h4 a8 10 6 (fun r9 => Q r9 h4)))) (fun E q5 h6 => X E q5 h6))) ∧ (∀ a2, r1 = some a2 → (∃ mc10 ms10, 0 + mc10 ≤ mc ∧ 0 + ms10 ≤ ms ∧ wp_X1_checkElement G mc10 ms10 h (1 : Int32) (fun h11 => w_getq h11 a0 1 6 (fun r14 => w_nn r14 (fun a15 => w_geti h11 a15 10 6 (fun r16 => Q r16 h11)))) (fun E q12 h13 => X E q12 h13)))))
set_option maxHeartbeats 4000000 in
theorem snd_X1_errorPosition (l : Launch) (hl0 : l.stackTraces = false) (G : GG) (sz : Nat) (mc : Nat) (ms : Nat) (h : HH) (a0 : Nat) (Q : Int32 → HH → Prop) (X : String → Nat → HH → Prop) (hw : wp_X1_errorPosition G mc ms h a0 Q X) : vx_Met l yX1_errorPosition (ws_ yX1_errorPosition cX1_errorPosition 1 (some FieldType.int)) (rm_X1_errorPosition mc ms) (hv_Pc G h sz [.ref a0]) (hv_Qi G h sz Q) (hv_XC G h sz X) mc ms (hv_A h sz) := by
  refine vx_ofW (cc := cX1_errorPosition) (maxL := 1) (ret := (some FieldType.int)) (by decide) rfl ?_
  intro p e s m args below meth c s₁ B hml ht hv
  obtain ⟨rfl, rfl, hE, hI⟩ := hv_open B hml hv
  have hE : hv_E p s m ([.ref a0] : List Value).toArray meth c cX1_errorPosition 1 (some FieldType.int) RX1 G h := hE
  obtain ⟨⟨hx, hb, hml, hown, hts⟩, hr, hlocks, hXX⟩ := id hE
  have hl := lv_entry ([.ref a0] : List Value) (n := 1) (Nat.le_of_ble_eq_true rfl)
  rw [lg_entry_eq]
  generalize (lg_sl ([.ref a0] : List Value) ++ List.replicate (1 - (lg_sl ([.ref a0] : List Value)).length) Slot.unset).toArray = ls at hl ⊢
  have hl : lv_has ls 1 [(0, .ref a0)] := hl
  have hc : 0 ≤ mc := Nat.zero_le _
  have hs : 0 ≤ ms := Nat.zero_le _
  unfold wp_X1_errorPosition at hw
  refine lv_aload_n hx hb dX1_errorPosition_0 rfl (lv_at hl 0 rfl) ?_
  refine hv_wgetq hE hI in_X1 (ci := 1) rfl 6 (by decide) (hts _ q306) (fun _ hx => hx) hw dX1_errorPosition_1 (fun r1 hw => ?_)
  refine lv_ifnullq (tgt := 11) hx hb dX1_errorPosition_4 (by decide) (fun c_4 => ?_) (fun c_4 => ?_)
  · have hwa2 := hw.1 c_4; have hla2 := hl; subst c_4; have hw := hwa2; have hl := hla2
    refine lv_iconst (v := 0) hx hb dX1_errorPosition_11 (by decide) ?_
    obtain ⟨mc3, ms3, hc, hs, hw⟩ := hw
    refine hx_rcv hI (vx_runS (As := [.int (0 : Int32)]) (rest := []) hE.1 (snd_X1_checkElement l hl0 G _ mc3 ms3 h (0 : Int32) _ _ hw) (va_cwS 1 hts (lw_S q1346 q1347 q97 q1348) rfl rfl rfl (by decide +kernel) ⟨Nat.le_of_ble_eq_true rfl, Nat.le_of_ble_eq_true rfl⟩) (hv_preS hE hI) rfl rfl hl.1 rfl (lv_room (Nat.le_of_ble_eq_true rfl)) dX1_errorPosition_12 ⟨hc, hs⟩) ?_ (fun h4 H locs hw hI => ?_)
    · intro E q5 h6 H locs hw hI hT
      exact hx_out hE hI hT hc hs (fun z hz => (ht z hz).elim) hw
    refine lv_aload_n hx hb dX1_errorPosition_15 rfl (lv_at hl 0 rfl) ?_
    refine hv_wgetq hE hI in_X1 (ci := 1) rfl 6 (by decide) (hts _ q306) (fun _ hx => hx) hw dX1_errorPosition_16 (fun r7 hw => ?_)
    obtain ⟨a8, hz, hwa8⟩ := hw; have hla8 := hl; subst hz; have hw := hwa8; have hl := hla8
    refine hv_wgetiN hE hI in_X7 (ci := 10) rfl 6 (by decide) (hE.2.2.2.2.1.F 6 rfl) (fun _ hx => hx) hw dX1_errorPosition_19 (fun r9 hw => ?_)
    exact vx_ret (hv_iret hE hI hc hs hw dX1_errorPosition_22)
  · obtain ⟨a2, hz⟩ := Option.ne_none_iff_exists.mp c_4
    have hwa2 := hw.2 a2 hz.symm; have hla2 := hl; subst hz; have hw := hwa2; have hl := hla2
    refine lv_iconst (v := 1) hx hb dX1_errorPosition_7 (by decide) ?_
    refine lv_goto (tgt := 12) hx hb dX1_errorPosition_8 (by decide) ?_
    obtain ⟨mc10, ms10, hc, hs, hw⟩ := hw
    refine hx_rcv hI (vx_runS (As := [.int (1 : Int32)]) (rest := []) hE.1 (snd_X1_checkElement l hl0 G _ mc10 ms10 h (1 : Int32) _ _ hw) (va_cwS 1 hts (lw_S q1346 q1347 q97 q1348) rfl rfl rfl (by decide +kernel) ⟨Nat.le_of_ble_eq_true rfl, Nat.le_of_ble_eq_true rfl⟩) (hv_preS hE hI) rfl rfl hl.1 rfl (lv_room (Nat.le_of_ble_eq_true rfl)) dX1_errorPosition_12 ⟨hc, hs⟩) ?_ (fun h11 H locs hw hI => ?_)
    · intro E q12 h13 H locs hw hI hT
      exact hx_out hE hI hT hc hs (fun z hz => (ht z hz).elim) hw
    refine lv_aload_n hx hb dX1_errorPosition_15 rfl (lv_at hl 0 rfl) ?_
    refine hv_wgetq hE hI in_X1 (ci := 1) rfl 6 (by decide) (hts _ q306) (fun _ hx => hx) hw dX1_errorPosition_16 (fun r14 hw => ?_)
    obtain ⟨a15, hz, hwa15⟩ := hw; have hla15 := hl; subst hz; have hw := hwa15; have hl := hla15
    refine hv_wgetiN hE hI in_X7 (ci := 10) rfl 6 (by decide) (hE.2.2.2.2.1.F 6 rfl) (fun _ hx => hx) hw dX1_errorPosition_19 (fun r16 hw => ?_)
    exact vx_ret (hv_iret hE hI hc hs hw dX1_errorPosition_22)

/-- MatchmakerRules.refusedItem()I -/
abbrev rm_X1_refusedItem (mc ms : Nat) : Room := { frames := 7, cells := mc, slots := ms, locals := 109 }
def wp_X1_refusedItem (G : GG) (mc : Nat) (ms : Nat) (h : HH) (a0 : Nat) (Q : Int32 → HH → Prop) (X : String → Nat → HH → Prop) : Prop := w_geti h a0 1 7 (fun r1 => ((r1 = (-1 : Int32) → (∃ mc2 ms2, 0 + mc2 ≤ mc ∧ 0 + ms2 ≤ ms ∧ wp_X1_checkElement G mc2 ms2 h (0 : Int32) (fun h3 => w_geti h3 a0 1 7 (fun r6 => Q r6 h3)) (fun E q4 h5 => X E q4 h5))) ∧ (¬ r1 = (-1 : Int32) → (∃ mc7 ms7, 0 + mc7 ≤ mc ∧ 0 + ms7 ≤ ms ∧ wp_X1_checkElement G mc7 ms7 h (1 : Int32) (fun h8 => w_geti h8 a0 1 7 (fun r11 => Q r11 h8)) (fun E q9 h10 => X E q9 h10)))))
set_option maxHeartbeats 4000000 in
theorem snd_X1_refusedItem (l : Launch) (hl0 : l.stackTraces = false) (G : GG) (sz : Nat) (mc : Nat) (ms : Nat) (h : HH) (a0 : Nat) (Q : Int32 → HH → Prop) (X : String → Nat → HH → Prop) (hw : wp_X1_refusedItem G mc ms h a0 Q X) : vx_Met l yX1_refusedItem (ws_ yX1_refusedItem cX1_refusedItem 1 (some FieldType.int)) (rm_X1_refusedItem mc ms) (hv_Pc G h sz [.ref a0]) (hv_Qi G h sz Q) (hv_XC G h sz X) mc ms (hv_A h sz) := by
  refine vx_ofW (cc := cX1_refusedItem) (maxL := 1) (ret := (some FieldType.int)) (by decide) rfl ?_
  intro p e s m args below meth c s₁ B hml ht hv
  obtain ⟨rfl, rfl, hE, hI⟩ := hv_open B hml hv
  have hE : hv_E p s m ([.ref a0] : List Value).toArray meth c cX1_refusedItem 1 (some FieldType.int) RX1 G h := hE
  obtain ⟨⟨hx, hb, hml, hown, hts⟩, hr, hlocks, hXX⟩ := id hE
  have hl := lv_entry ([.ref a0] : List Value) (n := 1) (Nat.le_of_ble_eq_true rfl)
  rw [lg_entry_eq]
  generalize (lg_sl ([.ref a0] : List Value) ++ List.replicate (1 - (lg_sl ([.ref a0] : List Value)).length) Slot.unset).toArray = ls at hl ⊢
  have hl : lv_has ls 1 [(0, .ref a0)] := hl
  have hc : 0 ≤ mc := Nat.zero_le _
  have hs : 0 ≤ ms := Nat.zero_le _
  unfold wp_X1_refusedItem at hw
  refine lv_aload_n hx hb dX1_refusedItem_0 rfl (lv_at hl 0 rfl) ?_
  refine hv_wgeti hE hI in_X1 (ci := 1) rfl 7 (by decide) (hts _ q307) (fun _ hx => hx) hw dX1_refusedItem_1 (fun r1 hw => ?_)
  refine lv_iconst (v := -1) hx hb dX1_refusedItem_4 (by decide) ?_
  refine lv_icmp_eq (tgt := 12) hx hb dX1_refusedItem_5 (by decide) (fun c_5 => ?_) (fun c_5 => ?_)
  · have hw := hw.1 c_5
    refine lv_iconst (v := 0) hx hb dX1_refusedItem_12 (by decide) ?_
    obtain ⟨mc2, ms2, hc, hs, hw⟩ := hw
    refine hx_rcv hI (vx_runS (As := [.int (0 : Int32)]) (rest := []) hE.1 (snd_X1_checkElement l hl0 G _ mc2 ms2 h (0 : Int32) _ _ hw) (va_cwS 1 hts (lw_S q1346 q1347 q97 q1348) rfl rfl rfl (by decide +kernel) ⟨Nat.le_of_ble_eq_true rfl, Nat.le_of_ble_eq_true rfl⟩) (hv_preS hE hI) rfl rfl hl.1 rfl (lv_room (Nat.le_of_ble_eq_true rfl)) dX1_refusedItem_13 ⟨hc, hs⟩) ?_ (fun h3 H locs hw hI => ?_)
    · intro E q4 h5 H locs hw hI hT
      exact hx_out hE hI hT hc hs (fun z hz => (ht z hz).elim) hw
    refine lv_aload_n hx hb dX1_refusedItem_16 rfl (lv_at hl 0 rfl) ?_
    refine hv_wgeti hE hI in_X1 (ci := 1) rfl 7 (by decide) (hts _ q307) (fun _ hx => hx) hw dX1_refusedItem_17 (fun r6 hw => ?_)
    exact vx_ret (hv_iret hE hI hc hs hw dX1_refusedItem_20)
  · have hw := hw.2 c_5
    refine lv_iconst (v := 1) hx hb dX1_refusedItem_8 (by decide) ?_
    refine lv_goto (tgt := 13) hx hb dX1_refusedItem_9 (by decide) ?_
    obtain ⟨mc7, ms7, hc, hs, hw⟩ := hw
    refine hx_rcv hI (vx_runS (As := [.int (1 : Int32)]) (rest := []) hE.1 (snd_X1_checkElement l hl0 G _ mc7 ms7 h (1 : Int32) _ _ hw) (va_cwS 1 hts (lw_S q1346 q1347 q97 q1348) rfl rfl rfl (by decide +kernel) ⟨Nat.le_of_ble_eq_true rfl, Nat.le_of_ble_eq_true rfl⟩) (hv_preS hE hI) rfl rfl hl.1 rfl (lv_room (Nat.le_of_ble_eq_true rfl)) dX1_refusedItem_13 ⟨hc, hs⟩) ?_ (fun h8 H locs hw hI => ?_)
    · intro E q9 h10 H locs hw hI hT
      exact hx_out hE hI hT hc hs (fun z hz => (ht z hz).elim) hw
    refine lv_aload_n hx hb dX1_refusedItem_16 rfl (lv_at hl 0 rfl) ?_
    refine hv_wgeti hE hI in_X1 (ci := 1) rfl 7 (by decide) (hts _ q307) (fun _ hx => hx) hw dX1_refusedItem_17 (fun r11 hw => ?_)
    exact vx_ret (hv_iret hE hI hc hs hw dX1_refusedItem_20)

/-- java/util/ArrayDeque.isEmpty()Z -/
abbrev rm_J3_isEmpty : Room := { frames := 1, cells := 0, slots := 0, locals := 12 }
def wp_J3_isEmpty (G : GG) (h : HH) (a0 : Nat) (Q : Int32 → HH → Prop) : Prop := w_geti h a0 5 1 (fun r1 => w_geti h a0 5 2 (fun r2 => ((¬ r1 = r2 → Q (0 : Int32) h) ∧ (r1 = r2 → Q (1 : Int32) h))))
set_option maxHeartbeats 4000000 in
theorem snd_J3_isEmpty (l : Launch) (G : GG) (sz : Nat) (h : HH) (a0 : Nat) (Q : Int32 → HH → Prop) (hw : wp_J3_isEmpty G h a0 Q) : Met l yJ3_isEmpty (ws_ yJ3_isEmpty cJ3_isEmpty 1 (some FieldType.boolean)) rm_J3_isEmpty (hv_Pc G h sz [.ref a0]) (hv_Qi G h sz Q) 0 0 (hv_A h sz) := by
  refine Met.ofW (cc := cJ3_isEmpty) (maxL := 1) (ret := (some FieldType.boolean)) (by decide) rfl ?_
  intro p e s m args below meth c s₁ B hml hv
  obtain ⟨rfl, rfl, hE, hI⟩ := hv_open B hml hv
  have hE : hv_E p s m ([.ref a0] : List Value).toArray meth c cJ3_isEmpty 1 (some FieldType.boolean) RJ3 G h := hE
  obtain ⟨⟨hx, hb, hml, hown, hts⟩, hr, hlocks, hXX⟩ := id hE
  have hl := lv_entry ([.ref a0] : List Value) (n := 1) (Nat.le_of_ble_eq_true rfl)
  rw [lg_entry_eq]
  generalize (lg_sl ([.ref a0] : List Value) ++ List.replicate (1 - (lg_sl ([.ref a0] : List Value)).length) Slot.unset).toArray = ls at hl ⊢
  have hl : lv_has ls 1 [(0, .ref a0)] := hl
  unfold wp_J3_isEmpty at hw
  refine lv_aload_n hx hb dJ3_isEmpty_0 rfl (lv_at hl 0 rfl) ?_
  refine hv_wgeti hE hI in_J3 (ci := 5) rfl 1 (by decide) (hts _ q257) (fun _ hx => hx) hw dJ3_isEmpty_1 (fun r1 hw => ?_)
  refine lv_aload_n hx hb dJ3_isEmpty_4 rfl (lv_at hl 0 rfl) ?_
  refine hv_wgeti hE hI in_J3 (ci := 5) rfl 2 (by decide) (hts _ q258) (fun _ hx => hx) hw dJ3_isEmpty_5 (fun r2 hw => ?_)
  refine lv_icmp_ne (tgt := 15) hx hb dJ3_isEmpty_8 (by decide) (fun c_8 => ?_) (fun c_8 => ?_)
  · have hw := hw.1 c_8
    refine lv_iconst (v := 0) hx hb dJ3_isEmpty_15 (by decide) ?_
    exact hv_zret hE hI (Nat.le_refl _) (Nat.le_refl _) rfl hw dJ3_isEmpty_16
  · have hw := hw.2 c_8
    refine lv_iconst (v := 1) hx hb dJ3_isEmpty_11 (by decide) ?_
    refine lv_goto (tgt := 16) hx hb dJ3_isEmpty_12 (by decide) ?_
    exact hv_zret hE hI (Nat.le_refl _) (Nat.le_refl _) rfl hw dJ3_isEmpty_16

/-- java/util/ArrayDeque.dec(II)I -/
abbrev rm_J3_dec : Room := { frames := 1, cells := 0, slots := 0, locals := 12 }
def wp_J3_dec (G : GG) (h : HH) (x0 : Int32) (x1 : Int32) (Q : Int32 → HH → Prop) : Prop := ((0 ≤ (x0 + (-1 : Int32)) → Q (x0 + (-1 : Int32)) h) ∧ (¬ 0 ≤ (x0 + (-1 : Int32)) → Q (x1 - (1 : Int32)) h))
set_option maxHeartbeats 4000000 in
theorem snd_J3_dec (l : Launch) (G : GG) (sz : Nat) (h : HH) (x0 : Int32) (x1 : Int32) (Q : Int32 → HH → Prop) (hw : wp_J3_dec G h x0 x1 Q) : Met l yJ3_dec (ws_ yJ3_dec cJ3_dec 2 (some FieldType.int)) rm_J3_dec (hv_Pc G h sz [.int x0, .int x1]) (hv_Qi G h sz Q) 0 0 (hv_A h sz) := by
  refine Met.ofW (cc := cJ3_dec) (maxL := 2) (ret := (some FieldType.int)) (by decide) rfl ?_
  intro p e s m args below meth c s₁ B hml hv
  obtain ⟨rfl, rfl, hE, hI⟩ := hv_open B hml hv
  have hE : hv_E p s m ([.int x0, .int x1] : List Value).toArray meth c cJ3_dec 2 (some FieldType.int) RJ3 G h := hE
  obtain ⟨⟨hx, hb, hml, hown, hts⟩, hr, hlocks, hXX⟩ := id hE
  have hl := lv_entry ([.int x0, .int x1] : List Value) (n := 2) (Nat.le_of_ble_eq_true rfl)
  rw [lg_entry_eq]
  generalize (lg_sl ([.int x0, .int x1] : List Value) ++ List.replicate (2 - (lg_sl ([.int x0, .int x1] : List Value)).length) Slot.unset).toArray = ls at hl ⊢
  have hl : lv_has ls 2 [(0, .int x0), (1, .int x1)] := hl
  unfold wp_J3_dec at hw
  refine lv_iinc (v := (x0 + (-1 : Int32))) (lv' := [(0, .int (x0 + (-1 : Int32))), (1, .int x1)]) hx hb dJ3_dec_0 hl (k := 0) rfl rfl (by decide) rfl (fun ls hl => ?_)
  refine lv_iload_n hx hb dJ3_dec_3 rfl (lv_at hl 0 rfl) ?_
  refine lv_if_ge (tgt := 11) hx hb dJ3_dec_4 (by decide) (fun c_4 => ?_) (fun c_4 => ?_)
  · have hw := hw.1 c_4
    refine lv_iload_n hx hb dJ3_dec_11 rfl (lv_at hl 0 rfl) ?_
    exact hv_iret hE hI (Nat.le_refl _) (Nat.le_refl _) hw dJ3_dec_12
  · have hw := hw.2 c_4
    refine lv_iload_n hx hb dJ3_dec_7 rfl (lv_at hl 1 rfl) ?_
    refine lv_iconst (v := 1) hx hb dJ3_dec_8 (by decide) ?_
    refine lv_isub hx hb dJ3_dec_9 ?_
    refine lv_istore_n (lv' := [(0, .int (x1 - (1 : Int32))), (1, .int x1)]) hx hb dJ3_dec_10 rfl hl (by decide) rfl (fun ls hl => ?_)
    refine lv_iload_n hx hb dJ3_dec_11 rfl (lv_at hl 0 rfl) ?_
    exact hv_iret hE hI (Nat.le_refl _) (Nat.le_refl _) hw dJ3_dec_12

/-- java/util/ArrayDeque.pollLast()Ljava/lang/Object; -/
abbrev rm_J3_pollLast : Room := { frames := 2, cells := 0, slots := 0, locals := 33 }
def wp_J3_pollLast (G : GG) (h : HH) (a0 : Nat) (Q : Option Nat → HH → Prop) : Prop := w_getq h a0 5 0 (fun r1 => w_geti h a0 5 2 (fun r2 => w_nn r1 (fun a3 => w_len G h a3 (fun r4 => wp_J3_dec G h r2 r4 (fun r5 h6 => wp_J3_elementAt G h6 (some a3) r5 (fun r7 h8 => ((r7 = none → Q none h8) ∧ (∀ a9, r7 = some a9 → w_put h8 a0 5 2 (.int r5) (fun h10 => w_qst G h10 a3 r5 none (fun h11 => Q (some a9) h11))))))))))
set_option maxHeartbeats 4000000 in
theorem snd_J3_pollLast (l : Launch) (G : GG) (sz : Nat) (h : HH) (a0 : Nat) (Q : Option Nat → HH → Prop) (hw : wp_J3_pollLast G h a0 Q) : Met l yJ3_pollLast (ws_ yJ3_pollLast cJ3_pollLast 4 (some (FieldType.object "java/lang/Object"))) rm_J3_pollLast (hv_Pc G h sz [.ref a0]) (hv_Qq G h sz Q) 0 0 (hv_A h sz) := by
  refine Met.ofW (cc := cJ3_pollLast) (maxL := 4) (ret := (some (FieldType.object "java/lang/Object"))) (by decide) rfl ?_
  intro p e s m args below meth c s₁ B hml hv
  obtain ⟨rfl, rfl, hE, hI⟩ := hv_open B hml hv
  have hE : hv_E p s m ([.ref a0] : List Value).toArray meth c cJ3_pollLast 4 (some (FieldType.object "java/lang/Object")) RJ3 G h := hE
  obtain ⟨⟨hx, hb, hml, hown, hts⟩, hr, hlocks, hXX⟩ := id hE
  have hl := lv_entry ([.ref a0] : List Value) (n := 4) (Nat.le_of_ble_eq_true rfl)
  rw [lg_entry_eq]
  generalize (lg_sl ([.ref a0] : List Value) ++ List.replicate (4 - (lg_sl ([.ref a0] : List Value)).length) Slot.unset).toArray = ls at hl ⊢
  have hl : lv_has ls 4 [(0, .ref a0)] := hl
  unfold wp_J3_pollLast at hw
  refine lv_aload_n hx hb dJ3_pollLast_0 rfl (lv_at hl 0 rfl) ?_
  refine hv_wgetq hE hI in_J3 (ci := 5) rfl 0 (by decide) (hts _ q256) (fun _ hx => hx) hw dJ3_pollLast_1 (fun r1 hw => ?_)
  refine lv_dup hx hb dJ3_pollLast_4 (va_rf_cat _) ?_
  refine lv_astore_nq (lv' := [(1, va_rf r1), (0, .ref a0)]) hx hb dJ3_pollLast_5 rfl hl (by decide) rfl (fun ls hl => ?_)
  refine lv_aload_n hx hb dJ3_pollLast_6 rfl (lv_at hl 1 rfl) ?_
  refine hv_wgeti hE hI in_J3 (ci := 5) rfl 2 (by decide) (hts _ q258) (fun _ hx => hx) hw dJ3_pollLast_7 (fun r2 hw => ?_)
  refine lv_aload_nq hx hb dJ3_pollLast_10 rfl (lv_at hl 0 rfl) ?_
  obtain ⟨a3, hz, hwa3⟩ := hw; have hla3 := hl; subst hz; have hw := hwa3; have hl := hla3
  refine hv_len hE hI hw dJ3_pollLast_11 (fun r4 hw => ?_)
  refine hv_rci hI (va_runS (As := [.int r2, .int r4]) (rest := [.ref a3]) hE.1 (snd_J3_dec l G _ h r2 r4 _ hw) (va_cwS 2 hts (lw_S q1967 q1968 q103 q1969) rfl rfl rfl (by decide +kernel) ⟨Nat.le_of_ble_eq_true rfl, Nat.le_of_ble_eq_true rfl⟩) (hv_preS hE hI) rfl rfl hl.1 rfl (lv_room (Nat.le_of_ble_eq_true rfl)) dJ3_pollLast_12 ⟨Nat.le_of_ble_eq_true rfl, Nat.le_of_ble_eq_true rfl⟩) (fun r5 h6 H locs hw hI => ?_)
  refine lv_dup hx hb dJ3_pollLast_15 rfl ?_
  refine lv_istore_n (lv' := [(2, .int r5), (1, .ref a3), (0, .ref a0)]) hx hb dJ3_pollLast_16 rfl hl (by decide) rfl (fun ls hl => ?_)
  refine hv_rcq hI (va_runS (As := [.ref a3, .int r5]) (rest := []) hE.1 (snd_J3_elementAt l G _ h6 (some a3) r5 _ hw) (va_cwS 2 hts (lw_S q1272 q1273 q103 q1274) rfl rfl rfl (by decide +kernel) ⟨Nat.le_of_ble_eq_true rfl, Nat.le_of_ble_eq_true rfl⟩) (hv_preS hE hI) rfl rfl hl.1 rfl (lv_room (Nat.le_of_ble_eq_true rfl)) dJ3_pollLast_17 ⟨Nat.le_of_ble_eq_true rfl, Nat.le_of_ble_eq_true rfl⟩) (fun r7 h8 H locs hw hI => ?_)
  refine lv_astore_nq (lv' := [(3, va_rf r7), (2, .int r5), (1, .ref a3), (0, .ref a0)]) hx hb dJ3_pollLast_20 rfl hl (by decide) rfl (fun ls hl => ?_)
  refine lv_aload_nq hx hb dJ3_pollLast_21 rfl (lv_at hl 0 rfl) ?_
  refine lv_ifnullq (tgt := 34) hx hb dJ3_pollLast_22 (by decide) (fun c_22 => ?_) (fun c_22 => ?_)
  · have hwa9 := hw.1 c_22; have hla9 := hl; subst c_22; have hw := hwa9; have hl := hla9
    refine lv_aload_nN hx hb dJ3_pollLast_34 rfl (lv_at hl 0 rfl) ?_
    exact hv_qret (v := none) hE (Or.inl ⟨_, rfl⟩) hI (Nat.le_refl _) (Nat.le_refl _) hw dJ3_pollLast_35
  · obtain ⟨a9, hz⟩ := Option.ne_none_iff_exists.mp c_22
    have hwa9 := hw.2 a9 hz.symm; have hla9 := hl; subst hz; have hw := hwa9; have hl := hla9
    refine lv_aload_n hx hb dJ3_pollLast_25 rfl (lv_at hl 2 rfl) ?_
    refine lv_aload_n hx hb dJ3_pollLast_26 rfl (lv_at hl 3 rfl) ?_
    refine lv_iload_n hx hb dJ3_pollLast_27 rfl (lv_at hl 1 rfl) ?_
    refine lv_dup_x1 hx hb dJ3_pollLast_28 rfl rfl ?_
    refine hv_wput (v := .int r5) tyJ3 hE hI in_J3 tyJ3_ok nmJ3 (ci := 5) rfl 2 (by decide) (hts _ q258) (fun _ hx => hx) rfl (ty := .int) rfl rfl rfl hw dJ3_pollLast_29 (fun h10 H locs hw hI => ?_)
    refine lv_null hx hb dJ3_pollLast_32 ?_
    refine hv_wqst (x1 := none) hE hI hw dJ3_pollLast_33 (fun h11 H locs hw hI => ?_)
    refine lv_aload_n hx hb dJ3_pollLast_34 rfl (lv_at hl 0 rfl) ?_
    exact hv_qret (v := (some a9)) hE (Or.inl ⟨_, rfl⟩) hI (Nat.le_refl _) (Nat.le_refl _) hw dJ3_pollLast_35

/-- java/util/ArrayDeque.removeLast()Ljava/lang/Object; -/
abbrev rm_J3_removeLast : Room := { frames := 3, cells := 0, slots := 0, locals := 56 }
def wp_J3_removeLast (G : GG) (h : HH) (a0 : Nat) (Q : Option Nat → HH → Prop) : Prop := w_is h a0 5 (wp_J3_pollLast G h a0 (fun r1 h2 => ((r1 = none → False) ∧ (∀ a3, r1 = some a3 → Q (some a3) h2))))
set_option maxHeartbeats 4000000 in
theorem snd_J3_removeLast (l : Launch) (G : GG) (sz : Nat) (h : HH) (a0 : Nat) (Q : Option Nat → HH → Prop) (hw : wp_J3_removeLast G h a0 Q) : Met l yJ3_removeLast (ws_ yJ3_removeLast cJ3_removeLast 2 (some (FieldType.object "java/lang/Object"))) rm_J3_removeLast (hv_Pc G h sz [.ref a0]) (hv_Qq G h sz Q) 0 0 (hv_A h sz) := by
  refine Met.ofW (cc := cJ3_removeLast) (maxL := 2) (ret := (some (FieldType.object "java/lang/Object"))) (by decide) rfl ?_
  intro p e s m args below meth c s₁ B hml hv
  obtain ⟨rfl, rfl, hE, hI⟩ := hv_open B hml hv
  have hE : hv_E p s m ([.ref a0] : List Value).toArray meth c cJ3_removeLast 2 (some (FieldType.object "java/lang/Object")) RJ3 G h := hE
  obtain ⟨⟨hx, hb, hml, hown, hts⟩, hr, hlocks, hXX⟩ := id hE
  have hl := lv_entry ([.ref a0] : List Value) (n := 2) (Nat.le_of_ble_eq_true rfl)
  rw [lg_entry_eq]
  generalize (lg_sl ([.ref a0] : List Value) ++ List.replicate (2 - (lg_sl ([.ref a0] : List Value)).length) Slot.unset).toArray = ls at hl ⊢
  have hl : lv_has ls 2 [(0, .ref a0)] := hl
  unfold wp_J3_removeLast at hw
  refine lv_aload_n hx hb dJ3_removeLast_0 rfl (lv_at hl 0 rfl) ?_
  obtain ⟨⟨fs, hre⟩, hw⟩ := hw
  refine hv_rcq hI (va_runV (As := []) (b := a0) (rest := []) hE.1 (snd_J3_pollLast l G _ h a0 _ hw) (cwV 0 hts (lw_V q1963 q1964 q1965 q103 q1966) rfl rfl rfl (by decide +kernel) ⟨Nat.le_of_ble_eq_true rfl, Nat.le_of_ble_eq_true rfl⟩) (hv_preV hE hI (ci := 5) rfl hre) rfl rfl hl.1 rfl (lv_room (Nat.le_of_ble_eq_true rfl)) dJ3_removeLast_1 ⟨Nat.le_of_ble_eq_true rfl, Nat.le_of_ble_eq_true rfl⟩) (fun r1 h2 H locs hw hI => ?_)
  refine lv_astore_nq (lv' := [(1, va_rf r1), (0, .ref a0)]) hx hb dJ3_removeLast_4 rfl hl (by decide) rfl (fun ls hl => ?_)
  refine lv_aload_nq hx hb dJ3_removeLast_5 rfl (lv_at hl 0 rfl) ?_
  refine lv_ifnonnullq (tgt := 17) hx hb dJ3_removeLast_6 (by decide) (fun c_6 => ?_) (fun c_6 => ?_)
  · obtain ⟨a3, hz⟩ := Option.ne_none_iff_exists.mp c_6
    have hwa3 := hw.2 a3 hz.symm; have hla3 := hl; subst hz; have hw := hwa3; have hl := hla3
    refine lv_aload_n hx hb dJ3_removeLast_17 rfl (lv_at hl 0 rfl) ?_
    exact hv_qret (v := (some a3)) hE (Or.inl ⟨_, rfl⟩) hI (Nat.le_refl _) (Nat.le_refl _) hw dJ3_removeLast_18
  · have hwa3 := hw.1 c_6; have hla3 := hl; subst c_6; have hw := hwa3; have hl := hla3
    exact hw.elim

/-- MatchmakerRules.undo()I -/
abbrev rm_X1_undo (mc ms : Nat) : Room := { frames := 7, cells := mc, slots := ms, locals := 109 }
def wp_X1_undo_L15 (G : GG) (mc : Nat) (ms : Nat) (a0 : Nat) (Q : Int32 → HH → Prop) (X : String → Nat → HH → Prop) (h : HH) (nc : Nat) (nk : Nat) (t0 : Int32) : Prop := (∃ mc5 ms5, nc + mc5 ≤ mc ∧ nk + ms5 ≤ ms ∧ wp_X1_checkState G mc5 ms5 h t0 (fun h6 => w_getq h6 a0 1 1 (fun r9 => w_nn r9 (fun a10 => w_is h6 a10 5 (wp_J3_removeLast G h6 a10 (fun r11 h12 => w_nn r11 (fun a13 => w_cast h12 a13 2 (w_put h12 a0 1 0 (.ref a13) (fun h14 => w_getq h14 a0 1 1 (fun r15 => w_nn r15 (fun a16 => w_is h14 a16 5 (wp_J3_size G h14 a16 (fun r17 h18 => Q r17 h18)))))))))))) (fun E q7 h8 => X E q7 h8))
set_option maxHeartbeats 4000000 in
theorem snd_X1_undo_L15 {p : Program} {l : Launch} {e : Env} {s : State} {m : MethodId} {args : Array Value} {below : List Frame} {meth : Method} {c : Code} {h0 : HH} (G : GG) (mc : Nat) (ms : Nat) (a0 : Nat) (Q : Int32 → HH → Prop) (X : String → Nat → HH → Prop) (hl0 : l.stackTraces = false) (ht : ∀ x ∈ c.exceptionTable.toList, False) (hE : hv_E p s m args meth c cX1_undo 1 (some FieldType.int) RX1 G h0) : ∀ (h : HH) (nc : Nat) (nk : Nat) (t0 : Int32), wp_X1_undo_L15 G mc ms a0 Q X h nc nk t0 → nc ≤ mc → nk ≤ ms → ∀ (H : Heap) (locs : List Loc) (ls : Array Slot), hv_I G h0 s.heap h H locs → lv_has ls 1 [(0, .ref a0)] → W p l e (headSpec (ws_ yX1_undo cX1_undo 1 (some FieldType.int)) (rm_X1_undo mc ms)).room s m args below meth c H locs nc nk (vx_MQ below (hv_Qi G h0 s.heap.size Q) (hv_XC G h0 s.heap.size X) args s mc ms (hv_A h0 s.heap.size)) (F0 m 15 ls [.int t0]) := by
  obtain ⟨⟨hx, hb, hml, hown, hts⟩, hr, hlocks, hXX⟩ := id hE
  intro h nc nk t0 hw hc hs H locs ls hI hl
  unfold wp_X1_undo_L15 at hw
  obtain ⟨mc5, ms5, hc, hs, hw⟩ := hw
  refine hx_rcv hI (vx_runS (As := [.int t0]) (rest := []) hE.1 (snd_X1_checkState l hl0 G _ mc5 ms5 h t0 _ _ hw) (va_cwS 1 hts (lw_S q1779 q1780 q97 q1781) rfl rfl rfl (by decide +kernel) ⟨Nat.le_of_ble_eq_true rfl, Nat.le_of_ble_eq_true rfl⟩) (hv_preS hE hI) rfl rfl hl.1 rfl (lv_room (Nat.le_of_ble_eq_true rfl)) dX1_undo_15 ⟨hc, hs⟩) ?_ (fun h6 H locs hw hI => ?_)
  · intro E q7 h8 H locs hw hI hT
    exact hx_out hE hI hT hc hs (fun z hz => (ht z hz).elim) hw
  refine lv_aload_n hx hb dX1_undo_18 rfl (lv_at hl 0 rfl) ?_
  refine lv_aload_n hx hb dX1_undo_19 rfl (lv_at hl 0 rfl) ?_
  refine hv_wgetq hE hI in_X1 (ci := 1) rfl 1 (by decide) (hts _ q301) (fun _ hx => hx) hw dX1_undo_20 (fun r9 hw => ?_)
  obtain ⟨a10, hz, hwa10⟩ := hw; have hla10 := hl; subst hz; have hw := hwa10; have hl := hla10
  obtain ⟨⟨fs, hre⟩, hw⟩ := hw
  refine hv_rcq hI (va_runV (As := []) (b := a10) (rest := [.ref a0]) hE.1 (snd_J3_removeLast l G _ h6 a10 _ hw) (cwV 0 hts (lw_V q1959 q1960 q1961 q103 q1962) rfl rfl rfl (by decide +kernel) ⟨Nat.le_of_ble_eq_true rfl, Nat.le_of_ble_eq_true rfl⟩) (hv_preV hE hI (ci := 5) rfl hre) rfl rfl hl.1 rfl (lv_room (Nat.le_of_ble_eq_true rfl)) dX1_undo_23 ⟨hc, hs⟩) (fun r11 h12 H locs hw hI => ?_)
  obtain ⟨a13, hz, hwa13⟩ := hw; have hla13 := hl; subst hz; have hw := hwa13; have hl := hla13
  refine hv_wcast (ci := 2) hE hI (hts _ q148) rfl hw dX1_undo_26 (fun hw => ?_)
  refine hv_wput (v := .ref a13) tyX1 hE hI in_X1 tyX1_ok nmX1 (ci := 1) rfl 0 (by decide) (hts _ q300) (fun _ hx => hx) rfl (ty := (.object "MatchmakerRules$Book")) rfl rfl rfl hw dX1_undo_29 (fun h14 H locs hw hI => ?_)
  refine lv_aload_n hx hb dX1_undo_32 rfl (lv_at hl 0 rfl) ?_
  refine hv_wgetq hE hI in_X1 (ci := 1) rfl 1 (by decide) (hts _ q301) (fun _ hx => hx) hw dX1_undo_33 (fun r15 hw => ?_)
  obtain ⟨a16, hz, hwa16⟩ := hw; have hla16 := hl; subst hz; have hw := hwa16; have hl := hla16
  obtain ⟨⟨fs, hre⟩, hw⟩ := hw
  refine hv_rci hI (va_runV (As := []) (b := a16) (rest := []) hE.1 (snd_J3_size l G _ h14 a16 _ hw) (cwV 0 hts (lw_V q1257 q1258 q1259 q103 q1260) rfl rfl rfl (by decide +kernel) ⟨Nat.le_of_ble_eq_true rfl, Nat.le_of_ble_eq_true rfl⟩) (hv_preV hE hI (ci := 5) rfl hre) rfl rfl hl.1 rfl (lv_room (Nat.le_of_ble_eq_true rfl)) dX1_undo_36 ⟨hc, hs⟩) (fun r17 h18 H locs hw hI => ?_)
  exact vx_ret (hv_iret hE hI hc hs hw dX1_undo_39)
def wp_X1_undo (G : GG) (mc : Nat) (ms : Nat) (h : HH) (a0 : Nat) (Q : Int32 → HH → Prop) (X : String → Nat → HH → Prop) : Prop := w_getq h a0 1 1 (fun r1 => w_nn r1 (fun a2 => w_is h a2 5 (wp_J3_isEmpty G h a2 (fun r3 h4 => ((¬ r3 = 0 → wp_X1_undo_L15 G mc ms a0 Q X h4 0 0 (0 : Int32)) ∧ (r3 = 0 → wp_X1_undo_L15 G mc ms a0 Q X h4 0 0 (1 : Int32)))))))
set_option maxHeartbeats 4000000 in
theorem snd_X1_undo (l : Launch) (hl0 : l.stackTraces = false) (G : GG) (sz : Nat) (mc : Nat) (ms : Nat) (h : HH) (a0 : Nat) (Q : Int32 → HH → Prop) (X : String → Nat → HH → Prop) (hw : wp_X1_undo G mc ms h a0 Q X) : vx_Met l yX1_undo (ws_ yX1_undo cX1_undo 1 (some FieldType.int)) (rm_X1_undo mc ms) (hv_Pc G h sz [.ref a0]) (hv_Qi G h sz Q) (hv_XC G h sz X) mc ms (hv_A h sz) := by
  refine vx_ofW (cc := cX1_undo) (maxL := 1) (ret := (some FieldType.int)) (by decide) rfl ?_
  intro p e s m args below meth c s₁ B hml ht hv
  obtain ⟨rfl, rfl, hE, hI⟩ := hv_open B hml hv
  have hE : hv_E p s m ([.ref a0] : List Value).toArray meth c cX1_undo 1 (some FieldType.int) RX1 G h := hE
  obtain ⟨⟨hx, hb, hml, hown, hts⟩, hr, hlocks, hXX⟩ := id hE
  have hl := lv_entry ([.ref a0] : List Value) (n := 1) (Nat.le_of_ble_eq_true rfl)
  rw [lg_entry_eq]
  generalize (lg_sl ([.ref a0] : List Value) ++ List.replicate (1 - (lg_sl ([.ref a0] : List Value)).length) Slot.unset).toArray = ls at hl ⊢
  have hl : lv_has ls 1 [(0, .ref a0)] := hl
  have hc : 0 ≤ mc := Nat.zero_le _
  have hs : 0 ≤ ms := Nat.zero_le _
  unfold wp_X1_undo at hw
  refine lv_aload_n hx hb dX1_undo_0 rfl (lv_at hl 0 rfl) ?_
  refine hv_wgetq hE hI in_X1 (ci := 1) rfl 1 (by decide) (hts _ q301) (fun _ hx => hx) hw dX1_undo_1 (fun r1 hw => ?_)
  obtain ⟨a2, hz, hwa2⟩ := hw; have hla2 := hl; subst hz; have hw := hwa2; have hl := hla2
  obtain ⟨⟨fs, hre⟩, hw⟩ := hw
  refine hv_rci hI (va_runV (As := []) (b := a2) (rest := []) hE.1 (snd_J3_isEmpty l G _ h a2 _ hw) (cwV 0 hts (lw_V q1955 q1956 q1957 q103 q1958) rfl rfl rfl (by decide +kernel) ⟨Nat.le_of_ble_eq_true rfl, Nat.le_of_ble_eq_true rfl⟩) (hv_preV hE hI (ci := 5) rfl hre) rfl rfl hl.1 rfl (lv_room (Nat.le_of_ble_eq_true rfl)) dX1_undo_4 ⟨hc, hs⟩) (fun r3 h4 H locs hw hI => ?_)
  refine lv_if_ne (tgt := 14) hx hb dX1_undo_7 (by decide) (fun c_7 => ?_) (fun c_7 => ?_)
  · have hw := hw.1 c_7
    refine lv_iconst (v := 0) hx hb dX1_undo_14 (by decide) ?_
    exact snd_X1_undo_L15 G mc ms a0 Q X hl0 ht hE h4 0 0 (0 : Int32) hw hc hs _ _ _ hI (lv_sub hl [0] rfl)
  · have hw := hw.2 c_7
    refine lv_iconst (v := 1) hx hb dX1_undo_10 (by decide) ?_
    refine lv_goto (tgt := 15) hx hb dX1_undo_11 (by decide) ?_
    exact snd_X1_undo_L15 G mc ms a0 Q X hl0 ht hE h4 0 0 (1 : Int32) hw hc hs _ _ _ hI (lv_sub hl [0] rfl)

/-- MatchmakerRules.restore()I -/
abbrev rm_X1_restore (mc ms : Nat) : Room := { frames := 7, cells := mc, slots := ms, locals := 109 }
def wp_X1_restore_L12 (G : GG) (mc : Nat) (ms : Nat) (a0 : Nat) (Q : Int32 → HH → Prop) (X : String → Nat → HH → Prop) (h : HH) (nc : Nat) (nk : Nat) (t0 : Int32) : Prop := (∃ mc3 ms3, nc + mc3 ≤ mc ∧ nk + ms3 ≤ ms ∧ wp_X1_checkState G mc3 ms3 h t0 (fun h4 => w_getq h4 a0 1 2 (fun r7 => w_put h4 a0 1 0 (va_rf r7) (fun h8 => w_getq h8 a0 1 1 (fun r9 => w_nn r9 (fun a10 => w_is h8 a10 5 (wp_J3_clear G h8 a10 (fun h11 => w_getq h11 a0 1 0 (fun r12 => w_nn r12 (fun a13 => w_getq h11 a13 2 2 (fun r14 => w_nn r14 (fun a15 => w_is h11 a15 4 (wp_J2_size G h11 a15 (fun r16 h17 => Q r16 h17))))))))))))) (fun E q5 h6 => X E q5 h6))
set_option maxHeartbeats 4000000 in
theorem snd_X1_restore_L12 {p : Program} {l : Launch} {e : Env} {s : State} {m : MethodId} {args : Array Value} {below : List Frame} {meth : Method} {c : Code} {h0 : HH} (G : GG) (mc : Nat) (ms : Nat) (a0 : Nat) (Q : Int32 → HH → Prop) (X : String → Nat → HH → Prop) (hl0 : l.stackTraces = false) (ht : ∀ x ∈ c.exceptionTable.toList, False) (hE : hv_E p s m args meth c cX1_restore 1 (some FieldType.int) RX1 G h0) : ∀ (h : HH) (nc : Nat) (nk : Nat) (t0 : Int32), wp_X1_restore_L12 G mc ms a0 Q X h nc nk t0 → nc ≤ mc → nk ≤ ms → ∀ (H : Heap) (locs : List Loc) (ls : Array Slot), hv_I G h0 s.heap h H locs → lv_has ls 1 [(0, .ref a0)] → W p l e (headSpec (ws_ yX1_restore cX1_restore 1 (some FieldType.int)) (rm_X1_restore mc ms)).room s m args below meth c H locs nc nk (vx_MQ below (hv_Qi G h0 s.heap.size Q) (hv_XC G h0 s.heap.size X) args s mc ms (hv_A h0 s.heap.size)) (F0 m 12 ls [.int t0]) := by
  obtain ⟨⟨hx, hb, hml, hown, hts⟩, hr, hlocks, hXX⟩ := id hE
  intro h nc nk t0 hw hc hs H locs ls hI hl
  unfold wp_X1_restore_L12 at hw
  obtain ⟨mc3, ms3, hc, hs, hw⟩ := hw
  refine hx_rcv hI (vx_runS (As := [.int t0]) (rest := []) hE.1 (snd_X1_checkState l hl0 G _ mc3 ms3 h t0 _ _ hw) (va_cwS 1 hts (lw_S q1779 q1780 q97 q1781) rfl rfl rfl (by decide +kernel) ⟨Nat.le_of_ble_eq_true rfl, Nat.le_of_ble_eq_true rfl⟩) (hv_preS hE hI) rfl rfl hl.1 rfl (lv_room (Nat.le_of_ble_eq_true rfl)) dX1_restore_12 ⟨hc, hs⟩) ?_ (fun h4 H locs hw hI => ?_)
  · intro E q5 h6 H locs hw hI hT
    exact hx_out hE hI hT hc hs (fun z hz => (ht z hz).elim) hw
  refine lv_aload_n hx hb dX1_restore_15 rfl (lv_at hl 0 rfl) ?_
  refine lv_aload_n hx hb dX1_restore_16 rfl (lv_at hl 0 rfl) ?_
  refine hv_wgetq hE hI in_X1 (ci := 1) rfl 2 (by decide) (hts _ q302) (fun _ hx => hx) hw dX1_restore_17 (fun r7 hw => ?_)
  refine hv_wput (v := va_rf r7) tyX1 hE hI in_X1 tyX1_ok nmX1 (ci := 1) rfl 0 (by decide) (hts _ q300) (fun _ hx => hx) rfl (ty := (.object "MatchmakerRules$Book")) rfl (va_rf_nar _ _) (va_rf_fit _ _) hw dX1_restore_20 (fun h8 H locs hw hI => ?_)
  refine lv_aload_n hx hb dX1_restore_23 rfl (lv_at hl 0 rfl) ?_
  refine hv_wgetq hE hI in_X1 (ci := 1) rfl 1 (by decide) (hts _ q301) (fun _ hx => hx) hw dX1_restore_24 (fun r9 hw => ?_)
  obtain ⟨a10, hz, hwa10⟩ := hw; have hla10 := hl; subst hz; have hw := hwa10; have hl := hla10
  obtain ⟨⟨fs, hre⟩, hw⟩ := hw
  refine hv_rcv hI (va_runV (As := []) (b := a10) (rest := []) hE.1 (snd_J3_clear l G _ h8 a10 _ hw) (cwV 0 hts (lw_V q336 q337 q338 q103 q339) rfl rfl rfl (by decide +kernel) ⟨Nat.le_of_ble_eq_true rfl, Nat.le_of_ble_eq_true rfl⟩) (hv_preV hE hI (ci := 5) rfl hre) rfl rfl hl.1 rfl (lv_room (Nat.le_of_ble_eq_true rfl)) dX1_restore_27 ⟨hc, hs⟩) (fun h11 H locs hw hI => ?_)
  refine lv_aload_n hx hb dX1_restore_30 rfl (lv_at hl 0 rfl) ?_
  refine hv_wgetq hE hI in_X1 (ci := 1) rfl 0 (by decide) (hts _ q300) (fun _ hx => hx) hw dX1_restore_31 (fun r12 hw => ?_)
  obtain ⟨a13, hz, hwa13⟩ := hw; have hla13 := hl; subst hz; have hw := hwa13; have hl := hla13
  refine hv_wgetqN hE hI in_X2 (ci := 2) rfl 2 (by decide) (hE.2.2.2.2.1.F 1 rfl) (fun _ hx => hx) hw dX1_restore_34 (fun r14 hw => ?_)
  obtain ⟨a15, hz, hwa15⟩ := hw; have hla15 := hl; subst hz; have hw := hwa15; have hl := hla15
  obtain ⟨⟨fs, hre⟩, hw⟩ := hw
  refine hv_rci hI (va_runV (As := []) (b := a15) (rest := []) hE.1 (snd_J2_size l G _ h11 a15 _ hw) (cwV 0 hts (lw_V q332 q333 q334 q102 q335) rfl rfl rfl (by decide +kernel) ⟨Nat.le_of_ble_eq_true rfl, Nat.le_of_ble_eq_true rfl⟩) (hv_preV hE hI (ci := 4) rfl hre) rfl rfl hl.1 rfl (lv_room (Nat.le_of_ble_eq_true rfl)) dX1_restore_37 ⟨hc, hs⟩) (fun r16 h17 H locs hw hI => ?_)
  exact vx_ret (hv_iret hE hI hc hs hw dX1_restore_40)
def wp_X1_restore (G : GG) (mc : Nat) (ms : Nat) (h : HH) (a0 : Nat) (Q : Int32 → HH → Prop) (X : String → Nat → HH → Prop) : Prop := w_getq h a0 1 2 (fun r1 => ((r1 = none → wp_X1_restore_L12 G mc ms a0 Q X h 0 0 (0 : Int32)) ∧ (∀ a2, r1 = some a2 → wp_X1_restore_L12 G mc ms a0 Q X h 0 0 (1 : Int32))))
set_option maxHeartbeats 4000000 in
theorem snd_X1_restore (l : Launch) (hl0 : l.stackTraces = false) (G : GG) (sz : Nat) (mc : Nat) (ms : Nat) (h : HH) (a0 : Nat) (Q : Int32 → HH → Prop) (X : String → Nat → HH → Prop) (hw : wp_X1_restore G mc ms h a0 Q X) : vx_Met l yX1_restore (ws_ yX1_restore cX1_restore 1 (some FieldType.int)) (rm_X1_restore mc ms) (hv_Pc G h sz [.ref a0]) (hv_Qi G h sz Q) (hv_XC G h sz X) mc ms (hv_A h sz) := by
  refine vx_ofW (cc := cX1_restore) (maxL := 1) (ret := (some FieldType.int)) (by decide) rfl ?_
  intro p e s m args below meth c s₁ B hml ht hv
  obtain ⟨rfl, rfl, hE, hI⟩ := hv_open B hml hv
  have hE : hv_E p s m ([.ref a0] : List Value).toArray meth c cX1_restore 1 (some FieldType.int) RX1 G h := hE
  obtain ⟨⟨hx, hb, hml, hown, hts⟩, hr, hlocks, hXX⟩ := id hE
  have hl := lv_entry ([.ref a0] : List Value) (n := 1) (Nat.le_of_ble_eq_true rfl)
  rw [lg_entry_eq]
  generalize (lg_sl ([.ref a0] : List Value) ++ List.replicate (1 - (lg_sl ([.ref a0] : List Value)).length) Slot.unset).toArray = ls at hl ⊢
  have hl : lv_has ls 1 [(0, .ref a0)] := hl
  have hc : 0 ≤ mc := Nat.zero_le _
  have hs : 0 ≤ ms := Nat.zero_le _
  unfold wp_X1_restore at hw
  refine lv_aload_n hx hb dX1_restore_0 rfl (lv_at hl 0 rfl) ?_
  refine hv_wgetq hE hI in_X1 (ci := 1) rfl 2 (by decide) (hts _ q302) (fun _ hx => hx) hw dX1_restore_1 (fun r1 hw => ?_)
  refine lv_ifnullq (tgt := 11) hx hb dX1_restore_4 (by decide) (fun c_4 => ?_) (fun c_4 => ?_)
  · have hwa2 := hw.1 c_4; have hla2 := hl; subst c_4; have hw := hwa2; have hl := hla2
    refine lv_iconst (v := 0) hx hb dX1_restore_11 (by decide) ?_
    exact snd_X1_restore_L12 G mc ms a0 Q X hl0 ht hE h 0 0 (0 : Int32) hw hc hs _ _ _ hI (lv_sub hl [0] rfl)
  · obtain ⟨a2, hz⟩ := Option.ne_none_iff_exists.mp c_4
    have hwa2 := hw.2 a2 hz.symm; have hla2 := hl; subst hz; have hw := hwa2; have hl := hla2
    refine lv_iconst (v := 1) hx hb dX1_restore_7 (by decide) ?_
    refine lv_goto (tgt := 12) hx hb dX1_restore_8 (by decide) ?_
    exact snd_X1_restore_L12 G mc ms a0 Q X hl0 ht hE h 0 0 (1 : Int32) hw hc hs _ _ _ hI (lv_sub hl [0] rfl)

/-- MatchmakerRulesLaw.rule(LMatchmakerRules;[J)I -/
abbrev rm_X0_rule (mc ms : Nat) : Room := { frames := 14, cells := mc, slots := ms, locals := 3215 }
def wp_X0_rule (G : GG) (mc : Nat) (ms : Nat) (h : HH) (x0 : Option Nat) (x1 : Option Nat) (Q : Int32 → HH → Prop) : Prop := w_nn x0 (fun a1 => (∃ mc2 ms2, 0 + mc2 ≤ mc ∧ 0 + ms2 ≤ ms ∧ w_is h a1 1 (wp_X1_rule G mc2 ms2 h a1 (fun r3 h4 => w_nn x1 (fun a7 => w_lst G h4 a7 (0 : Int32) (Int32.toInt64 r3) (fun h8 => Q (0 : Int32) h8))) (fun E q5 h6 => ((E = "java/lang/IllegalArgumentException" ∧ Q (1 : Int32) h6) ∨ (E = "java/lang/UnsupportedOperationException" ∧ Q (2 : Int32) h6))))))
set_option maxHeartbeats 4000000 in
theorem snd_X0_rule (l : Launch) (hl0 : l.stackTraces = false) (G : GG) (sz : Nat) (mc : Nat) (ms : Nat) (h : HH) (x0 : Option Nat) (x1 : Option Nat) (Q : Int32 → HH → Prop) (hw : wp_X0_rule G mc ms h x0 x1 Q) : Met l yX0_rule (wsW_ yX0_rule cX0_rule 3 (some FieldType.int) [(0, 8, 11, 13), (0, 8, 14, 15)]) (rm_X0_rule mc ms) (hv_Pc G h sz [va_rf x0, va_rf x1]) (hv_Qi G h sz Q) mc ms (hv_A h sz) := by
  refine va_MetW (cc := cX0_rule) (maxL := 3) (ret := (some FieldType.int)) (hh := [(0, 8, 11, 13), (0, 8, 14, 15)]) (by decide) rfl ?_
  intro p e s m args below meth c s₁ B hml hv
  have ht : c.exceptionTable.toList = tableOf [(0, 8, 11, 13), (0, 8, 14, 15)] := vx_table (x := yX0_rule) B (atoms_spec (ws := (wsW_ yX0_rule cX0_rule 3 (some FieldType.int) [(0, 8, 11, 13), (0, 8, 14, 15)])) B.pre _ List.mem_cons_self)
  obtain ⟨rfl, rfl, hE, hI⟩ := hv_openW B hml hv
  have hE : hv_E p s m ([va_rf x0, va_rf x1] : List Value).toArray meth c cX0_rule 3 (some FieldType.int) RX0 G h := hE
  obtain ⟨⟨hx, hb, hml, hown, hts⟩, hr, hlocks, hXX⟩ := id hE
  have hl := lv_entry ([va_rf x0, va_rf x1] : List Value) (n := 3) (by cases x0 <;> cases x1 <;> exact Nat.le_of_ble_eq_true rfl)
  rw [lg_entry_eq]
  generalize (lg_sl ([va_rf x0, va_rf x1] : List Value) ++ List.replicate (3 - (lg_sl ([va_rf x0, va_rf x1] : List Value)).length) Slot.unset).toArray = ls at hl ⊢
  have hl : lv_has ls 3 [(0, va_rf x0), (1, va_rf x1)] := (by cases x0 <;> cases x1 <;> exact hl)
  have hc : 0 ≤ mc := Nat.zero_le _
  have hs : 0 ≤ ms := Nat.zero_le _
  unfold wp_X0_rule at hw
  refine lv_aload_nq hx hb dX0_rule_0 rfl (lv_at hl 1 rfl) ?_
  refine lv_iconst (v := 0) hx hb dX0_rule_1 (by decide) ?_
  refine lv_aload_nq hx hb dX0_rule_2 rfl (lv_at hl 0 rfl) ?_
  obtain ⟨a1, hz, hwa1⟩ := hw; have hla1 := hl; subst hz; have hw := hwa1; have hl := hla1
  obtain ⟨mc2, ms2, hc, hs, hw⟩ := hw
  obtain ⟨⟨fs, hre⟩, hw⟩ := hw
  refine hx_rci hI (vx_runV (As := []) (b := a1) (rest := [.int (0 : Int32), va_rf x1]) hE.1 (snd_X1_rule l hl0 G _ mc2 ms2 h a1 _ _ hw) (cwV 0 hts (lw_V q654 q655 q656 q97 q657) rfl rfl rfl (by decide +kernel) ⟨Nat.le_of_ble_eq_true rfl, Nat.le_of_ble_eq_true rfl⟩) (hv_preV hE hI (ci := 1) rfl hre) rfl rfl hl.1 rfl (lv_room (by cases x1 <;> exact Nat.le_of_ble_eq_true rfl)) dX0_rule_3 ⟨hc, hs⟩) ?_ (fun r3 h4 H locs hw hI => ?_)
  · intro E q5 h6 H locs hw hI hT
    rcases hw with ⟨rfl, hw⟩ | hw
    · refine hx_catch hE hT [] ⟨0, 8, 11, 13⟩ [⟨0, 8, 14, 15⟩] ht (fun _ hz => absurd hz List.not_mem_nil) rfl (by decide) (hts _ q652) ((hE.2.2.2.2.1.C 17 rfl).use rfl) ?_
      refine lv_astore_n (lv' := [(2, .ref q5), (0, .ref a1), (1, va_rf x1)]) hx hb dX0_rule_11 rfl hl (by decide) (by cases x1 <;> exact rfl) (fun ls hl => ?_)
      refine lv_iconst (v := 1) hx hb dX0_rule_12 (by decide) ?_
      exact hv_iret hE hI hc hs hw dX0_rule_13
    obtain ⟨rfl, hw⟩ := hw
    refine hx_catch hE hT [⟨0, 8, 11, 13⟩] ⟨0, 8, 14, 15⟩ [] ht (List.forall_mem_cons.mpr ⟨(Or.inr ⟨by decide, "java/lang/IllegalArgumentException", hts _ q652, hE.2.2.2.2.1.N 69 rfl⟩), (fun _ hz => absurd hz List.not_mem_nil)⟩) rfl (by decide) (hts _ q653) ((hE.2.2.2.2.1.C 26 rfl).use rfl) ?_
    refine lv_astore_n (lv' := [(2, .ref q5), (0, .ref a1), (1, va_rf x1)]) hx hb dX0_rule_14 rfl hl (by decide) (by cases x1 <;> exact rfl) (fun ls hl => ?_)
    refine lv_iconst (v := 2) hx hb dX0_rule_15 (by decide) ?_
    exact hv_iret hE hI hc hs hw dX0_rule_16
  refine lv_i2l (v := (Int32.toInt64 r3)) hx hb dX0_rule_6 rfl ?_
  obtain ⟨a7, hz, hwa7⟩ := hw; have hla7 := hl; subst hz; have hw := hwa7; have hl := hla7
  refine hv_wlst hE hI hw dX0_rule_7 (fun h8 H locs hw hI => ?_)
  refine lv_goto (tgt := 17) hx hb dX0_rule_8 (by decide) ?_
  refine lv_iconst (v := 0) hx hb dX0_rule_17 (by decide) ?_
  exact hv_iret hE hI hc hs hw dX0_rule_18

/-- MatchmakerRulesLaw.drop(LMatchmakerRules;I[J)I -/
abbrev rm_X0_drop (mc ms : Nat) : Room := { frames := 13, cells := mc, slots := ms, locals := 3216 }
def wp_X0_drop (G : GG) (mc : Nat) (ms : Nat) (h : HH) (x0 : Option Nat) (x1 : Int32) (x2 : Option Nat) (Q : Int32 → HH → Prop) (X : String → Nat → HH → Prop) : Prop := w_nn x0 (fun a1 => (∃ mc2 ms2, 0 + mc2 ≤ mc ∧ 0 + ms2 ≤ ms ∧ w_is h a1 1 (wp_X1_drop G mc2 ms2 h a1 x1 (fun r3 h4 => w_nn x2 (fun a7 => w_lst G h4 a7 (0 : Int32) (Int32.toInt64 r3) (fun h8 => Q (0 : Int32) h8))) (fun E q5 h6 => ((E = "java/lang/IllegalArgumentException" ∧ X E q5 h6) ∨ (E = "java/lang/UnsupportedOperationException" ∧ Q (1 : Int32) h6))))))
set_option maxHeartbeats 4000000 in
theorem snd_X0_drop (l : Launch) (hl0 : l.stackTraces = false) (G : GG) (sz : Nat) (mc : Nat) (ms : Nat) (h : HH) (x0 : Option Nat) (x1 : Int32) (x2 : Option Nat) (Q : Int32 → HH → Prop) (X : String → Nat → HH → Prop) (hw : wp_X0_drop G mc ms h x0 x1 x2 Q X) : vx_Met l yX0_drop (wsW_ yX0_drop cX0_drop 4 (some FieldType.int) [(0, 9, 12, 15)]) (rm_X0_drop mc ms) (hv_Pc G h sz [va_rf x0, .int x1, va_rf x2]) (hv_Qi G h sz Q) (hv_XC G h sz X) mc ms (hv_A h sz) := by
  refine vx_ofWH (cc := cX0_drop) (maxL := 4) (ret := (some FieldType.int)) (hh := [(0, 9, 12, 15)]) (by decide) rfl ?_
  intro p e s m args below meth c s₁ B hml hv
  have ht : c.exceptionTable.toList = tableOf [(0, 9, 12, 15)] := vx_table (x := yX0_drop) B (atoms_spec (ws := (wsW_ yX0_drop cX0_drop 4 (some FieldType.int) [(0, 9, 12, 15)])) B.pre _ List.mem_cons_self)
  obtain ⟨rfl, rfl, hE, hI⟩ := hv_openW B hml hv
  have hE : hv_E p s m ([va_rf x0, .int x1, va_rf x2] : List Value).toArray meth c cX0_drop 4 (some FieldType.int) RX0 G h := hE
  obtain ⟨⟨hx, hb, hml, hown, hts⟩, hr, hlocks, hXX⟩ := id hE
  have hl := lv_entry ([va_rf x0, .int x1, va_rf x2] : List Value) (n := 4) (by cases x0 <;> cases x2 <;> exact Nat.le_of_ble_eq_true rfl)
  rw [lg_entry_eq]
  generalize (lg_sl ([va_rf x0, .int x1, va_rf x2] : List Value) ++ List.replicate (4 - (lg_sl ([va_rf x0, .int x1, va_rf x2] : List Value)).length) Slot.unset).toArray = ls at hl ⊢
  have hl : lv_has ls 4 [(0, va_rf x0), (1, .int x1), (2, va_rf x2)] := (by cases x0 <;> cases x2 <;> exact hl)
  have hc : 0 ≤ mc := Nat.zero_le _
  have hs : 0 ≤ ms := Nat.zero_le _
  unfold wp_X0_drop at hw
  refine lv_aload_nq hx hb dX0_drop_0 rfl (lv_at hl 2 rfl) ?_
  refine lv_iconst (v := 0) hx hb dX0_drop_1 (by decide) ?_
  refine lv_aload_nq hx hb dX0_drop_2 rfl (lv_at hl 0 rfl) ?_
  refine lv_iload_n hx hb dX0_drop_3 rfl (lv_at hl 1 rfl) ?_
  obtain ⟨a1, hz, hwa1⟩ := hw; have hla1 := hl; subst hz; have hw := hwa1; have hl := hla1
  obtain ⟨mc2, ms2, hc, hs, hw⟩ := hw
  obtain ⟨⟨fs, hre⟩, hw⟩ := hw
  refine hx_rci hI (vx_runV (As := [.int x1]) (b := a1) (rest := [.int (0 : Int32), va_rf x2]) hE.1 (snd_X1_drop l hl0 G _ mc2 ms2 h a1 x1 _ _ hw) (cwV 1 hts (lw_V q1313 q1314 q1315 q97 q1316) rfl rfl rfl (by decide +kernel) ⟨Nat.le_of_ble_eq_true rfl, Nat.le_of_ble_eq_true rfl⟩) (hv_preV hE hI (ci := 1) rfl hre) rfl rfl hl.1 rfl (lv_room (by cases x2 <;> exact Nat.le_of_ble_eq_true rfl)) dX0_drop_4 ⟨hc, hs⟩) ?_ (fun r3 h4 H locs hw hI => ?_)
  · intro E q5 h6 H locs hw hI hT
    rcases hw with ⟨rfl, hw⟩ | hw
    · exact hx_outP hE hI hT hc hs (by rw [ht]; exact (List.forall_mem_cons.mpr ⟨(Or.inr ⟨by decide, "java/lang/UnsupportedOperationException", hts _ q653, hE.2.2.2.2.1.N 47 rfl⟩), (fun _ hz => absurd hz List.not_mem_nil)⟩)) hw
    obtain ⟨rfl, hw⟩ := hw
    refine hx_catch hE hT [] ⟨0, 9, 12, 15⟩ [] ht (fun _ hz => absurd hz List.not_mem_nil) rfl (by decide) (hts _ q653) ((hE.2.2.2.2.1.C 26 rfl).use rfl) ?_
    refine lv_astore_n (lv' := [(3, .ref q5), (0, .ref a1), (1, .int x1), (2, va_rf x2)]) hx hb dX0_drop_12 rfl hl (by decide) (by cases x2 <;> exact rfl) (fun ls hl => ?_)
    refine lv_iconst (v := 1) hx hb dX0_drop_13 (by decide) ?_
    exact vx_ret (hv_iret hE hI hc hs hw dX0_drop_14)
  refine lv_i2l (v := (Int32.toInt64 r3)) hx hb dX0_drop_7 rfl ?_
  obtain ⟨a7, hz, hwa7⟩ := hw; have hla7 := hl; subst hz; have hw := hwa7; have hl := hla7
  refine hv_wlst hE hI hw dX0_drop_8 (fun h8 H locs hw hI => ?_)
  refine lv_goto (tgt := 15) hx hb dX0_drop_9 (by decide) ?_
  refine lv_iconst (v := 0) hx hb dX0_drop_15 (by decide) ?_
  exact vx_ret (hv_iret hE hI hc hs hw dX0_drop_16)

/-- MatchmakerRulesLaw.tell(LMatchmakerRules;CIII[J)I -/
abbrev rm_X0_tell (mc ms : Nat) : Room := { frames := 13, cells := mc, slots := ms, locals := 3219 }
def wp_X0_tell (G : GG) (mc : Nat) (ms : Nat) (h : HH) (x0 : Option Nat) (x1 : Int32) (x2 : Int32) (x3 : Int32) (x4 : Int32) (x5 : Option Nat) (Q : Int32 → HH → Prop) : Prop := w_nn x0 (fun a1 => (∃ mc2 ms2, 0 + mc2 ≤ mc ∧ 0 + ms2 ≤ ms ∧ w_is h a1 1 (wp_X1_tell G mc2 ms2 h a1 x1 x2 x3 x4 (fun r3 h4 => w_nn x5 (fun a7 => w_lst G h4 a7 (0 : Int32) (Int32.toInt64 r3) (fun h8 => Q (0 : Int32) h8))) (fun E q5 h6 => ((E = "java/lang/IllegalArgumentException" ∧ Q (1 : Int32) h6) ∨ (E = "java/lang/UnsupportedOperationException" ∧ Q (2 : Int32) h6))))))
set_option maxHeartbeats 4000000 in
theorem snd_X0_tell (l : Launch) (hl0 : l.stackTraces = false) (G : GG) (sz : Nat) (mc : Nat) (ms : Nat) (h : HH) (x0 : Option Nat) (x1 : Int32) (x2 : Int32) (x3 : Int32) (x4 : Int32) (x5 : Option Nat) (Q : Int32 → HH → Prop) (hw : wp_X0_tell G mc ms h x0 x1 x2 x3 x4 x5 Q) : Met l yX0_tell (wsW_ yX0_tell cX0_tell 7 (some FieldType.int) [(0, 14, 17, 13), (0, 14, 21, 15)]) (rm_X0_tell mc ms) (hv_Pc G h sz [va_rf x0, .int x1, .int x2, .int x3, .int x4, va_rf x5]) (hv_Qi G h sz Q) mc ms (hv_A h sz) := by
  refine va_MetW (cc := cX0_tell) (maxL := 7) (ret := (some FieldType.int)) (hh := [(0, 14, 17, 13), (0, 14, 21, 15)]) (by decide) rfl ?_
  intro p e s m args below meth c s₁ B hml hv
  have ht : c.exceptionTable.toList = tableOf [(0, 14, 17, 13), (0, 14, 21, 15)] := vx_table (x := yX0_tell) B (atoms_spec (ws := (wsW_ yX0_tell cX0_tell 7 (some FieldType.int) [(0, 14, 17, 13), (0, 14, 21, 15)])) B.pre _ List.mem_cons_self)
  obtain ⟨rfl, rfl, hE, hI⟩ := hv_openW B hml hv
  have hE : hv_E p s m ([va_rf x0, .int x1, .int x2, .int x3, .int x4, va_rf x5] : List Value).toArray meth c cX0_tell 7 (some FieldType.int) RX0 G h := hE
  obtain ⟨⟨hx, hb, hml, hown, hts⟩, hr, hlocks, hXX⟩ := id hE
  have hl := lv_entry ([va_rf x0, .int x1, .int x2, .int x3, .int x4, va_rf x5] : List Value) (n := 7) (by cases x0 <;> cases x5 <;> exact Nat.le_of_ble_eq_true rfl)
  rw [lg_entry_eq]
  generalize (lg_sl ([va_rf x0, .int x1, .int x2, .int x3, .int x4, va_rf x5] : List Value) ++ List.replicate (7 - (lg_sl ([va_rf x0, .int x1, .int x2, .int x3, .int x4, va_rf x5] : List Value)).length) Slot.unset).toArray = ls at hl ⊢
  have hl : lv_has ls 7 [(0, va_rf x0), (1, .int x1), (2, .int x2), (3, .int x3), (4, .int x4), (5, va_rf x5)] := (by cases x0 <;> cases x5 <;> exact hl)
  have hc : 0 ≤ mc := Nat.zero_le _
  have hs : 0 ≤ ms := Nat.zero_le _
  unfold wp_X0_tell at hw
  refine lv_aloadq hx hb dX0_tell_0 (lv_at hl 5 rfl) ?_
  refine lv_iconst (v := 0) hx hb dX0_tell_2 (by decide) ?_
  refine lv_aload_nq hx hb dX0_tell_3 rfl (lv_at hl 0 rfl) ?_
  refine lv_iload_n hx hb dX0_tell_4 rfl (lv_at hl 1 rfl) ?_
  refine lv_iload_n hx hb dX0_tell_5 rfl (lv_at hl 2 rfl) ?_
  refine lv_iload_n hx hb dX0_tell_6 rfl (lv_at hl 3 rfl) ?_
  refine lv_iload hx hb dX0_tell_7 (lv_at hl 4 rfl) ?_
  obtain ⟨a1, hz, hwa1⟩ := hw; have hla1 := hl; subst hz; have hw := hwa1; have hl := hla1
  obtain ⟨mc2, ms2, hc, hs, hw⟩ := hw
  obtain ⟨⟨fs, hre⟩, hw⟩ := hw
  refine hx_rci hI (vx_runV (As := [.int x1, .int x2, .int x3, .int x4]) (b := a1) (rest := [.int (0 : Int32), va_rf x5]) hE.1 (snd_X1_tell l hl0 G _ mc2 ms2 h a1 x1 x2 x3 x4 _ _ hw) (cwV 4 hts (lw_V q1323 q1324 q1325 q97 q1326) rfl rfl rfl (by decide +kernel) ⟨Nat.le_of_ble_eq_true rfl, Nat.le_of_ble_eq_true rfl⟩) (hv_preV hE hI (ci := 1) rfl hre) rfl rfl hl.1 rfl (lv_room (by cases x5 <;> exact Nat.le_of_ble_eq_true rfl)) dX0_tell_9 ⟨hc, hs⟩) ?_ (fun r3 h4 H locs hw hI => ?_)
  · intro E q5 h6 H locs hw hI hT
    rcases hw with ⟨rfl, hw⟩ | hw
    · refine hx_catch hE hT [] ⟨0, 14, 17, 13⟩ [⟨0, 14, 21, 15⟩] ht (fun _ hz => absurd hz List.not_mem_nil) rfl (by decide) (hts _ q652) ((hE.2.2.2.2.1.C 17 rfl).use rfl) ?_
      refine lv_astore (lv' := [(6, .ref q5), (0, .ref a1), (1, .int x1), (2, .int x2), (3, .int x3), (4, .int x4), (5, va_rf x5)]) hx hb dX0_tell_17 hl (by decide) (by cases x5 <;> exact rfl) (fun ls hl => ?_)
      refine lv_iconst (v := 1) hx hb dX0_tell_19 (by decide) ?_
      exact hv_iret hE hI hc hs hw dX0_tell_20
    obtain ⟨rfl, hw⟩ := hw
    refine hx_catch hE hT [⟨0, 14, 17, 13⟩] ⟨0, 14, 21, 15⟩ [] ht (List.forall_mem_cons.mpr ⟨(Or.inr ⟨by decide, "java/lang/IllegalArgumentException", hts _ q652, hE.2.2.2.2.1.N 69 rfl⟩), (fun _ hz => absurd hz List.not_mem_nil)⟩) rfl (by decide) (hts _ q653) ((hE.2.2.2.2.1.C 26 rfl).use rfl) ?_
    refine lv_astore (lv' := [(6, .ref q5), (0, .ref a1), (1, .int x1), (2, .int x2), (3, .int x3), (4, .int x4), (5, va_rf x5)]) hx hb dX0_tell_21 hl (by decide) (by cases x5 <;> exact rfl) (fun ls hl => ?_)
    refine lv_iconst (v := 2) hx hb dX0_tell_23 (by decide) ?_
    exact hv_iret hE hI hc hs hw dX0_tell_24
  refine lv_i2l (v := (Int32.toInt64 r3)) hx hb dX0_tell_12 rfl ?_
  obtain ⟨a7, hz, hwa7⟩ := hw; have hla7 := hl; subst hz; have hw := hwa7; have hl := hla7
  refine hv_wlst hE hI hw dX0_tell_13 (fun h8 H locs hw hI => ?_)
  refine lv_goto (tgt := 25) hx hb dX0_tell_14 (by decide) ?_
  refine lv_iconst (v := 0) hx hb dX0_tell_25 (by decide) ?_
  exact hv_iret hE hI hc hs hw dX0_tell_26

/-- MatchmakerRulesLaw.untell(LMatchmakerRules;I[J)I -/
abbrev rm_X0_untell (mc ms : Nat) : Room := { frames := 13, cells := mc, slots := ms, locals := 3216 }
def wp_X0_untell (G : GG) (mc : Nat) (ms : Nat) (h : HH) (x0 : Option Nat) (x1 : Int32) (x2 : Option Nat) (Q : Int32 → HH → Prop) (X : String → Nat → HH → Prop) : Prop := w_nn x0 (fun a1 => (∃ mc2 ms2, 0 + mc2 ≤ mc ∧ 0 + ms2 ≤ ms ∧ w_is h a1 1 (wp_X1_untell G mc2 ms2 h a1 x1 (fun r3 h4 => w_nn x2 (fun a7 => w_lst G h4 a7 (0 : Int32) (Int32.toInt64 r3) (fun h8 => Q (0 : Int32) h8))) (fun E q5 h6 => ((E = "java/lang/IllegalArgumentException" ∧ X E q5 h6) ∨ (E = "java/lang/UnsupportedOperationException" ∧ Q (1 : Int32) h6))))))
set_option maxHeartbeats 4000000 in
theorem snd_X0_untell (l : Launch) (hl0 : l.stackTraces = false) (G : GG) (sz : Nat) (mc : Nat) (ms : Nat) (h : HH) (x0 : Option Nat) (x1 : Int32) (x2 : Option Nat) (Q : Int32 → HH → Prop) (X : String → Nat → HH → Prop) (hw : wp_X0_untell G mc ms h x0 x1 x2 Q X) : vx_Met l yX0_untell (wsW_ yX0_untell cX0_untell 4 (some FieldType.int) [(0, 9, 12, 15)]) (rm_X0_untell mc ms) (hv_Pc G h sz [va_rf x0, .int x1, va_rf x2]) (hv_Qi G h sz Q) (hv_XC G h sz X) mc ms (hv_A h sz) := by
  refine vx_ofWH (cc := cX0_untell) (maxL := 4) (ret := (some FieldType.int)) (hh := [(0, 9, 12, 15)]) (by decide) rfl ?_
  intro p e s m args below meth c s₁ B hml hv
  have ht : c.exceptionTable.toList = tableOf [(0, 9, 12, 15)] := vx_table (x := yX0_untell) B (atoms_spec (ws := (wsW_ yX0_untell cX0_untell 4 (some FieldType.int) [(0, 9, 12, 15)])) B.pre _ List.mem_cons_self)
  obtain ⟨rfl, rfl, hE, hI⟩ := hv_openW B hml hv
  have hE : hv_E p s m ([va_rf x0, .int x1, va_rf x2] : List Value).toArray meth c cX0_untell 4 (some FieldType.int) RX0 G h := hE
  obtain ⟨⟨hx, hb, hml, hown, hts⟩, hr, hlocks, hXX⟩ := id hE
  have hl := lv_entry ([va_rf x0, .int x1, va_rf x2] : List Value) (n := 4) (by cases x0 <;> cases x2 <;> exact Nat.le_of_ble_eq_true rfl)
  rw [lg_entry_eq]
  generalize (lg_sl ([va_rf x0, .int x1, va_rf x2] : List Value) ++ List.replicate (4 - (lg_sl ([va_rf x0, .int x1, va_rf x2] : List Value)).length) Slot.unset).toArray = ls at hl ⊢
  have hl : lv_has ls 4 [(0, va_rf x0), (1, .int x1), (2, va_rf x2)] := (by cases x0 <;> cases x2 <;> exact hl)
  have hc : 0 ≤ mc := Nat.zero_le _
  have hs : 0 ≤ ms := Nat.zero_le _
  unfold wp_X0_untell at hw
  refine lv_aload_nq hx hb dX0_untell_0 rfl (lv_at hl 2 rfl) ?_
  refine lv_iconst (v := 0) hx hb dX0_untell_1 (by decide) ?_
  refine lv_aload_nq hx hb dX0_untell_2 rfl (lv_at hl 0 rfl) ?_
  refine lv_iload_n hx hb dX0_untell_3 rfl (lv_at hl 1 rfl) ?_
  obtain ⟨a1, hz, hwa1⟩ := hw; have hla1 := hl; subst hz; have hw := hwa1; have hl := hla1
  obtain ⟨mc2, ms2, hc, hs, hw⟩ := hw
  obtain ⟨⟨fs, hre⟩, hw⟩ := hw
  refine hx_rci hI (vx_runV (As := [.int x1]) (b := a1) (rest := [.int (0 : Int32), va_rf x2]) hE.1 (snd_X1_untell l hl0 G _ mc2 ms2 h a1 x1 _ _ hw) (cwV 1 hts (lw_V q1330 q1331 q1332 q97 q1333) rfl rfl rfl (by decide +kernel) ⟨Nat.le_of_ble_eq_true rfl, Nat.le_of_ble_eq_true rfl⟩) (hv_preV hE hI (ci := 1) rfl hre) rfl rfl hl.1 rfl (lv_room (by cases x2 <;> exact Nat.le_of_ble_eq_true rfl)) dX0_untell_4 ⟨hc, hs⟩) ?_ (fun r3 h4 H locs hw hI => ?_)
  · intro E q5 h6 H locs hw hI hT
    rcases hw with ⟨rfl, hw⟩ | hw
    · exact hx_outP hE hI hT hc hs (by rw [ht]; exact (List.forall_mem_cons.mpr ⟨(Or.inr ⟨by decide, "java/lang/UnsupportedOperationException", hts _ q653, hE.2.2.2.2.1.N 47 rfl⟩), (fun _ hz => absurd hz List.not_mem_nil)⟩)) hw
    obtain ⟨rfl, hw⟩ := hw
    refine hx_catch hE hT [] ⟨0, 9, 12, 15⟩ [] ht (fun _ hz => absurd hz List.not_mem_nil) rfl (by decide) (hts _ q653) ((hE.2.2.2.2.1.C 26 rfl).use rfl) ?_
    refine lv_astore_n (lv' := [(3, .ref q5), (0, .ref a1), (1, .int x1), (2, va_rf x2)]) hx hb dX0_untell_12 rfl hl (by decide) (by cases x2 <;> exact rfl) (fun ls hl => ?_)
    refine lv_iconst (v := 1) hx hb dX0_untell_13 (by decide) ?_
    exact vx_ret (hv_iret hE hI hc hs hw dX0_untell_14)
  refine lv_i2l (v := (Int32.toInt64 r3)) hx hb dX0_untell_7 rfl ?_
  obtain ⟨a7, hz, hwa7⟩ := hw; have hla7 := hl; subst hz; have hw := hwa7; have hl := hla7
  refine hv_wlst hE hI hw dX0_untell_8 (fun h8 H locs hw hI => ?_)
  refine lv_goto (tgt := 15) hx hb dX0_untell_9 (by decide) ?_
  refine lv_iconst (v := 0) hx hb dX0_untell_15 (by decide) ?_
  exact vx_ret (hv_iret hE hI hc hs hw dX0_untell_16)

/-- MatchmakerRulesLaw.find(LMatchmakerRules;CII[J)I -/
abbrev rm_X0_find (mc ms : Nat) : Room := { frames := 9, cells := mc, slots := ms, locals := 152 }
def wp_X0_find (G : GG) (mc : Nat) (ms : Nat) (h : HH) (x0 : Option Nat) (x1 : Int32) (x2 : Int32) (x3 : Int32) (x4 : Option Nat) (Q : Int32 → HH → Prop) : Prop := w_nn x0 (fun a1 => (∃ mc2 ms2, 0 + mc2 ≤ mc ∧ 0 + ms2 ≤ ms ∧ w_is h a1 1 (wp_X1_find G mc2 ms2 h a1 x1 x2 x3 (fun r3 h4 => w_nn x4 (fun a7 => w_lst G h4 a7 (0 : Int32) (Int32.toInt64 r3) (fun h8 => Q (0 : Int32) h8))) (fun E q5 h6 => (E = "java/util/NoSuchElementException" ∧ Q (1 : Int32) h6)))))
set_option maxHeartbeats 4000000 in
theorem snd_X0_find (l : Launch) (hl0 : l.stackTraces = false) (G : GG) (sz : Nat) (mc : Nat) (ms : Nat) (h : HH) (x0 : Option Nat) (x1 : Int32) (x2 : Int32) (x3 : Int32) (x4 : Option Nat) (Q : Int32 → HH → Prop) (hw : wp_X0_find G mc ms h x0 x1 x2 x3 x4 Q) : Met l yX0_find (wsW_ yX0_find cX0_find 6 (some FieldType.int) [(0, 12, 15, 32)]) (rm_X0_find mc ms) (hv_Pc G h sz [va_rf x0, .int x1, .int x2, .int x3, va_rf x4]) (hv_Qi G h sz Q) mc ms (hv_A h sz) := by
  refine va_MetW (cc := cX0_find) (maxL := 6) (ret := (some FieldType.int)) (hh := [(0, 12, 15, 32)]) (by decide) rfl ?_
  intro p e s m args below meth c s₁ B hml hv
  have ht : c.exceptionTable.toList = tableOf [(0, 12, 15, 32)] := vx_table (x := yX0_find) B (atoms_spec (ws := (wsW_ yX0_find cX0_find 6 (some FieldType.int) [(0, 12, 15, 32)])) B.pre _ List.mem_cons_self)
  obtain ⟨rfl, rfl, hE, hI⟩ := hv_openW B hml hv
  have hE : hv_E p s m ([va_rf x0, .int x1, .int x2, .int x3, va_rf x4] : List Value).toArray meth c cX0_find 6 (some FieldType.int) RX0 G h := hE
  obtain ⟨⟨hx, hb, hml, hown, hts⟩, hr, hlocks, hXX⟩ := id hE
  have hl := lv_entry ([va_rf x0, .int x1, .int x2, .int x3, va_rf x4] : List Value) (n := 6) (by cases x0 <;> cases x4 <;> exact Nat.le_of_ble_eq_true rfl)
  rw [lg_entry_eq]
  generalize (lg_sl ([va_rf x0, .int x1, .int x2, .int x3, va_rf x4] : List Value) ++ List.replicate (6 - (lg_sl ([va_rf x0, .int x1, .int x2, .int x3, va_rf x4] : List Value)).length) Slot.unset).toArray = ls at hl ⊢
  have hl : lv_has ls 6 [(0, va_rf x0), (1, .int x1), (2, .int x2), (3, .int x3), (4, va_rf x4)] := (by cases x0 <;> cases x4 <;> exact hl)
  have hc : 0 ≤ mc := Nat.zero_le _
  have hs : 0 ≤ ms := Nat.zero_le _
  unfold wp_X0_find at hw
  refine lv_aloadq hx hb dX0_find_0 (lv_at hl 4 rfl) ?_
  refine lv_iconst (v := 0) hx hb dX0_find_2 (by decide) ?_
  refine lv_aload_nq hx hb dX0_find_3 rfl (lv_at hl 0 rfl) ?_
  refine lv_iload_n hx hb dX0_find_4 rfl (lv_at hl 1 rfl) ?_
  refine lv_iload_n hx hb dX0_find_5 rfl (lv_at hl 2 rfl) ?_
  refine lv_iload_n hx hb dX0_find_6 rfl (lv_at hl 3 rfl) ?_
  obtain ⟨a1, hz, hwa1⟩ := hw; have hla1 := hl; subst hz; have hw := hwa1; have hl := hla1
  obtain ⟨mc2, ms2, hc, hs, hw⟩ := hw
  obtain ⟨⟨fs, hre⟩, hw⟩ := hw
  refine hx_rci hI (vx_runV (As := [.int x1, .int x2, .int x3]) (b := a1) (rest := [.int (0 : Int32), va_rf x4]) hE.1 (snd_X1_find l hl0 G _ mc2 ms2 h a1 x1 x2 x3 _ _ hw) (cwV 3 hts (lw_V q1338 q1339 q1340 q97 q1341) rfl rfl rfl (by decide +kernel) ⟨Nat.le_of_ble_eq_true rfl, Nat.le_of_ble_eq_true rfl⟩) (hv_preV hE hI (ci := 1) rfl hre) rfl rfl hl.1 rfl (lv_room (by cases x4 <;> exact Nat.le_of_ble_eq_true rfl)) dX0_find_7 ⟨hc, hs⟩) ?_ (fun r3 h4 H locs hw hI => ?_)
  · intro E q5 h6 H locs hw hI hT
    obtain ⟨rfl, hw⟩ := hw
    refine hx_catch hE hT [] ⟨0, 12, 15, 32⟩ [] ht (fun _ hz => absurd hz List.not_mem_nil) rfl (by decide) (hts _ q1337) ((hE.2.2.2.2.1.C 21 rfl).use rfl) ?_
    refine lv_astore (lv' := [(5, .ref q5), (0, .ref a1), (1, .int x1), (2, .int x2), (3, .int x3), (4, va_rf x4)]) hx hb dX0_find_15 hl (by decide) (by cases x4 <;> exact rfl) (fun ls hl => ?_)
    refine lv_iconst (v := 1) hx hb dX0_find_17 (by decide) ?_
    exact hv_iret hE hI hc hs hw dX0_find_18
  refine lv_i2l (v := (Int32.toInt64 r3)) hx hb dX0_find_10 rfl ?_
  obtain ⟨a7, hz, hwa7⟩ := hw; have hla7 := hl; subst hz; have hw := hwa7; have hl := hla7
  refine hv_wlst hE hI hw dX0_find_11 (fun h8 H locs hw hI => ?_)
  refine lv_goto (tgt := 19) hx hb dX0_find_12 (by decide) ?_
  refine lv_iconst (v := 0) hx hb dX0_find_19 (by decide) ?_
  exact hv_iret hE hI hc hs hw dX0_find_20

/-- MatchmakerRulesLaw.factAt(LMatchmakerRules;I[J)I -/
abbrev rm_X0_factAt (mc ms : Nat) : Room := { frames := 8, cells := mc, slots := ms, locals := 130 }
def wp_X0_factAt (G : GG) (mc : Nat) (ms : Nat) (h : HH) (x0 : Option Nat) (x1 : Int32) (x2 : Option Nat) (Q : Int32 → HH → Prop) : Prop := w_nn x0 (fun a1 => (∃ mc2 ms2, 0 + mc2 ≤ mc ∧ 0 + ms2 ≤ ms ∧ w_is h a1 1 (wp_X1_factAt G mc2 ms2 h a1 x1 (fun r3 h4 => w_nn x2 (fun a7 => w_lst G h4 a7 (0 : Int32) (Int32.toInt64 r3) (fun h8 => Q (0 : Int32) h8))) (fun E q5 h6 => (E = "java/util/NoSuchElementException" ∧ Q (1 : Int32) h6)))))
set_option maxHeartbeats 4000000 in
theorem snd_X0_factAt (l : Launch) (hl0 : l.stackTraces = false) (G : GG) (sz : Nat) (mc : Nat) (ms : Nat) (h : HH) (x0 : Option Nat) (x1 : Int32) (x2 : Option Nat) (Q : Int32 → HH → Prop) (hw : wp_X0_factAt G mc ms h x0 x1 x2 Q) : Met l yX0_factAt (wsW_ yX0_factAt cX0_factAt 4 (some FieldType.int) [(0, 9, 12, 32)]) (rm_X0_factAt mc ms) (hv_Pc G h sz [va_rf x0, .int x1, va_rf x2]) (hv_Qi G h sz Q) mc ms (hv_A h sz) := by
  refine va_MetW (cc := cX0_factAt) (maxL := 4) (ret := (some FieldType.int)) (hh := [(0, 9, 12, 32)]) (by decide) rfl ?_
  intro p e s m args below meth c s₁ B hml hv
  have ht : c.exceptionTable.toList = tableOf [(0, 9, 12, 32)] := vx_table (x := yX0_factAt) B (atoms_spec (ws := (wsW_ yX0_factAt cX0_factAt 4 (some FieldType.int) [(0, 9, 12, 32)])) B.pre _ List.mem_cons_self)
  obtain ⟨rfl, rfl, hE, hI⟩ := hv_openW B hml hv
  have hE : hv_E p s m ([va_rf x0, .int x1, va_rf x2] : List Value).toArray meth c cX0_factAt 4 (some FieldType.int) RX0 G h := hE
  obtain ⟨⟨hx, hb, hml, hown, hts⟩, hr, hlocks, hXX⟩ := id hE
  have hl := lv_entry ([va_rf x0, .int x1, va_rf x2] : List Value) (n := 4) (by cases x0 <;> cases x2 <;> exact Nat.le_of_ble_eq_true rfl)
  rw [lg_entry_eq]
  generalize (lg_sl ([va_rf x0, .int x1, va_rf x2] : List Value) ++ List.replicate (4 - (lg_sl ([va_rf x0, .int x1, va_rf x2] : List Value)).length) Slot.unset).toArray = ls at hl ⊢
  have hl : lv_has ls 4 [(0, va_rf x0), (1, .int x1), (2, va_rf x2)] := (by cases x0 <;> cases x2 <;> exact hl)
  have hc : 0 ≤ mc := Nat.zero_le _
  have hs : 0 ≤ ms := Nat.zero_le _
  unfold wp_X0_factAt at hw
  refine lv_aload_nq hx hb dX0_factAt_0 rfl (lv_at hl 2 rfl) ?_
  refine lv_iconst (v := 0) hx hb dX0_factAt_1 (by decide) ?_
  refine lv_aload_nq hx hb dX0_factAt_2 rfl (lv_at hl 0 rfl) ?_
  refine lv_iload_n hx hb dX0_factAt_3 rfl (lv_at hl 1 rfl) ?_
  obtain ⟨a1, hz, hwa1⟩ := hw; have hla1 := hl; subst hz; have hw := hwa1; have hl := hla1
  obtain ⟨mc2, ms2, hc, hs, hw⟩ := hw
  obtain ⟨⟨fs, hre⟩, hw⟩ := hw
  refine hx_rci hI (vx_runV (As := [.int x1]) (b := a1) (rest := [.int (0 : Int32), va_rf x2]) hE.1 (snd_X1_factAt l hl0 G _ mc2 ms2 h a1 x1 _ _ hw) (cwV 1 hts (lw_V q1354 q1355 q1356 q97 q1357) rfl rfl rfl (by decide +kernel) ⟨Nat.le_of_ble_eq_true rfl, Nat.le_of_ble_eq_true rfl⟩) (hv_preV hE hI (ci := 1) rfl hre) rfl rfl hl.1 rfl (lv_room (by cases x2 <;> exact Nat.le_of_ble_eq_true rfl)) dX0_factAt_4 ⟨hc, hs⟩) ?_ (fun r3 h4 H locs hw hI => ?_)
  · intro E q5 h6 H locs hw hI hT
    obtain ⟨rfl, hw⟩ := hw
    refine hx_catch hE hT [] ⟨0, 9, 12, 32⟩ [] ht (fun _ hz => absurd hz List.not_mem_nil) rfl (by decide) (hts _ q1337) ((hE.2.2.2.2.1.C 21 rfl).use rfl) ?_
    refine lv_astore_n (lv' := [(3, .ref q5), (0, .ref a1), (1, .int x1), (2, va_rf x2)]) hx hb dX0_factAt_12 rfl hl (by decide) (by cases x2 <;> exact rfl) (fun ls hl => ?_)
    refine lv_iconst (v := 1) hx hb dX0_factAt_13 (by decide) ?_
    exact hv_iret hE hI hc hs hw dX0_factAt_14
  refine lv_i2l (v := (Int32.toInt64 r3)) hx hb dX0_factAt_7 rfl ?_
  obtain ⟨a7, hz, hwa7⟩ := hw; have hla7 := hl; subst hz; have hw := hwa7; have hl := hla7
  refine hv_wlst hE hI hw dX0_factAt_8 (fun h8 H locs hw hI => ?_)
  refine lv_goto (tgt := 15) hx hb dX0_factAt_9 (by decide) ?_
  refine lv_iconst (v := 0) hx hb dX0_factAt_15 (by decide) ?_
  exact hv_iret hE hI hc hs hw dX0_factAt_16
