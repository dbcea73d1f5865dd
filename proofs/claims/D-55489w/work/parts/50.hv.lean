/-! walks over a world (by gen/hvrun.py) -/
set_option maxRecDepth 100000
/-- MatchmakerRules$Book$Walk.isAt(LMatchmakerRules$Firing;)Z -/
abbrev rm_X3_isAt : Room := { frames := 1, cells := 0, slots := 0, locals := 12 }
def wp_X3_isAt (G : GG) (h : HH) (a0 : Nat) (x1 : Option Nat) (Q : Int32 → HH → Prop) : Prop := w_getq h a0 3 0 (fun r1 => w_nn x1 (fun a2 => w_getq h a2 16 0 (fun r3 => ((¬ r1 = r3 → Q (0 : Int32) h) ∧ (r1 = r3 → w_getq h a0 3 5 (fun r4 => w_nn r4 (fun a5 => w_geti h a5 14 0 (fun r6 => w_geti h a2 16 1 (fun r7 => ((¬ r6 = r7 → Q (0 : Int32) h) ∧ (r6 = r7 → w_geti h a0 3 6 (fun r8 => w_geti h a2 16 2 (fun r9 => ((¬ r8 = r9 → Q (0 : Int32) h) ∧ (r8 = r9 → Q (1 : Int32) h)))))))))))))))
set_option maxHeartbeats 4000000 in
theorem snd_X3_isAt (l : Launch) (G : GG) (sz : Nat) (h : HH) (a0 : Nat) (x1 : Option Nat) (Q : Int32 → HH → Prop) (hw : wp_X3_isAt G h a0 x1 Q) : Met l yX3_isAt (ws_ yX3_isAt cX3_isAt 2 (some FieldType.boolean)) rm_X3_isAt (hv_Pc G h sz [.ref a0, va_rf x1]) (hv_Qi G h sz Q) 0 0 (hv_A h sz) := by
  refine Met.ofW (cc := cX3_isAt) (maxL := 2) (ret := (some FieldType.boolean)) (by decide) rfl ?_
  intro p e s m args below meth c s₁ B hml hv
  obtain ⟨rfl, rfl, hE, hI⟩ := hv_open B hml hv
  have hE : hv_E p s m ([.ref a0, va_rf x1] : List Value).toArray meth c cX3_isAt 2 (some FieldType.boolean) RX3 G h := hE
  obtain ⟨⟨hx, hb, hml, hown, hts⟩, hr, hlocks, hXX⟩ := id hE
  have hl := lv_entry ([.ref a0, va_rf x1] : List Value) (n := 2) (by cases x1 <;> exact Nat.le_of_ble_eq_true rfl)
  rw [lg_entry_eq]
  generalize (lg_sl ([.ref a0, va_rf x1] : List Value) ++ List.replicate (2 - (lg_sl ([.ref a0, va_rf x1] : List Value)).length) Slot.unset).toArray = ls at hl ⊢
  have hl : lv_has ls 2 [(0, .ref a0), (1, va_rf x1)] := (by cases x1 <;> exact hl)
  unfold wp_X3_isAt at hw
  refine lv_aload_n hx hb dX3_isAt_0 rfl (lv_at hl 0 rfl) ?_
  refine hv_wgetq hE hI in_X3 (ci := 3) rfl 0 (by decide) (hts _ q160) (fun _ hx => hx) hw dX3_isAt_1 (fun r1 hw => ?_)
  refine lv_aload_nq hx hb dX3_isAt_4 rfl (lv_at hl 1 rfl) ?_
  obtain ⟨a2, hz, hwa2⟩ := hw; have hla2 := hl; subst hz; have hw := hwa2; have hl := hla2
  refine hv_wgetqN hE hI in_X12 (ci := 16) rfl 0 (by decide) (hE.2.2.2.2.1.F 43 rfl) (fun _ hx => hx) hw dX3_isAt_5 (fun r3 hw => ?_)
  refine lv_acmp_ne (rx := r1) (ry := r3) (tgt := 40) hx hb dX3_isAt_8 (by decide) (fun c_8 => ?_) (fun c_8 => ?_)
  · have hw := hw.1 c_8
    refine lv_iconst (v := 0) hx hb dX3_isAt_40 (by decide) ?_
    exact hv_zret hE hI (Nat.le_refl _) (Nat.le_refl _) rfl hw dX3_isAt_41
  · have hw := hw.2 c_8
    refine lv_aload_n hx hb dX3_isAt_11 rfl (lv_at hl 0 rfl) ?_
    refine hv_wgetq hE hI in_X3 (ci := 3) rfl 5 (by decide) (hts _ q166) (fun _ hx => hx) hw dX3_isAt_12 (fun r4 hw => ?_)
    obtain ⟨a5, hz, hwa5⟩ := hw; have hla5 := hl; subst hz; have hw := hwa5; have hl := hla5
    refine hv_wgetiN hE hI in_X10 (ci := 14) rfl 0 (by decide) (hE.2.2.2.2.1.F 41 rfl) (fun _ hx => hx) hw dX3_isAt_15 (fun r6 hw => ?_)
    refine lv_aload_n hx hb dX3_isAt_18 rfl (lv_at hl 1 rfl) ?_
    refine hv_wgetiN hE hI in_X12 (ci := 16) rfl 1 (by decide) (hE.2.2.2.2.1.F 44 rfl) (fun _ hx => hx) hw dX3_isAt_19 (fun r7 hw => ?_)
    refine lv_icmp_ne (tgt := 40) hx hb dX3_isAt_22 (by decide) (fun c_22 => ?_) (fun c_22 => ?_)
    · have hw := hw.1 c_22
      refine lv_iconst (v := 0) hx hb dX3_isAt_40 (by decide) ?_
      exact hv_zret hE hI (Nat.le_refl _) (Nat.le_refl _) rfl hw dX3_isAt_41
    · have hw := hw.2 c_22
      refine lv_aload_n hx hb dX3_isAt_25 rfl (lv_at hl 0 rfl) ?_
      refine hv_wgeti hE hI in_X3 (ci := 3) rfl 6 (by decide) (hts _ q168) (fun _ hx => hx) hw dX3_isAt_26 (fun r8 hw => ?_)
      refine lv_aload_n hx hb dX3_isAt_29 rfl (lv_at hl 1 rfl) ?_
      refine hv_wgetiN hE hI in_X12 (ci := 16) rfl 2 (by decide) (hE.2.2.2.2.1.F 45 rfl) (fun _ hx => hx) hw dX3_isAt_30 (fun r9 hw => ?_)
      refine lv_icmp_ne (tgt := 40) hx hb dX3_isAt_33 (by decide) (fun c_33 => ?_) (fun c_33 => ?_)
      · have hw := hw.1 c_33
        refine lv_iconst (v := 0) hx hb dX3_isAt_40 (by decide) ?_
        exact hv_zret hE hI (Nat.le_refl _) (Nat.le_refl _) rfl hw dX3_isAt_41
      · have hw := hw.2 c_33
        refine lv_iconst (v := 1) hx hb dX3_isAt_36 (by decide) ?_
        refine lv_goto (tgt := 41) hx hb dX3_isAt_37 (by decide) ?_
        exact hv_zret hE hI (Nat.le_refl _) (Nat.le_refl _) rfl hw dX3_isAt_41

/-- MatchmakerRules$Firing.become(LMatchmakerRules$Rule;II)V -/
abbrev rm_X12_become : Room := { frames := 1, cells := 0, slots := 0, locals := 12 }
def wp_X12_become (G : GG) (h : HH) (a0 : Nat) (x1 : Option Nat) (x2 : Int32) (x3 : Int32) (Q : HH → Prop) : Prop := w_put h a0 16 0 (va_rf x1) (fun h1 => w_put h1 a0 16 1 (.int x2) (fun h2 => w_put h2 a0 16 2 (.int x3) (fun h3 => Q h3)))
set_option maxHeartbeats 4000000 in
theorem snd_X12_become (l : Launch) (G : GG) (sz : Nat) (h : HH) (a0 : Nat) (x1 : Option Nat) (x2 : Int32) (x3 : Int32) (Q : HH → Prop) (hw : wp_X12_become G h a0 x1 x2 x3 Q) : Met l yX12_become (ws_ yX12_become cX12_become 4 (none : Option FieldType)) rm_X12_become (hv_Pc G h sz [.ref a0, va_rf x1, .int x2, .int x3]) (hv_Qv G h sz Q) 0 0 (hv_A h sz) := by
  refine Met.ofW (cc := cX12_become) (maxL := 4) (ret := (none : Option FieldType)) (by decide) rfl ?_
  intro p e s m args below meth c s₁ B hml hv
  obtain ⟨rfl, rfl, hE, hI⟩ := hv_open B hml hv
  have hE : hv_E p s m ([.ref a0, va_rf x1, .int x2, .int x3] : List Value).toArray meth c cX12_become 4 (none : Option FieldType) RX12 G h := hE
  obtain ⟨⟨hx, hb, hml, hown, hts⟩, hr, hlocks, hXX⟩ := id hE
  have hl := lv_entry ([.ref a0, va_rf x1, .int x2, .int x3] : List Value) (n := 4) (by cases x1 <;> exact Nat.le_of_ble_eq_true rfl)
  rw [lg_entry_eq]
  generalize (lg_sl ([.ref a0, va_rf x1, .int x2, .int x3] : List Value) ++ List.replicate (4 - (lg_sl ([.ref a0, va_rf x1, .int x2, .int x3] : List Value)).length) Slot.unset).toArray = ls at hl ⊢
  have hl : lv_has ls 4 [(0, .ref a0), (1, va_rf x1), (2, .int x2), (3, .int x3)] := (by cases x1 <;> exact hl)
  unfold wp_X12_become at hw
  refine lv_aload_n hx hb dX12_become_0 rfl (lv_at hl 0 rfl) ?_
  refine lv_aload_nq hx hb dX12_become_1 rfl (lv_at hl 1 rfl) ?_
  refine hv_wput (v := va_rf x1) tyX12 hE hI in_X12 tyX12_ok nmX12 (ci := 16) rfl 0 (by decide) (hts _ q1185) (fun _ hx => hx) rfl (ty := (.object "MatchmakerRules$Rule")) rfl (va_rf_nar _ _) (va_rf_fit _ _) hw dX12_become_2 (fun h1 H locs hw hI => ?_)
  refine lv_aload_n hx hb dX12_become_5 rfl (lv_at hl 0 rfl) ?_
  refine lv_iload_n hx hb dX12_become_6 rfl (lv_at hl 2 rfl) ?_
  refine hv_wput (v := .int x2) tyX12 hE hI in_X12 tyX12_ok nmX12 (ci := 16) rfl 1 (by decide) (hts _ q1188) (fun _ hx => hx) rfl (ty := .int) rfl rfl rfl hw dX12_become_7 (fun h2 H locs hw hI => ?_)
  refine lv_aload_n hx hb dX12_become_10 rfl (lv_at hl 0 rfl) ?_
  refine lv_iload_n hx hb dX12_become_11 rfl (lv_at hl 3 rfl) ?_
  refine hv_wput (v := .int x3) tyX12 hE hI in_X12 tyX12_ok nmX12 (ci := 16) rfl 2 (by decide) (hts _ q1191) (fun _ hx => hx) rfl (ty := .int) rfl rfl rfl hw dX12_become_12 (fun h3 H locs hw hI => ?_)
  exact hv_vret hE hI (Nat.le_refl _) (Nat.le_refl _) hw dX12_become_15

/-- MatchmakerRules$Book.isNext(LMatchmakerRules$Firing;LMatchmakerRules$Firing;)Z -/
abbrev rm_X2_isNext : Room := { frames := 7, cells := 0, slots := 0, locals := 148 }
def wp_X2_isNext_L101 (G : GG) (a0 : Nat) (Q : Int32 → HH → Prop) (k38 : (HH) → (Option Nat) → (Option Nat) → (Int32) → (Int32) → (Option Nat) → Prop) (h : HH) (x1 : Option Nat) (x2 : Option Nat) (x4 : Int32) (x5 : Nat) : Prop := w_getq h x5 3 0 (fun r20 => w_getq h x5 3 5 (fun r21 => w_nn r21 (fun a22 => w_geti h a22 14 0 (fun r23 => w_geti h x5 3 6 (fun r24 => w_nn x2 (fun a25 => w_is h a25 16 (wp_X12_become G h a25 r20 r23 r24 (fun h26 => k38 h26 x1 (some a25) (1 : Int32) x4 (some x5)))))))))
set_option maxHeartbeats 4000000 in
theorem snd_X2_isNext_L101 {p : Program} {l : Launch} {e : Env} {s : State} {m : MethodId} {args : Array Value} {below : List Frame} {meth : Method} {c : Code} {h0 : HH} (G : GG) (a0 : Nat) (Q : Int32 → HH → Prop) (hE : hv_E p s m args meth c cX2_isNext 7 (some FieldType.boolean) RX2 G h0) (k38 : (HH) → (Option Nat) → (Option Nat) → (Int32) → (Int32) → (Option Nat) → Prop) (hk38 : ∀ (h : HH) (x1 : Option Nat) (x2 : Option Nat) (x3 : Int32) (x4 : Int32) (x5 : Option Nat), k38 h x1 x2 x3 x4 x5 → ∀ (H : Heap) (locs : List Loc) (ls : Array Slot), hv_I G h0 s.heap h H locs → lv_has ls 7 [(0, .ref a0), (1, va_rf x1), (2, va_rf x2), (3, .int x3), (4, .int x4), (5, va_rf x5)] → W p l e (headSpec (ws_ yX2_isNext cX2_isNext 7 (some FieldType.boolean)) rm_X2_isNext).room s m args below meth c H locs 0 0 (MQ below (hv_Qi G h0 s.heap.size Q) args s 0 0 (hv_A h0 s.heap.size)) (F0 m 38 ls [])) : ∀ (h : HH) (x1 : Option Nat) (x2 : Option Nat) (x4 : Int32) (x5 : Nat), wp_X2_isNext_L101 G a0 Q k38 h x1 x2 x4 x5 → ∀ (H : Heap) (locs : List Loc) (ls : Array Slot), hv_I G h0 s.heap h H locs → lv_has ls 7 [(0, .ref a0), (1, va_rf x1), (2, va_rf x2), (4, .int x4), (5, .ref x5)] → W p l e (headSpec (ws_ yX2_isNext cX2_isNext 7 (some FieldType.boolean)) rm_X2_isNext).room s m args below meth c H locs 0 0 (MQ below (hv_Qi G h0 s.heap.size Q) args s 0 0 (hv_A h0 s.heap.size)) (F0 m 101 ls []) := by
  obtain ⟨⟨hx, hb, hml, hown, hts⟩, hr, hlocks, hXX⟩ := id hE
  intro h x1 x2 x4 x5 hw H locs ls hI hl
  unfold wp_X2_isNext_L101 at hw
  refine lv_aload_nq hx hb dX2_isNext_101 rfl (lv_at hl 2 rfl) ?_
  refine lv_aload hx hb dX2_isNext_102 (lv_at hl 4 rfl) ?_
  refine hv_wgetqN hE hI in_X3 (ci := 3) rfl 0 (by decide) (hE.2.2.2.2.1.F 17 rfl) (fun _ hx => hx) hw dX2_isNext_104 (fun r20 hw => ?_)
  refine lv_aload hx hb dX2_isNext_107 (lv_at hl 4 rfl) ?_
  refine hv_wgetqN hE hI in_X3 (ci := 3) rfl 5 (by decide) (hE.2.2.2.2.1.F 18 rfl) (fun _ hx => hx) hw dX2_isNext_109 (fun r21 hw => ?_)
  obtain ⟨a22, hz, hwa22⟩ := hw; have hla22 := hl; subst hz; have hw := hwa22; have hl := hla22
  refine hv_wgetiN hE hI in_X10 (ci := 14) rfl 0 (by decide) (hE.2.2.2.2.1.F 24 rfl) (fun _ hx => hx) hw dX2_isNext_112 (fun r23 hw => ?_)
  refine lv_aload hx hb dX2_isNext_115 (lv_at hl 4 rfl) ?_
  refine hv_wgetiN hE hI in_X3 (ci := 3) rfl 6 (by decide) (hE.2.2.2.2.1.F 19 rfl) (fun _ hx => hx) hw dX2_isNext_117 (fun r24 hw => ?_)
  obtain ⟨a25, hz, hwa25⟩ := hw; have hla25 := hl; subst hz; have hw := hwa25; have hl := hla25
  obtain ⟨⟨fs, hre⟩, hw⟩ := hw
  refine hv_rcv hI (va_runV (As := [va_rf r20, .int r23, .int r24]) (b := a25) (rest := []) hE.1 (snd_X12_become l G _ h a25 r20 r23 r24 _ hw) (cwV 3 hts (lw_V q1220 q1221 q1222 q132 q1223) rfl rfl rfl (by decide +kernel) ⟨Nat.le_of_ble_eq_true rfl, Nat.le_of_ble_eq_true rfl⟩) (hv_preV hE hI (ci := 16) rfl hre) rfl rfl hl.1 rfl (lv_room (Nat.le_of_ble_eq_true rfl)) dX2_isNext_120 ⟨Nat.le_of_ble_eq_true rfl, Nat.le_of_ble_eq_true rfl⟩) (fun h26 H locs hw hI => ?_)
  refine lv_iconst (v := 1) hx hb dX2_isNext_123 (by decide) ?_
  refine lv_istore_n (lv' := [(3, .int (1 : Int32)), (0, .ref a0), (1, va_rf x1), (2, .ref a25), (4, .int x4), (5, .ref x5)]) hx hb dX2_isNext_124 rfl hl (by decide) rfl (fun ls hl => ?_)
  refine lv_goto (tgt := 38) hx hb dX2_isNext_125 (by decide) ?_
  exact hk38 h26 x1 (some a25) (1 : Int32) x4 (some x5) hw _ _ _ hI (lv_sub hl [1, 2, 3, 0, 4, 5] rfl)
def wp_X2_isNext_L73 (G : GG) (a0 : Nat) (Q : Int32 → HH → Prop) (k38 : (HH) → (Option Nat) → (Option Nat) → (Int32) → (Int32) → (Option Nat) → Prop) (h : HH) (x1 : Option Nat) (x2 : Option Nat) (x3 : Int32) (x4 : Int32) (x5 : Nat) (t0 : Int32) : Prop := ((¬ t0 = 0 → k38 h x1 x2 x3 x4 (some x5)) ∧ (t0 = 0 → w_is h x5 3 (wp_X3_isDue G h x5 (fun r18 h19 => ((r18 = 0 → k38 h19 x1 x2 x3 x4 (some x5)) ∧ (¬ r18 = 0 → ((x3 = 0 → wp_X2_isNext_L101 G a0 Q k38 h19 x1 x2 x4 x5) ∧ (¬ x3 = 0 → w_is h19 x5 3 (wp_X3_isAheadOf G h19 x5 x2 (fun r27 h28 => ((r27 = 0 → k38 h28 x1 x2 x3 x4 (some x5)) ∧ (¬ r27 = 0 → wp_X2_isNext_L101 G a0 Q k38 h28 x1 x2 x4 x5))))))))))))
set_option maxHeartbeats 4000000 in
theorem snd_X2_isNext_L73 {p : Program} {l : Launch} {e : Env} {s : State} {m : MethodId} {args : Array Value} {below : List Frame} {meth : Method} {c : Code} {h0 : HH} (G : GG) (a0 : Nat) (Q : Int32 → HH → Prop) (hE : hv_E p s m args meth c cX2_isNext 7 (some FieldType.boolean) RX2 G h0) (k38 : (HH) → (Option Nat) → (Option Nat) → (Int32) → (Int32) → (Option Nat) → Prop) (hk38 : ∀ (h : HH) (x1 : Option Nat) (x2 : Option Nat) (x3 : Int32) (x4 : Int32) (x5 : Option Nat), k38 h x1 x2 x3 x4 x5 → ∀ (H : Heap) (locs : List Loc) (ls : Array Slot), hv_I G h0 s.heap h H locs → lv_has ls 7 [(0, .ref a0), (1, va_rf x1), (2, va_rf x2), (3, .int x3), (4, .int x4), (5, va_rf x5)] → W p l e (headSpec (ws_ yX2_isNext cX2_isNext 7 (some FieldType.boolean)) rm_X2_isNext).room s m args below meth c H locs 0 0 (MQ below (hv_Qi G h0 s.heap.size Q) args s 0 0 (hv_A h0 s.heap.size)) (F0 m 38 ls [])) : ∀ (h : HH) (x1 : Option Nat) (x2 : Option Nat) (x3 : Int32) (x4 : Int32) (x5 : Nat) (t0 : Int32), wp_X2_isNext_L73 G a0 Q k38 h x1 x2 x3 x4 x5 t0 → ∀ (H : Heap) (locs : List Loc) (ls : Array Slot), hv_I G h0 s.heap h H locs → lv_has ls 7 [(0, .ref a0), (1, va_rf x1), (2, va_rf x2), (3, .int x3), (4, .int x4), (5, .ref x5)] → W p l e (headSpec (ws_ yX2_isNext cX2_isNext 7 (some FieldType.boolean)) rm_X2_isNext).room s m args below meth c H locs 0 0 (MQ below (hv_Qi G h0 s.heap.size Q) args s 0 0 (hv_A h0 s.heap.size)) (F0 m 73 ls [.int t0]) := by
  obtain ⟨⟨hx, hb, hml, hown, hts⟩, hr, hlocks, hXX⟩ := id hE
  intro h x1 x2 x3 x4 x5 t0 hw H locs ls hI hl
  unfold wp_X2_isNext_L73 at hw
  refine lv_istore (lv' := [(6, .int t0), (0, .ref a0), (1, va_rf x1), (2, va_rf x2), (3, .int x3), (4, .int x4), (5, .ref x5)]) hx hb dX2_isNext_73 hl (by decide) rfl (fun ls hl => ?_)
  refine lv_iload hx hb dX2_isNext_75 (lv_at hl 0 rfl) ?_
  refine lv_if_ne (tgt := 125) hx hb dX2_isNext_77 (by decide) (fun c_77 => ?_) (fun c_77 => ?_)
  · have hw := hw.1 c_77
    refine lv_goto (tgt := 38) hx hb dX2_isNext_125 (by decide) ?_
    exact hk38 h x1 x2 x3 x4 (some x5) hw _ _ _ hI (lv_sub hl [1, 2, 3, 4, 5, 6] rfl)
  · have hw := hw.2 c_77
    refine lv_aload hx hb dX2_isNext_80 (lv_at hl 6 rfl) ?_
    obtain ⟨⟨fs, hre⟩, hw⟩ := hw
    refine hv_rci hI (va_runV (As := []) (b := x5) (rest := []) hE.1 (snd_X3_isDue l G _ h x5 _ hw) (cwV 0 hts (lw_V q535 q536 q537 q99 q538) rfl rfl rfl (by decide +kernel) ⟨Nat.le_of_ble_eq_true rfl, Nat.le_of_ble_eq_true rfl⟩) (hv_preV hE hI (ci := 3) rfl hre) rfl rfl hl.1 rfl (lv_room (Nat.le_of_ble_eq_true rfl)) dX2_isNext_82 ⟨Nat.le_of_ble_eq_true rfl, Nat.le_of_ble_eq_true rfl⟩) (fun r18 h19 H locs hw hI => ?_)
    refine lv_if_eq (tgt := 125) hx hb dX2_isNext_85 (by decide) (fun c_85 => ?_) (fun c_85 => ?_)
    · have hw := hw.1 c_85
      refine lv_goto (tgt := 38) hx hb dX2_isNext_125 (by decide) ?_
      exact hk38 h19 x1 x2 x3 x4 (some x5) hw _ _ _ hI (lv_sub hl [1, 2, 3, 4, 5, 6] rfl)
    · have hw := hw.2 c_85
      refine lv_iload_n hx hb dX2_isNext_88 rfl (lv_at hl 4 rfl) ?_
      refine lv_if_eq (tgt := 101) hx hb dX2_isNext_89 (by decide) (fun c_89 => ?_) (fun c_89 => ?_)
      · have hw := hw.1 c_89
        exact snd_X2_isNext_L101 G a0 Q hE k38 hk38 h19 x1 x2 x4 x5 hw _ _ _ hI (lv_sub hl [1, 2, 3, 5, 6] rfl)
      · have hw := hw.2 c_89
        refine lv_aload hx hb dX2_isNext_92 (lv_at hl 6 rfl) ?_
        refine lv_aload_nq hx hb dX2_isNext_94 rfl (lv_at hl 3 rfl) ?_
        obtain ⟨⟨fs, hre⟩, hw⟩ := hw
        refine hv_rci hI (va_runV (As := [va_rf x2]) (b := x5) (rest := []) hE.1 (snd_X3_isAheadOf l G _ h19 x5 x2 _ hw) (cwV 1 hts (lw_V q1205 q1206 q1207 q99 q1208) rfl rfl rfl (by decide +kernel) ⟨Nat.le_of_ble_eq_true rfl, Nat.le_of_ble_eq_true rfl⟩) (hv_preV hE hI (ci := 3) rfl hre) rfl rfl hl.1 rfl (lv_room (Nat.le_of_ble_eq_true rfl)) dX2_isNext_95 ⟨Nat.le_of_ble_eq_true rfl, Nat.le_of_ble_eq_true rfl⟩) (fun r27 h28 H locs hw hI => ?_)
        refine lv_if_eq (tgt := 125) hx hb dX2_isNext_98 (by decide) (fun c_98 => ?_) (fun c_98 => ?_)
        · have hw := hw.1 c_98
          refine lv_goto (tgt := 38) hx hb dX2_isNext_125 (by decide) ?_
          exact hk38 h28 x1 x2 x3 x4 (some x5) hw _ _ _ hI (lv_sub hl [1, 2, 3, 4, 5, 6] rfl)
        · have hw := hw.2 c_98
          exact snd_X2_isNext_L101 G a0 Q hE k38 hk38 h28 x1 x2 x4 x5 hw _ _ _ hI (lv_sub hl [1, 2, 3, 5, 6] rfl)
def wp_X2_isNext_L72 (G : GG) (a0 : Nat) (Q : Int32 → HH → Prop) (k38 : (HH) → (Option Nat) → (Option Nat) → (Int32) → (Int32) → (Option Nat) → Prop) (h : HH) (x1 : Option Nat) (x2 : Option Nat) (x3 : Int32) (x4 : Int32) (x5 : Nat) : Prop := wp_X2_isNext_L73 G a0 Q k38 h x1 x2 x3 x4 x5 (0 : Int32)
set_option maxHeartbeats 4000000 in
theorem snd_X2_isNext_L72 {p : Program} {l : Launch} {e : Env} {s : State} {m : MethodId} {args : Array Value} {below : List Frame} {meth : Method} {c : Code} {h0 : HH} (G : GG) (a0 : Nat) (Q : Int32 → HH → Prop) (hE : hv_E p s m args meth c cX2_isNext 7 (some FieldType.boolean) RX2 G h0) (k38 : (HH) → (Option Nat) → (Option Nat) → (Int32) → (Int32) → (Option Nat) → Prop) (hk38 : ∀ (h : HH) (x1 : Option Nat) (x2 : Option Nat) (x3 : Int32) (x4 : Int32) (x5 : Option Nat), k38 h x1 x2 x3 x4 x5 → ∀ (H : Heap) (locs : List Loc) (ls : Array Slot), hv_I G h0 s.heap h H locs → lv_has ls 7 [(0, .ref a0), (1, va_rf x1), (2, va_rf x2), (3, .int x3), (4, .int x4), (5, va_rf x5)] → W p l e (headSpec (ws_ yX2_isNext cX2_isNext 7 (some FieldType.boolean)) rm_X2_isNext).room s m args below meth c H locs 0 0 (MQ below (hv_Qi G h0 s.heap.size Q) args s 0 0 (hv_A h0 s.heap.size)) (F0 m 38 ls [])) : ∀ (h : HH) (x1 : Option Nat) (x2 : Option Nat) (x3 : Int32) (x4 : Int32) (x5 : Nat), wp_X2_isNext_L72 G a0 Q k38 h x1 x2 x3 x4 x5 → ∀ (H : Heap) (locs : List Loc) (ls : Array Slot), hv_I G h0 s.heap h H locs → lv_has ls 7 [(0, .ref a0), (1, va_rf x1), (2, va_rf x2), (3, .int x3), (4, .int x4), (5, .ref x5)] → W p l e (headSpec (ws_ yX2_isNext cX2_isNext 7 (some FieldType.boolean)) rm_X2_isNext).room s m args below meth c H locs 0 0 (MQ below (hv_Qi G h0 s.heap.size Q) args s 0 0 (hv_A h0 s.heap.size)) (F0 m 72 ls []) := by
  obtain ⟨⟨hx, hb, hml, hown, hts⟩, hr, hlocks, hXX⟩ := id hE
  intro h x1 x2 x3 x4 x5 hw H locs ls hI hl
  unfold wp_X2_isNext_L72 at hw
  refine lv_iconst (v := 0) hx hb dX2_isNext_72 (by decide) ?_
  exact snd_X2_isNext_L73 G a0 Q hE k38 hk38 h x1 x2 x3 x4 x5 (0 : Int32) hw _ _ _ hI (lv_sub hl [0, 1, 2, 3, 4, 5] rfl)
def wp_X2_isNext_L68 (G : GG) (a0 : Nat) (Q : Int32 → HH → Prop) (k38 : (HH) → (Option Nat) → (Option Nat) → (Int32) → (Int32) → (Option Nat) → Prop) (h : HH) (x1 : Nat) (x2 : Option Nat) (x3 : Int32) (x4 : Int32) (x5 : Nat) : Prop := wp_X2_isNext_L73 G a0 Q k38 h (some x1) x2 x3 x4 x5 (1 : Int32)
set_option maxHeartbeats 4000000 in
theorem snd_X2_isNext_L68 {p : Program} {l : Launch} {e : Env} {s : State} {m : MethodId} {args : Array Value} {below : List Frame} {meth : Method} {c : Code} {h0 : HH} (G : GG) (a0 : Nat) (Q : Int32 → HH → Prop) (hE : hv_E p s m args meth c cX2_isNext 7 (some FieldType.boolean) RX2 G h0) (k38 : (HH) → (Option Nat) → (Option Nat) → (Int32) → (Int32) → (Option Nat) → Prop) (hk38 : ∀ (h : HH) (x1 : Option Nat) (x2 : Option Nat) (x3 : Int32) (x4 : Int32) (x5 : Option Nat), k38 h x1 x2 x3 x4 x5 → ∀ (H : Heap) (locs : List Loc) (ls : Array Slot), hv_I G h0 s.heap h H locs → lv_has ls 7 [(0, .ref a0), (1, va_rf x1), (2, va_rf x2), (3, .int x3), (4, .int x4), (5, va_rf x5)] → W p l e (headSpec (ws_ yX2_isNext cX2_isNext 7 (some FieldType.boolean)) rm_X2_isNext).room s m args below meth c H locs 0 0 (MQ below (hv_Qi G h0 s.heap.size Q) args s 0 0 (hv_A h0 s.heap.size)) (F0 m 38 ls [])) : ∀ (h : HH) (x1 : Nat) (x2 : Option Nat) (x3 : Int32) (x4 : Int32) (x5 : Nat), wp_X2_isNext_L68 G a0 Q k38 h x1 x2 x3 x4 x5 → ∀ (H : Heap) (locs : List Loc) (ls : Array Slot), hv_I G h0 s.heap h H locs → lv_has ls 7 [(0, .ref a0), (1, .ref x1), (2, va_rf x2), (3, .int x3), (4, .int x4), (5, .ref x5)] → W p l e (headSpec (ws_ yX2_isNext cX2_isNext 7 (some FieldType.boolean)) rm_X2_isNext).room s m args below meth c H locs 0 0 (MQ below (hv_Qi G h0 s.heap.size Q) args s 0 0 (hv_A h0 s.heap.size)) (F0 m 68 ls []) := by
  obtain ⟨⟨hx, hb, hml, hown, hts⟩, hr, hlocks, hXX⟩ := id hE
  intro h x1 x2 x3 x4 x5 hw H locs ls hI hl
  unfold wp_X2_isNext_L68 at hw
  refine lv_iconst (v := 1) hx hb dX2_isNext_68 (by decide) ?_
  refine lv_goto (tgt := 73) hx hb dX2_isNext_69 (by decide) ?_
  exact snd_X2_isNext_L73 G a0 Q hE k38 hk38 h (some x1) x2 x3 x4 x5 (1 : Int32) hw _ _ _ hI (lv_sub hl [0, 1, 2, 3, 4, 5] rfl)
def wp_X2_isNext_L38 (G : GG) (a0 : Nat) (Q : Int32 → HH → Prop) (k5 : (HH) → (Option Nat) → (Option Nat) → (Int32) → (Int32) → Prop) : Nat → (HH) → (Option Nat) → (Option Nat) → (Int32) → (Int32) → (Option Nat) → Prop
  | 0, _, _, _, _, _, _ => False
  | n + 1, h, x1, x2, x3, x4, x5 => w_nn x5 (fun a14 => w_is h a14 3 (wp_X3_goesOn G h a14 (fun r15 h16 => ((r15 = 0 → k5 h16 x1 x2 x3 (x4 + (1 : Int32))) ∧ (¬ r15 = 0 → ((x1 = none → wp_X2_isNext_L72 G a0 Q (fun h x1 x2 x3 x4 x5 => wp_X2_isNext_L38 G a0 Q k5 n h x1 x2 x3 x4 x5) h16 none x2 x3 x4 a14) ∧ (∀ a17, x1 = some a17 → w_is h16 a14 3 (wp_X3_isAheadOf G h16 a14 (some a17) (fun r29 h30 => ((¬ r29 = 0 → wp_X2_isNext_L68 G a0 Q (fun h x1 x2 x3 x4 x5 => wp_X2_isNext_L38 G a0 Q k5 n h x1 x2 x3 x4 x5) h30 a17 x2 x3 x4 a14) ∧ (r29 = 0 → w_is h30 a14 3 (wp_X3_isAt G h30 a14 (some a17) (fun r31 h32 => ((r31 = 0 → wp_X2_isNext_L72 G a0 Q (fun h x1 x2 x3 x4 x5 => wp_X2_isNext_L38 G a0 Q k5 n h x1 x2 x3 x4 x5) h32 (some a17) x2 x3 x4 a14) ∧ (¬ r31 = 0 → wp_X2_isNext_L68 G a0 Q (fun h x1 x2 x3 x4 x5 => wp_X2_isNext_L38 G a0 Q k5 n h x1 x2 x3 x4 x5) h32 a17 x2 x3 x4 a14)))))))))))))))
set_option maxHeartbeats 4000000 in
theorem snd_X2_isNext_L38 {p : Program} {l : Launch} {e : Env} {s : State} {m : MethodId} {args : Array Value} {below : List Frame} {meth : Method} {c : Code} {h0 : HH} (G : GG) (a0 : Nat) (Q : Int32 → HH → Prop) (hE : hv_E p s m args meth c cX2_isNext 7 (some FieldType.boolean) RX2 G h0) (k5 : (HH) → (Option Nat) → (Option Nat) → (Int32) → (Int32) → Prop) (hk5 : ∀ (h : HH) (x1 : Option Nat) (x2 : Option Nat) (x3 : Int32) (x4 : Int32), k5 h x1 x2 x3 x4 → ∀ (H : Heap) (locs : List Loc) (ls : Array Slot), hv_I G h0 s.heap h H locs → lv_has ls 7 [(0, .ref a0), (1, va_rf x1), (2, va_rf x2), (3, .int x3), (4, .int x4)] → W p l e (headSpec (ws_ yX2_isNext cX2_isNext 7 (some FieldType.boolean)) rm_X2_isNext).room s m args below meth c H locs 0 0 (MQ below (hv_Qi G h0 s.heap.size Q) args s 0 0 (hv_A h0 s.heap.size)) (F0 m 5 ls [])) : ∀ (n : Nat) (h : HH) (x1 : Option Nat) (x2 : Option Nat) (x3 : Int32) (x4 : Int32) (x5 : Option Nat), wp_X2_isNext_L38 G a0 Q k5 n h x1 x2 x3 x4 x5 → ∀ (H : Heap) (locs : List Loc) (ls : Array Slot), hv_I G h0 s.heap h H locs → lv_has ls 7 [(0, .ref a0), (1, va_rf x1), (2, va_rf x2), (3, .int x3), (4, .int x4), (5, va_rf x5)] → W p l e (headSpec (ws_ yX2_isNext cX2_isNext 7 (some FieldType.boolean)) rm_X2_isNext).room s m args below meth c H locs 0 0 (MQ below (hv_Qi G h0 s.heap.size Q) args s 0 0 (hv_A h0 s.heap.size)) (F0 m 38 ls []) := by
  obtain ⟨⟨hx, hb, hml, hown, hts⟩, hr, hlocks, hXX⟩ := id hE
  intro n
  induction n with
  | zero => intro h x1 x2 x3 x4 x5 hw; exact hw.elim
  | succ n ih =>
    intro h x1 x2 x3 x4 x5 hw H locs ls hI hl
    unfold wp_X2_isNext_L38 at hw
    refine lv_aloadq hx hb dX2_isNext_38 (lv_at hl 5 rfl) ?_
    obtain ⟨a14, hz, hwa14⟩ := hw; have hla14 := hl; subst hz; have hw := hwa14; have hl := hla14
    obtain ⟨⟨fs, hre⟩, hw⟩ := hw
    refine hv_rci hI (va_runV (As := []) (b := a14) (rest := []) hE.1 (snd_X3_goesOn l G _ h a14 _ hw) (cwV 0 hts (lw_V q490 q491 q492 q99 q493) rfl rfl rfl (by decide +kernel) ⟨Nat.le_of_ble_eq_true rfl, Nat.le_of_ble_eq_true rfl⟩) (hv_preV hE hI (ci := 3) rfl hre) rfl rfl hl.1 rfl (lv_room (Nat.le_of_ble_eq_true rfl)) dX2_isNext_40 ⟨Nat.le_of_ble_eq_true rfl, Nat.le_of_ble_eq_true rfl⟩) (fun r15 h16 H locs hw hI => ?_)
    refine lv_if_eq (tgt := 128) hx hb dX2_isNext_43 (by decide) (fun c_43 => ?_) (fun c_43 => ?_)
    · have hw := hw.1 c_43
      refine lv_iinc (v := (x4 + (1 : Int32))) (lv' := [(4, .int (x4 + (1 : Int32))), (0, .ref a0), (1, va_rf x1), (2, va_rf x2), (3, .int x3), (5, .ref a14)]) hx hb dX2_isNext_128 hl (k := 4) rfl rfl (by decide) rfl (fun ls hl => ?_)
      refine lv_goto (tgt := 5) hx hb dX2_isNext_131 (by decide) ?_
      exact hk5 h16 x1 x2 x3 (x4 + (1 : Int32)) hw _ _ _ hI (lv_sub hl [1, 2, 3, 4, 0] rfl)
    · have hw := hw.2 c_43
      refine lv_aload_nq hx hb dX2_isNext_46 rfl (lv_at hl 1 rfl) ?_
      refine lv_ifnullq (tgt := 72) hx hb dX2_isNext_47 (by decide) (fun c_47 => ?_) (fun c_47 => ?_)
      · have hwa17 := hw.1 c_47; have hla17 := hl; subst c_47; have hw := hwa17; have hl := hla17
        exact snd_X2_isNext_L72 G a0 Q hE (fun h x1 x2 x3 x4 x5 => wp_X2_isNext_L38 G a0 Q k5 n h x1 x2 x3 x4 x5) (fun h x1 x2 x3 x4 x5 => ih h x1 x2 x3 x4 x5) h16 none x2 x3 x4 a14 hw _ _ _ hI (lv_sub hl [0, 1, 2, 3, 4, 5] rfl)
      · obtain ⟨a17, hz⟩ := Option.ne_none_iff_exists.mp c_47
        have hwa17 := hw.2 a17 hz.symm; have hla17 := hl; subst hz; have hw := hwa17; have hl := hla17
        refine lv_aload hx hb dX2_isNext_50 (lv_at hl 5 rfl) ?_
        refine lv_aload_n hx hb dX2_isNext_52 rfl (lv_at hl 1 rfl) ?_
        obtain ⟨⟨fs, hre⟩, hw⟩ := hw
        refine hv_rci hI (va_runV (As := [.ref a17]) (b := a14) (rest := []) hE.1 (snd_X3_isAheadOf l G _ h16 a14 (some a17) _ hw) (cwV 1 hts (lw_V q1205 q1206 q1207 q99 q1208) rfl rfl rfl (by decide +kernel) ⟨Nat.le_of_ble_eq_true rfl, Nat.le_of_ble_eq_true rfl⟩) (hv_preV hE hI (ci := 3) rfl hre) rfl rfl hl.1 rfl (lv_room (Nat.le_of_ble_eq_true rfl)) dX2_isNext_53 ⟨Nat.le_of_ble_eq_true rfl, Nat.le_of_ble_eq_true rfl⟩) (fun r29 h30 H locs hw hI => ?_)
        refine lv_if_ne (tgt := 68) hx hb dX2_isNext_56 (by decide) (fun c_56 => ?_) (fun c_56 => ?_)
        · have hw := hw.1 c_56
          exact snd_X2_isNext_L68 G a0 Q hE (fun h x1 x2 x3 x4 x5 => wp_X2_isNext_L38 G a0 Q k5 n h x1 x2 x3 x4 x5) (fun h x1 x2 x3 x4 x5 => ih h x1 x2 x3 x4 x5) h30 a17 x2 x3 x4 a14 hw _ _ _ hI (lv_sub hl [0, 1, 2, 3, 4, 5] rfl)
        · have hw := hw.2 c_56
          refine lv_aload hx hb dX2_isNext_59 (lv_at hl 5 rfl) ?_
          refine lv_aload_n hx hb dX2_isNext_61 rfl (lv_at hl 1 rfl) ?_
          obtain ⟨⟨fs, hre⟩, hw⟩ := hw
          refine hv_rci hI (va_runV (As := [.ref a17]) (b := a14) (rest := []) hE.1 (snd_X3_isAt l G _ h30 a14 (some a17) _ hw) (cwV 1 hts (lw_V q1216 q1217 q1218 q99 q1219) rfl rfl rfl (by decide +kernel) ⟨Nat.le_of_ble_eq_true rfl, Nat.le_of_ble_eq_true rfl⟩) (hv_preV hE hI (ci := 3) rfl hre) rfl rfl hl.1 rfl (lv_room (Nat.le_of_ble_eq_true rfl)) dX2_isNext_62 ⟨Nat.le_of_ble_eq_true rfl, Nat.le_of_ble_eq_true rfl⟩) (fun r31 h32 H locs hw hI => ?_)
          refine lv_if_eq (tgt := 72) hx hb dX2_isNext_65 (by decide) (fun c_65 => ?_) (fun c_65 => ?_)
          · have hw := hw.1 c_65
            exact snd_X2_isNext_L72 G a0 Q hE (fun h x1 x2 x3 x4 x5 => wp_X2_isNext_L38 G a0 Q k5 n h x1 x2 x3 x4 x5) (fun h x1 x2 x3 x4 x5 => ih h x1 x2 x3 x4 x5) h32 (some a17) x2 x3 x4 a14 hw _ _ _ hI (lv_sub hl [0, 1, 2, 3, 4, 5] rfl)
          · have hw := hw.2 c_65
            exact snd_X2_isNext_L68 G a0 Q hE (fun h x1 x2 x3 x4 x5 => wp_X2_isNext_L38 G a0 Q k5 n h x1 x2 x3 x4 x5) (fun h x1 x2 x3 x4 x5 => ih h x1 x2 x3 x4 x5) h32 a17 x2 x3 x4 a14 hw _ _ _ hI (lv_sub hl [0, 1, 2, 3, 4, 5] rfl)
def wp_X2_isNext_L5 (G : GG) (a0 : Nat) (Q : Int32 → HH → Prop) : Nat → (HH) → (Option Nat) → (Option Nat) → (Int32) → (Int32) → Prop
  | 0, _, _, _, _, _ => False
  | n + 1, h, x1, x2, x3, x4 => w_getq h a0 2 1 (fun r1 => w_nn r1 (fun a2 => w_is h a2 4 (wp_J2_size G h a2 (fun r3 h4 => ((r3 ≤ x4 → (narrow .boolean (.int x3) = .int x3 ∧ Q x3 h4)) ∧ (¬ r3 ≤ x4 → w_getq h4 a0 2 0 (fun r5 => w_getq h4 a0 2 1 (fun r6 => w_nn r6 (fun a7 => w_is h4 a7 4 (wp_J2_get G h4 a7 x4 (fun r8 h9 => w_nn r8 (fun a10 => w_cast h9 a10 12 (w_nn r5 (fun a11 => w_is h9 a11 3 (wp_X3_begin G h9 a11 (some a10) (fun r12 h13 => (∃ n38, wp_X2_isNext_L38 G a0 Q (fun h x1 x2 x3 x4 => wp_X2_isNext_L5 G a0 Q n h x1 x2 x3 x4) n38 h13 x1 x2 x3 x4 r12)))))))))))))))))
set_option maxHeartbeats 4000000 in
theorem snd_X2_isNext_L5 {p : Program} {l : Launch} {e : Env} {s : State} {m : MethodId} {args : Array Value} {below : List Frame} {meth : Method} {c : Code} {h0 : HH} (G : GG) (a0 : Nat) (Q : Int32 → HH → Prop) (hE : hv_E p s m args meth c cX2_isNext 7 (some FieldType.boolean) RX2 G h0) : ∀ (n : Nat) (h : HH) (x1 : Option Nat) (x2 : Option Nat) (x3 : Int32) (x4 : Int32), wp_X2_isNext_L5 G a0 Q n h x1 x2 x3 x4 → ∀ (H : Heap) (locs : List Loc) (ls : Array Slot), hv_I G h0 s.heap h H locs → lv_has ls 7 [(0, .ref a0), (1, va_rf x1), (2, va_rf x2), (3, .int x3), (4, .int x4)] → W p l e (headSpec (ws_ yX2_isNext cX2_isNext 7 (some FieldType.boolean)) rm_X2_isNext).room s m args below meth c H locs 0 0 (MQ below (hv_Qi G h0 s.heap.size Q) args s 0 0 (hv_A h0 s.heap.size)) (F0 m 5 ls []) := by
  obtain ⟨⟨hx, hb, hml, hown, hts⟩, hr, hlocks, hXX⟩ := id hE
  intro n
  induction n with
  | zero => intro h x1 x2 x3 x4 hw; exact hw.elim
  | succ n ih =>
    intro h x1 x2 x3 x4 hw H locs ls hI hl
    unfold wp_X2_isNext_L5 at hw
    refine lv_iload hx hb dX2_isNext_5 (lv_at hl 4 rfl) ?_
    refine lv_aload_n hx hb dX2_isNext_7 rfl (lv_at hl 0 rfl) ?_
    refine hv_wgetq hE hI in_X2 (ci := 2) rfl 1 (by decide) (hts _ q219) (fun _ hx => hx) hw dX2_isNext_8 (fun r1 hw => ?_)
    obtain ⟨a2, hz, hwa2⟩ := hw; have hla2 := hl; subst hz; have hw := hwa2; have hl := hla2
    obtain ⟨⟨fs, hre⟩, hw⟩ := hw
    refine hv_rci hI (va_runV (As := []) (b := a2) (rest := [.int x4]) hE.1 (snd_J2_size l G _ h a2 _ hw) (cwV 0 hts (lw_V q470 q333 q334 q102 q335) rfl rfl rfl (by decide +kernel) ⟨Nat.le_of_ble_eq_true rfl, Nat.le_of_ble_eq_true rfl⟩) (hv_preV hE hI (ci := 4) rfl hre) rfl rfl hl.1 rfl (lv_room (Nat.le_of_ble_eq_true rfl)) dX2_isNext_11 ⟨Nat.le_of_ble_eq_true rfl, Nat.le_of_ble_eq_true rfl⟩) (fun r3 h4 H locs hw hI => ?_)
    refine lv_icmp_ge (tgt := 134) hx hb dX2_isNext_14 (by decide) (fun c_14 => ?_) (fun c_14 => ?_)
    · have hw := hw.1 c_14
      refine lv_iload_n hx hb dX2_isNext_134 rfl (lv_at hl 3 rfl) ?_
      obtain ⟨hnr, hw⟩ := hw
      exact hv_zret hE hI (Nat.le_refl _) (Nat.le_refl _) hnr hw dX2_isNext_135
    · have hw := hw.2 c_14
      refine lv_aload_n hx hb dX2_isNext_17 rfl (lv_at hl 0 rfl) ?_
      refine hv_wgetq hE hI in_X2 (ci := 2) rfl 0 (by decide) (hts _ q218) (fun _ hx => hx) hw dX2_isNext_18 (fun r5 hw => ?_)
      refine lv_aload_n hx hb dX2_isNext_21 rfl (lv_at hl 0 rfl) ?_
      refine hv_wgetq hE hI in_X2 (ci := 2) rfl 1 (by decide) (hts _ q219) (fun _ hx => hx) hw dX2_isNext_22 (fun r6 hw => ?_)
      refine lv_iload hx hb dX2_isNext_25 (lv_at hl 4 rfl) ?_
      obtain ⟨a7, hz, hwa7⟩ := hw; have hla7 := hl; subst hz; have hw := hwa7; have hl := hla7
      obtain ⟨⟨fs, hre⟩, hw⟩ := hw
      refine hv_rcq hI (va_runV (As := [.int x4]) (b := a7) (rest := [va_rf r5]) hE.1 (snd_J2_get l G _ h4 a7 x4 _ hw) (cwV 1 hts (lw_V q471 q472 q473 q102 q474) rfl rfl rfl (by decide +kernel) ⟨Nat.le_of_ble_eq_true rfl, Nat.le_of_ble_eq_true rfl⟩) (hv_preV hE hI (ci := 4) rfl hre) rfl rfl hl.1 rfl (lv_room (by cases r5 <;> exact Nat.le_of_ble_eq_true rfl)) dX2_isNext_27 ⟨Nat.le_of_ble_eq_true rfl, Nat.le_of_ble_eq_true rfl⟩) (fun r8 h9 H locs hw hI => ?_)
      obtain ⟨a10, hz, hwa10⟩ := hw; have hla10 := hl; subst hz; have hw := hwa10; have hl := hla10
      refine hv_wcast (ci := 12) hE hI (hts _ q485) rfl hw dX2_isNext_30 (fun hw => ?_)
      obtain ⟨a11, hz, hwa11⟩ := hw; have hla11 := hl; subst hz; have hw := hwa11; have hl := hla11
      obtain ⟨⟨fs, hre⟩, hw⟩ := hw
      refine hv_rcq hI (va_runV (As := [.ref a10]) (b := a11) (rest := []) hE.1 (snd_X3_begin l G _ h9 a11 (some a10) _ hw) (cwV 1 hts (lw_V q486 q487 q488 q99 q489) rfl rfl rfl (by decide +kernel) ⟨Nat.le_of_ble_eq_true rfl, Nat.le_of_ble_eq_true rfl⟩) (hv_preV hE hI (ci := 3) rfl hre) rfl rfl hl.1 rfl (lv_room (Nat.le_of_ble_eq_true rfl)) dX2_isNext_33 ⟨Nat.le_of_ble_eq_true rfl, Nat.le_of_ble_eq_true rfl⟩) (fun r12 h13 H locs hw hI => ?_)
      refine lv_astoreq (lv' := [(5, va_rf r12), (0, .ref a0), (1, va_rf x1), (2, va_rf x2), (3, .int x3), (4, .int x4)]) hx hb dX2_isNext_36 hl (by decide) rfl (fun ls hl => ?_)
      obtain ⟨n38, hw⟩ := hw
      exact snd_X2_isNext_L38 G a0 Q hE (fun h x1 x2 x3 x4 => wp_X2_isNext_L5 G a0 Q n h x1 x2 x3 x4) (fun h x1 x2 x3 x4 => ih h x1 x2 x3 x4) n38 h13 x1 x2 x3 x4 r12 hw _ _ _ hI (lv_sub hl [1, 2, 3, 4, 5, 0] rfl)
def wp_X2_isNext (G : GG) (h : HH) (a0 : Nat) (x1 : Option Nat) (x2 : Option Nat) (Q : Int32 → HH → Prop) : Prop := (∃ n5, wp_X2_isNext_L5 G a0 Q n5 h x1 x2 (0 : Int32) (0 : Int32))
set_option maxHeartbeats 4000000 in
theorem snd_X2_isNext (l : Launch) (G : GG) (sz : Nat) (h : HH) (a0 : Nat) (x1 : Option Nat) (x2 : Option Nat) (Q : Int32 → HH → Prop) (hw : wp_X2_isNext G h a0 x1 x2 Q) : Met l yX2_isNext (ws_ yX2_isNext cX2_isNext 7 (some FieldType.boolean)) rm_X2_isNext (hv_Pc G h sz [.ref a0, va_rf x1, va_rf x2]) (hv_Qi G h sz Q) 0 0 (hv_A h sz) := by
  refine Met.ofW (cc := cX2_isNext) (maxL := 7) (ret := (some FieldType.boolean)) (by decide) rfl ?_
  intro p e s m args below meth c s₁ B hml hv
  obtain ⟨rfl, rfl, hE, hI⟩ := hv_open B hml hv
  have hE : hv_E p s m ([.ref a0, va_rf x1, va_rf x2] : List Value).toArray meth c cX2_isNext 7 (some FieldType.boolean) RX2 G h := hE
  obtain ⟨⟨hx, hb, hml, hown, hts⟩, hr, hlocks, hXX⟩ := id hE
  have hl := lv_entry ([.ref a0, va_rf x1, va_rf x2] : List Value) (n := 7) (by cases x1 <;> cases x2 <;> exact Nat.le_of_ble_eq_true rfl)
  rw [lg_entry_eq]
  generalize (lg_sl ([.ref a0, va_rf x1, va_rf x2] : List Value) ++ List.replicate (7 - (lg_sl ([.ref a0, va_rf x1, va_rf x2] : List Value)).length) Slot.unset).toArray = ls at hl ⊢
  have hl : lv_has ls 7 [(0, .ref a0), (1, va_rf x1), (2, va_rf x2)] := (by cases x1 <;> cases x2 <;> exact hl)
  unfold wp_X2_isNext at hw
  refine lv_iconst (v := 0) hx hb dX2_isNext_0 (by decide) ?_
  refine lv_istore_n (lv' := [(3, .int (0 : Int32)), (0, .ref a0), (1, va_rf x1), (2, va_rf x2)]) hx hb dX2_isNext_1 rfl hl (by decide) (by cases x2 <;> exact rfl) (fun ls hl => ?_)
  refine lv_iconst (v := 0) hx hb dX2_isNext_2 (by decide) ?_
  refine lv_istore (lv' := [(4, .int (0 : Int32)), (3, .int (0 : Int32)), (0, .ref a0), (1, va_rf x1), (2, va_rf x2)]) hx hb dX2_isNext_3 hl (by decide) rfl (fun ls hl => ?_)
  obtain ⟨n5, hw⟩ := hw
  exact snd_X2_isNext_L5 G a0 Q hE n5 h x1 x2 (0 : Int32) (0 : Int32) hw _ _ _ hI (lv_sub hl [2, 3, 4, 1, 0] rfl)

/-- MatchmakerRules$Book.foremost()LMatchmakerRules$Firing; -/
abbrev rm_X2_foremost (mc ms : Nat) : Room := { frames := 8, cells := mc, slots := ms, locals := 174 }
def wp_X2_foremost (G : GG) (mc : Nat) (ms : Nat) (h : HH) (a0 : Nat) (Q : Option Nat → HH → Prop) : Prop := (0 + 1 ≤ mc ∧ 0 + 3 ≤ ms ∧ w_new h (.inr (16, df_X12)) (fun a1 h2 => wp_X12_init G h2 a1 (fun h3 => w_is h3 a0 2 (wp_X2_isNext G h3 a0 none (some a1) (fun r4 h5 => ((r4 = 0 → Q none h5) ∧ (¬ r4 = 0 → Q (some a1) h5)))))))
set_option maxHeartbeats 4000000 in
theorem snd_X2_foremost (l : Launch) (G : GG) (sz : Nat) (mc : Nat) (ms : Nat) (h : HH) (a0 : Nat) (Q : Option Nat → HH → Prop) (hw : wp_X2_foremost G mc ms h a0 Q) : Met l yX2_foremost (ws_ yX2_foremost cX2_foremost 2 (some (FieldType.object "MatchmakerRules$Firing"))) (rm_X2_foremost mc ms) (hv_Pc G h sz [.ref a0]) (hv_Qq G h sz Q) mc ms (hv_A h sz) := by
  refine Met.ofW (cc := cX2_foremost) (maxL := 2) (ret := (some (FieldType.object "MatchmakerRules$Firing"))) (by decide) rfl ?_
  intro p e s m args below meth c s₁ B hml hv
  obtain ⟨rfl, rfl, hE, hI⟩ := hv_open B hml hv
  have hE : hv_E p s m ([.ref a0] : List Value).toArray meth c cX2_foremost 2 (some (FieldType.object "MatchmakerRules$Firing")) RX2 G h := hE
  obtain ⟨⟨hx, hb, hml, hown, hts⟩, hr, hlocks, hXX⟩ := id hE
  have hl := lv_entry ([.ref a0] : List Value) (n := 2) (Nat.le_of_ble_eq_true rfl)
  rw [lg_entry_eq]
  generalize (lg_sl ([.ref a0] : List Value) ++ List.replicate (2 - (lg_sl ([.ref a0] : List Value)).length) Slot.unset).toArray = ls at hl ⊢
  have hl : lv_has ls 2 [(0, .ref a0)] := hl
  have hc : 0 ≤ mc := Nat.zero_le _
  have hs : 0 ≤ ms := Nat.zero_le _
  unfold wp_X2_foremost at hw
  obtain ⟨hc, hs, hw⟩ := hw
  refine hv_wnew tyX12 hE hI in_X12 tyX12_ok (hts _ q560) (hts _ q1180) (hts _ q132) (ci := 16) rfl df_X12_ok hw hc hs dX2_foremost_0 (fun a1 h2 H hw hI => ?_)
  refine lv_dup hx hb dX2_foremost_3 rfl ?_
  refine hv_rcv hI (va_runIN (As := []) (b := a1) (rest := [.ref a1]) hE.1 (snd_X12_init l G _ h2 a1 _ hw) ⟨va_cnB 0 hts (lw_meth q1183) rfl rfl rfl (hE.2.2.2.2.1.M 6 rfl) (hts _ q132) (by decide +kernel) ⟨Nat.le_of_ble_eq_true rfl, Nat.le_of_ble_eq_true rfl⟩, rfl, hts _ q1182⟩ (hv_preS hE hI) rfl rfl hl.1 rfl (lv_room (Nat.le_of_ble_eq_true rfl)) dX2_foremost_4 ⟨hc, hs⟩) (fun h3 H locs hw hI => ?_)
  refine lv_astore_n (lv' := [(1, .ref a1), (0, .ref a0)]) hx hb dX2_foremost_7 rfl hl (by decide) rfl (fun ls hl => ?_)
  refine lv_aload_n hx hb dX2_foremost_8 rfl (lv_at hl 1 rfl) ?_
  refine lv_null hx hb dX2_foremost_9 ?_
  refine lv_aload_n hx hb dX2_foremost_10 rfl (lv_at hl 0 rfl) ?_
  obtain ⟨⟨fs, hre⟩, hw⟩ := hw
  refine hv_rci hI (va_runV (As := [.null, .ref a1]) (b := a0) (rest := []) hE.1 (snd_X2_isNext l G _ h3 a0 none (some a1) _ hw) (cwV 2 hts (lw_V q1201 q1203 qs23 q98 q1204) rfl rfl rfl (by decide +kernel) ⟨Nat.le_of_ble_eq_true rfl, Nat.le_of_ble_eq_true rfl⟩) (hv_preV hE hI (ci := 2) rfl hre) rfl rfl hl.1 rfl (lv_room (Nat.le_of_ble_eq_true rfl)) dX2_foremost_11 ⟨hc, hs⟩) (fun r4 h5 H locs hw hI => ?_)
  refine lv_if_eq (tgt := 21) hx hb dX2_foremost_14 (by decide) (fun c_14 => ?_) (fun c_14 => ?_)
  · have hw := hw.1 c_14
    refine lv_null hx hb dX2_foremost_21 ?_
    exact hv_qret (v := none) hE (Or.inl ⟨_, rfl⟩) hI hc hs hw dX2_foremost_22
  · have hw := hw.2 c_14
    refine lv_aload_n hx hb dX2_foremost_17 rfl (lv_at hl 0 rfl) ?_
    refine lv_goto (tgt := 22) hx hb dX2_foremost_18 (by decide) ?_
    exact hv_qret (v := (some a1)) hE (Or.inl ⟨_, rfl⟩) hI hc hs hw dX2_foremost_22

/-- MatchmakerRules$Pattern.person(I[I)I -/
abbrev rm_X8_person : Room := { frames := 1, cells := 0, slots := 0, locals := 12 }
def wp_X8_person (G : GG) (h : HH) (a0 : Nat) (x1 : Int32) (x2 : Option Nat) (Q : Int32 → HH → Prop) : Prop := w_getq h a0 11 1 (fun r1 => w_nn r1 (fun a2 => w_ild G h a2 x1 (fun r3 => (((9 : Int32) < r3 → w_getq h a0 11 1 (fun r4 => w_nn r4 (fun a5 => w_ild G h a5 x1 (fun r6 => w_nn x2 (fun a7 => w_ild G h a7 ((r6 - (9 : Int32)) - (1 : Int32)) (fun r8 => Q r8 h)))))) ∧ (¬ (9 : Int32) < r3 → w_getq h a0 11 1 (fun r9 => w_nn r9 (fun a10 => w_ild G h a10 x1 (fun r11 => Q r11 h))))))))
set_option maxHeartbeats 4000000 in
theorem snd_X8_person (l : Launch) (G : GG) (sz : Nat) (h : HH) (a0 : Nat) (x1 : Int32) (x2 : Option Nat) (Q : Int32 → HH → Prop) (hw : wp_X8_person G h a0 x1 x2 Q) : Met l yX8_person (ws_ yX8_person cX8_person 3 (some FieldType.int)) rm_X8_person (hv_Pc G h sz [.ref a0, .int x1, va_rf x2]) (hv_Qi G h sz Q) 0 0 (hv_A h sz) := by
  refine Met.ofW (cc := cX8_person) (maxL := 3) (ret := (some FieldType.int)) (by decide) rfl ?_
  intro p e s m args below meth c s₁ B hml hv
  obtain ⟨rfl, rfl, hE, hI⟩ := hv_open B hml hv
  have hE : hv_E p s m ([.ref a0, .int x1, va_rf x2] : List Value).toArray meth c cX8_person 3 (some FieldType.int) RX8 G h := hE
  obtain ⟨⟨hx, hb, hml, hown, hts⟩, hr, hlocks, hXX⟩ := id hE
  have hl := lv_entry ([.ref a0, .int x1, va_rf x2] : List Value) (n := 3) (by cases x2 <;> exact Nat.le_of_ble_eq_true rfl)
  rw [lg_entry_eq]
  generalize (lg_sl ([.ref a0, .int x1, va_rf x2] : List Value) ++ List.replicate (3 - (lg_sl ([.ref a0, .int x1, va_rf x2] : List Value)).length) Slot.unset).toArray = ls at hl ⊢
  have hl : lv_has ls 3 [(0, .ref a0), (1, .int x1), (2, va_rf x2)] := (by cases x2 <;> exact hl)
  unfold wp_X8_person at hw
  refine lv_aload_n hx hb dX8_person_0 rfl (lv_at hl 0 rfl) ?_
  refine hv_wgetq hE hI in_X8 (ci := 11) rfl 1 (by decide) (hts _ q830) (fun _ hx => hx) hw dX8_person_1 (fun r1 hw => ?_)
  refine lv_iload_n hx hb dX8_person_4 rfl (lv_at hl 1 rfl) ?_
  obtain ⟨a2, hz, hwa2⟩ := hw; have hla2 := hl; subst hz; have hw := hwa2; have hl := hla2
  refine hv_wild hE hI hw dX8_person_5 (fun r3 hw => ?_)
  refine lv_bipush (v := 9) hx hb dX8_person_6 (by decide) ?_
  refine lv_icmp_gt (tgt := 20) hx hb dX8_person_8 (by decide) (fun c_8 => ?_) (fun c_8 => ?_)
  · have hw := hw.1 c_8
    refine lv_aload_nq hx hb dX8_person_20 rfl (lv_at hl 2 rfl) ?_
    refine lv_aload_n hx hb dX8_person_21 rfl (lv_at hl 0 rfl) ?_
    refine hv_wgetq hE hI in_X8 (ci := 11) rfl 1 (by decide) (hts _ q830) (fun _ hx => hx) hw dX8_person_22 (fun r4 hw => ?_)
    refine lv_iload_n hx hb dX8_person_25 rfl (lv_at hl 1 rfl) ?_
    obtain ⟨a5, hz, hwa5⟩ := hw; have hla5 := hl; subst hz; have hw := hwa5; have hl := hla5
    refine hv_wild hE hI hw dX8_person_26 (fun r6 hw => ?_)
    refine lv_bipush (v := 9) hx hb dX8_person_27 (by decide) ?_
    refine lv_isub hx hb dX8_person_29 ?_
    refine lv_iconst (v := 1) hx hb dX8_person_30 (by decide) ?_
    refine lv_isub hx hb dX8_person_31 ?_
    obtain ⟨a7, hz, hwa7⟩ := hw; have hla7 := hl; subst hz; have hw := hwa7; have hl := hla7
    refine hv_wild hE hI hw dX8_person_32 (fun r8 hw => ?_)
    exact hv_iret hE hI (Nat.le_refl _) (Nat.le_refl _) hw dX8_person_33
  · have hw := hw.2 c_8
    refine lv_aload_n hx hb dX8_person_11 rfl (lv_at hl 0 rfl) ?_
    refine hv_wgetq hE hI in_X8 (ci := 11) rfl 1 (by decide) (hts _ q830) (fun _ hx => hx) hw dX8_person_12 (fun r9 hw => ?_)
    refine lv_iload_n hx hb dX8_person_15 rfl (lv_at hl 1 rfl) ?_
    obtain ⟨a10, hz, hwa10⟩ := hw; have hla10 := hl; subst hz; have hw := hwa10; have hl := hla10
    refine hv_wild hE hI hw dX8_person_16 (fun r11 hw => ?_)
    refine lv_goto (tgt := 33) hx hb dX8_person_17 (by decide) ?_
    exact hv_iret hE hI (Nat.le_refl _) (Nat.le_refl _) hw dX8_person_33

/-- MatchmakerRules$Book.fire(LMatchmakerRules$Firing;)I -/
abbrev rm_X2_fire (mc ms : Nat) : Room := { frames := 8, cells := mc, slots := ms, locals := 221 }
def wp_X2_fire_L194 (G : GG) (mc : Nat) (ms : Nat) (a0 : Nat) (Q : Int32 → HH → Prop) (h : HH) (nc : Nat) (nk : Nat) (x1 : Nat) (x3 : Option Nat) (x9 : Option Nat) : Prop := w_nn x3 (fun a40 => w_getq h a40 14 8 (fun r41 => w_nn r41 (fun a42 => (∃ mc43 ms43, nc + mc43 ≤ mc ∧ nk + ms43 ≤ ms ∧ w_is h a42 4 (wp_J2_add G mc43 ms43 h a42 (some x1) (fun r44 h45 => ((x9 = none → w_geti h45 a0 2 6 (fun r47 => w_put h45 a0 2 6 (.int (r47 + (1 : Int32))) (fun h48 => Q (-1 : Int32) h48))) ∧ (∀ a46, x9 = some a46 → w_getq h45 a46 14 7 (fun r49 => w_nn r49 (fun a50 => (∃ mc51 ms51, (nc + mc43) + mc51 ≤ mc ∧ (nk + ms43) + ms51 ≤ ms ∧ w_is h45 a50 4 (wp_J2_add G mc51 ms51 h45 a50 (some x1) (fun r52 h53 => w_geti h53 a46 14 0 (fun r54 => Q r54 h53))))))))))))))
set_option maxHeartbeats 4000000 in
theorem snd_X2_fire_L194 {p : Program} {l : Launch} {e : Env} {s : State} {m : MethodId} {args : Array Value} {below : List Frame} {meth : Method} {c : Code} {h0 : HH} (G : GG) (mc : Nat) (ms : Nat) (a0 : Nat) (Q : Int32 → HH → Prop) (hE : hv_E p s m args meth c cX2_fire 11 (some FieldType.int) RX2 G h0) : ∀ (h : HH) (nc : Nat) (nk : Nat) (x1 : Nat) (x3 : Option Nat) (x9 : Option Nat), wp_X2_fire_L194 G mc ms a0 Q h nc nk x1 x3 x9 → nc ≤ mc → nk ≤ ms → ∀ (H : Heap) (locs : List Loc) (ls : Array Slot), hv_I G h0 s.heap h H locs → lv_has ls 11 [(0, .ref a0), (1, .ref x1), (3, va_rf x3), (9, va_rf x9)] → W p l e (headSpec (ws_ yX2_fire cX2_fire 11 (some FieldType.int)) (rm_X2_fire mc ms)).room s m args below meth c H locs nc nk (MQ below (hv_Qi G h0 s.heap.size Q) args s mc ms (hv_A h0 s.heap.size)) (F0 m 194 ls []) := by
  obtain ⟨⟨hx, hb, hml, hown, hts⟩, hr, hlocks, hXX⟩ := id hE
  intro h nc nk x1 x3 x9 hw hc hs H locs ls hI hl
  unfold wp_X2_fire_L194 at hw
  refine lv_aload_nq hx hb dX2_fire_194 rfl (lv_at hl 2 rfl) ?_
  obtain ⟨a40, hz, hwa40⟩ := hw; have hla40 := hl; subst hz; have hw := hwa40; have hl := hla40
  refine hv_wgetqN hE hI in_X10 (ci := 14) rfl 8 (by decide) (hE.2.2.2.2.1.F 31 rfl) (fun _ hx => hx) hw dX2_fire_195 (fun r41 hw => ?_)
  refine lv_aload_n hx hb dX2_fire_198 rfl (lv_at hl 1 rfl) ?_
  obtain ⟨a42, hz, hwa42⟩ := hw; have hla42 := hl; subst hz; have hw := hwa42; have hl := hla42
  obtain ⟨mc43, ms43, hc, hs, hw⟩ := hw
  obtain ⟨⟨fs, hre⟩, hw⟩ := hw
  refine hv_rci hI (va_runV (As := [.ref x1]) (b := a42) (rest := []) hE.1 (snd_J2_add l G _ mc43 ms43 h a42 (some x1) _ hw) (cwV 1 hts (lw_V q909 q910 q911 q102 q912) rfl rfl rfl (by decide +kernel) ⟨Nat.le_of_ble_eq_true rfl, Nat.le_of_ble_eq_true rfl⟩) (hv_preV hE hI (ci := 4) rfl hre) rfl rfl hl.1 rfl (lv_room (Nat.le_of_ble_eq_true rfl)) dX2_fire_199 ⟨hc, hs⟩) (fun r44 h45 H locs hw hI => ?_)
  refine lv_istore (lv' := [(10, .int r44), (0, .ref a0), (1, .ref x1), (3, .ref a40), (9, va_rf x9)]) hx hb dX2_fire_202 hl (by decide) (by cases x9 <;> exact rfl) (fun ls hl => ?_)
  refine lv_aloadq hx hb dX2_fire_204 (lv_at hl 4 rfl) ?_
  refine lv_ifnonnullq (tgt := 221) hx hb dX2_fire_206 (by decide) (fun c_206 => ?_) (fun c_206 => ?_)
  · obtain ⟨a46, hz⟩ := Option.ne_none_iff_exists.mp c_206
    have hwa46 := hw.2 a46 hz.symm; have hla46 := hl; subst hz; have hw := hwa46; have hl := hla46
    refine lv_aload hx hb dX2_fire_221 (lv_at hl 4 rfl) ?_
    refine hv_wgetqN hE hI in_X10 (ci := 14) rfl 7 (by decide) (hE.2.2.2.2.1.F 30 rfl) (fun _ hx => hx) hw dX2_fire_223 (fun r49 hw => ?_)
    refine lv_aload_n hx hb dX2_fire_226 rfl (lv_at hl 2 rfl) ?_
    obtain ⟨a50, hz, hwa50⟩ := hw; have hla50 := hl; subst hz; have hw := hwa50; have hl := hla50
    obtain ⟨mc51, ms51, hc, hs, hw⟩ := hw
    obtain ⟨⟨fs, hre⟩, hw⟩ := hw
    refine hv_rci hI (va_runV (As := [.ref x1]) (b := a50) (rest := []) hE.1 (snd_J2_add l G _ mc51 ms51 h45 a50 (some x1) _ hw) (cwV 1 hts (lw_V q909 q910 q911 q102 q912) rfl rfl rfl (by decide +kernel) ⟨Nat.le_of_ble_eq_true rfl, Nat.le_of_ble_eq_true rfl⟩) (hv_preV hE hI (ci := 4) rfl hre) rfl rfl hl.1 rfl (lv_room (Nat.le_of_ble_eq_true rfl)) dX2_fire_227 ⟨hc, hs⟩) (fun r52 h53 H locs hw hI => ?_)
    refine lv_istore (lv' := [(10, .int r52), (0, .ref a0), (1, .ref x1), (3, .ref a40), (9, .ref a46)]) hx hb dX2_fire_230 hl (by decide) rfl (fun ls hl => ?_)
    refine lv_aload hx hb dX2_fire_232 (lv_at hl 4 rfl) ?_
    refine hv_wgetiN hE hI in_X10 (ci := 14) rfl 0 (by decide) (hE.2.2.2.2.1.F 24 rfl) (fun _ hx => hx) hw dX2_fire_234 (fun r54 hw => ?_)
    exact hv_iret hE hI hc hs hw dX2_fire_237
  · have hwa46 := hw.1 c_206; have hla46 := hl; subst c_206; have hw := hwa46; have hl := hla46
    refine lv_aload_n hx hb dX2_fire_209 rfl (lv_at hl 1 rfl) ?_
    refine lv_dup hx hb dX2_fire_210 rfl ?_
    refine hv_wgeti hE hI in_X2 (ci := 2) rfl 6 (by decide) (hts _ q231) (fun _ hx => hx) hw dX2_fire_211 (fun r47 hw => ?_)
    refine lv_iconst (v := 1) hx hb dX2_fire_214 (by decide) ?_
    refine lv_iadd hx hb dX2_fire_215 ?_
    refine hv_wput (v := .int (r47 + (1 : Int32))) tyX2 hE hI in_X2 tyX2_ok nmX2 (ci := 2) rfl 6 (by decide) (hts _ q231) (fun _ hx => hx) rfl (ty := .int) rfl rfl rfl hw dX2_fire_216 (fun h48 H locs hw hI => ?_)
    refine lv_iconst (v := -1) hx hb dX2_fire_219 (by decide) ?_
    exact hv_iret hE hI hc hs hw dX2_fire_220
def wp_X2_fire_L175 (G : GG) (mc : Nat) (ms : Nat) (a0 : Nat) (Q : Int32 → HH → Prop) (h : HH) (nc : Nat) (nk : Nat) (x1 : Nat) (x3 : Nat) (x6 : Nat) (x7 : Int32) (x8 : Int32) (t0 : UInt32) : Prop := w_geti h x6 11 0 (fun r58 => (∃ mc59 ms59, nc + mc59 ≤ mc ∧ nk + ms59 ≤ ms ∧ w_is h a0 2 (wp_X2_come G mc59 ms59 h a0 r58 x7 x8 t0 (fun r60 h61 => wp_X2_fire_L194 G mc ms a0 Q h61 (nc + mc59) (nk + ms59) x1 (some x3) r60))))
set_option maxHeartbeats 4000000 in
theorem snd_X2_fire_L175 {p : Program} {l : Launch} {e : Env} {s : State} {m : MethodId} {args : Array Value} {below : List Frame} {meth : Method} {c : Code} {h0 : HH} (G : GG) (mc : Nat) (ms : Nat) (a0 : Nat) (Q : Int32 → HH → Prop) (hE : hv_E p s m args meth c cX2_fire 11 (some FieldType.int) RX2 G h0) : ∀ (h : HH) (nc : Nat) (nk : Nat) (x1 : Nat) (x3 : Nat) (x6 : Nat) (x7 : Int32) (x8 : Int32) (t0 : UInt32), wp_X2_fire_L175 G mc ms a0 Q h nc nk x1 x3 x6 x7 x8 t0 → nc ≤ mc → nk ≤ ms → ∀ (H : Heap) (locs : List Loc) (ls : Array Slot), hv_I G h0 s.heap h H locs → lv_has ls 11 [(0, .ref a0), (1, .ref x1), (3, .ref x3), (6, .ref x6), (7, .int x7), (8, .int x8)] → W p l e (headSpec (ws_ yX2_fire cX2_fire 11 (some FieldType.int)) (rm_X2_fire mc ms)).room s m args below meth c H locs nc nk (MQ below (hv_Qi G h0 s.heap.size Q) args s mc ms (hv_A h0 s.heap.size)) (F0 m 175 ls [.float t0]) := by
  obtain ⟨⟨hx, hb, hml, hown, hts⟩, hr, hlocks, hXX⟩ := id hE
  intro h nc nk x1 x3 x6 x7 x8 t0 hw hc hs H locs ls hI hl
  unfold wp_X2_fire_L175 at hw
  refine lv_fstore (lv' := [(10, .float t0), (0, .ref a0), (1, .ref x1), (3, .ref x3), (6, .ref x6), (7, .int x7), (8, .int x8)]) hx hb dX2_fire_175 hl (by decide) rfl (fun ls hl => ?_)
  refine lv_aload_n hx hb dX2_fire_177 rfl (lv_at hl 1 rfl) ?_
  refine lv_aload hx hb dX2_fire_178 (lv_at hl 4 rfl) ?_
  refine hv_wgetiN hE hI in_X8 (ci := 11) rfl 0 (by decide) (hE.2.2.2.2.1.F 20 rfl) (fun _ hx => hx) hw dX2_fire_180 (fun r58 hw => ?_)
  refine lv_iload hx hb dX2_fire_183 (lv_at hl 5 rfl) ?_
  refine lv_iload hx hb dX2_fire_185 (lv_at hl 6 rfl) ?_
  refine lv_fload hx hb dX2_fire_187 (lv_at hl 0 rfl) ?_
  obtain ⟨mc59, ms59, hc, hs, hw⟩ := hw
  obtain ⟨⟨fs, hre⟩, hw⟩ := hw
  refine hv_rcq hI (va_runV (As := [.int r58, .int x7, .int x8, .float t0]) (b := a0) (rest := []) hE.1 (snd_X2_come l G _ mc59 ms59 h a0 r58 x7 x8 t0 _ hw) (cwV 4 hts (lw_V q1162 q1164 qs21 q98 q1165) rfl rfl rfl (by decide +kernel) ⟨Nat.le_of_ble_eq_true rfl, Nat.le_of_ble_eq_true rfl⟩) (hv_preV hE hI (ci := 2) rfl hre) rfl rfl hl.1 rfl (lv_room (Nat.le_of_ble_eq_true rfl)) dX2_fire_189 ⟨hc, hs⟩) (fun r60 h61 H locs hw hI => ?_)
  refine lv_astoreq (lv' := [(9, va_rf r60), (10, .float t0), (0, .ref a0), (1, .ref x1), (3, .ref x3), (6, .ref x6), (7, .int x7), (8, .int x8)]) hx hb dX2_fire_192 hl (by decide) rfl (fun ls hl => ?_)
  exact snd_X2_fire_L194 G mc ms a0 Q hE h61 (nc + mc59) (nk + ms59) x1 (some x3) r60 hw hc hs _ _ _ hI (lv_sub hl [2, 3, 4, 0] rfl)
def wp_X2_fire_L81 (G : GG) (mc : Nat) (ms : Nat) (a0 : Nat) (Q : Int32 → HH → Prop) (h : HH) (nc : Nat) (nk : Nat) (x1 : Nat) (x2 : Nat) (x3 : Option Nat) (x4 : Option Nat) (t0 : Int32) (t1 : Int32) : Prop := w_getq h x1 16 0 (fun r21 => w_nn r21 (fun a22 => w_getq h a22 12 3 (fun r23 => w_nn r23 (fun a24 => w_is h a24 11 (wp_X8_person G h a24 (0 : Int32) (some x2) (fun r25 h26 => w_is h26 a24 11 (wp_X8_person G h26 a24 (1 : Int32) (some x2) (fun r27 h28 => w_geti h28 a24 11 0 (fun r29 => (∃ mc30 ms30, nc + mc30 ≤ mc ∧ nk + ms30 ≤ ms ∧ w_is h28 a0 2 (wp_X2_find_2 G mc30 ms30 h28 a0 r29 r25 r27 (fun r31 h32 => w_geti h32 a0 2 5 (fun r33 => w_put h32 a0 2 5 (.int (r33 + (1 : Int32))) (fun h34 => ((r31 = none → w_getq h34 a0 2 2 (fun r36 => w_nn r36 (fun a37 => w_is h34 a37 4 (wp_J2_size G h34 a37 (fun r38 h39 => (((20 : Int32) ≤ r38 → wp_X2_fire_L194 G mc ms a0 Q h39 (nc + mc30) (nk + ms30) x1 x3 none) ∧ (¬ (20 : Int32) ≤ r38 → ((x4 = none → w_nn x3 (fun a56 => w_getf h39 a56 14 4 (fun r57 => wp_X2_fire_L175 G mc ms a0 Q h39 (nc + mc30) (nk + ms30) x1 a56 a24 r25 r27 r57))) ∧ (∀ a55, x4 = some a55 → w_nn x3 (fun a62 => w_getf h39 a62 14 4 (fun r63 => w_getf h39 a55 14 4 (fun r64 => (vf_n32 (FP.fmul r63 r64) ∧ wp_X2_fire_L175 G mc ms a0 Q h39 (nc + mc30) (nk + ms30) x1 a62 a24 r25 r27 (FP.fmul r63 r64)))))))))))))) ∧ (∀ a35, r31 = some a35 → wp_X2_fire_L194 G mc ms a0 Q h34 (nc + mc30) (nk + ms30) x1 x3 (some a35)))))))))))))))))
set_option maxHeartbeats 4000000 in
theorem snd_X2_fire_L81 {p : Program} {l : Launch} {e : Env} {s : State} {m : MethodId} {args : Array Value} {below : List Frame} {meth : Method} {c : Code} {h0 : HH} (G : GG) (mc : Nat) (ms : Nat) (a0 : Nat) (Q : Int32 → HH → Prop) (hE : hv_E p s m args meth c cX2_fire 11 (some FieldType.int) RX2 G h0) : ∀ (h : HH) (nc : Nat) (nk : Nat) (x1 : Nat) (x2 : Nat) (x3 : Option Nat) (x4 : Option Nat) (t0 : Int32) (t1 : Int32), wp_X2_fire_L81 G mc ms a0 Q h nc nk x1 x2 x3 x4 t0 t1 → nc ≤ mc → nk ≤ ms → ∀ (H : Heap) (locs : List Loc) (ls : Array Slot), hv_I G h0 s.heap h H locs → lv_has ls 11 [(0, .ref a0), (1, .ref x1), (2, .ref x2), (3, va_rf x3), (4, va_rf x4)] → W p l e (headSpec (ws_ yX2_fire cX2_fire 11 (some FieldType.int)) (rm_X2_fire mc ms)).room s m args below meth c H locs nc nk (MQ below (hv_Qi G h0 s.heap.size Q) args s mc ms (hv_A h0 s.heap.size)) (F0 m 81 ls [.int t1, .int t0]) := by
  obtain ⟨⟨hx, hb, hml, hown, hts⟩, hr, hlocks, hXX⟩ := id hE
  intro h nc nk x1 x2 x3 x4 t0 t1 hw hc hs H locs ls hI hl
  unfold wp_X2_fire_L81 at hw
  refine lv_iand hx hb dX2_fire_81 ?_
  refine lv_istore (lv' := [(5, .int (t0 &&& t1)), (0, .ref a0), (1, .ref x1), (2, .ref x2), (3, va_rf x3), (4, va_rf x4)]) hx hb dX2_fire_82 hl (by decide) (by cases x4 <;> exact rfl) (fun ls hl => ?_)
  refine lv_aload_n hx hb dX2_fire_84 rfl (lv_at hl 2 rfl) ?_
  refine hv_wgetqN hE hI in_X12 (ci := 16) rfl 0 (by decide) (hE.2.2.2.2.1.F 32 rfl) (fun _ hx => hx) hw dX2_fire_85 (fun r21 hw => ?_)
  obtain ⟨a22, hz, hwa22⟩ := hw; have hla22 := hl; subst hz; have hw := hwa22; have hl := hla22
  refine hv_wgetqN hE hI in_X9 (ci := 12) rfl 3 (by decide) (hE.2.2.2.2.1.F 23 rfl) (fun _ hx => hx) hw dX2_fire_88 (fun r23 hw => ?_)
  refine lv_astoreq (lv' := [(6, va_rf r23), (5, .int (t0 &&& t1)), (0, .ref a0), (1, .ref x1), (2, .ref x2), (3, va_rf x3), (4, va_rf x4)]) hx hb dX2_fire_91 hl (by decide) rfl (fun ls hl => ?_)
  refine lv_aloadq hx hb dX2_fire_93 (lv_at hl 0 rfl) ?_
  refine lv_iconst (v := 0) hx hb dX2_fire_95 (by decide) ?_
  refine lv_aload_n hx hb dX2_fire_96 rfl (lv_at hl 4 rfl) ?_
  obtain ⟨a24, hz, hwa24⟩ := hw; have hla24 := hl; subst hz; have hw := hwa24; have hl := hla24
  obtain ⟨⟨fs, hre⟩, hw⟩ := hw
  refine hv_rci hI (va_runV (As := [.int (0 : Int32), .ref x2]) (b := a24) (rest := []) hE.1 (snd_X8_person l G _ h a24 (0 : Int32) (some x2) _ hw) (cwV 2 hts (lw_V q1230 q1231 q1232 q117 q1233) rfl rfl rfl (by decide +kernel) ⟨Nat.le_of_ble_eq_true rfl, Nat.le_of_ble_eq_true rfl⟩) (hv_preV hE hI (ci := 11) rfl hre) rfl rfl hl.1 rfl (lv_room (Nat.le_of_ble_eq_true rfl)) dX2_fire_97 ⟨hc, hs⟩) (fun r25 h26 H locs hw hI => ?_)
  refine lv_istore (lv' := [(7, .int r25), (6, .ref a24), (5, .int (t0 &&& t1)), (0, .ref a0), (1, .ref x1), (2, .ref x2), (3, va_rf x3), (4, va_rf x4)]) hx hb dX2_fire_100 hl (by decide) rfl (fun ls hl => ?_)
  refine lv_aload hx hb dX2_fire_102 (lv_at hl 1 rfl) ?_
  refine lv_iconst (v := 1) hx hb dX2_fire_104 (by decide) ?_
  refine lv_aload_n hx hb dX2_fire_105 rfl (lv_at hl 5 rfl) ?_
  obtain ⟨⟨fs, hre⟩, hw⟩ := hw
  refine hv_rci hI (va_runV (As := [.int (1 : Int32), .ref x2]) (b := a24) (rest := []) hE.1 (snd_X8_person l G _ h26 a24 (1 : Int32) (some x2) _ hw) (cwV 2 hts (lw_V q1230 q1231 q1232 q117 q1233) rfl rfl rfl (by decide +kernel) ⟨Nat.le_of_ble_eq_true rfl, Nat.le_of_ble_eq_true rfl⟩) (hv_preV hE hI (ci := 11) rfl hre) rfl rfl hl.1 rfl (lv_room (Nat.le_of_ble_eq_true rfl)) dX2_fire_106 ⟨hc, hs⟩) (fun r27 h28 H locs hw hI => ?_)
  refine lv_istore (lv' := [(8, .int r27), (7, .int r25), (6, .ref a24), (5, .int (t0 &&& t1)), (0, .ref a0), (1, .ref x1), (2, .ref x2), (3, va_rf x3), (4, va_rf x4)]) hx hb dX2_fire_109 hl (by decide) rfl (fun ls hl => ?_)
  refine lv_aload_n hx hb dX2_fire_111 rfl (lv_at hl 4 rfl) ?_
  refine lv_aload hx hb dX2_fire_112 (lv_at hl 2 rfl) ?_
  refine hv_wgetiN hE hI in_X8 (ci := 11) rfl 0 (by decide) (hE.2.2.2.2.1.F 20 rfl) (fun _ hx => hx) hw dX2_fire_114 (fun r29 hw => ?_)
  refine lv_iload hx hb dX2_fire_117 (lv_at hl 1 rfl) ?_
  refine lv_iload hx hb dX2_fire_119 (lv_at hl 0 rfl) ?_
  obtain ⟨mc30, ms30, hc, hs, hw⟩ := hw
  obtain ⟨⟨fs, hre⟩, hw⟩ := hw
  refine hv_rcq hI (va_runV (As := [.int r29, .int r25, .int r27]) (b := a0) (rest := []) hE.1 (snd_X2_find_2 l G _ mc30 ms30 h28 a0 r29 r25 r27 _ hw) (cwV 3 hts (lw_V q614 q615 q616 q98 q617) rfl rfl rfl (by decide +kernel) ⟨Nat.le_of_ble_eq_true rfl, Nat.le_of_ble_eq_true rfl⟩) (hv_preV hE hI (ci := 2) rfl hre) rfl rfl hl.1 rfl (lv_room (Nat.le_of_ble_eq_true rfl)) dX2_fire_121 ⟨hc, hs⟩) (fun r31 h32 H locs hw hI => ?_)
  refine lv_astoreq (lv' := [(9, va_rf r31), (8, .int r27), (7, .int r25), (6, .ref a24), (5, .int (t0 &&& t1)), (0, .ref a0), (1, .ref x1), (2, .ref x2), (3, va_rf x3), (4, va_rf x4)]) hx hb dX2_fire_124 hl (by decide) rfl (fun ls hl => ?_)
  refine lv_aload_n hx hb dX2_fire_126 rfl (lv_at hl 5 rfl) ?_
  refine lv_dup hx hb dX2_fire_127 rfl ?_
  refine hv_wgeti hE hI in_X2 (ci := 2) rfl 5 (by decide) (hts _ q229) (fun _ hx => hx) hw dX2_fire_128 (fun r33 hw => ?_)
  refine lv_iconst (v := 1) hx hb dX2_fire_131 (by decide) ?_
  refine lv_iadd hx hb dX2_fire_132 ?_
  refine hv_wput (v := .int (r33 + (1 : Int32))) tyX2 hE hI in_X2 tyX2_ok nmX2 (ci := 2) rfl 5 (by decide) (hts _ q229) (fun _ hx => hx) rfl (ty := .int) rfl rfl rfl hw dX2_fire_133 (fun h34 H locs hw hI => ?_)
  refine lv_aloadq hx hb dX2_fire_136 (lv_at hl 0 rfl) ?_
  refine lv_ifnonnullq (tgt := 194) hx hb dX2_fire_138 (by decide) (fun c_138 => ?_) (fun c_138 => ?_)
  · obtain ⟨a35, hz⟩ := Option.ne_none_iff_exists.mp c_138
    have hwa35 := hw.2 a35 hz.symm; have hla35 := hl; subst hz; have hw := hwa35; have hl := hla35
    exact snd_X2_fire_L194 G mc ms a0 Q hE h34 (nc + mc30) (nk + ms30) x1 x3 (some a35) hw hc hs _ _ _ hI (lv_sub hl [5, 6, 8, 0] rfl)
  · have hwa35 := hw.1 c_138; have hla35 := hl; subst c_138; have hw := hwa35; have hl := hla35
    refine lv_aload_n hx hb dX2_fire_141 rfl (lv_at hl 5 rfl) ?_
    refine hv_wgetq hE hI in_X2 (ci := 2) rfl 2 (by decide) (hts _ q222) (fun _ hx => hx) hw dX2_fire_142 (fun r36 hw => ?_)
    obtain ⟨a37, hz, hwa37⟩ := hw; have hla37 := hl; subst hz; have hw := hwa37; have hl := hla37
    obtain ⟨⟨fs, hre⟩, hw⟩ := hw
    refine hv_rci hI (va_runV (As := []) (b := a37) (rest := []) hE.1 (snd_J2_size l G _ h34 a37 _ hw) (cwV 0 hts (lw_V q470 q333 q334 q102 q335) rfl rfl rfl (by decide +kernel) ⟨Nat.le_of_ble_eq_true rfl, Nat.le_of_ble_eq_true rfl⟩) (hv_preV hE hI (ci := 4) rfl hre) rfl rfl hl.1 rfl (lv_room (Nat.le_of_ble_eq_true rfl)) dX2_fire_145 ⟨hc, hs⟩) (fun r38 h39 H locs hw hI => ?_)
    refine lv_bipush (v := 20) hx hb dX2_fire_148 (by decide) ?_
    refine lv_icmp_ge (tgt := 194) hx hb dX2_fire_150 (by decide) (fun c_150 => ?_) (fun c_150 => ?_)
    · have hw := hw.1 c_150
      exact snd_X2_fire_L194 G mc ms a0 Q hE h39 (nc + mc30) (nk + ms30) x1 x3 none hw hc hs _ _ _ hI (lv_sub hl [5, 6, 8, 0] rfl)
    · have hw := hw.2 c_150
      refine lv_aloadq hx hb dX2_fire_153 (lv_at hl 9 rfl) ?_
      refine lv_ifnonnullq (tgt := 165) hx hb dX2_fire_155 (by decide) (fun c_155 => ?_) (fun c_155 => ?_)
      · obtain ⟨a55, hz⟩ := Option.ne_none_iff_exists.mp c_155
        have hwa55 := hw.2 a55 hz.symm; have hla55 := hl; subst hz; have hw := hwa55; have hl := hla55
        refine lv_aload_nq hx hb dX2_fire_165 rfl (lv_at hl 8 rfl) ?_
        obtain ⟨a62, hz, hwa62⟩ := hw; have hla62 := hl; subst hz; have hw := hwa62; have hl := hla62
        refine hv_wgetfN hE hI in_X10 (ci := 14) rfl 4 (by decide) (hE.2.2.2.2.1.F 28 rfl) (fun _ hx => hx) hw dX2_fire_166 (fun r63 hw => ?_)
        refine lv_aload hx hb dX2_fire_169 (lv_at hl 9 rfl) ?_
        refine hv_wgetfN hE hI in_X10 (ci := 14) rfl 4 (by decide) (hE.2.2.2.2.1.F 28 rfl) (fun _ hx => hx) hw dX2_fire_171 (fun r64 hw => ?_)
        obtain ⟨hne, hw⟩ := hw
        refine lv_fmul hx hb dX2_fire_174 hne ?_
        exact snd_X2_fire_L175 G mc ms a0 Q hE h39 (nc + mc30) (nk + ms30) x1 a62 a24 r25 r27 (FP.fmul r63 r64) hw hc hs _ _ _ hI (lv_sub hl [5, 6, 8, 3, 2, 1] rfl)
      · have hwa55 := hw.1 c_155; have hla55 := hl; subst c_155; have hw := hwa55; have hl := hla55
        refine lv_aload_nq hx hb dX2_fire_158 rfl (lv_at hl 8 rfl) ?_
        obtain ⟨a56, hz, hwa56⟩ := hw; have hla56 := hl; subst hz; have hw := hwa56; have hl := hla56
        refine hv_wgetfN hE hI in_X10 (ci := 14) rfl 4 (by decide) (hE.2.2.2.2.1.F 28 rfl) (fun _ hx => hx) hw dX2_fire_159 (fun r57 hw => ?_)
        refine lv_goto (tgt := 175) hx hb dX2_fire_162 (by decide) ?_
        exact snd_X2_fire_L175 G mc ms a0 Q hE h39 (nc + mc30) (nk + ms30) x1 a56 a24 r25 r27 r57 hw hc hs _ _ _ hI (lv_sub hl [5, 6, 8, 3, 2, 1] rfl)
def wp_X2_fire_L76 (G : GG) (mc : Nat) (ms : Nat) (a0 : Nat) (Q : Int32 → HH → Prop) (h : HH) (nc : Nat) (nk : Nat) (x1 : Nat) (x2 : Nat) (x3 : Option Nat) (x4 : Option Nat) (t0 : Int32) : Prop := wp_X2_fire_L81 G mc ms a0 Q h nc nk x1 x2 x3 x4 t0 (1 : Int32)
set_option maxHeartbeats 4000000 in
theorem snd_X2_fire_L76 {p : Program} {l : Launch} {e : Env} {s : State} {m : MethodId} {args : Array Value} {below : List Frame} {meth : Method} {c : Code} {h0 : HH} (G : GG) (mc : Nat) (ms : Nat) (a0 : Nat) (Q : Int32 → HH → Prop) (hE : hv_E p s m args meth c cX2_fire 11 (some FieldType.int) RX2 G h0) : ∀ (h : HH) (nc : Nat) (nk : Nat) (x1 : Nat) (x2 : Nat) (x3 : Option Nat) (x4 : Option Nat) (t0 : Int32), wp_X2_fire_L76 G mc ms a0 Q h nc nk x1 x2 x3 x4 t0 → nc ≤ mc → nk ≤ ms → ∀ (H : Heap) (locs : List Loc) (ls : Array Slot), hv_I G h0 s.heap h H locs → lv_has ls 11 [(0, .ref a0), (1, .ref x1), (2, .ref x2), (3, va_rf x3), (4, va_rf x4)] → W p l e (headSpec (ws_ yX2_fire cX2_fire 11 (some FieldType.int)) (rm_X2_fire mc ms)).room s m args below meth c H locs nc nk (MQ below (hv_Qi G h0 s.heap.size Q) args s mc ms (hv_A h0 s.heap.size)) (F0 m 76 ls [.int t0]) := by
  obtain ⟨⟨hx, hb, hml, hown, hts⟩, hr, hlocks, hXX⟩ := id hE
  intro h nc nk x1 x2 x3 x4 t0 hw hc hs H locs ls hI hl
  unfold wp_X2_fire_L76 at hw
  refine lv_iconst (v := 1) hx hb dX2_fire_76 (by decide) ?_
  refine lv_goto (tgt := 81) hx hb dX2_fire_77 (by decide) ?_
  exact snd_X2_fire_L81 G mc ms a0 Q hE h nc nk x1 x2 x3 x4 t0 (1 : Int32) hw hc hs _ _ _ hI (lv_sub hl [0, 1, 2, 3, 4] rfl)
def wp_X2_fire_L37 (G : GG) (mc : Nat) (ms : Nat) (a0 : Nat) (Q : Int32 → HH → Prop) (h : HH) (nc : Nat) (nk : Nat) (x1 : Nat) (x2 : Nat) (x3 : Option Nat) (t0 : Option Nat) : Prop := w_getq h x1 16 0 (fun r14 => w_nn r14 (fun a15 => w_getq h a15 12 0 (fun r16 => w_nn r16 (fun a17 => w_is h a17 11 (wp_X8_fits G h a17 x3 (some x2) (fun r18 h19 => ((t0 = none → wp_X2_fire_L76 G mc ms a0 Q h19 nc nk x1 x2 x3 none r18) ∧ (∀ a20, t0 = some a20 → w_getq h19 x1 16 0 (fun r65 => w_nn r65 (fun a66 => w_getq h19 a66 12 1 (fun r67 => w_nn r67 (fun a68 => w_is h19 a68 11 (wp_X8_fits G h19 a68 (some a20) (some x2) (fun r69 h70 => ((r69 = 0 → wp_X2_fire_L81 G mc ms a0 Q h70 nc nk x1 x2 x3 (some a20) r18 (0 : Int32)) ∧ (¬ r69 = 0 → wp_X2_fire_L76 G mc ms a0 Q h70 nc nk x1 x2 x3 (some a20) r18))))))))))))))))
set_option maxHeartbeats 4000000 in
theorem snd_X2_fire_L37 {p : Program} {l : Launch} {e : Env} {s : State} {m : MethodId} {args : Array Value} {below : List Frame} {meth : Method} {c : Code} {h0 : HH} (G : GG) (mc : Nat) (ms : Nat) (a0 : Nat) (Q : Int32 → HH → Prop) (hE : hv_E p s m args meth c cX2_fire 11 (some FieldType.int) RX2 G h0) : ∀ (h : HH) (nc : Nat) (nk : Nat) (x1 : Nat) (x2 : Nat) (x3 : Option Nat) (t0 : Option Nat), wp_X2_fire_L37 G mc ms a0 Q h nc nk x1 x2 x3 t0 → nc ≤ mc → nk ≤ ms → ∀ (H : Heap) (locs : List Loc) (ls : Array Slot), hv_I G h0 s.heap h H locs → lv_has ls 11 [(0, .ref a0), (1, .ref x1), (2, .ref x2), (3, va_rf x3)] → W p l e (headSpec (ws_ yX2_fire cX2_fire 11 (some FieldType.int)) (rm_X2_fire mc ms)).room s m args below meth c H locs nc nk (MQ below (hv_Qi G h0 s.heap.size Q) args s mc ms (hv_A h0 s.heap.size)) (F0 m 37 ls [va_rf t0]) := by
  obtain ⟨⟨hx, hb, hml, hown, hts⟩, hr, hlocks, hXX⟩ := id hE
  intro h nc nk x1 x2 x3 t0 hw hc hs H locs ls hI hl
  unfold wp_X2_fire_L37 at hw
  refine lv_astoreq (lv' := [(4, va_rf t0), (0, .ref a0), (1, .ref x1), (2, .ref x2), (3, va_rf x3)]) hx hb dX2_fire_37 hl (by decide) (by cases x3 <;> exact rfl) (fun ls hl => ?_)
  refine lv_aload_n hx hb dX2_fire_39 rfl (lv_at hl 2 rfl) ?_
  refine hv_wgetqN hE hI in_X12 (ci := 16) rfl 0 (by decide) (hE.2.2.2.2.1.F 32 rfl) (fun _ hx => hx) hw dX2_fire_40 (fun r14 hw => ?_)
  obtain ⟨a15, hz, hwa15⟩ := hw; have hla15 := hl; subst hz; have hw := hwa15; have hl := hla15
  refine hv_wgetqN hE hI in_X9 (ci := 12) rfl 0 (by decide) (hE.2.2.2.2.1.F 21 rfl) (fun _ hx => hx) hw dX2_fire_43 (fun r16 hw => ?_)
  refine lv_aload_nq hx hb dX2_fire_46 rfl (lv_at hl 4 rfl) ?_
  refine lv_aload_n hx hb dX2_fire_47 rfl (lv_at hl 3 rfl) ?_
  obtain ⟨a17, hz, hwa17⟩ := hw; have hla17 := hl; subst hz; have hw := hwa17; have hl := hla17
  obtain ⟨⟨fs, hre⟩, hw⟩ := hw
  refine hv_rci hI (va_runV (As := [va_rf x3, .ref x2]) (b := a17) (rest := []) hE.1 (snd_X8_fits l G _ h a17 x3 (some x2) _ hw) (cwV 2 hts (lw_V q1229 q505 q506 q117 q507) rfl rfl rfl (by decide +kernel) ⟨Nat.le_of_ble_eq_true rfl, Nat.le_of_ble_eq_true rfl⟩) (hv_preV hE hI (ci := 11) rfl hre) rfl rfl hl.1 rfl (lv_room (Nat.le_of_ble_eq_true rfl)) dX2_fire_48 ⟨hc, hs⟩) (fun r18 h19 H locs hw hI => ?_)
  refine lv_istore (lv' := [(5, .int r18), (4, va_rf t0), (0, .ref a0), (1, .ref x1), (2, .ref x2), (3, va_rf x3)]) hx hb dX2_fire_51 hl (by decide) (by cases t0 <;> exact rfl) (fun ls hl => ?_)
  refine lv_iload hx hb dX2_fire_53 (lv_at hl 0 rfl) ?_
  refine lv_aloadq hx hb dX2_fire_55 (lv_at hl 1 rfl) ?_
  refine lv_ifnullq (tgt := 76) hx hb dX2_fire_57 (by decide) (fun c_57 => ?_) (fun c_57 => ?_)
  · have hwa20 := hw.1 c_57; have hla20 := hl; subst c_57; have hw := hwa20; have hl := hla20
    exact snd_X2_fire_L76 G mc ms a0 Q hE h19 nc nk x1 x2 x3 none r18 hw hc hs _ _ _ hI (lv_sub hl [2, 3, 4, 5, 1] rfl)
  · obtain ⟨a20, hz⟩ := Option.ne_none_iff_exists.mp c_57
    have hwa20 := hw.2 a20 hz.symm; have hla20 := hl; subst hz; have hw := hwa20; have hl := hla20
    refine lv_aload_n hx hb dX2_fire_60 rfl (lv_at hl 3 rfl) ?_
    refine hv_wgetqN hE hI in_X12 (ci := 16) rfl 0 (by decide) (hE.2.2.2.2.1.F 32 rfl) (fun _ hx => hx) hw dX2_fire_61 (fun r65 hw => ?_)
    obtain ⟨a66, hz, hwa66⟩ := hw; have hla66 := hl; subst hz; have hw := hwa66; have hl := hla66
    refine hv_wgetqN hE hI in_X9 (ci := 12) rfl 1 (by decide) (hE.2.2.2.2.1.F 22 rfl) (fun _ hx => hx) hw dX2_fire_64 (fun r67 hw => ?_)
    refine lv_aload hx hb dX2_fire_67 (lv_at hl 1 rfl) ?_
    refine lv_aload_n hx hb dX2_fire_69 rfl (lv_at hl 4 rfl) ?_
    obtain ⟨a68, hz, hwa68⟩ := hw; have hla68 := hl; subst hz; have hw := hwa68; have hl := hla68
    obtain ⟨⟨fs, hre⟩, hw⟩ := hw
    refine hv_rci hI (va_runV (As := [.ref a20, .ref x2]) (b := a68) (rest := [.int r18]) hE.1 (snd_X8_fits l G _ h19 a68 (some a20) (some x2) _ hw) (cwV 2 hts (lw_V q1229 q505 q506 q117 q507) rfl rfl rfl (by decide +kernel) ⟨Nat.le_of_ble_eq_true rfl, Nat.le_of_ble_eq_true rfl⟩) (hv_preV hE hI (ci := 11) rfl hre) rfl rfl hl.1 rfl (lv_room (Nat.le_of_ble_eq_true rfl)) dX2_fire_70 ⟨hc, hs⟩) (fun r69 h70 H locs hw hI => ?_)
    refine lv_if_eq (tgt := 80) hx hb dX2_fire_73 (by decide) (fun c_73 => ?_) (fun c_73 => ?_)
    · have hw := hw.1 c_73
      refine lv_iconst (v := 0) hx hb dX2_fire_80 (by decide) ?_
      exact snd_X2_fire_L81 G mc ms a0 Q hE h70 nc nk x1 x2 x3 (some a20) r18 (0 : Int32) hw hc hs _ _ _ hI (lv_sub hl [2, 3, 4, 5, 1] rfl)
    · have hw := hw.2 c_73
      exact snd_X2_fire_L76 G mc ms a0 Q hE h70 nc nk x1 x2 x3 (some a20) r18 hw hc hs _ _ _ hI (lv_sub hl [2, 3, 4, 5, 1] rfl)
def wp_X2_fire (G : GG) (mc : Nat) (ms : Nat) (h : HH) (a0 : Nat) (x1 : Option Nat) (Q : Int32 → HH → Prop) : Prop := (0 + 1 ≤ mc ∧ 0 + 3 ≤ ms ∧ w_new h (.inl (G.2.1 0, 3, .inl (fun _ => 0))) (fun a1 h2 => wp_X2_free G h2 (some a1) (fun h3 => w_nn x1 (fun a4 => w_geti h3 a4 16 1 (fun r5 => (∃ mc6 ms6, (0 + 1) + mc6 ≤ mc ∧ (0 + 3) + ms6 ≤ ms ∧ w_is h3 a0 2 (wp_X2_find G mc6 ms6 h3 a0 r5 (fun r7 h8 => w_geti h8 a4 16 2 (fun r9 => ((¬ r9 = (-1 : Int32) → w_geti h8 a4 16 2 (fun r10 => (∃ mc11 ms11, ((0 + 1) + mc6) + mc11 ≤ mc ∧ ((0 + 3) + ms6) + ms11 ≤ ms ∧ w_is h8 a0 2 (wp_X2_find G mc11 ms11 h8 a0 r10 (fun r12 h13 => wp_X2_fire_L37 G mc ms a0 Q h13 (((0 + 1) + mc6) + mc11) (((0 + 3) + ms6) + ms11) a4 a1 r7 r12))))) ∧ (r9 = (-1 : Int32) → wp_X2_fire_L37 G mc ms a0 Q h8 ((0 + 1) + mc6) ((0 + 3) + ms6) a4 a1 r7 none)))))))))))
set_option maxHeartbeats 4000000 in
theorem snd_X2_fire (l : Launch) (G : GG) (sz : Nat) (mc : Nat) (ms : Nat) (h : HH) (a0 : Nat) (x1 : Option Nat) (Q : Int32 → HH → Prop) (hw : wp_X2_fire G mc ms h a0 x1 Q) : Met l yX2_fire (ws_ yX2_fire cX2_fire 11 (some FieldType.int)) (rm_X2_fire mc ms) (hv_Pc G h sz [.ref a0, va_rf x1]) (hv_Qi G h sz Q) mc ms (hv_A h sz) := by
  refine Met.ofW (cc := cX2_fire) (maxL := 11) (ret := (some FieldType.int)) (by decide) rfl ?_
  intro p e s m args below meth c s₁ B hml hv
  obtain ⟨rfl, rfl, hE, hI⟩ := hv_open B hml hv
  have hE : hv_E p s m ([.ref a0, va_rf x1] : List Value).toArray meth c cX2_fire 11 (some FieldType.int) RX2 G h := hE
  obtain ⟨⟨hx, hb, hml, hown, hts⟩, hr, hlocks, hXX⟩ := id hE
  have hl := lv_entry ([.ref a0, va_rf x1] : List Value) (n := 11) (by cases x1 <;> exact Nat.le_of_ble_eq_true rfl)
  rw [lg_entry_eq]
  generalize (lg_sl ([.ref a0, va_rf x1] : List Value) ++ List.replicate (11 - (lg_sl ([.ref a0, va_rf x1] : List Value)).length) Slot.unset).toArray = ls at hl ⊢
  have hl : lv_has ls 11 [(0, .ref a0), (1, va_rf x1)] := (by cases x1 <;> exact hl)
  have hc : 0 ≤ mc := Nat.zero_le _
  have hs : 0 ≤ ms := Nat.zero_le _
  unfold wp_X2_fire at hw
  refine lv_iconst (v := 3) hx hb dX2_fire_0 (by decide) ?_
  obtain ⟨hc, hs, hw⟩ := hw
  refine hv_wnewa_int (N' := 3) hE hI (hts _ q188) (by decide +kernel) (by decide +kernel) (by decide) hw hc hs dX2_fire_1 (fun a1 h2 H hw hI => ?_)
  refine lv_astore_n (lv' := [(2, .ref a1), (0, .ref a0), (1, va_rf x1)]) hx hb dX2_fire_3 rfl hl (by decide) (by cases x1 <;> exact rfl) (fun ls hl => ?_)
  refine lv_aload_n hx hb dX2_fire_4 rfl (lv_at hl 0 rfl) ?_
  refine hv_rcv hI (va_runS (As := [.ref a1]) (rest := []) hE.1 (snd_X2_free l G _ h2 (some a1) _ hw) (va_cwS 1 hts (lw_S q1228 q502 q98 q503) rfl rfl rfl (by decide +kernel) ⟨Nat.le_of_ble_eq_true rfl, Nat.le_of_ble_eq_true rfl⟩) (hv_preS hE hI) rfl rfl hl.1 rfl (lv_room (Nat.le_of_ble_eq_true rfl)) dX2_fire_5 ⟨hc, hs⟩) (fun h3 H locs hw hI => ?_)
  refine lv_aload_n hx hb dX2_fire_8 rfl (lv_at hl 1 rfl) ?_
  refine lv_aload_nq hx hb dX2_fire_9 rfl (lv_at hl 2 rfl) ?_
  obtain ⟨a4, hz, hwa4⟩ := hw; have hla4 := hl; subst hz; have hw := hwa4; have hl := hla4
  refine hv_wgetiN hE hI in_X12 (ci := 16) rfl 1 (by decide) (hE.2.2.2.2.1.F 33 rfl) (fun _ hx => hx) hw dX2_fire_10 (fun r5 hw => ?_)
  obtain ⟨mc6, ms6, hc, hs, hw⟩ := hw
  obtain ⟨⟨fs, hre⟩, hw⟩ := hw
  refine hv_rcq hI (va_runV (As := [.int r5]) (b := a0) (rest := []) hE.1 (snd_X2_find l G _ mc6 ms6 h3 a0 r5 _ hw) (cwV 1 hts (lw_V q565 q566 q567 q98 q568) rfl rfl rfl (by decide +kernel) ⟨Nat.le_of_ble_eq_true rfl, Nat.le_of_ble_eq_true rfl⟩) (hv_preV hE hI (ci := 2) rfl hre) rfl rfl hl.1 rfl (lv_room (Nat.le_of_ble_eq_true rfl)) dX2_fire_13 ⟨hc, hs⟩) (fun r7 h8 H locs hw hI => ?_)
  refine lv_astore_nq (lv' := [(3, va_rf r7), (2, .ref a1), (0, .ref a0), (1, .ref a4)]) hx hb dX2_fire_16 rfl hl (by decide) rfl (fun ls hl => ?_)
  refine lv_aload_n hx hb dX2_fire_17 rfl (lv_at hl 3 rfl) ?_
  refine hv_wgetiN hE hI in_X12 (ci := 16) rfl 2 (by decide) (hE.2.2.2.2.1.F 34 rfl) (fun _ hx => hx) hw dX2_fire_18 (fun r9 hw => ?_)
  refine lv_iconst (v := -1) hx hb dX2_fire_21 (by decide) ?_
  refine lv_icmp_ne (tgt := 29) hx hb dX2_fire_22 (by decide) (fun c_22 => ?_) (fun c_22 => ?_)
  · have hw := hw.1 c_22
    refine lv_aload_n hx hb dX2_fire_29 rfl (lv_at hl 2 rfl) ?_
    refine lv_aload_n hx hb dX2_fire_30 rfl (lv_at hl 3 rfl) ?_
    refine hv_wgetiN hE hI in_X12 (ci := 16) rfl 2 (by decide) (hE.2.2.2.2.1.F 34 rfl) (fun _ hx => hx) hw dX2_fire_31 (fun r10 hw => ?_)
    obtain ⟨mc11, ms11, hc, hs, hw⟩ := hw
    obtain ⟨⟨fs, hre⟩, hw⟩ := hw
    refine hv_rcq hI (va_runV (As := [.int r10]) (b := a0) (rest := []) hE.1 (snd_X2_find l G _ mc11 ms11 h8 a0 r10 _ hw) (cwV 1 hts (lw_V q565 q566 q567 q98 q568) rfl rfl rfl (by decide +kernel) ⟨Nat.le_of_ble_eq_true rfl, Nat.le_of_ble_eq_true rfl⟩) (hv_preV hE hI (ci := 2) rfl hre) rfl rfl hl.1 rfl (lv_room (Nat.le_of_ble_eq_true rfl)) dX2_fire_34 ⟨hc, hs⟩) (fun r12 h13 H locs hw hI => ?_)
    exact snd_X2_fire_L37 G mc ms a0 Q hE h13 (((0 + 1) + mc6) + mc11) (((0 + 3) + ms6) + ms11) a4 a1 r7 r12 hw hc hs _ _ _ hI (lv_sub hl [2, 3, 1, 0] rfl)
  · have hw := hw.2 c_22
    refine lv_null hx hb dX2_fire_25 ?_
    refine lv_goto (tgt := 37) hx hb dX2_fire_26 (by decide) ?_
    exact snd_X2_fire_L37 G mc ms a0 Q hE h8 ((0 + 1) + mc6) ((0 + 3) + ms6) a4 a1 r7 none hw hc hs _ _ _ hI (lv_sub hl [2, 3, 1, 0] rfl)
