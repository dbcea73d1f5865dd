/-! walks over a world (by gen/hvrun.py) -/
set_option maxRecDepth 100000
theorem ha_MatchmakerRules_Book_317_IllegalArgumentException {p : Program} {s : State} {m : MethodId} {args : Array Value} {meth : Method} {c : Code} {cc : ByteArray} {nL : Nat} {ret : Option FieldType} {own : String} {G : GG} {h0 : HH} (hE : hv_E p s m args meth c cc nL ret own G h0) : ∀ w ∈ vx_at0 "MatchmakerRules$Book" 317 "java/lang/IllegalArgumentException" ["java/lang/RuntimeException", "java/lang/Exception"], w.before args s = true := by
  obtain ⟨⟨-, -, -, -, hts⟩, -, -, -, hX, -⟩ := hE
  have h1 : ∀ w ∈ Bundle.ownAtoms0 "MatchmakerRules$Book" 317 "java/lang/IllegalArgumentException" ["java/lang/RuntimeException", "java/lang/Exception"], vx_no w = true → w.before args s = true := (List.forall_mem_cons.mpr ⟨(fun _ => hts _ q114), (List.forall_mem_cons.mpr ⟨(fun _ => hts _ q419), (List.forall_mem_cons.mpr ⟨(fun _ => hts _ q428), (List.forall_mem_cons.mpr ⟨(fun _ => hts _ q440), (List.forall_mem_cons.mpr ⟨(fun _ => hts _ q443), (List.forall_mem_cons.mpr ⟨(fun _ => hts _ q445), (List.forall_mem_cons.mpr ⟨(fun _ => hts _ q420), (List.forall_mem_cons.mpr ⟨(fun _ => hts _ q421), (List.forall_mem_cons.mpr ⟨(fun _ => hts _ q146), (List.forall_mem_cons.mpr ⟨(fun _ => hts _ q147), (List.forall_mem_cons.mpr ⟨(fun _ => hts _ q422), (List.forall_mem_cons.mpr ⟨(fun _ => hts _ q427), (List.forall_mem_cons.mpr ⟨(fun _ => hts _ q441), (List.forall_mem_cons.mpr ⟨(fun _ => hts _ q458), (List.forall_mem_cons.mpr ⟨(fun _ => hts _ q409), (List.forall_mem_cons.mpr ⟨(fun _ => hts _ q459), (List.forall_mem_cons.mpr ⟨(fun _ => hts _ q411), (List.forall_mem_cons.mpr ⟨(fun _ => hts _ q460), (List.forall_mem_cons.mpr ⟨(fun _ => hts _ q413), (List.forall_mem_cons.mpr ⟨(fun _ => hts _ q423), (List.forall_mem_cons.mpr ⟨(fun hz => absurd hz (by decide +kernel)), (List.forall_mem_cons.mpr ⟨(fun _ => hts _ q425), (List.forall_mem_cons.mpr ⟨(fun hz => absurd hz (by decide +kernel)), (List.forall_mem_cons.mpr ⟨(fun _ => hts _ q415), (List.forall_mem_cons.mpr ⟨(fun _ => hts _ q879), (List.forall_mem_cons.mpr ⟨(fun _ => hts _ q880), (List.forall_mem_cons.mpr ⟨(fun _ => hts _ q881), (List.forall_mem_cons.mpr ⟨(fun _ => hts _ q450), (List.forall_mem_cons.mpr ⟨(fun _ => (hX.D 4 rfl).use rfl), (List.forall_mem_cons.mpr ⟨(fun _ => hts _ q450), (List.forall_mem_cons.mpr ⟨(fun _ => hts _ q451), (List.forall_mem_cons.mpr ⟨(fun _ => hts _ q452), (List.forall_mem_cons.mpr ⟨(fun _ => hts _ q453), (List.forall_mem_cons.mpr ⟨(fun _ => (hX.D 2 rfl).use rfl), (List.forall_mem_cons.mpr ⟨(fun _ => hts _ q453), (List.forall_mem_cons.mpr ⟨(fun _ => hts _ q454), (List.forall_mem_cons.mpr ⟨(fun _ => hts _ q455), (List.forall_mem_cons.mpr ⟨(fun _ => hts _ q420), (List.forall_mem_cons.mpr ⟨(fun _ => (hX.D 0 rfl).use rfl), (List.forall_mem_cons.mpr ⟨(fun _ => hts _ q1438), (List.forall_mem_cons.mpr ⟨(fun _ => hts _ q870), (List.forall_mem_cons.mpr ⟨(fun _ => (hX.C 17 rfl).use rfl), (List.forall_mem_cons.mpr ⟨(fun _ => hts _ q872), (List.forall_mem_cons.mpr ⟨(fun _ => hts _ q435), (List.forall_mem_cons.mpr ⟨(fun _ => hts _ q873), (List.forall_mem_cons.mpr ⟨(fun _ => hts _ q874), (List.forall_mem_cons.mpr ⟨(fun _ => hts _ q875), (List.forall_mem_cons.mpr ⟨(fun _ => hts _ q876), (List.forall_mem_cons.mpr ⟨(fun hz => absurd hz (by decide +kernel)), (List.forall_mem_cons.mpr ⟨(fun hz => absurd hz (by decide +kernel)), (List.forall_mem_cons.mpr ⟨(fun _ => hts _ q418), (List.forall_mem_cons.mpr ⟨(fun _ => hts _ q417), (List.forall_mem_cons.mpr ⟨(fun _ => hts _ q877), (fun _ hz => absurd hz List.not_mem_nil)⟩)⟩)⟩)⟩)⟩)⟩)⟩)⟩)⟩)⟩)⟩)⟩)⟩)⟩)⟩)⟩)⟩)⟩)⟩)⟩)⟩)⟩)⟩)⟩)⟩)⟩)⟩)⟩)⟩)⟩)⟩)⟩)⟩)⟩)⟩)⟩)⟩)⟩)⟩)⟩)⟩)⟩)⟩)⟩)⟩)⟩)⟩)⟩)⟩)⟩)⟩)⟩)⟩)
  exact fun w hw => h1 w (List.mem_filter.mp hw).1 (List.mem_filter.mp hw).2

/-- MatchmakerRules$Book.part(LMatchmakerRules$Firing;I)I -/
abbrev rm_X2_part (mc ms : Nat) : Room := { frames := 6, cells := mc, slots := ms, locals := 110 }
def wp_X2_part (G : GG) (mc : Nat) (ms : Nat) (h : HH) (a0 : Nat) (x1 : Option Nat) (x2 : Int32) (Q : Int32 → HH → Prop) (X : String → Nat → HH → Prop) : Prop := ((x2 = (0 : Int32) → w_getq h a0 2 1 (fun r1 => w_nn x1 (fun a2 => w_getq h a2 16 0 (fun r3 => w_nn r1 (fun a4 => w_is h a4 4 (wp_J2_indexOf G h a4 r3 (fun r5 h6 => Q r5 h6))))))) ∧ (¬ x2 = (0 : Int32) → ((x2 = (1 : Int32) → w_nn x1 (fun a7 => w_geti h a7 16 1 (fun r8 => Q r8 h))) ∧ (¬ x2 = (1 : Int32) → ((x2 = (2 : Int32) → w_nn x1 (fun a9 => w_geti h a9 16 2 (fun r10 => Q r10 h))) ∧ (¬ x2 = (2 : Int32) → (0 + 1 ≤ mc ∧ 0 + 6 ≤ ms ∧ ∀ q11, h q11 = none → X "java/lang/IllegalArgumentException" q11 h)))))))
set_option maxHeartbeats 4000000 in
theorem snd_X2_part (l : Launch) (hl0 : l.stackTraces = false) (G : GG) (sz : Nat) (mc : Nat) (ms : Nat) (h : HH) (a0 : Nat) (x1 : Option Nat) (x2 : Int32) (Q : Int32 → HH → Prop) (X : String → Nat → HH → Prop) (hw : wp_X2_part G mc ms h a0 x1 x2 Q X) : vx_Met l yX2_part (ws_ yX2_part cX2_part 3 (some FieldType.int)) (rm_X2_part mc ms) (hv_Pc G h sz [.ref a0, va_rf x1, .int x2]) (hv_Qi G h sz Q) (hv_XC G h sz X) mc ms (hv_A h sz) := by
  refine vx_ofW (cc := cX2_part) (maxL := 3) (ret := (some FieldType.int)) (by decide) rfl ?_
  intro p e s m args below meth c s₁ B hml ht hv
  obtain ⟨rfl, rfl, hE, hI⟩ := hv_open B hml hv
  have hE : hv_E p s m ([.ref a0, va_rf x1, .int x2] : List Value).toArray meth c cX2_part 3 (some FieldType.int) RX2 G h := hE
  obtain ⟨⟨hx, hb, hml, hown, hts⟩, hr, hlocks, hXX⟩ := id hE
  have hl := lv_entry ([.ref a0, va_rf x1, .int x2] : List Value) (n := 3) (by cases x1 <;> exact Nat.le_of_ble_eq_true rfl)
  rw [lg_entry_eq]
  generalize (lg_sl ([.ref a0, va_rf x1, .int x2] : List Value) ++ List.replicate (3 - (lg_sl ([.ref a0, va_rf x1, .int x2] : List Value)).length) Slot.unset).toArray = ls at hl ⊢
  have hl : lv_has ls 3 [(0, .ref a0), (1, va_rf x1), (2, .int x2)] := (by cases x1 <;> exact hl)
  have hc : 0 ≤ mc := Nat.zero_le _
  have hs : 0 ≤ ms := Nat.zero_le _
  unfold wp_X2_part at hw
  refine lv_iload_n hx hb dX2_part_0 rfl (lv_at hl 2 rfl) ?_
  by_cases s1_0 : x2 = (0 : Int32)
  · have hw := hw.1 s1_0
    refine lv_tableIn (tgt := 28) (off := 27) hx hb dX2_part_1 (by rw [s1_0]; decide) (by rw [s1_0]; decide) (by rw [s1_0]; decide) (by decide) ?_
    refine lv_aload_n hx hb dX2_part_28 rfl (lv_at hl 0 rfl) ?_
    refine hv_wgetq hE hI in_X2 (ci := 2) rfl 1 (by decide) (hts _ q219) (fun _ hx => hx) hw dX2_part_29 (fun r1 hw => ?_)
    refine lv_aload_nq hx hb dX2_part_32 rfl (lv_at hl 1 rfl) ?_
    obtain ⟨a2, hz, hwa2⟩ := hw; have hla2 := hl; subst hz; have hw := hwa2; have hl := hla2
    refine hv_wgetqN hE hI in_X12 (ci := 16) rfl 0 (by decide) (hE.2.2.2.2.1.F 32 rfl) (fun _ hx => hx) hw dX2_part_33 (fun r3 hw => ?_)
    obtain ⟨a4, hz, hwa4⟩ := hw; have hla4 := hl; subst hz; have hw := hwa4; have hl := hla4
    obtain ⟨⟨fs, hre⟩, hw⟩ := hw
    refine hv_rci hI (va_runV (As := [va_rf r3]) (b := a4) (rest := []) hE.1 (snd_J2_indexOf l G _ h a4 r3 _ hw) (cwV 1 hts (lw_V q569 q570 q571 q102 q572) rfl rfl rfl (by decide +kernel) ⟨Nat.le_of_ble_eq_true rfl, Nat.le_of_ble_eq_true rfl⟩) (hv_preV hE hI (ci := 4) rfl hre) rfl rfl hl.1 rfl (lv_room (Nat.le_of_ble_eq_true rfl)) dX2_part_36 ⟨hc, hs⟩) (fun r5 h6 H locs hw hI => ?_)
    exact vx_ret (hv_iret hE hI hc hs hw dX2_part_39)
  · have hw := hw.2 s1_0
    by_cases s1_1 : x2 = (1 : Int32)
    · have hw := hw.1 s1_1
      refine lv_tableIn (tgt := 40) (off := 39) hx hb dX2_part_1 (by rw [s1_1]; decide) (by rw [s1_1]; decide) (by rw [s1_1]; decide) (by decide) ?_
      refine lv_aload_nq hx hb dX2_part_40 rfl (lv_at hl 1 rfl) ?_
      obtain ⟨a7, hz, hwa7⟩ := hw; have hla7 := hl; subst hz; have hw := hwa7; have hl := hla7
      refine hv_wgetiN hE hI in_X12 (ci := 16) rfl 1 (by decide) (hE.2.2.2.2.1.F 33 rfl) (fun _ hx => hx) hw dX2_part_41 (fun r8 hw => ?_)
      exact vx_ret (hv_iret hE hI hc hs hw dX2_part_44)
    · have hw := hw.2 s1_1
      by_cases s1_2 : x2 = (2 : Int32)
      · have hw := hw.1 s1_2
        refine lv_tableIn (tgt := 45) (off := 44) hx hb dX2_part_1 (by rw [s1_2]; decide) (by rw [s1_2]; decide) (by rw [s1_2]; decide) (by decide) ?_
        refine lv_aload_nq hx hb dX2_part_45 rfl (lv_at hl 1 rfl) ?_
        obtain ⟨a9, hz, hwa9⟩ := hw; have hla9 := hl; subst hz; have hw := hwa9; have hl := hla9
        refine hv_wgetiN hE hI in_X12 (ci := 16) rfl 2 (by decide) (hE.2.2.2.2.1.F 34 rfl) (fun _ hx => hx) hw dX2_part_46 (fun r10 hw => ?_)
        exact vx_ret (hv_iret hE hI hc hs hw dX2_part_49)
      · have hw := hw.2 s1_2
        have ts1_0 := lv_neT s1_0 (show ((0 : Int32)).toInt = 0 by decide)
        have ts1_1 := lv_neT s1_1 (show ((1 : Int32)).toInt = 1 by decide)
        have ts1_2 := lv_neT s1_2 (show ((2 : Int32)).toInt = 2 by decide)
        refine lv_tableOut (tgt := 50) hx hb dX2_part_1 (by omega) (by decide) ?_
        obtain ⟨hc, hs, hw⟩ := hw
        exact hx_throw0 (names := ["java/lang/RuntimeException", "java/lang/Exception"]) (rest := []) hl0 hE hI (by decide +kernel) (by decide +kernel) (hts _ q1437) (hts _ q120) (ha_MatchmakerRules_Book_317_IllegalArgumentException hE) (by decide +kernel) hl.1 dX2_part_50 dX2_part_53 dX2_part_54 dX2_part_57 (fun z hz => (ht z hz).elim) (Nat.le_of_ble_eq_true rfl) (Nat.le_of_ble_eq_true rfl) (Nat.le_refl _) (Nat.le_refl _) hc hs hw

/-- MatchmakerRules.agenda(II)I -/
abbrev rm_X1_agenda (mc ms : Nat) : Room := { frames := 9, cells := mc, slots := ms, locals := 200 }
def wp_X1_agenda_L18 (G : GG) (mc : Nat) (ms : Nat) (a0 : Nat) (Q : Int32 → HH → Prop) (X : String → Nat → HH → Prop) (h : HH) (nc : Nat) (nk : Nat) (x2 : Int32) (x3 : Option Nat) (t0 : Int32) : Prop := (∃ mc7 ms7, nc + mc7 ≤ mc ∧ nk + ms7 ≤ ms ∧ wp_X1_checkElement G mc7 ms7 h t0 (fun h8 => w_getq h8 a0 1 0 (fun r11 => w_nn r11 (fun a12 => (∃ mc13 ms13, (nc + mc7) + mc13 ≤ mc ∧ (nk + ms7) + ms13 ≤ ms ∧ w_is h8 a12 2 (wp_X2_part G mc13 ms13 h8 a12 x3 x2 (fun r14 h15 => Q r14 h15) (fun E q16 h17 => X E q16 h17)))))) (fun E q9 h10 => X E q9 h10))
set_option maxHeartbeats 4000000 in
theorem snd_X1_agenda_L18 {p : Program} {l : Launch} {e : Env} {s : State} {m : MethodId} {args : Array Value} {below : List Frame} {meth : Method} {c : Code} {h0 : HH} (G : GG) (mc : Nat) (ms : Nat) (a0 : Nat) (Q : Int32 → HH → Prop) (X : String → Nat → HH → Prop) (hl0 : l.stackTraces = false) (ht : ∀ x ∈ c.exceptionTable.toList, False) (hE : hv_E p s m args meth c cX1_agenda 4 (some FieldType.int) RX1 G h0) : ∀ (h : HH) (nc : Nat) (nk : Nat) (x2 : Int32) (x3 : Option Nat) (t0 : Int32), wp_X1_agenda_L18 G mc ms a0 Q X h nc nk x2 x3 t0 → nc ≤ mc → nk ≤ ms → ∀ (H : Heap) (locs : List Loc) (ls : Array Slot), hv_I G h0 s.heap h H locs → lv_has ls 4 [(0, .ref a0), (2, .int x2), (3, va_rf x3)] → W p l e (headSpec (ws_ yX1_agenda cX1_agenda 4 (some FieldType.int)) (rm_X1_agenda mc ms)).room s m args below meth c H locs nc nk (vx_MQ below (hv_Qi G h0 s.heap.size Q) (hv_XC G h0 s.heap.size X) args s mc ms (hv_A h0 s.heap.size)) (F0 m 18 ls [.int t0]) := by
  obtain ⟨⟨hx, hb, hml, hown, hts⟩, hr, hlocks, hXX⟩ := id hE
  intro h nc nk x2 x3 t0 hw hc hs H locs ls hI hl
  unfold wp_X1_agenda_L18 at hw
  obtain ⟨mc7, ms7, hc, hs, hw⟩ := hw
  refine hx_rcv hI (vx_runS (As := [.int t0]) (rest := []) hE.1 (snd_X1_checkElement l hl0 G _ mc7 ms7 h t0 _ _ hw) (va_cwS 1 hts (lw_S q1346 q1347 q97 q1348) rfl rfl rfl (by decide +kernel) ⟨Nat.le_of_ble_eq_true rfl, Nat.le_of_ble_eq_true rfl⟩) (hv_preS hE hI) rfl rfl hl.1 rfl (lv_room (Nat.le_of_ble_eq_true rfl)) dX1_agenda_18 ⟨hc, hs⟩) ?_ (fun h8 H locs hw hI => ?_)
  · intro E q9 h10 H locs hw hI hT
    exact hx_out hE hI hT hc hs (fun z hz => (ht z hz).elim) hw
  refine lv_aload_n hx hb dX1_agenda_21 rfl (lv_at hl 0 rfl) ?_
  refine hv_wgetq hE hI in_X1 (ci := 1) rfl 0 (by decide) (hts _ q300) (fun _ hx => hx) hw dX1_agenda_22 (fun r11 hw => ?_)
  refine lv_aload_nq hx hb dX1_agenda_25 rfl (lv_at hl 2 rfl) ?_
  refine lv_iload_n hx hb dX1_agenda_26 rfl (lv_at hl 1 rfl) ?_
  obtain ⟨a12, hz, hwa12⟩ := hw; have hla12 := hl; subst hz; have hw := hwa12; have hl := hla12
  obtain ⟨mc13, ms13, hc, hs, hw⟩ := hw
  obtain ⟨⟨fs, hre⟩, hw⟩ := hw
  refine hx_rci hI (vx_runV (As := [va_rf x3, .int x2]) (b := a12) (rest := []) hE.1 (snd_X2_part l hl0 G _ mc13 ms13 h8 a12 x3 x2 _ _ hw) (cwV 2 hts (lw_V q1433 q1434 q1435 q98 q1436) rfl rfl rfl (by decide +kernel) ⟨Nat.le_of_ble_eq_true rfl, Nat.le_of_ble_eq_true rfl⟩) (hv_preV hE hI (ci := 2) rfl hre) rfl rfl hl.1 rfl (lv_room (Nat.le_of_ble_eq_true rfl)) dX1_agenda_27 ⟨hc, hs⟩) ?_ (fun r14 h15 H locs hw hI => ?_)
  · intro E q16 h17 H locs hw hI hT
    exact hx_out hE hI hT hc hs (fun z hz => (ht z hz).elim) hw
  exact vx_ret (hv_iret hE hI hc hs hw dX1_agenda_30)
def wp_X1_agenda (G : GG) (mc : Nat) (ms : Nat) (h : HH) (a0 : Nat) (x1 : Int32) (x2 : Int32) (Q : Int32 → HH → Prop) (X : String → Nat → HH → Prop) : Prop := w_getq h a0 1 0 (fun r1 => w_nn r1 (fun a2 => (∃ mc3 ms3, 0 + mc3 ≤ mc ∧ 0 + ms3 ≤ ms ∧ w_is h a2 2 (wp_X2_agenda G mc3 ms3 h a2 x1 (fun r4 h5 => ((r4 = none → wp_X1_agenda_L18 G mc ms a0 Q X h5 (0 + mc3) (0 + ms3) x2 none (0 : Int32)) ∧ (∀ a6, r4 = some a6 → wp_X1_agenda_L18 G mc ms a0 Q X h5 (0 + mc3) (0 + ms3) x2 (some a6) (1 : Int32))))))))
set_option maxHeartbeats 4000000 in
theorem snd_X1_agenda (l : Launch) (hl0 : l.stackTraces = false) (G : GG) (sz : Nat) (mc : Nat) (ms : Nat) (h : HH) (a0 : Nat) (x1 : Int32) (x2 : Int32) (Q : Int32 → HH → Prop) (X : String → Nat → HH → Prop) (hw : wp_X1_agenda G mc ms h a0 x1 x2 Q X) : vx_Met l yX1_agenda (ws_ yX1_agenda cX1_agenda 4 (some FieldType.int)) (rm_X1_agenda mc ms) (hv_Pc G h sz [.ref a0, .int x1, .int x2]) (hv_Qi G h sz Q) (hv_XC G h sz X) mc ms (hv_A h sz) := by
  refine vx_ofW (cc := cX1_agenda) (maxL := 4) (ret := (some FieldType.int)) (by decide) rfl ?_
  intro p e s m args below meth c s₁ B hml ht hv
  obtain ⟨rfl, rfl, hE, hI⟩ := hv_open B hml hv
  have hE : hv_E p s m ([.ref a0, .int x1, .int x2] : List Value).toArray meth c cX1_agenda 4 (some FieldType.int) RX1 G h := hE
  obtain ⟨⟨hx, hb, hml, hown, hts⟩, hr, hlocks, hXX⟩ := id hE
  have hl := lv_entry ([.ref a0, .int x1, .int x2] : List Value) (n := 4) (Nat.le_of_ble_eq_true rfl)
  rw [lg_entry_eq]
  generalize (lg_sl ([.ref a0, .int x1, .int x2] : List Value) ++ List.replicate (4 - (lg_sl ([.ref a0, .int x1, .int x2] : List Value)).length) Slot.unset).toArray = ls at hl ⊢
  have hl : lv_has ls 4 [(0, .ref a0), (1, .int x1), (2, .int x2)] := hl
  have hc : 0 ≤ mc := Nat.zero_le _
  have hs : 0 ≤ ms := Nat.zero_le _
  unfold wp_X1_agenda at hw
  refine lv_aload_n hx hb dX1_agenda_0 rfl (lv_at hl 0 rfl) ?_
  refine hv_wgetq hE hI in_X1 (ci := 1) rfl 0 (by decide) (hts _ q300) (fun _ hx => hx) hw dX1_agenda_1 (fun r1 hw => ?_)
  refine lv_iload_n hx hb dX1_agenda_4 rfl (lv_at hl 1 rfl) ?_
  obtain ⟨a2, hz, hwa2⟩ := hw; have hla2 := hl; subst hz; have hw := hwa2; have hl := hla2
  obtain ⟨mc3, ms3, hc, hs, hw⟩ := hw
  obtain ⟨⟨fs, hre⟩, hw⟩ := hw
  refine hv_rcq hI (va_runV (As := [.int x1]) (b := a2) (rest := []) hE.1 (snd_X2_agenda l G _ mc3 ms3 h a2 x1 _ hw) (cwV 1 hts (lw_V q1429 q1430 q1431 q98 q1432) rfl rfl rfl (by decide +kernel) ⟨Nat.le_of_ble_eq_true rfl, Nat.le_of_ble_eq_true rfl⟩) (hv_preV hE hI (ci := 2) rfl hre) rfl rfl hl.1 rfl (lv_room (Nat.le_of_ble_eq_true rfl)) dX1_agenda_5 ⟨hc, hs⟩) (fun r4 h5 H locs hw hI => ?_)
  refine lv_astore_nq (lv' := [(3, va_rf r4), (0, .ref a0), (1, .int x1), (2, .int x2)]) hx hb dX1_agenda_8 rfl hl (by decide) rfl (fun ls hl => ?_)
  refine lv_aload_nq hx hb dX1_agenda_9 rfl (lv_at hl 0 rfl) ?_
  refine lv_ifnullq (tgt := 17) hx hb dX1_agenda_10 (by decide) (fun c_10 => ?_) (fun c_10 => ?_)
  · have hwa6 := hw.1 c_10; have hla6 := hl; subst c_10; have hw := hwa6; have hl := hla6
    refine lv_iconst (v := 0) hx hb dX1_agenda_17 (by decide) ?_
    exact snd_X1_agenda_L18 G mc ms a0 Q X hl0 ht hE h5 (0 + mc3) (0 + ms3) x2 none (0 : Int32) hw hc hs _ _ _ hI (lv_sub hl [1, 3, 0] rfl)
  · obtain ⟨a6, hz⟩ := Option.ne_none_iff_exists.mp c_10
    have hwa6 := hw.2 a6 hz.symm; have hla6 := hl; subst hz; have hw := hwa6; have hl := hla6
    refine lv_iconst (v := 1) hx hb dX1_agenda_13 (by decide) ?_
    refine lv_goto (tgt := 18) hx hb dX1_agenda_14 (by decide) ?_
    exact snd_X1_agenda_L18 G mc ms a0 Q X hl0 ht hE h5 (0 + mc3) (0 + ms3) x2 (some a6) (1 : Int32) hw hc hs _ _ _ hI (lv_sub hl [1, 3, 0] rfl)

theorem ha_MatchmakerRules_9_IndexOutOfBoundsException {p : Program} {s : State} {m : MethodId} {args : Array Value} {meth : Method} {c : Code} {cc : ByteArray} {nL : Nat} {ret : Option FieldType} {own : String} {G : GG} {h0 : HH} (hE : hv_E p s m args meth c cc nL ret own G h0) : ∀ w ∈ vx_at0 "MatchmakerRules" 9 "java/lang/IndexOutOfBoundsException" ["java/lang/RuntimeException", "java/lang/Exception"], w.before args s = true := by
  obtain ⟨⟨-, -, -, -, hts⟩, -, -, -, hX, -⟩ := hE
  have h1 : ∀ w ∈ Bundle.ownAtoms0 "MatchmakerRules" 9 "java/lang/IndexOutOfBoundsException" ["java/lang/RuntimeException", "java/lang/Exception"], vx_no w = true → w.before args s = true := (List.forall_mem_cons.mpr ⟨(fun _ => hts _ q114), (List.forall_mem_cons.mpr ⟨(fun _ => hts _ q419), (List.forall_mem_cons.mpr ⟨(fun _ => hts _ q428), (List.forall_mem_cons.mpr ⟨(fun _ => hts _ q440), (List.forall_mem_cons.mpr ⟨(fun _ => hts _ q443), (List.forall_mem_cons.mpr ⟨(fun _ => hts _ q445), (List.forall_mem_cons.mpr ⟨(fun _ => hts _ q420), (List.forall_mem_cons.mpr ⟨(fun _ => hts _ q421), (List.forall_mem_cons.mpr ⟨(fun _ => hts _ q146), (List.forall_mem_cons.mpr ⟨(fun _ => hts _ q147), (List.forall_mem_cons.mpr ⟨(fun _ => hts _ q422), (List.forall_mem_cons.mpr ⟨(fun _ => hts _ q427), (List.forall_mem_cons.mpr ⟨(fun _ => hts _ q441), (List.forall_mem_cons.mpr ⟨(fun _ => hts _ q458), (List.forall_mem_cons.mpr ⟨(fun _ => hts _ q409), (List.forall_mem_cons.mpr ⟨(fun _ => hts _ q459), (List.forall_mem_cons.mpr ⟨(fun _ => hts _ q411), (List.forall_mem_cons.mpr ⟨(fun _ => hts _ q460), (List.forall_mem_cons.mpr ⟨(fun _ => hts _ q413), (List.forall_mem_cons.mpr ⟨(fun _ => hts _ q423), (List.forall_mem_cons.mpr ⟨(fun hz => absurd hz (by decide +kernel)), (List.forall_mem_cons.mpr ⟨(fun _ => hts _ q425), (List.forall_mem_cons.mpr ⟨(fun hz => absurd hz (by decide +kernel)), (List.forall_mem_cons.mpr ⟨(fun _ => hts _ q415), (List.forall_mem_cons.mpr ⟨(fun _ => hts _ q1487), (List.forall_mem_cons.mpr ⟨(fun _ => hts _ q1488), (List.forall_mem_cons.mpr ⟨(fun _ => hts _ q1489), (List.forall_mem_cons.mpr ⟨(fun _ => hts _ q450), (List.forall_mem_cons.mpr ⟨(fun _ => (hX.D 4 rfl).use rfl), (List.forall_mem_cons.mpr ⟨(fun _ => hts _ q450), (List.forall_mem_cons.mpr ⟨(fun _ => hts _ q451), (List.forall_mem_cons.mpr ⟨(fun _ => hts _ q452), (List.forall_mem_cons.mpr ⟨(fun _ => hts _ q453), (List.forall_mem_cons.mpr ⟨(fun _ => (hX.D 2 rfl).use rfl), (List.forall_mem_cons.mpr ⟨(fun _ => hts _ q453), (List.forall_mem_cons.mpr ⟨(fun _ => hts _ q454), (List.forall_mem_cons.mpr ⟨(fun _ => hts _ q455), (List.forall_mem_cons.mpr ⟨(fun _ => hts _ q420), (List.forall_mem_cons.mpr ⟨(fun _ => (hX.D 0 rfl).use rfl), (List.forall_mem_cons.mpr ⟨(fun _ => hts _ q1486), (List.forall_mem_cons.mpr ⟨(fun _ => hts _ q1478), (List.forall_mem_cons.mpr ⟨(fun _ => (hX.C 33 rfl).use rfl), (List.forall_mem_cons.mpr ⟨(fun _ => hts _ q1480), (List.forall_mem_cons.mpr ⟨(fun _ => hts _ q437), (List.forall_mem_cons.mpr ⟨(fun _ => hts _ q1481), (List.forall_mem_cons.mpr ⟨(fun _ => hts _ q1482), (List.forall_mem_cons.mpr ⟨(fun _ => hts _ q1483), (List.forall_mem_cons.mpr ⟨(fun _ => hts _ q1484), (List.forall_mem_cons.mpr ⟨(fun hz => absurd hz (by decide +kernel)), (List.forall_mem_cons.mpr ⟨(fun hz => absurd hz (by decide +kernel)), (List.forall_mem_cons.mpr ⟨(fun _ => hts _ q418), (List.forall_mem_cons.mpr ⟨(fun _ => hts _ q417), (List.forall_mem_cons.mpr ⟨(fun _ => hts _ q1485), (fun _ hz => absurd hz List.not_mem_nil)⟩)⟩)⟩)⟩)⟩)⟩)⟩)⟩)⟩)⟩)⟩)⟩)⟩)⟩)⟩)⟩)⟩)⟩)⟩)⟩)⟩)⟩)⟩)⟩)⟩)⟩)⟩)⟩)⟩)⟩)⟩)⟩)⟩)⟩)⟩)⟩)⟩)⟩)⟩)⟩)⟩)⟩)⟩)⟩)⟩)⟩)⟩)⟩)⟩)⟩)⟩)⟩)⟩)
  exact fun w hw => h1 w (List.mem_filter.mp hw).1 (List.mem_filter.mp hw).2

/-- MatchmakerRules.checkIndex(Z)V -/
abbrev rm_X1_checkIndex (mc ms : Nat) : Room := { frames := 6, cells := mc, slots := ms, locals := 89 }
def wp_X1_checkIndex (G : GG) (mc : Nat) (ms : Nat) (h : HH) (x0 : Int32) (Q : HH → Prop) (X : String → Nat → HH → Prop) : Prop := ((¬ x0 = 0 → Q h) ∧ (x0 = 0 → (0 + 1 ≤ mc ∧ 0 + 6 ≤ ms ∧ ∀ q1, h q1 = none → X "java/lang/IndexOutOfBoundsException" q1 h)))
set_option maxHeartbeats 4000000 in
theorem snd_X1_checkIndex (l : Launch) (hl0 : l.stackTraces = false) (G : GG) (sz : Nat) (mc : Nat) (ms : Nat) (h : HH) (x0 : Int32) (Q : HH → Prop) (X : String → Nat → HH → Prop) (hw : wp_X1_checkIndex G mc ms h x0 Q X) : vx_Met l yX1_checkIndex (ws_ yX1_checkIndex cX1_checkIndex 1 (none : Option FieldType)) (rm_X1_checkIndex mc ms) (hv_Pc G h sz [.int x0]) (hv_Qv G h sz Q) (hv_XC G h sz X) mc ms (hv_A h sz) := by
  refine vx_ofW (cc := cX1_checkIndex) (maxL := 1) (ret := (none : Option FieldType)) (by decide) rfl ?_
  intro p e s m args below meth c s₁ B hml ht hv
  obtain ⟨rfl, rfl, hE, hI⟩ := hv_open B hml hv
  have hE : hv_E p s m ([.int x0] : List Value).toArray meth c cX1_checkIndex 1 (none : Option FieldType) RX1 G h := hE
  obtain ⟨⟨hx, hb, hml, hown, hts⟩, hr, hlocks, hXX⟩ := id hE
  have hl := lv_entry ([.int x0] : List Value) (n := 1) (Nat.le_of_ble_eq_true rfl)
  rw [lg_entry_eq]
  generalize (lg_sl ([.int x0] : List Value) ++ List.replicate (1 - (lg_sl ([.int x0] : List Value)).length) Slot.unset).toArray = ls at hl ⊢
  have hl : lv_has ls 1 [(0, .int x0)] := hl
  have hc : 0 ≤ mc := Nat.zero_le _
  have hs : 0 ≤ ms := Nat.zero_le _
  unfold wp_X1_checkIndex at hw
  refine lv_iload_n hx hb dX1_checkIndex_0 rfl (lv_at hl 0 rfl) ?_
  refine lv_if_ne (tgt := 12) hx hb dX1_checkIndex_1 (by decide) (fun c_1 => ?_) (fun c_1 => ?_)
  · have hw := hw.1 c_1
    exact vx_ret (hv_vret hE hI hc hs hw dX1_checkIndex_12)
  · have hw := hw.2 c_1
    obtain ⟨hc, hs, hw⟩ := hw
    exact hx_throw0 (names := ["java/lang/RuntimeException", "java/lang/Exception"]) (rest := []) hl0 hE hI (by decide +kernel) (by decide +kernel) (hts _ q1477) (hts _ q135) (ha_MatchmakerRules_9_IndexOutOfBoundsException hE) (by decide +kernel) hl.1 dX1_checkIndex_4 dX1_checkIndex_7 dX1_checkIndex_8 dX1_checkIndex_11 (fun z hz => (ht z hz).elim) (Nat.le_of_ble_eq_true rfl) (Nat.le_of_ble_eq_true rfl) (Nat.le_refl _) (Nat.le_refl _) hc hs hw

/-- MatchmakerRules$Book.rule(I)LMatchmakerRules$Rule; -/
abbrev rm_X2_rule (mc ms : Nat) : Room := { frames := 7, cells := mc, slots := ms, locals := 109 }
def wp_X2_rule (G : GG) (mc : Nat) (ms : Nat) (h : HH) (a0 : Nat) (x1 : Int32) (Q : Option Nat → HH → Prop) (X : String → Nat → HH → Prop) : Prop := w_getq h a0 2 1 (fun r1 => w_nn r1 (fun a2 => w_is h a2 4 (wp_J2_size G h a2 (fun r3 h4 => wp_X1_inRange G h4 (Int32.toInt64 x1) (0 : Int64) (Int32.toInt64 (r3 - (1 : Int32))) (fun r5 h6 => (∃ mc7 ms7, 0 + mc7 ≤ mc ∧ 0 + ms7 ≤ ms ∧ wp_X1_checkIndex G mc7 ms7 h6 r5 (fun h8 => w_getq h8 a0 2 1 (fun r11 => w_nn r11 (fun a12 => w_is h8 a12 4 (wp_J2_get G h8 a12 x1 (fun r13 h14 => w_nn r13 (fun a15 => w_cast h14 a15 12 (Q (some a15) h14))))))) (fun E q9 h10 => X E q9 h10)))))))
set_option maxHeartbeats 4000000 in
theorem snd_X2_rule (l : Launch) (hl0 : l.stackTraces = false) (G : GG) (sz : Nat) (mc : Nat) (ms : Nat) (h : HH) (a0 : Nat) (x1 : Int32) (Q : Option Nat → HH → Prop) (X : String → Nat → HH → Prop) (hw : wp_X2_rule G mc ms h a0 x1 Q X) : vx_Met l yX2_rule (ws_ yX2_rule cX2_rule 2 (some (FieldType.object "MatchmakerRules$Rule"))) (rm_X2_rule mc ms) (hv_Pc G h sz [.ref a0, .int x1]) (hv_Qq G h sz Q) (hv_XC G h sz X) mc ms (hv_A h sz) := by
  refine vx_ofW (cc := cX2_rule) (maxL := 2) (ret := (some (FieldType.object "MatchmakerRules$Rule"))) (by decide) rfl ?_
  intro p e s m args below meth c s₁ B hml ht hv
  obtain ⟨rfl, rfl, hE, hI⟩ := hv_open B hml hv
  have hE : hv_E p s m ([.ref a0, .int x1] : List Value).toArray meth c cX2_rule 2 (some (FieldType.object "MatchmakerRules$Rule")) RX2 G h := hE
  obtain ⟨⟨hx, hb, hml, hown, hts⟩, hr, hlocks, hXX⟩ := id hE
  have hl := lv_entry ([.ref a0, .int x1] : List Value) (n := 2) (Nat.le_of_ble_eq_true rfl)
  rw [lg_entry_eq]
  generalize (lg_sl ([.ref a0, .int x1] : List Value) ++ List.replicate (2 - (lg_sl ([.ref a0, .int x1] : List Value)).length) Slot.unset).toArray = ls at hl ⊢
  have hl : lv_has ls 2 [(0, .ref a0), (1, .int x1)] := hl
  have hc : 0 ≤ mc := Nat.zero_le _
  have hs : 0 ≤ ms := Nat.zero_le _
  unfold wp_X2_rule at hw
  refine lv_iload_n hx hb dX2_rule_0 rfl (lv_at hl 1 rfl) ?_
  refine lv_i2l (v := (Int32.toInt64 x1)) hx hb dX2_rule_1 rfl ?_
  refine lv_lconst (v := 0) hx hb dX2_rule_2 (by decide) ?_
  refine lv_aload_n hx hb dX2_rule_3 rfl (lv_at hl 0 rfl) ?_
  refine hv_wgetq hE hI in_X2 (ci := 2) rfl 1 (by decide) (hts _ q219) (fun _ hx => hx) hw dX2_rule_4 (fun r1 hw => ?_)
  obtain ⟨a2, hz, hwa2⟩ := hw; have hla2 := hl; subst hz; have hw := hwa2; have hl := hla2
  obtain ⟨⟨fs, hre⟩, hw⟩ := hw
  refine hv_rci hI (va_runV (As := []) (b := a2) (rest := [.long (0 : Int64), .long (Int32.toInt64 x1)]) hE.1 (snd_J2_size l G _ h a2 _ hw) (cwV 0 hts (lw_V q470 q333 q334 q102 q335) rfl rfl rfl (by decide +kernel) ⟨Nat.le_of_ble_eq_true rfl, Nat.le_of_ble_eq_true rfl⟩) (hv_preV hE hI (ci := 4) rfl hre) rfl rfl hl.1 rfl (lv_room (Nat.le_of_ble_eq_true rfl)) dX2_rule_7 ⟨hc, hs⟩) (fun r3 h4 H locs hw hI => ?_)
  refine lv_iconst (v := 1) hx hb dX2_rule_10 (by decide) ?_
  refine lv_isub hx hb dX2_rule_11 ?_
  refine lv_i2l (v := (Int32.toInt64 (r3 - (1 : Int32)))) hx hb dX2_rule_12 rfl ?_
  refine hv_rci hI (va_runSN (As := [.long (Int32.toInt64 x1), .long (0 : Int64), .long (Int32.toInt64 (r3 - (1 : Int32)))]) (rest := []) hE.1 (snd_X1_inRange l G _ h4 (Int32.toInt64 x1) (0 : Int64) (Int32.toInt64 (r3 - (1 : Int32))) _ hw) ⟨va_cnB 3 hts (lw_meth q783) rfl rfl rfl (hE.2.2.2.2.1.M 3 rfl) (hts _ q97) (by decide +kernel) ⟨Nat.le_of_ble_eq_true rfl, Nat.le_of_ble_eq_true rfl⟩, hts _ q782, trivial⟩ (hv_preS hE hI) rfl rfl hl.1 rfl (lv_room (Nat.le_of_ble_eq_true rfl)) dX2_rule_13 ⟨hc, hs⟩) (fun r5 h6 H locs hw hI => ?_)
  obtain ⟨mc7, ms7, hc, hs, hw⟩ := hw
  refine hx_rcv hI (vx_runSN (As := [.int r5]) (rest := []) hE.1 (snd_X1_checkIndex l hl0 G _ mc7 ms7 h6 r5 _ _ hw) ⟨va_cnB 1 hts (lw_meth q1476) rfl rfl rfl (hE.2.2.2.2.1.M 8 rfl) (hts _ q97) (by decide +kernel) ⟨Nat.le_of_ble_eq_true rfl, Nat.le_of_ble_eq_true rfl⟩, hts _ q1475, trivial⟩ (hv_preS hE hI) rfl rfl hl.1 rfl (lv_room (Nat.le_of_ble_eq_true rfl)) dX2_rule_16 ⟨hc, hs⟩) ?_ (fun h8 H locs hw hI => ?_)
  · intro E q9 h10 H locs hw hI hT
    exact hx_out hE hI hT hc hs (fun z hz => (ht z hz).elim) hw
  refine lv_aload_n hx hb dX2_rule_19 rfl (lv_at hl 0 rfl) ?_
  refine hv_wgetq hE hI in_X2 (ci := 2) rfl 1 (by decide) (hts _ q219) (fun _ hx => hx) hw dX2_rule_20 (fun r11 hw => ?_)
  refine lv_iload_n hx hb dX2_rule_23 rfl (lv_at hl 1 rfl) ?_
  obtain ⟨a12, hz, hwa12⟩ := hw; have hla12 := hl; subst hz; have hw := hwa12; have hl := hla12
  obtain ⟨⟨fs, hre⟩, hw⟩ := hw
  refine hv_rcq hI (va_runV (As := [.int x1]) (b := a12) (rest := []) hE.1 (snd_J2_get l G _ h8 a12 x1 _ hw) (cwV 1 hts (lw_V q471 q472 q473 q102 q474) rfl rfl rfl (by decide +kernel) ⟨Nat.le_of_ble_eq_true rfl, Nat.le_of_ble_eq_true rfl⟩) (hv_preV hE hI (ci := 4) rfl hre) rfl rfl hl.1 rfl (lv_room (Nat.le_of_ble_eq_true rfl)) dX2_rule_24 ⟨hc, hs⟩) (fun r13 h14 H locs hw hI => ?_)
  obtain ⟨a15, hz, hwa15⟩ := hw; have hla15 := hl; subst hz; have hw := hwa15; have hl := hla15
  refine hv_wcast (ci := 12) hE hI (hts _ q485) rfl hw dX2_rule_27 (fun hw => ?_)
  exact vx_ret (hv_qret (v := (some a15)) hE (Or.inl ⟨_, rfl⟩) hI hc hs hw dX2_rule_30)

/-- MatchmakerRules$Book.matches(LMatchmakerRules$Rule;)I -/
abbrev rm_X2_matches : Room := { frames := 7, cells := 0, slots := 0, locals := 148 }
def wp_X2_matches_L11 (G : GG) (a0 : Nat) (Q : Int32 → HH → Prop) : Nat → (HH) → (Int32) → (Option Nat) → Prop
  | 0, _, _, _ => False
  | n + 1, h, x2, x3 => w_nn x3 (fun a5 => w_is h a5 3 (wp_X3_goesOn G h a5 (fun r6 h7 => ((r6 = 0 → Q x2 h7) ∧ (¬ r6 = 0 → wp_X2_matches_L11 G a0 Q n h7 (x2 + (1 : Int32)) (some a5))))))
set_option maxHeartbeats 4000000 in
theorem snd_X2_matches_L11 {p : Program} {l : Launch} {e : Env} {s : State} {m : MethodId} {args : Array Value} {below : List Frame} {meth : Method} {c : Code} {h0 : HH} (G : GG) (a0 : Nat) (Q : Int32 → HH → Prop) (hE : hv_E p s m args meth c cX2_matches 4 (some FieldType.int) RX2 G h0) : ∀ (n : Nat) (h : HH) (x2 : Int32) (x3 : Option Nat), wp_X2_matches_L11 G a0 Q n h x2 x3 → ∀ (H : Heap) (locs : List Loc) (ls : Array Slot), hv_I G h0 s.heap h H locs → lv_has ls 4 [(2, .int x2), (3, va_rf x3)] → W p l e (headSpec (ws_ yX2_matches cX2_matches 4 (some FieldType.int)) rm_X2_matches).room s m args below meth c H locs 0 0 (MQ below (hv_Qi G h0 s.heap.size Q) args s 0 0 (hv_A h0 s.heap.size)) (F0 m 11 ls []) := by
  obtain ⟨⟨hx, hb, hml, hown, hts⟩, hr, hlocks, hXX⟩ := id hE
  intro n
  induction n with
  | zero => intro h x2 x3 hw; exact hw.elim
  | succ n ih =>
    intro h x2 x3 hw H locs ls hI hl
    unfold wp_X2_matches_L11 at hw
    refine lv_aload_nq hx hb dX2_matches_11 rfl (lv_at hl 1 rfl) ?_
    obtain ⟨a5, hz, hwa5⟩ := hw; have hla5 := hl; subst hz; have hw := hwa5; have hl := hla5
    obtain ⟨⟨fs, hre⟩, hw⟩ := hw
    refine hv_rci hI (va_runV (As := []) (b := a5) (rest := []) hE.1 (snd_X3_goesOn l G _ h a5 _ hw) (cwV 0 hts (lw_V q490 q491 q492 q99 q493) rfl rfl rfl (by decide +kernel) ⟨Nat.le_of_ble_eq_true rfl, Nat.le_of_ble_eq_true rfl⟩) (hv_preV hE hI (ci := 3) rfl hre) rfl rfl hl.1 rfl (lv_room (Nat.le_of_ble_eq_true rfl)) dX2_matches_12 ⟨Nat.le_of_ble_eq_true rfl, Nat.le_of_ble_eq_true rfl⟩) (fun r6 h7 H locs hw hI => ?_)
    refine lv_if_eq (tgt := 24) hx hb dX2_matches_15 (by decide) (fun c_15 => ?_) (fun c_15 => ?_)
    · have hw := hw.1 c_15
      refine lv_iload_n hx hb dX2_matches_24 rfl (lv_at hl 0 rfl) ?_
      exact hv_iret hE hI (Nat.le_refl _) (Nat.le_refl _) hw dX2_matches_25
    · have hw := hw.2 c_15
      refine lv_iinc (v := (x2 + (1 : Int32))) (lv' := [(2, .int (x2 + (1 : Int32))), (3, .ref a5)]) hx hb dX2_matches_18 hl (k := 0) rfl rfl (by decide) rfl (fun ls hl => ?_)
      refine lv_goto (tgt := 11) hx hb dX2_matches_21 (by decide) ?_
      exact ih h7 (x2 + (1 : Int32)) (some a5) hw _ _ _ hI (lv_sub hl [0, 1] rfl)
def wp_X2_matches (G : GG) (h : HH) (a0 : Nat) (x1 : Option Nat) (Q : Int32 → HH → Prop) : Prop := w_getq h a0 2 0 (fun r1 => w_nn r1 (fun a2 => w_is h a2 3 (wp_X3_begin G h a2 x1 (fun r3 h4 => (∃ n11, wp_X2_matches_L11 G a0 Q n11 h4 (0 : Int32) r3)))))
set_option maxHeartbeats 4000000 in
theorem snd_X2_matches (l : Launch) (G : GG) (sz : Nat) (h : HH) (a0 : Nat) (x1 : Option Nat) (Q : Int32 → HH → Prop) (hw : wp_X2_matches G h a0 x1 Q) : Met l yX2_matches (ws_ yX2_matches cX2_matches 4 (some FieldType.int)) rm_X2_matches (hv_Pc G h sz [.ref a0, va_rf x1]) (hv_Qi G h sz Q) 0 0 (hv_A h sz) := by
  refine Met.ofW (cc := cX2_matches) (maxL := 4) (ret := (some FieldType.int)) (by decide) rfl ?_
  intro p e s m args below meth c s₁ B hml hv
  obtain ⟨rfl, rfl, hE, hI⟩ := hv_open B hml hv
  have hE : hv_E p s m ([.ref a0, va_rf x1] : List Value).toArray meth c cX2_matches 4 (some FieldType.int) RX2 G h := hE
  obtain ⟨⟨hx, hb, hml, hown, hts⟩, hr, hlocks, hXX⟩ := id hE
  have hl := lv_entry ([.ref a0, va_rf x1] : List Value) (n := 4) (by cases x1 <;> exact Nat.le_of_ble_eq_true rfl)
  rw [lg_entry_eq]
  generalize (lg_sl ([.ref a0, va_rf x1] : List Value) ++ List.replicate (4 - (lg_sl ([.ref a0, va_rf x1] : List Value)).length) Slot.unset).toArray = ls at hl ⊢
  have hl : lv_has ls 4 [(0, .ref a0), (1, va_rf x1)] := (by cases x1 <;> exact hl)
  unfold wp_X2_matches at hw
  refine lv_iconst (v := 0) hx hb dX2_matches_0 (by decide) ?_
  refine lv_istore_n (lv' := [(2, .int (0 : Int32)), (0, .ref a0), (1, va_rf x1)]) hx hb dX2_matches_1 rfl hl (by decide) (by cases x1 <;> exact rfl) (fun ls hl => ?_)
  refine lv_aload_n hx hb dX2_matches_2 rfl (lv_at hl 1 rfl) ?_
  refine hv_wgetq hE hI in_X2 (ci := 2) rfl 0 (by decide) (hts _ q218) (fun _ hx => hx) hw dX2_matches_3 (fun r1 hw => ?_)
  refine lv_aload_nq hx hb dX2_matches_6 rfl (lv_at hl 2 rfl) ?_
  obtain ⟨a2, hz, hwa2⟩ := hw; have hla2 := hl; subst hz; have hw := hwa2; have hl := hla2
  obtain ⟨⟨fs, hre⟩, hw⟩ := hw
  refine hv_rcq hI (va_runV (As := [va_rf x1]) (b := a2) (rest := []) hE.1 (snd_X3_begin l G _ h a2 x1 _ hw) (cwV 1 hts (lw_V q486 q487 q488 q99 q489) rfl rfl rfl (by decide +kernel) ⟨Nat.le_of_ble_eq_true rfl, Nat.le_of_ble_eq_true rfl⟩) (hv_preV hE hI (ci := 3) rfl hre) rfl rfl hl.1 rfl (lv_room (Nat.le_of_ble_eq_true rfl)) dX2_matches_7 ⟨Nat.le_of_ble_eq_true rfl, Nat.le_of_ble_eq_true rfl⟩) (fun r3 h4 H locs hw hI => ?_)
  refine lv_astore_nq (lv' := [(3, va_rf r3), (2, .int (0 : Int32)), (0, .ref a0), (1, va_rf x1)]) hx hb dX2_matches_10 rfl hl (by decide) rfl (fun ls hl => ?_)
  obtain ⟨n11, hw⟩ := hw
  exact snd_X2_matches_L11 G a0 Q hE n11 h4 (0 : Int32) r3 hw _ _ _ hI (lv_sub hl [1, 0] rfl)

/-- MatchmakerRules.matches(I)I -/
abbrev rm_X1_matches (mc ms : Nat) : Room := { frames := 8, cells := mc, slots := ms, locals := 171 }
def wp_X1_matches (G : GG) (mc : Nat) (ms : Nat) (h : HH) (a0 : Nat) (x1 : Int32) (Q : Int32 → HH → Prop) (X : String → Nat → HH → Prop) : Prop := w_getq h a0 1 0 (fun r1 => w_getq h a0 1 0 (fun r2 => w_nn r2 (fun a3 => (∃ mc4 ms4, 0 + mc4 ≤ mc ∧ 0 + ms4 ≤ ms ∧ w_is h a3 2 (wp_X2_rule G mc4 ms4 h a3 x1 (fun r5 h6 => w_nn r1 (fun a9 => w_is h6 a9 2 (wp_X2_matches G h6 a9 r5 (fun r10 h11 => Q r10 h11)))) (fun E q7 h8 => X E q7 h8))))))
set_option maxHeartbeats 4000000 in
theorem snd_X1_matches (l : Launch) (hl0 : l.stackTraces = false) (G : GG) (sz : Nat) (mc : Nat) (ms : Nat) (h : HH) (a0 : Nat) (x1 : Int32) (Q : Int32 → HH → Prop) (X : String → Nat → HH → Prop) (hw : wp_X1_matches G mc ms h a0 x1 Q X) : vx_Met l yX1_matches (ws_ yX1_matches cX1_matches 2 (some FieldType.int)) (rm_X1_matches mc ms) (hv_Pc G h sz [.ref a0, .int x1]) (hv_Qi G h sz Q) (hv_XC G h sz X) mc ms (hv_A h sz) := by
  refine vx_ofW (cc := cX1_matches) (maxL := 2) (ret := (some FieldType.int)) (by decide) rfl ?_
  intro p e s m args below meth c s₁ B hml ht hv
  obtain ⟨rfl, rfl, hE, hI⟩ := hv_open B hml hv
  have hE : hv_E p s m ([.ref a0, .int x1] : List Value).toArray meth c cX1_matches 2 (some FieldType.int) RX1 G h := hE
  obtain ⟨⟨hx, hb, hml, hown, hts⟩, hr, hlocks, hXX⟩ := id hE
  have hl := lv_entry ([.ref a0, .int x1] : List Value) (n := 2) (Nat.le_of_ble_eq_true rfl)
  rw [lg_entry_eq]
  generalize (lg_sl ([.ref a0, .int x1] : List Value) ++ List.replicate (2 - (lg_sl ([.ref a0, .int x1] : List Value)).length) Slot.unset).toArray = ls at hl ⊢
  have hl : lv_has ls 2 [(0, .ref a0), (1, .int x1)] := hl
  have hc : 0 ≤ mc := Nat.zero_le _
  have hs : 0 ≤ ms := Nat.zero_le _
  unfold wp_X1_matches at hw
  refine lv_aload_n hx hb dX1_matches_0 rfl (lv_at hl 0 rfl) ?_
  refine hv_wgetq hE hI in_X1 (ci := 1) rfl 0 (by decide) (hts _ q300) (fun _ hx => hx) hw dX1_matches_1 (fun r1 hw => ?_)
  refine lv_aload_n hx hb dX1_matches_4 rfl (lv_at hl 0 rfl) ?_
  refine hv_wgetq hE hI in_X1 (ci := 1) rfl 0 (by decide) (hts _ q300) (fun _ hx => hx) hw dX1_matches_5 (fun r2 hw => ?_)
  refine lv_iload_n hx hb dX1_matches_8 rfl (lv_at hl 1 rfl) ?_
  obtain ⟨a3, hz, hwa3⟩ := hw; have hla3 := hl; subst hz; have hw := hwa3; have hl := hla3
  obtain ⟨mc4, ms4, hc, hs, hw⟩ := hw
  obtain ⟨⟨fs, hre⟩, hw⟩ := hw
  refine hx_rcq hI (vx_runV (As := [.int x1]) (b := a3) (rest := [va_rf r1]) hE.1 (snd_X2_rule l hl0 G _ mc4 ms4 h a3 x1 _ _ hw) (cwV 1 hts (lw_V q1470 q1471 q1472 q98 q1473) rfl rfl rfl (by decide +kernel) ⟨Nat.le_of_ble_eq_true rfl, Nat.le_of_ble_eq_true rfl⟩) (hv_preV hE hI (ci := 2) rfl hre) rfl rfl hl.1 rfl (lv_room (by cases r1 <;> exact Nat.le_of_ble_eq_true rfl)) dX1_matches_9 ⟨hc, hs⟩) ?_ (fun r5 h6 H locs hw hI => ?_)
  · intro E q7 h8 H locs hw hI hT
    exact hx_out hE hI hT hc hs (fun z hz => (ht z hz).elim) hw
  obtain ⟨a9, hz, hwa9⟩ := hw; have hla9 := hl; subst hz; have hw := hwa9; have hl := hla9
  obtain ⟨⟨fs, hre⟩, hw⟩ := hw
  refine hv_rci hI (va_runV (As := [va_rf r5]) (b := a9) (rest := []) hE.1 (snd_X2_matches l G _ h6 a9 r5 _ hw) (cwV 1 hts (lw_V q1492 q1493 q1494 q98 q1495) rfl rfl rfl (by decide +kernel) ⟨Nat.le_of_ble_eq_true rfl, Nat.le_of_ble_eq_true rfl⟩) (hv_preV hE hI (ci := 2) rfl hre) rfl rfl hl.1 rfl (lv_room (Nat.le_of_ble_eq_true rfl)) dX1_matches_12 ⟨hc, hs⟩) (fun r10 h11 H locs hw hI => ?_)
  exact vx_ret (hv_iret hE hI hc hs hw dX1_matches_15)

/-- MatchmakerRules.fire()I -/
abbrev rm_X1_fire (mc ms : Nat) : Room := { frames := 12, cells := mc, slots := ms, locals := 3195 }
def wp_X1_fire (G : GG) (mc : Nat) (ms : Nat) (h : HH) (a0 : Nat) (Q : Int32 → HH → Prop) (X : String → Nat → HH → Prop) : Prop := (0 + 1 ≤ mc ∧ 0 + 3 ≤ ms ∧ w_new h (.inr (8, df_X5)) (fun a1 h2 => ((0 + 1) + 1 ≤ mc ∧ (0 + 3) + 0 ≤ ms ∧ w_new h2 (.inl (G.2.1 0, 0, .inl (fun _ => 0))) (fun a3 h4 => wp_X5_init_2 G h4 a1 (33 : Int32) (some a3) (fun h5 => (∃ mc6 ms6, ((0 + 1) + 1) + mc6 ≤ mc ∧ ((0 + 3) + 0) + ms6 ≤ ms ∧ w_is h5 a0 1 (wp_X1_change G mc6 ms6 h5 a0 (some a1) (fun r7 h8 => Q r7 h8) (fun E q9 h10 => X E q9 h10))))))))
set_option maxHeartbeats 4000000 in
theorem snd_X1_fire (l : Launch) (hl0 : l.stackTraces = false) (G : GG) (sz : Nat) (mc : Nat) (ms : Nat) (h : HH) (a0 : Nat) (Q : Int32 → HH → Prop) (X : String → Nat → HH → Prop) (hw : wp_X1_fire G mc ms h a0 Q X) : vx_Met l yX1_fire (ws_ yX1_fire cX1_fire 1 (some FieldType.int)) (rm_X1_fire mc ms) (hv_Pc G h sz [.ref a0]) (hv_Qi G h sz Q) (hv_XC G h sz X) mc ms (hv_A h sz) := by
  refine vx_ofW (cc := cX1_fire) (maxL := 1) (ret := (some FieldType.int)) (by decide) rfl ?_
  intro p e s m args below meth c s₁ B hml ht hv
  obtain ⟨rfl, rfl, hE, hI⟩ := hv_open B hml hv
  have hE : hv_E p s m ([.ref a0] : List Value).toArray meth c cX1_fire 1 (some FieldType.int) RX1 G h := hE
  obtain ⟨⟨hx, hb, hml, hown, hts⟩, hr, hlocks, hXX⟩ := id hE
  have hl := lv_entry ([.ref a0] : List Value) (n := 1) (Nat.le_of_ble_eq_true rfl)
  rw [lg_entry_eq]
  generalize (lg_sl ([.ref a0] : List Value) ++ List.replicate (1 - (lg_sl ([.ref a0] : List Value)).length) Slot.unset).toArray = ls at hl ⊢
  have hl : lv_has ls 1 [(0, .ref a0)] := hl
  have hc : 0 ≤ mc := Nat.zero_le _
  have hs : 0 ≤ ms := Nat.zero_le _
  unfold wp_X1_fire at hw
  refine lv_aload_n hx hb dX1_fire_0 rfl (lv_at hl 0 rfl) ?_
  obtain ⟨hc, hs, hw⟩ := hw
  refine hv_wnew tyX5 hE hI in_X5 tyX5_ok (hts _ q658) (hts _ q659) (hts _ q109) (ci := 8) rfl df_X5_ok hw hc hs dX1_fire_1 (fun a1 h2 H hw hI => ?_)
  refine lv_dup hx hb dX1_fire_4 rfl ?_
  refine lv_bipush (v := 33) hx hb dX1_fire_5 (by decide) ?_
  refine lv_iconst (v := 0) hx hb dX1_fire_7 (by decide) ?_
  obtain ⟨hc, hs, hw⟩ := hw
  refine hv_wnewa_int (N' := 0) hE hI (hts _ q188) (by decide +kernel) (by decide +kernel) (by decide) hw hc hs dX1_fire_8 (fun a3 h4 H hw hI => ?_)
  refine hv_rcv hI (va_runI (As := [.int (33 : Int32), .ref a3]) (b := a1) (rest := [.ref a1, .ref a0]) hE.1 (snd_X5_init_2 l G _ h4 a1 (33 : Int32) (some a3) _ hw) (cwI 2 hts (lw_meth q1319) rfl rfl rfl (hts _ q109) (hts _ q1317) (hts _ q1318) rfl (by decide +kernel) ⟨Nat.le_of_ble_eq_true rfl, Nat.le_of_ble_eq_true rfl⟩) (hv_preS hE hI) rfl rfl hl.1 rfl (lv_room (Nat.le_of_ble_eq_true rfl)) dX1_fire_10 ⟨hc, hs⟩) (fun h5 H locs hw hI => ?_)
  obtain ⟨mc6, ms6, hc, hs, hw⟩ := hw
  obtain ⟨⟨fs, hre⟩, hw⟩ := hw
  refine hx_rci hI (vx_runVX (As := [.ref a1]) (b := a0) (rest := []) hE.1 (snd_X1_change l hl0 G _ mc6 ms6 h5 a0 (some a1) _ _ hw) (vx_cwVW 1 hts (lw_VW q898 q900 qs15 q97 q901) rfl rfl rfl (by decide +kernel) ⟨Nat.le_of_ble_eq_true rfl, Nat.le_of_ble_eq_true rfl⟩) (hv_preV hE hI (ci := 1) rfl hre) rfl rfl hl.1 rfl (lv_room (Nat.le_of_ble_eq_true rfl)) dX1_fire_13 ⟨hc, hs⟩) ?_ (fun r7 h8 H locs hw hI => ?_)
  · intro E q9 h10 H locs hw hI hT
    exact hx_out hE hI hT hc hs (fun z hz => (ht z hz).elim) hw
  exact vx_ret (hv_iret hE hI hc hs hw dX1_fire_16)

/-- MatchmakerRules.run(I)I -/
abbrev rm_X1_run (mc ms : Nat) : Room := { frames := 12, cells := mc, slots := ms, locals := 3195 }
def wp_X1_run (G : GG) (mc : Nat) (ms : Nat) (h : HH) (a0 : Nat) (x1 : Int32) (Q : Int32 → HH → Prop) (X : String → Nat → HH → Prop) : Prop := (0 + 1 ≤ mc ∧ 0 + 3 ≤ ms ∧ w_new h (.inr (8, df_X5)) (fun a1 h2 => ((0 + 1) + 1 ≤ mc ∧ (0 + 3) + 1 ≤ ms ∧ w_new h2 (.inl (G.2.1 0, 1, .inl (fun _ => 0))) (fun a3 h4 => w_ist G h4 a3 (0 : Int32) x1 (fun h5 => wp_X5_init_2 G h5 a1 (102 : Int32) (some a3) (fun h6 => (∃ mc7 ms7, ((0 + 1) + 1) + mc7 ≤ mc ∧ ((0 + 3) + 1) + ms7 ≤ ms ∧ w_is h6 a0 1 (wp_X1_change G mc7 ms7 h6 a0 (some a1) (fun r8 h9 => Q r8 h9) (fun E q10 h11 => X E q10 h11)))))))))
set_option maxHeartbeats 4000000 in
theorem snd_X1_run (l : Launch) (hl0 : l.stackTraces = false) (G : GG) (sz : Nat) (mc : Nat) (ms : Nat) (h : HH) (a0 : Nat) (x1 : Int32) (Q : Int32 → HH → Prop) (X : String → Nat → HH → Prop) (hw : wp_X1_run G mc ms h a0 x1 Q X) : vx_Met l yX1_run (ws_ yX1_run cX1_run 2 (some FieldType.int)) (rm_X1_run mc ms) (hv_Pc G h sz [.ref a0, .int x1]) (hv_Qi G h sz Q) (hv_XC G h sz X) mc ms (hv_A h sz) := by
  refine vx_ofW (cc := cX1_run) (maxL := 2) (ret := (some FieldType.int)) (by decide) rfl ?_
  intro p e s m args below meth c s₁ B hml ht hv
  obtain ⟨rfl, rfl, hE, hI⟩ := hv_open B hml hv
  have hE : hv_E p s m ([.ref a0, .int x1] : List Value).toArray meth c cX1_run 2 (some FieldType.int) RX1 G h := hE
  obtain ⟨⟨hx, hb, hml, hown, hts⟩, hr, hlocks, hXX⟩ := id hE
  have hl := lv_entry ([.ref a0, .int x1] : List Value) (n := 2) (Nat.le_of_ble_eq_true rfl)
  rw [lg_entry_eq]
  generalize (lg_sl ([.ref a0, .int x1] : List Value) ++ List.replicate (2 - (lg_sl ([.ref a0, .int x1] : List Value)).length) Slot.unset).toArray = ls at hl ⊢
  have hl : lv_has ls 2 [(0, .ref a0), (1, .int x1)] := hl
  have hc : 0 ≤ mc := Nat.zero_le _
  have hs : 0 ≤ ms := Nat.zero_le _
  unfold wp_X1_run at hw
  refine lv_aload_n hx hb dX1_run_0 rfl (lv_at hl 0 rfl) ?_
  obtain ⟨hc, hs, hw⟩ := hw
  refine hv_wnew tyX5 hE hI in_X5 tyX5_ok (hts _ q658) (hts _ q659) (hts _ q109) (ci := 8) rfl df_X5_ok hw hc hs dX1_run_1 (fun a1 h2 H hw hI => ?_)
  refine lv_dup hx hb dX1_run_4 rfl ?_
  refine lv_bipush (v := 102) hx hb dX1_run_5 (by decide) ?_
  refine lv_iconst (v := 1) hx hb dX1_run_7 (by decide) ?_
  obtain ⟨hc, hs, hw⟩ := hw
  refine hv_wnewa_int (N' := 1) hE hI (hts _ q188) (by decide +kernel) (by decide +kernel) (by decide) hw hc hs dX1_run_8 (fun a3 h4 H hw hI => ?_)
  refine lv_dup hx hb dX1_run_10 rfl ?_
  refine lv_iconst (v := 0) hx hb dX1_run_11 (by decide) ?_
  refine lv_iload_n hx hb dX1_run_12 rfl (lv_at hl 1 rfl) ?_
  refine hv_wist hE hI hw dX1_run_13 (fun h5 H locs hw hI => ?_)
  refine hv_rcv hI (va_runI (As := [.int (102 : Int32), .ref a3]) (b := a1) (rest := [.ref a1, .ref a0]) hE.1 (snd_X5_init_2 l G _ h5 a1 (102 : Int32) (some a3) _ hw) (cwI 2 hts (lw_meth q1319) rfl rfl rfl (hts _ q109) (hts _ q1317) (hts _ q1318) rfl (by decide +kernel) ⟨Nat.le_of_ble_eq_true rfl, Nat.le_of_ble_eq_true rfl⟩) (hv_preS hE hI) rfl rfl hl.1 rfl (lv_room (Nat.le_of_ble_eq_true rfl)) dX1_run_14 ⟨hc, hs⟩) (fun h6 H locs hw hI => ?_)
  obtain ⟨mc7, ms7, hc, hs, hw⟩ := hw
  obtain ⟨⟨fs, hre⟩, hw⟩ := hw
  refine hx_rci hI (vx_runVX (As := [.ref a1]) (b := a0) (rest := []) hE.1 (snd_X1_change l hl0 G _ mc7 ms7 h6 a0 (some a1) _ _ hw) (vx_cwVW 1 hts (lw_VW q898 q900 qs15 q97 q901) rfl rfl rfl (by decide +kernel) ⟨Nat.le_of_ble_eq_true rfl, Nat.le_of_ble_eq_true rfl⟩) (hv_preV hE hI (ci := 1) rfl hre) rfl rfl hl.1 rfl (lv_room (Nat.le_of_ble_eq_true rfl)) dX1_run_17 ⟨hc, hs⟩) ?_ (fun r8 h9 H locs hw hI => ?_)
  · intro E q10 h11 H locs hw hI hT
    exact hx_out hE hI hT hc hs (fun z hz => (ht z hz).elim) hw
  exact vx_ret (hv_iret hE hI hc hs hw dX1_run_20)

/-- MatchmakerRules$Book.quietIn()I -/
abbrev rm_X2_quietIn (mc ms : Nat) : Room := { frames := 9, cells := mc, slots := ms, locals := 251 }
def wp_X2_quietIn_L7 (G : GG) (mc : Nat) (ms : Nat) (a0 : Nat) (Q : Int32 → HH → Prop) : Nat → (HH) → (Nat) → (Nat) → (Option Nat) → (Int32) → Prop
  | 0, _, _, _, _, _ => False
  | n + 1, h, nc, nk, x1, x2 => (((60 : Int32) < x2 → Q (-1 : Int32) h) ∧ (¬ (60 : Int32) < x2 → w_nn x1 (fun a4 => (∃ mc5 ms5, nc + mc5 ≤ mc ∧ nk + ms5 ≤ ms ∧ w_is h a4 2 (wp_X2_foremost G mc5 ms5 h a4 (fun r6 h7 => ((r6 = none → Q x2 h7) ∧ (∀ a8, r6 = some a8 → (∃ mc9 ms9, (nc + mc5) + mc9 ≤ mc ∧ (nk + ms5) + ms9 ≤ ms ∧ w_is h7 a4 2 (wp_X2_fire G mc9 ms9 h7 a4 (some a8) (fun r10 h11 => wp_X2_quietIn_L7 G mc ms a0 Q n h11 ((nc + mc5) + mc9) ((nk + ms5) + ms9) (some a4) (x2 + (1 : Int32)))))))))))))
set_option maxHeartbeats 4000000 in
theorem snd_X2_quietIn_L7 {p : Program} {l : Launch} {e : Env} {s : State} {m : MethodId} {args : Array Value} {below : List Frame} {meth : Method} {c : Code} {h0 : HH} (G : GG) (mc : Nat) (ms : Nat) (a0 : Nat) (Q : Int32 → HH → Prop) (hE : hv_E p s m args meth c cX2_quietIn 5 (some FieldType.int) RX2 G h0) : ∀ (n : Nat) (h : HH) (nc : Nat) (nk : Nat) (x1 : Option Nat) (x2 : Int32), wp_X2_quietIn_L7 G mc ms a0 Q n h nc nk x1 x2 → nc ≤ mc → nk ≤ ms → ∀ (H : Heap) (locs : List Loc) (ls : Array Slot), hv_I G h0 s.heap h H locs → lv_has ls 5 [(1, va_rf x1), (2, .int x2)] → W p l e (headSpec (ws_ yX2_quietIn cX2_quietIn 5 (some FieldType.int)) (rm_X2_quietIn mc ms)).room s m args below meth c H locs nc nk (MQ below (hv_Qi G h0 s.heap.size Q) args s mc ms (hv_A h0 s.heap.size)) (F0 m 7 ls []) := by
  obtain ⟨⟨hx, hb, hml, hown, hts⟩, hr, hlocks, hXX⟩ := id hE
  intro n
  induction n with
  | zero => intro h nc nk x1 x2 hw; exact hw.elim
  | succ n ih =>
    intro h nc nk x1 x2 hw hc hs H locs ls hI hl
    unfold wp_X2_quietIn_L7 at hw
    refine lv_iload_n hx hb dX2_quietIn_7 rfl (lv_at hl 1 rfl) ?_
    refine lv_bipush (v := 60) hx hb dX2_quietIn_8 (by decide) ?_
    refine lv_icmp_gt (tgt := 37) hx hb dX2_quietIn_10 (by decide) (fun c_10 => ?_) (fun c_10 => ?_)
    · have hw := hw.1 c_10
      refine lv_iconst (v := -1) hx hb dX2_quietIn_37 (by decide) ?_
      exact hv_iret hE hI hc hs hw dX2_quietIn_38
    · have hw := hw.2 c_10
      refine lv_aload_nq hx hb dX2_quietIn_13 rfl (lv_at hl 0 rfl) ?_
      obtain ⟨a4, hz, hwa4⟩ := hw; have hla4 := hl; subst hz; have hw := hwa4; have hl := hla4
      obtain ⟨mc5, ms5, hc, hs, hw⟩ := hw
      obtain ⟨⟨fs, hre⟩, hw⟩ := hw
      refine hv_rcq hI (va_runV (As := []) (b := a4) (rest := []) hE.1 (snd_X2_foremost l G _ mc5 ms5 h a4 _ hw) (cwV 0 hts (lw_V q1176 q1178 qs22 q98 q1179) rfl rfl rfl (by decide +kernel) ⟨Nat.le_of_ble_eq_true rfl, Nat.le_of_ble_eq_true rfl⟩) (hv_preV hE hI (ci := 2) rfl hre) rfl rfl hl.1 rfl (lv_room (Nat.le_of_ble_eq_true rfl)) dX2_quietIn_14 ⟨hc, hs⟩) (fun r6 h7 H locs hw hI => ?_)
      refine lv_astore_nq (lv' := [(3, va_rf r6), (1, .ref a4), (2, .int x2)]) hx hb dX2_quietIn_17 rfl hl (by decide) rfl (fun ls hl => ?_)
      refine lv_aload_nq hx hb dX2_quietIn_18 rfl (lv_at hl 0 rfl) ?_
      refine lv_ifnonnullq (tgt := 24) hx hb dX2_quietIn_19 (by decide) (fun c_19 => ?_) (fun c_19 => ?_)
      · obtain ⟨a8, hz⟩ := Option.ne_none_iff_exists.mp c_19
        have hwa8 := hw.2 a8 hz.symm; have hla8 := hl; subst hz; have hw := hwa8; have hl := hla8
        refine lv_aload_n hx hb dX2_quietIn_24 rfl (lv_at hl 1 rfl) ?_
        refine lv_aload_n hx hb dX2_quietIn_25 rfl (lv_at hl 0 rfl) ?_
        obtain ⟨mc9, ms9, hc, hs, hw⟩ := hw
        obtain ⟨⟨fs, hre⟩, hw⟩ := hw
        refine hv_rci hI (va_runV (As := [.ref a8]) (b := a4) (rest := []) hE.1 (snd_X2_fire l G _ mc9 ms9 h7 a4 (some a8) _ hw) (cwV 1 hts (lw_V q1224 q1226 qs24 q98 q1227) rfl rfl rfl (by decide +kernel) ⟨Nat.le_of_ble_eq_true rfl, Nat.le_of_ble_eq_true rfl⟩) (hv_preV hE hI (ci := 2) rfl hre) rfl rfl hl.1 rfl (lv_room (Nat.le_of_ble_eq_true rfl)) dX2_quietIn_26 ⟨hc, hs⟩) (fun r10 h11 H locs hw hI => ?_)
        refine lv_istore (lv' := [(4, .int r10), (3, .ref a8), (1, .ref a4), (2, .int x2)]) hx hb dX2_quietIn_29 hl (by decide) rfl (fun ls hl => ?_)
        refine lv_iinc (v := (x2 + (1 : Int32))) (lv' := [(2, .int (x2 + (1 : Int32))), (4, .int r10), (3, .ref a8), (1, .ref a4)]) hx hb dX2_quietIn_31 hl (k := 3) rfl rfl (by decide) rfl (fun ls hl => ?_)
        refine lv_goto (tgt := 7) hx hb dX2_quietIn_34 (by decide) ?_
        exact ih h11 ((nc + mc5) + mc9) ((nk + ms5) + ms9) (some a4) (x2 + (1 : Int32)) hw hc hs _ _ _ hI (lv_sub hl [3, 0] rfl)
      · have hwa8 := hw.1 c_19; have hla8 := hl; subst c_19; have hw := hwa8; have hl := hla8
        refine lv_iload_n hx hb dX2_quietIn_22 rfl (lv_at hl 2 rfl) ?_
        exact hv_iret hE hI hc hs hw dX2_quietIn_23
def wp_X2_quietIn (G : GG) (mc : Nat) (ms : Nat) (h : HH) (a0 : Nat) (Q : Int32 → HH → Prop) : Prop := (∃ mc1 ms1, 0 + mc1 ≤ mc ∧ 0 + ms1 ≤ ms ∧ w_is h a0 2 (wp_X2_copy G mc1 ms1 h a0 (fun r2 h3 => (∃ n7, wp_X2_quietIn_L7 G mc ms a0 Q n7 h3 (0 + mc1) (0 + ms1) r2 (0 : Int32)))))
set_option maxHeartbeats 4000000 in
theorem snd_X2_quietIn (l : Launch) (G : GG) (sz : Nat) (mc : Nat) (ms : Nat) (h : HH) (a0 : Nat) (Q : Int32 → HH → Prop) (hw : wp_X2_quietIn G mc ms h a0 Q) : Met l yX2_quietIn (ws_ yX2_quietIn cX2_quietIn 5 (some FieldType.int)) (rm_X2_quietIn mc ms) (hv_Pc G h sz [.ref a0]) (hv_Qi G h sz Q) mc ms (hv_A h sz) := by
  refine Met.ofW (cc := cX2_quietIn) (maxL := 5) (ret := (some FieldType.int)) (by decide) rfl ?_
  intro p e s m args below meth c s₁ B hml hv
  obtain ⟨rfl, rfl, hE, hI⟩ := hv_open B hml hv
  have hE : hv_E p s m ([.ref a0] : List Value).toArray meth c cX2_quietIn 5 (some FieldType.int) RX2 G h := hE
  obtain ⟨⟨hx, hb, hml, hown, hts⟩, hr, hlocks, hXX⟩ := id hE
  have hl := lv_entry ([.ref a0] : List Value) (n := 5) (Nat.le_of_ble_eq_true rfl)
  rw [lg_entry_eq]
  generalize (lg_sl ([.ref a0] : List Value) ++ List.replicate (5 - (lg_sl ([.ref a0] : List Value)).length) Slot.unset).toArray = ls at hl ⊢
  have hl : lv_has ls 5 [(0, .ref a0)] := hl
  have hc : 0 ≤ mc := Nat.zero_le _
  have hs : 0 ≤ ms := Nat.zero_le _
  unfold wp_X2_quietIn at hw
  refine lv_aload_n hx hb dX2_quietIn_0 rfl (lv_at hl 0 rfl) ?_
  obtain ⟨mc1, ms1, hc, hs, hw⟩ := hw
  obtain ⟨⟨fs, hre⟩, hw⟩ := hw
  refine hv_rcq hI (va_runV (As := []) (b := a0) (rest := []) hE.1 (snd_X2_copy l G _ mc1 ms1 h a0 _ hw) (cwV 0 hts (lw_V q1521 q904 q905 q98 q906) rfl rfl rfl (by decide +kernel) ⟨Nat.le_of_ble_eq_true rfl, Nat.le_of_ble_eq_true rfl⟩) (hv_preV hE hI (ci := 2) rfl hre) rfl rfl hl.1 rfl (lv_room (Nat.le_of_ble_eq_true rfl)) dX2_quietIn_1 ⟨hc, hs⟩) (fun r2 h3 H locs hw hI => ?_)
  refine lv_astore_nq (lv' := [(1, va_rf r2), (0, .ref a0)]) hx hb dX2_quietIn_4 rfl hl (by decide) rfl (fun ls hl => ?_)
  refine lv_iconst (v := 0) hx hb dX2_quietIn_5 (by decide) ?_
  refine lv_istore_n (lv' := [(2, .int (0 : Int32)), (1, va_rf r2), (0, .ref a0)]) hx hb dX2_quietIn_6 rfl hl (by decide) (by cases r2 <;> exact rfl) (fun ls hl => ?_)
  obtain ⟨n7, hw⟩ := hw
  exact snd_X2_quietIn_L7 G mc ms a0 Q hE n7 h3 (0 + mc1) (0 + ms1) r2 (0 : Int32) hw hc hs _ _ _ hI (lv_sub hl [1, 0] rfl)

/-- MatchmakerRules.quietIn()I -/
abbrev rm_X1_quietIn (mc ms : Nat) : Room := { frames := 10, cells := mc, slots := ms, locals := 275 }
def wp_X1_quietIn (G : GG) (mc : Nat) (ms : Nat) (h : HH) (a0 : Nat) (Q : Int32 → HH → Prop) (X : String → Nat → HH → Prop) : Prop := w_getq h a0 1 0 (fun r1 => w_nn r1 (fun a2 => (∃ mc3 ms3, 0 + mc3 ≤ mc ∧ 0 + ms3 ≤ ms ∧ w_is h a2 2 (wp_X2_quietIn G mc3 ms3 h a2 (fun r4 h5 => ((r4 = (-1 : Int32) → (∃ mc6 ms6, (0 + mc3) + mc6 ≤ mc ∧ (0 + ms3) + ms6 ≤ ms ∧ wp_X1_checkElement G mc6 ms6 h5 (0 : Int32) (fun h7 => Q r4 h7) (fun E q8 h9 => X E q8 h9))) ∧ (¬ r4 = (-1 : Int32) → (∃ mc10 ms10, (0 + mc3) + mc10 ≤ mc ∧ (0 + ms3) + ms10 ≤ ms ∧ wp_X1_checkElement G mc10 ms10 h5 (1 : Int32) (fun h11 => Q r4 h11) (fun E q12 h13 => X E q12 h13)))))))))
set_option maxHeartbeats 4000000 in
theorem snd_X1_quietIn (l : Launch) (hl0 : l.stackTraces = false) (G : GG) (sz : Nat) (mc : Nat) (ms : Nat) (h : HH) (a0 : Nat) (Q : Int32 → HH → Prop) (X : String → Nat → HH → Prop) (hw : wp_X1_quietIn G mc ms h a0 Q X) : vx_Met l yX1_quietIn (ws_ yX1_quietIn cX1_quietIn 2 (some FieldType.int)) (rm_X1_quietIn mc ms) (hv_Pc G h sz [.ref a0]) (hv_Qi G h sz Q) (hv_XC G h sz X) mc ms (hv_A h sz) := by
  refine vx_ofW (cc := cX1_quietIn) (maxL := 2) (ret := (some FieldType.int)) (by decide) rfl ?_
  intro p e s m args below meth c s₁ B hml ht hv
  obtain ⟨rfl, rfl, hE, hI⟩ := hv_open B hml hv
  have hE : hv_E p s m ([.ref a0] : List Value).toArray meth c cX1_quietIn 2 (some FieldType.int) RX1 G h := hE
  obtain ⟨⟨hx, hb, hml, hown, hts⟩, hr, hlocks, hXX⟩ := id hE
  have hl := lv_entry ([.ref a0] : List Value) (n := 2) (Nat.le_of_ble_eq_true rfl)
  rw [lg_entry_eq]
  generalize (lg_sl ([.ref a0] : List Value) ++ List.replicate (2 - (lg_sl ([.ref a0] : List Value)).length) Slot.unset).toArray = ls at hl ⊢
  have hl : lv_has ls 2 [(0, .ref a0)] := hl
  have hc : 0 ≤ mc := Nat.zero_le _
  have hs : 0 ≤ ms := Nat.zero_le _
  unfold wp_X1_quietIn at hw
  refine lv_aload_n hx hb dX1_quietIn_0 rfl (lv_at hl 0 rfl) ?_
  refine hv_wgetq hE hI in_X1 (ci := 1) rfl 0 (by decide) (hts _ q300) (fun _ hx => hx) hw dX1_quietIn_1 (fun r1 hw => ?_)
  obtain ⟨a2, hz, hwa2⟩ := hw; have hla2 := hl; subst hz; have hw := hwa2; have hl := hla2
  obtain ⟨mc3, ms3, hc, hs, hw⟩ := hw
  obtain ⟨⟨fs, hre⟩, hw⟩ := hw
  refine hv_rci hI (va_runV (As := []) (b := a2) (rest := []) hE.1 (snd_X2_quietIn l G _ mc3 ms3 h a2 _ hw) (cwV 0 hts (lw_V q1517 q1518 q1519 q98 q1520) rfl rfl rfl (by decide +kernel) ⟨Nat.le_of_ble_eq_true rfl, Nat.le_of_ble_eq_true rfl⟩) (hv_preV hE hI (ci := 2) rfl hre) rfl rfl hl.1 rfl (lv_room (Nat.le_of_ble_eq_true rfl)) dX1_quietIn_4 ⟨hc, hs⟩) (fun r4 h5 H locs hw hI => ?_)
  refine lv_istore_n (lv' := [(1, .int r4), (0, .ref a0)]) hx hb dX1_quietIn_7 rfl hl (by decide) rfl (fun ls hl => ?_)
  refine lv_iload_n hx hb dX1_quietIn_8 rfl (lv_at hl 0 rfl) ?_
  refine lv_iconst (v := -1) hx hb dX1_quietIn_9 (by decide) ?_
  refine lv_icmp_eq (tgt := 17) hx hb dX1_quietIn_10 (by decide) (fun c_10 => ?_) (fun c_10 => ?_)
  · have hw := hw.1 c_10
    refine lv_iconst (v := 0) hx hb dX1_quietIn_17 (by decide) ?_
    obtain ⟨mc6, ms6, hc, hs, hw⟩ := hw
    refine hx_rcv hI (vx_runS (As := [.int (0 : Int32)]) (rest := []) hE.1 (snd_X1_checkElement l hl0 G _ mc6 ms6 h5 (0 : Int32) _ _ hw) (va_cwS 1 hts (lw_S q1346 q1347 q97 q1348) rfl rfl rfl (by decide +kernel) ⟨Nat.le_of_ble_eq_true rfl, Nat.le_of_ble_eq_true rfl⟩) (hv_preS hE hI) rfl rfl hl.1 rfl (lv_room (Nat.le_of_ble_eq_true rfl)) dX1_quietIn_18 ⟨hc, hs⟩) ?_ (fun h7 H locs hw hI => ?_)
    · intro E q8 h9 H locs hw hI hT
      exact hx_out hE hI hT hc hs (fun z hz => (ht z hz).elim) hw
    refine lv_iload_n hx hb dX1_quietIn_21 rfl (lv_at hl 0 rfl) ?_
    exact vx_ret (hv_iret hE hI hc hs hw dX1_quietIn_22)
  · have hw := hw.2 c_10
    refine lv_iconst (v := 1) hx hb dX1_quietIn_13 (by decide) ?_
    refine lv_goto (tgt := 18) hx hb dX1_quietIn_14 (by decide) ?_
    obtain ⟨mc10, ms10, hc, hs, hw⟩ := hw
    refine hx_rcv hI (vx_runS (As := [.int (1 : Int32)]) (rest := []) hE.1 (snd_X1_checkElement l hl0 G _ mc10 ms10 h5 (1 : Int32) _ _ hw) (va_cwS 1 hts (lw_S q1346 q1347 q97 q1348) rfl rfl rfl (by decide +kernel) ⟨Nat.le_of_ble_eq_true rfl, Nat.le_of_ble_eq_true rfl⟩) (hv_preS hE hI) rfl rfl hl.1 rfl (lv_room (Nat.le_of_ble_eq_true rfl)) dX1_quietIn_18 ⟨hc, hs⟩) ?_ (fun h11 H locs hw hI => ?_)
    · intro E q12 h13 H locs hw hI hT
      exact hx_out hE hI hT hc hs (fun z hz => (ht z hz).elim) hw
    refine lv_iload_n hx hb dX1_quietIn_21 rfl (lv_at hl 0 rfl) ?_
    exact vx_ret (hv_iret hE hI hc hs hw dX1_quietIn_22)

/-- MatchmakerRules.why(III)I -/
abbrev rm_X1_why (mc ms : Nat) : Room := { frames := 8, cells := mc, slots := ms, locals := 132 }
def wp_X1_why (G : GG) (mc : Nat) (ms : Nat) (h : HH) (a0 : Nat) (x1 : Int32) (x2 : Int32) (x3 : Int32) (Q : Int32 → HH → Prop) (X : String → Nat → HH → Prop) : Prop := w_getq h a0 1 0 (fun r1 => w_nn r1 (fun a2 => (∃ mc3 ms3, 0 + mc3 ≤ mc ∧ 0 + ms3 ≤ ms ∧ w_is h a2 2 (wp_X2_fact G mc3 ms3 h a2 x1 (fun r4 h5 => w_nn r4 (fun a8 => w_getq h5 a8 14 7 (fun r9 => w_nn r9 (fun a10 => w_is h5 a10 4 (wp_J2_size G h5 a10 (fun r11 h12 => wp_X1_inRange G h12 (Int32.toInt64 x2) (0 : Int64) (Int32.toInt64 (r11 - (1 : Int32))) (fun r13 h14 => (∃ mc15 ms15, (0 + mc3) + mc15 ≤ mc ∧ (0 + ms3) + ms15 ≤ ms ∧ wp_X1_checkElement G mc15 ms15 h14 r13 (fun h16 => w_getq h16 a0 1 0 (fun r19 => w_getq h16 a8 14 7 (fun r20 => w_nn r20 (fun a21 => w_is h16 a21 4 (wp_J2_get G h16 a21 x2 (fun r22 h23 => w_nn r22 (fun a24 => w_cast h23 a24 16 (w_nn r19 (fun a25 => (∃ mc26 ms26, ((0 + mc3) + mc15) + mc26 ≤ mc ∧ ((0 + ms3) + ms15) + ms26 ≤ ms ∧ w_is h23 a25 2 (wp_X2_part G mc26 ms26 h23 a25 (some a24) x3 (fun r27 h28 => Q r27 h28) (fun E q29 h30 => X E q29 h30)))))))))))) (fun E q17 h18 => X E q17 h18))))))))) (fun E q6 h7 => X E q6 h7)))))
set_option maxHeartbeats 4000000 in
theorem snd_X1_why (l : Launch) (hl0 : l.stackTraces = false) (G : GG) (sz : Nat) (mc : Nat) (ms : Nat) (h : HH) (a0 : Nat) (x1 : Int32) (x2 : Int32) (x3 : Int32) (Q : Int32 → HH → Prop) (X : String → Nat → HH → Prop) (hw : wp_X1_why G mc ms h a0 x1 x2 x3 Q X) : vx_Met l yX1_why (ws_ yX1_why cX1_why 5 (some FieldType.int)) (rm_X1_why mc ms) (hv_Pc G h sz [.ref a0, .int x1, .int x2, .int x3]) (hv_Qi G h sz Q) (hv_XC G h sz X) mc ms (hv_A h sz) := by
  refine vx_ofW (cc := cX1_why) (maxL := 5) (ret := (some FieldType.int)) (by decide) rfl ?_
  intro p e s m args below meth c s₁ B hml ht hv
  obtain ⟨rfl, rfl, hE, hI⟩ := hv_open B hml hv
  have hE : hv_E p s m ([.ref a0, .int x1, .int x2, .int x3] : List Value).toArray meth c cX1_why 5 (some FieldType.int) RX1 G h := hE
  obtain ⟨⟨hx, hb, hml, hown, hts⟩, hr, hlocks, hXX⟩ := id hE
  have hl := lv_entry ([.ref a0, .int x1, .int x2, .int x3] : List Value) (n := 5) (Nat.le_of_ble_eq_true rfl)
  rw [lg_entry_eq]
  generalize (lg_sl ([.ref a0, .int x1, .int x2, .int x3] : List Value) ++ List.replicate (5 - (lg_sl ([.ref a0, .int x1, .int x2, .int x3] : List Value)).length) Slot.unset).toArray = ls at hl ⊢
  have hl : lv_has ls 5 [(0, .ref a0), (1, .int x1), (2, .int x2), (3, .int x3)] := hl
  have hc : 0 ≤ mc := Nat.zero_le _
  have hs : 0 ≤ ms := Nat.zero_le _
  unfold wp_X1_why at hw
  refine lv_aload_n hx hb dX1_why_0 rfl (lv_at hl 0 rfl) ?_
  refine hv_wgetq hE hI in_X1 (ci := 1) rfl 0 (by decide) (hts _ q300) (fun _ hx => hx) hw dX1_why_1 (fun r1 hw => ?_)
  refine lv_iload_n hx hb dX1_why_4 rfl (lv_at hl 1 rfl) ?_
  obtain ⟨a2, hz, hwa2⟩ := hw; have hla2 := hl; subst hz; have hw := hwa2; have hl := hla2
  obtain ⟨mc3, ms3, hc, hs, hw⟩ := hw
  obtain ⟨⟨fs, hre⟩, hw⟩ := hw
  refine hx_rcq hI (vx_runV (As := [.int x1]) (b := a2) (rest := []) hE.1 (snd_X2_fact l hl0 G _ mc3 ms3 h a2 x1 _ _ hw) (cwV 1 hts (lw_V q1368 q1369 q1370 q98 q1371) rfl rfl rfl (by decide +kernel) ⟨Nat.le_of_ble_eq_true rfl, Nat.le_of_ble_eq_true rfl⟩) (hv_preV hE hI (ci := 2) rfl hre) rfl rfl hl.1 rfl (lv_room (Nat.le_of_ble_eq_true rfl)) dX1_why_5 ⟨hc, hs⟩) ?_ (fun r4 h5 H locs hw hI => ?_)
  · intro E q6 h7 H locs hw hI hT
    exact hx_out hE hI hT hc hs (fun z hz => (ht z hz).elim) hw
  refine lv_astoreq (lv' := [(4, va_rf r4), (0, .ref a0), (1, .int x1), (2, .int x2), (3, .int x3)]) hx hb dX1_why_8 hl (by decide) rfl (fun ls hl => ?_)
  refine lv_iload_n hx hb dX1_why_10 rfl (lv_at hl 3 rfl) ?_
  refine lv_i2l (v := (Int32.toInt64 x2)) hx hb dX1_why_11 rfl ?_
  refine lv_lconst (v := 0) hx hb dX1_why_12 (by decide) ?_
  refine lv_aloadq hx hb dX1_why_13 (lv_at hl 0 rfl) ?_
  obtain ⟨a8, hz, hwa8⟩ := hw; have hla8 := hl; subst hz; have hw := hwa8; have hl := hla8
  refine hv_wgetqN hE hI in_X10 (ci := 14) rfl 7 (by decide) (hE.2.2.2.2.1.F 14 rfl) (fun _ hx => hx) hw dX1_why_15 (fun r9 hw => ?_)
  obtain ⟨a10, hz, hwa10⟩ := hw; have hla10 := hl; subst hz; have hw := hwa10; have hl := hla10
  obtain ⟨⟨fs, hre⟩, hw⟩ := hw
  refine hv_rci hI (va_runV (As := []) (b := a10) (rest := [.long (0 : Int64), .long (Int32.toInt64 x2)]) hE.1 (snd_J2_size l G _ h5 a10 _ hw) (cwV 0 hts (lw_V q332 q333 q334 q102 q335) rfl rfl rfl (by decide +kernel) ⟨Nat.le_of_ble_eq_true rfl, Nat.le_of_ble_eq_true rfl⟩) (hv_preV hE hI (ci := 4) rfl hre) rfl rfl hl.1 rfl (lv_room (Nat.le_of_ble_eq_true rfl)) dX1_why_18 ⟨hc, hs⟩) (fun r11 h12 H locs hw hI => ?_)
  refine lv_iconst (v := 1) hx hb dX1_why_21 (by decide) ?_
  refine lv_isub hx hb dX1_why_22 ?_
  refine lv_i2l (v := (Int32.toInt64 (r11 - (1 : Int32)))) hx hb dX1_why_23 rfl ?_
  refine hv_rci hI (va_runS (As := [.long (Int32.toInt64 x2), .long (0 : Int64), .long (Int32.toInt64 (r11 - (1 : Int32)))]) (rest := []) hE.1 (snd_X1_inRange l G _ h12 (Int32.toInt64 x2) (0 : Int64) (Int32.toInt64 (r11 - (1 : Int32))) _ hw) (va_cwS 3 hts (lw_S q1358 q782 q97 q783) rfl rfl rfl (by decide +kernel) ⟨Nat.le_of_ble_eq_true rfl, Nat.le_of_ble_eq_true rfl⟩) (hv_preS hE hI) rfl rfl hl.1 rfl (lv_room (Nat.le_of_ble_eq_true rfl)) dX1_why_24 ⟨hc, hs⟩) (fun r13 h14 H locs hw hI => ?_)
  obtain ⟨mc15, ms15, hc, hs, hw⟩ := hw
  refine hx_rcv hI (vx_runS (As := [.int r13]) (rest := []) hE.1 (snd_X1_checkElement l hl0 G _ mc15 ms15 h14 r13 _ _ hw) (va_cwS 1 hts (lw_S q1346 q1347 q97 q1348) rfl rfl rfl (by decide +kernel) ⟨Nat.le_of_ble_eq_true rfl, Nat.le_of_ble_eq_true rfl⟩) (hv_preS hE hI) rfl rfl hl.1 rfl (lv_room (Nat.le_of_ble_eq_true rfl)) dX1_why_27 ⟨hc, hs⟩) ?_ (fun h16 H locs hw hI => ?_)
  · intro E q17 h18 H locs hw hI hT
    exact hx_out hE hI hT hc hs (fun z hz => (ht z hz).elim) hw
  refine lv_aload_n hx hb dX1_why_30 rfl (lv_at hl 1 rfl) ?_
  refine hv_wgetq hE hI in_X1 (ci := 1) rfl 0 (by decide) (hts _ q300) (fun _ hx => hx) hw dX1_why_31 (fun r19 hw => ?_)
  refine lv_aload hx hb dX1_why_34 (lv_at hl 0 rfl) ?_
  refine hv_wgetqN hE hI in_X10 (ci := 14) rfl 7 (by decide) (hE.2.2.2.2.1.F 14 rfl) (fun _ hx => hx) hw dX1_why_36 (fun r20 hw => ?_)
  refine lv_iload_n hx hb dX1_why_39 rfl (lv_at hl 3 rfl) ?_
  obtain ⟨a21, hz, hwa21⟩ := hw; have hla21 := hl; subst hz; have hw := hwa21; have hl := hla21
  obtain ⟨⟨fs, hre⟩, hw⟩ := hw
  refine hv_rcq hI (va_runV (As := [.int x2]) (b := a21) (rest := [va_rf r19]) hE.1 (snd_J2_get l G _ h16 a21 x2 _ hw) (cwV 1 hts (lw_V q1359 q472 q473 q102 q474) rfl rfl rfl (by decide +kernel) ⟨Nat.le_of_ble_eq_true rfl, Nat.le_of_ble_eq_true rfl⟩) (hv_preV hE hI (ci := 4) rfl hre) rfl rfl hl.1 rfl (lv_room (by cases r19 <;> exact Nat.le_of_ble_eq_true rfl)) dX1_why_40 ⟨hc, hs⟩) (fun r22 h23 H locs hw hI => ?_)
  obtain ⟨a24, hz, hwa24⟩ := hw; have hla24 := hl; subst hz; have hw := hwa24; have hl := hla24
  refine hv_wcast (ci := 16) hE hI (hts _ q640) rfl hw dX1_why_43 (fun hw => ?_)
  refine lv_iload_n hx hb dX1_why_46 rfl (lv_at hl 4 rfl) ?_
  obtain ⟨a25, hz, hwa25⟩ := hw; have hla25 := hl; subst hz; have hw := hwa25; have hl := hla25
  obtain ⟨mc26, ms26, hc, hs, hw⟩ := hw
  obtain ⟨⟨fs, hre⟩, hw⟩ := hw
  refine hx_rci hI (vx_runV (As := [.ref a24, .int x3]) (b := a25) (rest := []) hE.1 (snd_X2_part l hl0 G _ mc26 ms26 h23 a25 (some a24) x3 _ _ hw) (cwV 2 hts (lw_V q1433 q1434 q1435 q98 q1436) rfl rfl rfl (by decide +kernel) ⟨Nat.le_of_ble_eq_true rfl, Nat.le_of_ble_eq_true rfl⟩) (hv_preV hE hI (ci := 2) rfl hre) rfl rfl hl.1 rfl (lv_room (Nat.le_of_ble_eq_true rfl)) dX1_why_47 ⟨hc, hs⟩) ?_ (fun r27 h28 H locs hw hI => ?_)
  · intro E q29 h30 H locs hw hI hT
    exact hx_out hE hI hT hc hs (fun z hz => (ht z hz).elim) hw
  exact vx_ret (hv_iret hE hI hc hs hw dX1_why_50)
