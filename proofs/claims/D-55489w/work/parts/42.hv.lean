/-! walks over a world (by gen/hvrun.py) -/
set_option maxRecDepth 100000
/-- java/lang/Math.max(II)I -/
abbrev rm_J10_max : Room := { frames := 1, cells := 0, slots := 0, locals := 12 }
def wp_J10_max (G : GG) (h : HH) (x0 : Int32) (x1 : Int32) (Q : Int32 → HH → Prop) : Prop := ((x0 < x1 → Q x1 h) ∧ (¬ x0 < x1 → Q x0 h))
set_option maxHeartbeats 4000000 in
theorem snd_J10_max (l : Launch) (G : GG) (sz : Nat) (h : HH) (x0 : Int32) (x1 : Int32) (Q : Int32 → HH → Prop) (hw : wp_J10_max G h x0 x1 Q) : Met l yJ10_max (ws_ yJ10_max cJ10_max 2 (some FieldType.int)) rm_J10_max (hv_Pc G h sz [.int x0, .int x1]) (hv_Qi G h sz Q) 0 0 (hv_A h sz) := by
  refine hv_ofW (cc := cJ10_max) (maxL := 2) (ret := (some FieldType.int)) (by decide +kernel) rfl ?_
  intro p e s m args below meth c s₁ B hml hv
  obtain ⟨rfl, rfl, hE, hI⟩ := hv_open B hml hv
  have hE : hv_E p s m ([.int x0, .int x1] : List Value).toArray meth c cJ10_max 2 (some FieldType.int) RJ10 G h := hE
  obtain ⟨⟨hx, hb, hml, hown, hts⟩, hr, hlocks, hXX⟩ := id hE
  have hl := lv_entry ([.int x0, .int x1] : List Value) (n := 2) (Nat.le_of_ble_eq_true rfl)
  rw [lg_entry_eq]
  generalize (lg_sl ([.int x0, .int x1] : List Value) ++ List.replicate (2 - (lg_sl ([.int x0, .int x1] : List Value)).length) Slot.unset).toArray = ls at hl ⊢
  have hl : lv_has ls 2 [(0, .int x0), (1, .int x1)] := hl
  unfold wp_J10_max at hw
  refine lv_iload_n hx hb dJ10_max_0 rfl (lv_at hl 0 rfl) ?_
  refine lv_iload_n hx hb dJ10_max_1 rfl (lv_at hl 1 rfl) ?_
  refine lv_icmp_lt (tgt := 9) hx hb dJ10_max_2 (by decide) (fun c_2 => ?_) (fun c_2 => ?_)
  · have hw := hw.1 c_2
    refine lv_iload_n hx hb dJ10_max_9 rfl (lv_at hl 1 rfl) ?_
    exact hv_iret hE hI (Nat.le_refl _) (Nat.le_refl _) hw dJ10_max_10
  · have hw := hw.2 c_2
    refine lv_iload_n hx hb dJ10_max_5 rfl (lv_at hl 0 rfl) ?_
    refine lv_goto (tgt := 10) hx hb dJ10_max_6 (by decide) ?_
    exact hv_iret hE hI (Nat.le_refl _) (Nat.le_refl _) hw dJ10_max_10

/-- MatchmakerRules$Book$Walk.newest()I -/
abbrev rm_X3_newest : Room := { frames := 1, cells := 0, slots := 0, locals := 32 }
def wp_X3_newest (G : GG) (h : HH) (a0 : Nat) (Q : Int32 → HH → Prop) : Prop := w_getq h a0 3 5 (fun r1 => w_nn r1 (fun a2 => w_geti h a2 14 0 (fun r3 => w_geti h a0 3 6 (fun r4 => Q (if r3 < r4 then r4 else r3) h))))
set_option maxHeartbeats 4000000 in
theorem snd_X3_newest (l : Launch) (G : GG) (sz : Nat) (h : HH) (a0 : Nat) (Q : Int32 → HH → Prop) (hw : wp_X3_newest G h a0 Q) : Met l yX3_newest (ws_ yX3_newest cX3_newest 1 (some FieldType.int)) rm_X3_newest (hv_Pc G h sz [.ref a0]) (hv_Qi G h sz Q) 0 0 (hv_A h sz) := by
  refine Met.ofW (cc := cX3_newest) (maxL := 1) (ret := (some FieldType.int)) (by decide) rfl ?_
  intro p e s m args below meth c s₁ B hml hv
  obtain ⟨rfl, rfl, hE, hI⟩ := hv_open B hml hv
  have hE : hv_E p s m ([.ref a0] : List Value).toArray meth c cX3_newest 1 (some FieldType.int) RX3 G h := hE
  obtain ⟨⟨hx, hb, hml, hown, hts⟩, hr, hlocks, hXX⟩ := id hE
  have hl := lv_entry ([.ref a0] : List Value) (n := 1) (Nat.le_of_ble_eq_true rfl)
  rw [lg_entry_eq]
  generalize (lg_sl ([.ref a0] : List Value) ++ List.replicate (1 - (lg_sl ([.ref a0] : List Value)).length) Slot.unset).toArray = ls at hl ⊢
  have hl : lv_has ls 1 [(0, .ref a0)] := hl
  unfold wp_X3_newest at hw
  refine lv_aload_n hx hb dX3_newest_0 rfl (lv_at hl 0 rfl) ?_
  refine hv_wgetq hE hI in_X3 (ci := 3) rfl 5 (by decide) (hts _ q166) (fun _ hx => hx) hw dX3_newest_1 (fun r1 hw => ?_)
  obtain ⟨a2, hz, hwa2⟩ := hw; have hla2 := hl; subst hz; have hw := hwa2; have hl := hla2
  refine hv_wgetiN hE hI in_X10 (ci := 14) rfl 0 (by decide) (hE.2.2.2.2.1.F 41 rfl) (fun _ hx => hx) hw dX3_newest_4 (fun r3 hw => ?_)
  refine lv_aload_n hx hb dX3_newest_7 rfl (lv_at hl 0 rfl) ?_
  refine hv_wgeti hE hI in_X3 (ci := 3) rfl 6 (by decide) (hts _ q168) (fun _ hx => hx) hw dX3_newest_8 (fun r4 hw => ?_)
  refine va_mmax (rest := []) hx hb (hml.trans hl.1.symm) hown (hts _ q532) (hts _ q533) (hts _ q113) (hts _ q534) (Nat.le_of_ble_eq_true rfl) (Nat.le_of_ble_eq_true rfl) (Nat.le_refl _) (Nat.le_refl _) dX3_newest_11 ?_
  exact hv_iret hE hI (Nat.le_refl _) (Nat.le_refl _) hw dX3_newest_14

/-- MatchmakerRules$Book$Walk.isDue()Z -/
abbrev rm_X3_isDue : Room := { frames := 4, cells := 0, slots := 0, locals := 76 }
def wp_X3_isDue_L2 (G : GG) (a0 : Nat) (Q : Int32 → HH → Prop) : Nat → (HH) → (Int32) → Prop
  | 0, _, _ => False
  | n + 1, h, x1 => w_getq h a0 3 5 (fun r1 => w_nn r1 (fun a2 => w_getq h a2 14 8 (fun r3 => w_nn r3 (fun a4 => w_is h a4 4 (wp_J2_size G h a4 (fun r5 h6 => ((r5 ≤ x1 → Q (1 : Int32) h6) ∧ (¬ r5 ≤ x1 → w_getq h6 a0 3 5 (fun r7 => w_nn r7 (fun a8 => w_getq h6 a8 14 8 (fun r9 => w_nn r9 (fun a10 => w_is h6 a10 4 (wp_J2_get G h6 a10 x1 (fun r11 h12 => w_nn r11 (fun a13 => w_cast h12 a13 16 (w_getq h12 a13 16 0 (fun r14 => w_getq h12 a0 3 0 (fun r15 => ((¬ r14 = r15 → wp_X3_isDue_L2 G a0 Q n h12 (x1 + (1 : Int32))) ∧ (r14 = r15 → w_geti h12 a13 16 2 (fun r16 => w_geti h12 a0 3 6 (fun r17 => ((¬ r16 = r17 → wp_X3_isDue_L2 G a0 Q n h12 (x1 + (1 : Int32))) ∧ (r16 = r17 → Q (0 : Int32) h12))))))))))))))))))))))))
set_option maxHeartbeats 4000000 in
theorem snd_X3_isDue_L2 {p : Program} {l : Launch} {e : Env} {s : State} {m : MethodId} {args : Array Value} {below : List Frame} {meth : Method} {c : Code} {h0 : HH} (G : GG) (a0 : Nat) (Q : Int32 → HH → Prop) (hE : hv_E p s m args meth c cX3_isDue 3 (some FieldType.boolean) RX3 G h0) : ∀ (n : Nat) (h : HH) (x1 : Int32), wp_X3_isDue_L2 G a0 Q n h x1 → ∀ (H : Heap) (locs : List Loc) (ls : Array Slot), hv_I G h0 s.heap h H locs → lv_has ls 3 [(0, .ref a0), (1, .int x1)] → W p l e (headSpec (ws_ yX3_isDue cX3_isDue 3 (some FieldType.boolean)) rm_X3_isDue).room s m args below meth c H locs 0 0 (MQ below (hv_Qi G h0 s.heap.size Q) args s 0 0 (hv_A h0 s.heap.size)) (F0 m 2 ls []) := by
  obtain ⟨⟨hx, hb, hml, hown, hts⟩, hr, hlocks, hXX⟩ := id hE
  intro n
  induction n with
  | zero => intro h x1 hw; exact hw.elim
  | succ n ih =>
    intro h x1 hw H locs ls hI hl
    unfold wp_X3_isDue_L2 at hw
    refine lv_iload_n hx hb dX3_isDue_2 rfl (lv_at hl 1 rfl) ?_
    refine lv_aload_n hx hb dX3_isDue_3 rfl (lv_at hl 0 rfl) ?_
    refine hv_wgetq hE hI in_X3 (ci := 3) rfl 5 (by decide) (hts _ q166) (fun _ hx => hx) hw dX3_isDue_4 (fun r1 hw => ?_)
    obtain ⟨a2, hz, hwa2⟩ := hw; have hla2 := hl; subst hz; have hw := hwa2; have hl := hla2
    refine hv_wgetqN hE hI in_X10 (ci := 14) rfl 8 (by decide) (hE.2.2.2.2.1.F 42 rfl) (fun _ hx => hx) hw dX3_isDue_7 (fun r3 hw => ?_)
    obtain ⟨a4, hz, hwa4⟩ := hw; have hla4 := hl; subst hz; have hw := hwa4; have hl := hla4
    obtain ⟨⟨fs, hre⟩, hw⟩ := hw
    refine hv_rci hI (va_runV (As := []) (b := a4) (rest := [.int x1]) hE.1 (snd_J2_size l G _ h a4 _ hw) (cwV 0 hts (lw_V q494 q333 q334 q102 q335) rfl rfl rfl (by decide +kernel) ⟨Nat.le_of_ble_eq_true rfl, Nat.le_of_ble_eq_true rfl⟩) (hv_preV hE hI (ci := 4) rfl hre) rfl rfl hl.1 rfl (lv_room (Nat.le_of_ble_eq_true rfl)) dX3_isDue_10 ⟨Nat.le_of_ble_eq_true rfl, Nat.le_of_ble_eq_true rfl⟩) (fun r5 h6 H locs hw hI => ?_)
    refine lv_icmp_ge (tgt := 61) hx hb dX3_isDue_13 (by decide) (fun c_13 => ?_) (fun c_13 => ?_)
    · have hw := hw.1 c_13
      refine lv_iconst (v := 1) hx hb dX3_isDue_61 (by decide) ?_
      exact hv_zret hE hI (Nat.le_refl _) (Nat.le_refl _) rfl hw dX3_isDue_62
    · have hw := hw.2 c_13
      refine lv_aload_n hx hb dX3_isDue_16 rfl (lv_at hl 0 rfl) ?_
      refine hv_wgetq hE hI in_X3 (ci := 3) rfl 5 (by decide) (hts _ q166) (fun _ hx => hx) hw dX3_isDue_17 (fun r7 hw => ?_)
      obtain ⟨a8, hz, hwa8⟩ := hw; have hla8 := hl; subst hz; have hw := hwa8; have hl := hla8
      refine hv_wgetqN hE hI in_X10 (ci := 14) rfl 8 (by decide) (hE.2.2.2.2.1.F 42 rfl) (fun _ hx => hx) hw dX3_isDue_20 (fun r9 hw => ?_)
      refine lv_iload_n hx hb dX3_isDue_23 rfl (lv_at hl 1 rfl) ?_
      obtain ⟨a10, hz, hwa10⟩ := hw; have hla10 := hl; subst hz; have hw := hwa10; have hl := hla10
      obtain ⟨⟨fs, hre⟩, hw⟩ := hw
      refine hv_rcq hI (va_runV (As := [.int x1]) (b := a10) (rest := []) hE.1 (snd_J2_get l G _ h6 a10 x1 _ hw) (cwV 1 hts (lw_V q495 q472 q473 q102 q474) rfl rfl rfl (by decide +kernel) ⟨Nat.le_of_ble_eq_true rfl, Nat.le_of_ble_eq_true rfl⟩) (hv_preV hE hI (ci := 4) rfl hre) rfl rfl hl.1 rfl (lv_room (Nat.le_of_ble_eq_true rfl)) dX3_isDue_24 ⟨Nat.le_of_ble_eq_true rfl, Nat.le_of_ble_eq_true rfl⟩) (fun r11 h12 H locs hw hI => ?_)
      obtain ⟨a13, hz, hwa13⟩ := hw; have hla13 := hl; subst hz; have hw := hwa13; have hl := hla13
      refine hv_wcast (ci := 16) hE hI (hts _ q539) rfl hw dX3_isDue_27 (fun hw => ?_)
      refine lv_astore_n (lv' := [(2, .ref a13), (0, .ref a0), (1, .int x1)]) hx hb dX3_isDue_30 rfl hl (by decide) rfl (fun ls hl => ?_)
      refine lv_aload_n hx hb dX3_isDue_31 rfl (lv_at hl 0 rfl) ?_
      refine hv_wgetqN hE hI in_X12 (ci := 16) rfl 0 (by decide) (hE.2.2.2.2.1.F 43 rfl) (fun _ hx => hx) hw dX3_isDue_32 (fun r14 hw => ?_)
      refine lv_aload_n hx hb dX3_isDue_35 rfl (lv_at hl 1 rfl) ?_
      refine hv_wgetq hE hI in_X3 (ci := 3) rfl 0 (by decide) (hts _ q160) (fun _ hx => hx) hw dX3_isDue_36 (fun r15 hw => ?_)
      refine lv_acmp_ne (rx := r14) (ry := r15) (tgt := 55) hx hb dX3_isDue_39 (by decide) (fun c_39 => ?_) (fun c_39 => ?_)
      · have hw := hw.1 c_39
        refine lv_iinc (v := (x1 + (1 : Int32))) (lv' := [(1, .int (x1 + (1 : Int32))), (2, .ref a13), (0, .ref a0)]) hx hb dX3_isDue_55 hl (k := 2) rfl rfl (by decide) rfl (fun ls hl => ?_)
        refine lv_goto (tgt := 2) hx hb dX3_isDue_58 (by decide) ?_
        exact ih h12 (x1 + (1 : Int32)) hw _ _ _ hI (lv_sub hl [2, 0] rfl)
      · have hw := hw.2 c_39
        refine lv_aload_n hx hb dX3_isDue_42 rfl (lv_at hl 0 rfl) ?_
        refine hv_wgetiN hE hI in_X12 (ci := 16) rfl 2 (by decide) (hE.2.2.2.2.1.F 45 rfl) (fun _ hx => hx) hw dX3_isDue_43 (fun r16 hw => ?_)
        refine lv_aload_n hx hb dX3_isDue_46 rfl (lv_at hl 1 rfl) ?_
        refine hv_wgeti hE hI in_X3 (ci := 3) rfl 6 (by decide) (hts _ q168) (fun _ hx => hx) hw dX3_isDue_47 (fun r17 hw => ?_)
        refine lv_icmp_ne (tgt := 55) hx hb dX3_isDue_50 (by decide) (fun c_50 => ?_) (fun c_50 => ?_)
        · have hw := hw.1 c_50
          refine lv_iinc (v := (x1 + (1 : Int32))) (lv' := [(1, .int (x1 + (1 : Int32))), (2, .ref a13), (0, .ref a0)]) hx hb dX3_isDue_55 hl (k := 2) rfl rfl (by decide) rfl (fun ls hl => ?_)
          refine lv_goto (tgt := 2) hx hb dX3_isDue_58 (by decide) ?_
          exact ih h12 (x1 + (1 : Int32)) hw _ _ _ hI (lv_sub hl [2, 0] rfl)
        · have hw := hw.2 c_50
          refine lv_iconst (v := 0) hx hb dX3_isDue_53 (by decide) ?_
          exact hv_zret hE hI (Nat.le_refl _) (Nat.le_refl _) rfl hw dX3_isDue_54
def wp_X3_isDue (G : GG) (h : HH) (a0 : Nat) (Q : Int32 → HH → Prop) : Prop := (∃ n2, wp_X3_isDue_L2 G a0 Q n2 h (0 : Int32))
set_option maxHeartbeats 4000000 in
theorem snd_X3_isDue (l : Launch) (G : GG) (sz : Nat) (h : HH) (a0 : Nat) (Q : Int32 → HH → Prop) (hw : wp_X3_isDue G h a0 Q) : Met l yX3_isDue (ws_ yX3_isDue cX3_isDue 3 (some FieldType.boolean)) rm_X3_isDue (hv_Pc G h sz [.ref a0]) (hv_Qi G h sz Q) 0 0 (hv_A h sz) := by
  refine Met.ofW (cc := cX3_isDue) (maxL := 3) (ret := (some FieldType.boolean)) (by decide) rfl ?_
  intro p e s m args below meth c s₁ B hml hv
  obtain ⟨rfl, rfl, hE, hI⟩ := hv_open B hml hv
  have hE : hv_E p s m ([.ref a0] : List Value).toArray meth c cX3_isDue 3 (some FieldType.boolean) RX3 G h := hE
  obtain ⟨⟨hx, hb, hml, hown, hts⟩, hr, hlocks, hXX⟩ := id hE
  have hl := lv_entry ([.ref a0] : List Value) (n := 3) (Nat.le_of_ble_eq_true rfl)
  rw [lg_entry_eq]
  generalize (lg_sl ([.ref a0] : List Value) ++ List.replicate (3 - (lg_sl ([.ref a0] : List Value)).length) Slot.unset).toArray = ls at hl ⊢
  have hl : lv_has ls 3 [(0, .ref a0)] := hl
  unfold wp_X3_isDue at hw
  refine lv_iconst (v := 0) hx hb dX3_isDue_0 (by decide) ?_
  refine lv_istore_n (lv' := [(1, .int (0 : Int32)), (0, .ref a0)]) hx hb dX3_isDue_1 rfl hl (by decide) rfl (fun ls hl => ?_)
  obtain ⟨n2, hw⟩ := hw
  exact snd_X3_isDue_L2 G a0 Q hE n2 h (0 : Int32) hw _ _ _ hI (lv_sub hl [1, 0] rfl)

/-- MatchmakerRules$Book.dueAgain()I -/
abbrev rm_X2_dueAgain (mc ms : Nat) : Room := { frames := 7, cells := mc, slots := ms, locals := 148 }
def wp_X2_dueAgain_L65 (G : GG) (mc : Nat) (ms : Nat) (a0 : Nat) (Q : Int32 → HH → Prop) (k32 : (HH) → (Nat) → (Nat) → (Int32) → (Nat) → (Nat) → (Int32) → Prop) : Nat → (HH) → (Nat) → (Nat) → (Int32) → (Nat) → (Nat) → (Int32) → (Option Nat) → Prop
  | 0, _, _, _, _, _, _, _, _ => False
  | n + 1, h, nc, nk, x1, x2, x3, x4, x5 => w_nn x5 (fun a25 => w_is h a25 3 (wp_X3_goesOn G h a25 (fun r26 h27 => ((r26 = 0 → k32 h27 nc nk x1 x2 x3 (x4 + (1 : Int32))) ∧ (¬ r26 = 0 → w_is h27 a25 3 (wp_X3_newest G h27 a25 (fun r28 h29 => w_geti h29 x3 14 0 (fun r30 => ((¬ r28 = r30 → wp_X2_dueAgain_L65 G mc ms a0 Q k32 n h29 nc nk (x1 + (0 : Int32)) x2 x3 x4 (some a25)) ∧ (r28 = r30 → w_is h29 a25 3 (wp_X3_isDue G h29 a25 (fun r31 h32 => ((r31 = 0 → wp_X2_dueAgain_L65 G mc ms a0 Q k32 n h32 nc nk (x1 + (0 : Int32)) x2 x3 x4 (some a25)) ∧ (¬ r31 = 0 → wp_X2_dueAgain_L65 G mc ms a0 Q k32 n h32 nc nk (x1 + (1 : Int32)) x2 x3 x4 (some a25)))))))))))))))
set_option maxHeartbeats 4000000 in
theorem snd_X2_dueAgain_L65 {p : Program} {l : Launch} {e : Env} {s : State} {m : MethodId} {args : Array Value} {below : List Frame} {meth : Method} {c : Code} {h0 : HH} (G : GG) (mc : Nat) (ms : Nat) (a0 : Nat) (Q : Int32 → HH → Prop) (hE : hv_E p s m args meth c cX2_dueAgain 6 (some FieldType.int) RX2 G h0) (k32 : (HH) → (Nat) → (Nat) → (Int32) → (Nat) → (Nat) → (Int32) → Prop) (hk32 : ∀ (h : HH) (nc : Nat) (nk : Nat) (x1 : Int32) (x2 : Nat) (x3 : Nat) (x4 : Int32), k32 h nc nk x1 x2 x3 x4 → nc ≤ mc → nk ≤ ms → ∀ (H : Heap) (locs : List Loc) (ls : Array Slot), hv_I G h0 s.heap h H locs → lv_has ls 6 [(0, .ref a0), (1, .int x1), (2, .ref x2), (3, .ref x3), (4, .int x4)] → W p l e (headSpec (ws_ yX2_dueAgain cX2_dueAgain 6 (some FieldType.int)) (rm_X2_dueAgain mc ms)).room s m args below meth c H locs nc nk (MQ below (hv_Qi G h0 s.heap.size Q) args s mc ms (hv_A h0 s.heap.size)) (F0 m 32 ls [])) : ∀ (n : Nat) (h : HH) (nc : Nat) (nk : Nat) (x1 : Int32) (x2 : Nat) (x3 : Nat) (x4 : Int32) (x5 : Option Nat), wp_X2_dueAgain_L65 G mc ms a0 Q k32 n h nc nk x1 x2 x3 x4 x5 → nc ≤ mc → nk ≤ ms → ∀ (H : Heap) (locs : List Loc) (ls : Array Slot), hv_I G h0 s.heap h H locs → lv_has ls 6 [(0, .ref a0), (1, .int x1), (2, .ref x2), (3, .ref x3), (4, .int x4), (5, va_rf x5)] → W p l e (headSpec (ws_ yX2_dueAgain cX2_dueAgain 6 (some FieldType.int)) (rm_X2_dueAgain mc ms)).room s m args below meth c H locs nc nk (MQ below (hv_Qi G h0 s.heap.size Q) args s mc ms (hv_A h0 s.heap.size)) (F0 m 65 ls []) := by
  obtain ⟨⟨hx, hb, hml, hown, hts⟩, hr, hlocks, hXX⟩ := id hE
  intro n
  induction n with
  | zero => intro h nc nk x1 x2 x3 x4 x5 hw; exact hw.elim
  | succ n ih =>
    intro h nc nk x1 x2 x3 x4 x5 hw hc hs H locs ls hI hl
    unfold wp_X2_dueAgain_L65 at hw
    refine lv_aloadq hx hb dX2_dueAgain_65 (lv_at hl 5 rfl) ?_
    obtain ⟨a25, hz, hwa25⟩ := hw; have hla25 := hl; subst hz; have hw := hwa25; have hl := hla25
    obtain ⟨⟨fs, hre⟩, hw⟩ := hw
    refine hv_rci hI (va_runV (As := []) (b := a25) (rest := []) hE.1 (snd_X3_goesOn l G _ h a25 _ hw) (cwV 0 hts (lw_V q490 q491 q492 q99 q493) rfl rfl rfl (by decide +kernel) ⟨Nat.le_of_ble_eq_true rfl, Nat.le_of_ble_eq_true rfl⟩) (hv_preV hE hI (ci := 3) rfl hre) rfl rfl hl.1 rfl (lv_room (Nat.le_of_ble_eq_true rfl)) dX2_dueAgain_67 ⟨hc, hs⟩) (fun r26 h27 H locs hw hI => ?_)
    refine lv_if_eq (tgt := 104) hx hb dX2_dueAgain_70 (by decide) (fun c_70 => ?_) (fun c_70 => ?_)
    · have hw := hw.1 c_70
      refine lv_iinc (v := (x4 + (1 : Int32))) (lv' := [(4, .int (x4 + (1 : Int32))), (0, .ref a0), (1, .int x1), (2, .ref x2), (3, .ref x3), (5, .ref a25)]) hx hb dX2_dueAgain_104 hl (k := 4) rfl rfl (by decide) rfl (fun ls hl => ?_)
      refine lv_goto (tgt := 32) hx hb dX2_dueAgain_107 (by decide) ?_
      exact hk32 h27 nc nk x1 x2 x3 (x4 + (1 : Int32)) hw hc hs _ _ _ hI (lv_sub hl [1, 2, 3, 4, 0] rfl)
    · have hw := hw.2 c_70
      refine lv_iload_n hx hb dX2_dueAgain_73 rfl (lv_at hl 1 rfl) ?_
      refine lv_aload hx hb dX2_dueAgain_74 (lv_at hl 5 rfl) ?_
      obtain ⟨⟨fs, hre⟩, hw⟩ := hw
      refine hv_rci hI (va_runV (As := []) (b := a25) (rest := [.int x1]) hE.1 (snd_X3_newest l G _ h27 a25 _ hw) (cwV 0 hts (lw_V q528 q529 q530 q99 q531) rfl rfl rfl (by decide +kernel) ⟨Nat.le_of_ble_eq_true rfl, Nat.le_of_ble_eq_true rfl⟩) (hv_preV hE hI (ci := 3) rfl hre) rfl rfl hl.1 rfl (lv_room (Nat.le_of_ble_eq_true rfl)) dX2_dueAgain_76 ⟨hc, hs⟩) (fun r28 h29 H locs hw hI => ?_)
      refine lv_aload_n hx hb dX2_dueAgain_79 rfl (lv_at hl 3 rfl) ?_
      refine hv_wgetiN hE hI in_X10 (ci := 14) rfl 0 (by decide) (hE.2.2.2.2.1.F 24 rfl) (fun _ hx => hx) hw dX2_dueAgain_80 (fun r30 hw => ?_)
      refine lv_icmp_ne (tgt := 98) hx hb dX2_dueAgain_83 (by decide) (fun c_83 => ?_) (fun c_83 => ?_)
      · have hw := hw.1 c_83
        refine lv_iconst (v := 0) hx hb dX2_dueAgain_98 (by decide) ?_
        refine lv_iadd hx hb dX2_dueAgain_99 ?_
        refine lv_istore_n (lv' := [(1, .int (x1 + (0 : Int32))), (0, .ref a0), (2, .ref x2), (3, .ref x3), (4, .int x4), (5, .ref a25)]) hx hb dX2_dueAgain_100 rfl hl (by decide) rfl (fun ls hl => ?_)
        refine lv_goto (tgt := 65) hx hb dX2_dueAgain_101 (by decide) ?_
        exact ih h29 nc nk (x1 + (0 : Int32)) x2 x3 x4 (some a25) hw hc hs _ _ _ hI (lv_sub hl [1, 0, 2, 3, 4, 5] rfl)
      · have hw := hw.2 c_83
        refine lv_aload hx hb dX2_dueAgain_86 (lv_at hl 5 rfl) ?_
        obtain ⟨⟨fs, hre⟩, hw⟩ := hw
        refine hv_rci hI (va_runV (As := []) (b := a25) (rest := [.int x1]) hE.1 (snd_X3_isDue l G _ h29 a25 _ hw) (cwV 0 hts (lw_V q535 q536 q537 q99 q538) rfl rfl rfl (by decide +kernel) ⟨Nat.le_of_ble_eq_true rfl, Nat.le_of_ble_eq_true rfl⟩) (hv_preV hE hI (ci := 3) rfl hre) rfl rfl hl.1 rfl (lv_room (Nat.le_of_ble_eq_true rfl)) dX2_dueAgain_88 ⟨hc, hs⟩) (fun r31 h32 H locs hw hI => ?_)
        refine lv_if_eq (tgt := 98) hx hb dX2_dueAgain_91 (by decide) (fun c_91 => ?_) (fun c_91 => ?_)
        · have hw := hw.1 c_91
          refine lv_iconst (v := 0) hx hb dX2_dueAgain_98 (by decide) ?_
          refine lv_iadd hx hb dX2_dueAgain_99 ?_
          refine lv_istore_n (lv' := [(1, .int (x1 + (0 : Int32))), (0, .ref a0), (2, .ref x2), (3, .ref x3), (4, .int x4), (5, .ref a25)]) hx hb dX2_dueAgain_100 rfl hl (by decide) rfl (fun ls hl => ?_)
          refine lv_goto (tgt := 65) hx hb dX2_dueAgain_101 (by decide) ?_
          exact ih h32 nc nk (x1 + (0 : Int32)) x2 x3 x4 (some a25) hw hc hs _ _ _ hI (lv_sub hl [1, 0, 2, 3, 4, 5] rfl)
        · have hw := hw.2 c_91
          refine lv_iconst (v := 1) hx hb dX2_dueAgain_94 (by decide) ?_
          refine lv_goto (tgt := 99) hx hb dX2_dueAgain_95 (by decide) ?_
          refine lv_iadd hx hb dX2_dueAgain_99 ?_
          refine lv_istore_n (lv' := [(1, .int (x1 + (1 : Int32))), (0, .ref a0), (2, .ref x2), (3, .ref x3), (4, .int x4), (5, .ref a25)]) hx hb dX2_dueAgain_100 rfl hl (by decide) rfl (fun ls hl => ?_)
          refine lv_goto (tgt := 65) hx hb dX2_dueAgain_101 (by decide) ?_
          exact ih h32 nc nk (x1 + (1 : Int32)) x2 x3 x4 (some a25) hw hc hs _ _ _ hI (lv_sub hl [1, 0, 2, 3, 4, 5] rfl)
def wp_X2_dueAgain_L32 (G : GG) (mc : Nat) (ms : Nat) (a0 : Nat) (Q : Int32 → HH → Prop) (k10 : (HH) → (Nat) → (Nat) → (Int32) → (Option Nat) → Prop) : Nat → (HH) → (Nat) → (Nat) → (Int32) → (Nat) → (Nat) → (Int32) → Prop
  | 0, _, _, _, _, _, _, _ => False
  | n + 1, h, nc, nk, x1, x2, x3, x4 => w_getq h a0 2 1 (fun r12 => w_nn r12 (fun a13 => w_is h a13 4 (wp_J2_size G h a13 (fun r14 h15 => ((r14 ≤ x4 → k10 h15 nc nk x1 (some x2)) ∧ (¬ r14 ≤ x4 → w_getq h15 a0 2 0 (fun r16 => w_getq h15 a0 2 1 (fun r17 => w_nn r17 (fun a18 => w_is h15 a18 4 (wp_J2_get G h15 a18 x4 (fun r19 h20 => w_nn r19 (fun a21 => w_cast h20 a21 12 (w_nn r16 (fun a22 => w_is h20 a22 3 (wp_X3_begin G h20 a22 (some a21) (fun r23 h24 => (∃ n65, wp_X2_dueAgain_L65 G mc ms a0 Q (fun h nc nk x1 x2 x3 x4 => wp_X2_dueAgain_L32 G mc ms a0 Q k10 n h nc nk x1 x2 x3 x4) n65 h24 nc nk x1 x2 x3 x4 r23)))))))))))))))))
set_option maxHeartbeats 4000000 in
theorem snd_X2_dueAgain_L32 {p : Program} {l : Launch} {e : Env} {s : State} {m : MethodId} {args : Array Value} {below : List Frame} {meth : Method} {c : Code} {h0 : HH} (G : GG) (mc : Nat) (ms : Nat) (a0 : Nat) (Q : Int32 → HH → Prop) (hE : hv_E p s m args meth c cX2_dueAgain 6 (some FieldType.int) RX2 G h0) (k10 : (HH) → (Nat) → (Nat) → (Int32) → (Option Nat) → Prop) (hk10 : ∀ (h : HH) (nc : Nat) (nk : Nat) (x1 : Int32) (x2 : Option Nat), k10 h nc nk x1 x2 → nc ≤ mc → nk ≤ ms → ∀ (H : Heap) (locs : List Loc) (ls : Array Slot), hv_I G h0 s.heap h H locs → lv_has ls 6 [(0, .ref a0), (1, .int x1), (2, va_rf x2)] → W p l e (headSpec (ws_ yX2_dueAgain cX2_dueAgain 6 (some FieldType.int)) (rm_X2_dueAgain mc ms)).room s m args below meth c H locs nc nk (MQ below (hv_Qi G h0 s.heap.size Q) args s mc ms (hv_A h0 s.heap.size)) (F0 m 10 ls [])) : ∀ (n : Nat) (h : HH) (nc : Nat) (nk : Nat) (x1 : Int32) (x2 : Nat) (x3 : Nat) (x4 : Int32), wp_X2_dueAgain_L32 G mc ms a0 Q k10 n h nc nk x1 x2 x3 x4 → nc ≤ mc → nk ≤ ms → ∀ (H : Heap) (locs : List Loc) (ls : Array Slot), hv_I G h0 s.heap h H locs → lv_has ls 6 [(0, .ref a0), (1, .int x1), (2, .ref x2), (3, .ref x3), (4, .int x4)] → W p l e (headSpec (ws_ yX2_dueAgain cX2_dueAgain 6 (some FieldType.int)) (rm_X2_dueAgain mc ms)).room s m args below meth c H locs nc nk (MQ below (hv_Qi G h0 s.heap.size Q) args s mc ms (hv_A h0 s.heap.size)) (F0 m 32 ls []) := by
  obtain ⟨⟨hx, hb, hml, hown, hts⟩, hr, hlocks, hXX⟩ := id hE
  intro n
  induction n with
  | zero => intro h nc nk x1 x2 x3 x4 hw; exact hw.elim
  | succ n ih =>
    intro h nc nk x1 x2 x3 x4 hw hc hs H locs ls hI hl
    unfold wp_X2_dueAgain_L32 at hw
    refine lv_iload hx hb dX2_dueAgain_32 (lv_at hl 4 rfl) ?_
    refine lv_aload_n hx hb dX2_dueAgain_34 rfl (lv_at hl 0 rfl) ?_
    refine hv_wgetq hE hI in_X2 (ci := 2) rfl 1 (by decide) (hts _ q219) (fun _ hx => hx) hw dX2_dueAgain_35 (fun r12 hw => ?_)
    obtain ⟨a13, hz, hwa13⟩ := hw; have hla13 := hl; subst hz; have hw := hwa13; have hl := hla13
    obtain ⟨⟨fs, hre⟩, hw⟩ := hw
    refine hv_rci hI (va_runV (As := []) (b := a13) (rest := [.int x4]) hE.1 (snd_J2_size l G _ h a13 _ hw) (cwV 0 hts (lw_V q470 q333 q334 q102 q335) rfl rfl rfl (by decide +kernel) ⟨Nat.le_of_ble_eq_true rfl, Nat.le_of_ble_eq_true rfl⟩) (hv_preV hE hI (ci := 4) rfl hre) rfl rfl hl.1 rfl (lv_room (Nat.le_of_ble_eq_true rfl)) dX2_dueAgain_38 ⟨hc, hs⟩) (fun r14 h15 H locs hw hI => ?_)
    refine lv_icmp_ge (tgt := 110) hx hb dX2_dueAgain_41 (by decide) (fun c_41 => ?_) (fun c_41 => ?_)
    · have hw := hw.1 c_41
      refine lv_goto (tgt := 10) hx hb dX2_dueAgain_110 (by decide) ?_
      exact hk10 h15 nc nk x1 (some x2) hw hc hs _ _ _ hI (lv_sub hl [0, 1, 2] rfl)
    · have hw := hw.2 c_41
      refine lv_aload_n hx hb dX2_dueAgain_44 rfl (lv_at hl 0 rfl) ?_
      refine hv_wgetq hE hI in_X2 (ci := 2) rfl 0 (by decide) (hts _ q218) (fun _ hx => hx) hw dX2_dueAgain_45 (fun r16 hw => ?_)
      refine lv_aload_n hx hb dX2_dueAgain_48 rfl (lv_at hl 0 rfl) ?_
      refine hv_wgetq hE hI in_X2 (ci := 2) rfl 1 (by decide) (hts _ q219) (fun _ hx => hx) hw dX2_dueAgain_49 (fun r17 hw => ?_)
      refine lv_iload hx hb dX2_dueAgain_52 (lv_at hl 4 rfl) ?_
      obtain ⟨a18, hz, hwa18⟩ := hw; have hla18 := hl; subst hz; have hw := hwa18; have hl := hla18
      obtain ⟨⟨fs, hre⟩, hw⟩ := hw
      refine hv_rcq hI (va_runV (As := [.int x4]) (b := a18) (rest := [va_rf r16]) hE.1 (snd_J2_get l G _ h15 a18 x4 _ hw) (cwV 1 hts (lw_V q471 q472 q473 q102 q474) rfl rfl rfl (by decide +kernel) ⟨Nat.le_of_ble_eq_true rfl, Nat.le_of_ble_eq_true rfl⟩) (hv_preV hE hI (ci := 4) rfl hre) rfl rfl hl.1 rfl (lv_room (by cases r16 <;> exact Nat.le_of_ble_eq_true rfl)) dX2_dueAgain_54 ⟨hc, hs⟩) (fun r19 h20 H locs hw hI => ?_)
      obtain ⟨a21, hz, hwa21⟩ := hw; have hla21 := hl; subst hz; have hw := hwa21; have hl := hla21
      refine hv_wcast (ci := 12) hE hI (hts _ q485) rfl hw dX2_dueAgain_57 (fun hw => ?_)
      obtain ⟨a22, hz, hwa22⟩ := hw; have hla22 := hl; subst hz; have hw := hwa22; have hl := hla22
      obtain ⟨⟨fs, hre⟩, hw⟩ := hw
      refine hv_rcq hI (va_runV (As := [.ref a21]) (b := a22) (rest := []) hE.1 (snd_X3_begin l G _ h20 a22 (some a21) _ hw) (cwV 1 hts (lw_V q486 q487 q488 q99 q489) rfl rfl rfl (by decide +kernel) ⟨Nat.le_of_ble_eq_true rfl, Nat.le_of_ble_eq_true rfl⟩) (hv_preV hE hI (ci := 3) rfl hre) rfl rfl hl.1 rfl (lv_room (Nat.le_of_ble_eq_true rfl)) dX2_dueAgain_60 ⟨hc, hs⟩) (fun r23 h24 H locs hw hI => ?_)
      refine lv_astoreq (lv' := [(5, va_rf r23), (0, .ref a0), (1, .int x1), (2, .ref x2), (3, .ref x3), (4, .int x4)]) hx hb dX2_dueAgain_63 hl (by decide) rfl (fun ls hl => ?_)
      obtain ⟨n65, hw⟩ := hw
      exact snd_X2_dueAgain_L65 G mc ms a0 Q hE (fun h nc nk x1 x2 x3 x4 => wp_X2_dueAgain_L32 G mc ms a0 Q k10 n h nc nk x1 x2 x3 x4) (fun h nc nk x1 x2 x3 x4 => ih h nc nk x1 x2 x3 x4) n65 h24 nc nk x1 x2 x3 x4 r23 hw hc hs _ _ _ hI (lv_sub hl [1, 2, 3, 4, 5, 0] rfl)
def wp_X2_dueAgain_L10 (G : GG) (mc : Nat) (ms : Nat) (a0 : Nat) (Q : Int32 → HH → Prop) : Nat → (HH) → (Nat) → (Nat) → (Int32) → (Option Nat) → Prop
  | 0, _, _, _, _, _ => False
  | n + 1, h, nc, nk, x1, x2 => w_nn x2 (fun a6 => w_is h a6 13 (wp_J15_hasNext G h a6 (fun r7 h8 => ((r7 = 0 → Q x1 h8) ∧ (¬ r7 = 0 → w_is h8 a6 13 (wp_J15_next G h8 a6 (fun r9 h10 => w_nn r9 (fun a11 => w_cast h10 a11 14 ((∃ n32, wp_X2_dueAgain_L32 G mc ms a0 Q (fun h nc nk x1 x2 => wp_X2_dueAgain_L10 G mc ms a0 Q n h nc nk x1 x2) n32 h10 nc nk x1 a6 a11 (0 : Int32)))))))))))
set_option maxHeartbeats 4000000 in
theorem snd_X2_dueAgain_L10 {p : Program} {l : Launch} {e : Env} {s : State} {m : MethodId} {args : Array Value} {below : List Frame} {meth : Method} {c : Code} {h0 : HH} (G : GG) (mc : Nat) (ms : Nat) (a0 : Nat) (Q : Int32 → HH → Prop) (hE : hv_E p s m args meth c cX2_dueAgain 6 (some FieldType.int) RX2 G h0) : ∀ (n : Nat) (h : HH) (nc : Nat) (nk : Nat) (x1 : Int32) (x2 : Option Nat), wp_X2_dueAgain_L10 G mc ms a0 Q n h nc nk x1 x2 → nc ≤ mc → nk ≤ ms → ∀ (H : Heap) (locs : List Loc) (ls : Array Slot), hv_I G h0 s.heap h H locs → lv_has ls 6 [(0, .ref a0), (1, .int x1), (2, va_rf x2)] → W p l e (headSpec (ws_ yX2_dueAgain cX2_dueAgain 6 (some FieldType.int)) (rm_X2_dueAgain mc ms)).room s m args below meth c H locs nc nk (MQ below (hv_Qi G h0 s.heap.size Q) args s mc ms (hv_A h0 s.heap.size)) (F0 m 10 ls []) := by
  obtain ⟨⟨hx, hb, hml, hown, hts⟩, hr, hlocks, hXX⟩ := id hE
  intro n
  induction n with
  | zero => intro h nc nk x1 x2 hw; exact hw.elim
  | succ n ih =>
    intro h nc nk x1 x2 hw hc hs H locs ls hI hl
    unfold wp_X2_dueAgain_L10 at hw
    refine lv_aload_nq hx hb dX2_dueAgain_10 rfl (lv_at hl 2 rfl) ?_
    obtain ⟨a6, hz, hwa6⟩ := hw; have hla6 := hl; subst hz; have hw := hwa6; have hl := hla6
    obtain ⟨⟨fs, hre⟩, hw⟩ := hw
    refine hv_rFi hI (va_runF (As := []) (b := a6) (rest := []) (hXX.1.1 13 _ rfl).2 hE.1 (snd_J15_hasNext l G _ h a6 _ hw) (va_cwF 0 hts (lw_F q375 q379 q381 q121 q383) rfl rfl rfl (hv_fw0 hE.2.2.2.2.1) (by decide +kernel) ⟨Nat.le_of_ble_eq_true rfl, Nat.le_of_ble_eq_true rfl⟩) (hv_preV hE hI (ci := 13) rfl hre) rfl rfl hl.1 rfl (lv_room (Nat.le_of_ble_eq_true rfl)) dX2_dueAgain_11 ⟨hc, hs⟩) (fun r7 h8 H locs hw hI => ?_)
    refine lv_if_eq (tgt := 113) hx hb dX2_dueAgain_16 (by decide) (fun c_16 => ?_) (fun c_16 => ?_)
    · have hw := hw.1 c_16
      refine lv_iload_n hx hb dX2_dueAgain_113 rfl (lv_at hl 1 rfl) ?_
      exact hv_iret hE hI hc hs hw dX2_dueAgain_114
    · have hw := hw.2 c_16
      refine lv_aload_n hx hb dX2_dueAgain_19 rfl (lv_at hl 2 rfl) ?_
      obtain ⟨⟨fs, hre⟩, hw⟩ := hw
      refine hv_rFq hI (va_runF (As := []) (b := a6) (rest := []) (hXX.1.1 13 _ rfl).2 hE.1 (snd_J15_next l G _ h8 a6 _ hw) (va_cwF 0 hts (lw_F q385 q388 q390 q121 q392) rfl rfl rfl (hv_fw1 hE.2.2.2.2.1) (by decide +kernel) ⟨Nat.le_of_ble_eq_true rfl, Nat.le_of_ble_eq_true rfl⟩) (hv_preV hE hI (ci := 13) rfl hre) rfl rfl hl.1 rfl (lv_room (Nat.le_of_ble_eq_true rfl)) dX2_dueAgain_20 ⟨hc, hs⟩) (fun r9 h10 H locs hw hI => ?_)
      obtain ⟨a11, hz, hwa11⟩ := hw; have hla11 := hl; subst hz; have hw := hwa11; have hl := hla11
      refine hv_wcast (ci := 14) hE hI (hts _ q469) rfl hw dX2_dueAgain_25 (fun hw => ?_)
      refine lv_astore_n (lv' := [(3, .ref a11), (0, .ref a0), (1, .int x1), (2, .ref a6)]) hx hb dX2_dueAgain_28 rfl hl (by decide) rfl (fun ls hl => ?_)
      refine lv_iconst (v := 0) hx hb dX2_dueAgain_29 (by decide) ?_
      refine lv_istore (lv' := [(4, .int (0 : Int32)), (3, .ref a11), (0, .ref a0), (1, .int x1), (2, .ref a6)]) hx hb dX2_dueAgain_30 hl (by decide) rfl (fun ls hl => ?_)
      obtain ⟨n32, hw⟩ := hw
      exact snd_X2_dueAgain_L32 G mc ms a0 Q hE (fun h nc nk x1 x2 => wp_X2_dueAgain_L10 G mc ms a0 Q n h nc nk x1 x2) (fun h nc nk x1 x2 => ih h nc nk x1 x2) n32 h10 nc nk x1 a6 a11 (0 : Int32) hw hc hs _ _ _ hI (lv_sub hl [2, 3, 4, 1, 0] rfl)
def wp_X2_dueAgain (G : GG) (mc : Nat) (ms : Nat) (h : HH) (a0 : Nat) (Q : Int32 → HH → Prop) : Prop := w_getq h a0 2 2 (fun r1 => w_nn r1 (fun a2 => (∃ mc3 ms3, 0 + mc3 ≤ mc ∧ 0 + ms3 ≤ ms ∧ w_is h a2 4 (wp_J2_iterator G mc3 ms3 h a2 (fun r4 h5 => (∃ n10, wp_X2_dueAgain_L10 G mc ms a0 Q n10 h5 (0 + mc3) (0 + ms3) (0 : Int32) r4))))))
set_option maxHeartbeats 4000000 in
theorem snd_X2_dueAgain (l : Launch) (G : GG) (sz : Nat) (mc : Nat) (ms : Nat) (h : HH) (a0 : Nat) (Q : Int32 → HH → Prop) (hw : wp_X2_dueAgain G mc ms h a0 Q) : Met l yX2_dueAgain (ws_ yX2_dueAgain cX2_dueAgain 6 (some FieldType.int)) (rm_X2_dueAgain mc ms) (hv_Pc G h sz [.ref a0]) (hv_Qi G h sz Q) mc ms (hv_A h sz) := by
  refine Met.ofW (cc := cX2_dueAgain) (maxL := 6) (ret := (some FieldType.int)) (by decide) rfl ?_
  intro p e s m args below meth c s₁ B hml hv
  obtain ⟨rfl, rfl, hE, hI⟩ := hv_open B hml hv
  have hE : hv_E p s m ([.ref a0] : List Value).toArray meth c cX2_dueAgain 6 (some FieldType.int) RX2 G h := hE
  obtain ⟨⟨hx, hb, hml, hown, hts⟩, hr, hlocks, hXX⟩ := id hE
  have hl := lv_entry ([.ref a0] : List Value) (n := 6) (Nat.le_of_ble_eq_true rfl)
  rw [lg_entry_eq]
  generalize (lg_sl ([.ref a0] : List Value) ++ List.replicate (6 - (lg_sl ([.ref a0] : List Value)).length) Slot.unset).toArray = ls at hl ⊢
  have hl : lv_has ls 6 [(0, .ref a0)] := hl
  have hc : 0 ≤ mc := Nat.zero_le _
  have hs : 0 ≤ ms := Nat.zero_le _
  unfold wp_X2_dueAgain at hw
  refine lv_iconst (v := 0) hx hb dX2_dueAgain_0 (by decide) ?_
  refine lv_istore_n (lv' := [(1, .int (0 : Int32)), (0, .ref a0)]) hx hb dX2_dueAgain_1 rfl hl (by decide) rfl (fun ls hl => ?_)
  refine lv_aload_n hx hb dX2_dueAgain_2 rfl (lv_at hl 1 rfl) ?_
  refine hv_wgetq hE hI in_X2 (ci := 2) rfl 2 (by decide) (hts _ q222) (fun _ hx => hx) hw dX2_dueAgain_3 (fun r1 hw => ?_)
  obtain ⟨a2, hz, hwa2⟩ := hw; have hla2 := hl; subst hz; have hw := hwa2; have hl := hla2
  obtain ⟨mc3, ms3, hc, hs, hw⟩ := hw
  obtain ⟨⟨fs, hre⟩, hw⟩ := hw
  refine hv_rcq hI (va_runV (As := []) (b := a2) (rest := []) hE.1 (snd_J2_iterator l G _ mc3 ms3 h a2 _ hw) (cwV 0 hts (lw_V q351 q352 q353 q102 q354) rfl rfl rfl (by decide +kernel) ⟨Nat.le_of_ble_eq_true rfl, Nat.le_of_ble_eq_true rfl⟩) (hv_preV hE hI (ci := 4) rfl hre) rfl rfl hl.1 rfl (lv_room (Nat.le_of_ble_eq_true rfl)) dX2_dueAgain_6 ⟨hc, hs⟩) (fun r4 h5 H locs hw hI => ?_)
  refine lv_astore_nq (lv' := [(2, va_rf r4), (1, .int (0 : Int32)), (0, .ref a0)]) hx hb dX2_dueAgain_9 rfl hl (by decide) rfl (fun ls hl => ?_)
  obtain ⟨n10, hw⟩ := hw
  exact snd_X2_dueAgain_L10 G mc ms a0 Q hE n10 h5 (0 + mc3) (0 + ms3) (0 : Int32) r4 hw hc hs _ _ _ hI (lv_sub hl [2, 1, 0] rfl)

/-- MatchmakerRules$Book.due()I -/
abbrev rm_X2_due (mc ms : Nat) : Room := { frames := 7, cells := mc, slots := ms, locals := 148 }
def wp_X2_due_L39 (G : GG) (mc : Nat) (ms : Nat) (a0 : Nat) (Q : Int32 → HH → Prop) (k10 : (HH) → (Nat) → (Nat) → (Int32) → (Option Nat) → Prop) : Nat → (HH) → (Nat) → (Nat) → (Int32) → (Nat) → (Option Nat) → Prop
  | 0, _, _, _, _, _, _ => False
  | n + 1, h, nc, nk, x1, x2, x4 => w_nn x4 (fun a16 => w_is h a16 3 (wp_X3_goesOn G h a16 (fun r17 h18 => ((r17 = 0 → k10 h18 nc nk x1 (some x2)) ∧ (¬ r17 = 0 → w_is h18 a16 3 (wp_X3_isDue G h18 a16 (fun r19 h20 => ((r19 = 0 → wp_X2_due_L39 G mc ms a0 Q k10 n h20 nc nk (x1 + (0 : Int32)) x2 (some a16)) ∧ (¬ r19 = 0 → wp_X2_due_L39 G mc ms a0 Q k10 n h20 nc nk (x1 + (1 : Int32)) x2 (some a16))))))))))
set_option maxHeartbeats 4000000 in
theorem snd_X2_due_L39 {p : Program} {l : Launch} {e : Env} {s : State} {m : MethodId} {args : Array Value} {below : List Frame} {meth : Method} {c : Code} {h0 : HH} (G : GG) (mc : Nat) (ms : Nat) (a0 : Nat) (Q : Int32 → HH → Prop) (hE : hv_E p s m args meth c cX2_due 5 (some FieldType.int) RX2 G h0) (k10 : (HH) → (Nat) → (Nat) → (Int32) → (Option Nat) → Prop) (hk10 : ∀ (h : HH) (nc : Nat) (nk : Nat) (x1 : Int32) (x2 : Option Nat), k10 h nc nk x1 x2 → nc ≤ mc → nk ≤ ms → ∀ (H : Heap) (locs : List Loc) (ls : Array Slot), hv_I G h0 s.heap h H locs → lv_has ls 5 [(0, .ref a0), (1, .int x1), (2, va_rf x2)] → W p l e (headSpec (ws_ yX2_due cX2_due 5 (some FieldType.int)) (rm_X2_due mc ms)).room s m args below meth c H locs nc nk (MQ below (hv_Qi G h0 s.heap.size Q) args s mc ms (hv_A h0 s.heap.size)) (F0 m 10 ls [])) : ∀ (n : Nat) (h : HH) (nc : Nat) (nk : Nat) (x1 : Int32) (x2 : Nat) (x4 : Option Nat), wp_X2_due_L39 G mc ms a0 Q k10 n h nc nk x1 x2 x4 → nc ≤ mc → nk ≤ ms → ∀ (H : Heap) (locs : List Loc) (ls : Array Slot), hv_I G h0 s.heap h H locs → lv_has ls 5 [(0, .ref a0), (1, .int x1), (2, .ref x2), (4, va_rf x4)] → W p l e (headSpec (ws_ yX2_due cX2_due 5 (some FieldType.int)) (rm_X2_due mc ms)).room s m args below meth c H locs nc nk (MQ below (hv_Qi G h0 s.heap.size Q) args s mc ms (hv_A h0 s.heap.size)) (F0 m 39 ls []) := by
  obtain ⟨⟨hx, hb, hml, hown, hts⟩, hr, hlocks, hXX⟩ := id hE
  intro n
  induction n with
  | zero => intro h nc nk x1 x2 x4 hw; exact hw.elim
  | succ n ih =>
    intro h nc nk x1 x2 x4 hw hc hs H locs ls hI hl
    unfold wp_X2_due_L39 at hw
    refine lv_aloadq hx hb dX2_due_39 (lv_at hl 3 rfl) ?_
    obtain ⟨a16, hz, hwa16⟩ := hw; have hla16 := hl; subst hz; have hw := hwa16; have hl := hla16
    obtain ⟨⟨fs, hre⟩, hw⟩ := hw
    refine hv_rci hI (va_runV (As := []) (b := a16) (rest := []) hE.1 (snd_X3_goesOn l G _ h a16 _ hw) (cwV 0 hts (lw_V q490 q491 q492 q99 q493) rfl rfl rfl (by decide +kernel) ⟨Nat.le_of_ble_eq_true rfl, Nat.le_of_ble_eq_true rfl⟩) (hv_preV hE hI (ci := 3) rfl hre) rfl rfl hl.1 rfl (lv_room (Nat.le_of_ble_eq_true rfl)) dX2_due_41 ⟨hc, hs⟩) (fun r17 h18 H locs hw hI => ?_)
    refine lv_if_eq (tgt := 66) hx hb dX2_due_44 (by decide) (fun c_44 => ?_) (fun c_44 => ?_)
    · have hw := hw.1 c_44
      refine lv_goto (tgt := 10) hx hb dX2_due_66 (by decide) ?_
      exact hk10 h18 nc nk x1 (some x2) hw hc hs _ _ _ hI (lv_sub hl [0, 1, 2] rfl)
    · have hw := hw.2 c_44
      refine lv_iload_n hx hb dX2_due_47 rfl (lv_at hl 1 rfl) ?_
      refine lv_aload hx hb dX2_due_48 (lv_at hl 3 rfl) ?_
      obtain ⟨⟨fs, hre⟩, hw⟩ := hw
      refine hv_rci hI (va_runV (As := []) (b := a16) (rest := [.int x1]) hE.1 (snd_X3_isDue l G _ h18 a16 _ hw) (cwV 0 hts (lw_V q535 q536 q537 q99 q538) rfl rfl rfl (by decide +kernel) ⟨Nat.le_of_ble_eq_true rfl, Nat.le_of_ble_eq_true rfl⟩) (hv_preV hE hI (ci := 3) rfl hre) rfl rfl hl.1 rfl (lv_room (Nat.le_of_ble_eq_true rfl)) dX2_due_50 ⟨hc, hs⟩) (fun r19 h20 H locs hw hI => ?_)
      refine lv_if_eq (tgt := 60) hx hb dX2_due_53 (by decide) (fun c_53 => ?_) (fun c_53 => ?_)
      · have hw := hw.1 c_53
        refine lv_iconst (v := 0) hx hb dX2_due_60 (by decide) ?_
        refine lv_iadd hx hb dX2_due_61 ?_
        refine lv_istore_n (lv' := [(1, .int (x1 + (0 : Int32))), (0, .ref a0), (2, .ref x2), (4, .ref a16)]) hx hb dX2_due_62 rfl hl (by decide) rfl (fun ls hl => ?_)
        refine lv_goto (tgt := 39) hx hb dX2_due_63 (by decide) ?_
        exact ih h20 nc nk (x1 + (0 : Int32)) x2 (some a16) hw hc hs _ _ _ hI (lv_sub hl [1, 0, 2, 3] rfl)
      · have hw := hw.2 c_53
        refine lv_iconst (v := 1) hx hb dX2_due_56 (by decide) ?_
        refine lv_goto (tgt := 61) hx hb dX2_due_57 (by decide) ?_
        refine lv_iadd hx hb dX2_due_61 ?_
        refine lv_istore_n (lv' := [(1, .int (x1 + (1 : Int32))), (0, .ref a0), (2, .ref x2), (4, .ref a16)]) hx hb dX2_due_62 rfl hl (by decide) rfl (fun ls hl => ?_)
        refine lv_goto (tgt := 39) hx hb dX2_due_63 (by decide) ?_
        exact ih h20 nc nk (x1 + (1 : Int32)) x2 (some a16) hw hc hs _ _ _ hI (lv_sub hl [1, 0, 2, 3] rfl)
def wp_X2_due_L10 (G : GG) (mc : Nat) (ms : Nat) (a0 : Nat) (Q : Int32 → HH → Prop) : Nat → (HH) → (Nat) → (Nat) → (Int32) → (Option Nat) → Prop
  | 0, _, _, _, _, _ => False
  | n + 1, h, nc, nk, x1, x2 => w_nn x2 (fun a6 => w_is h a6 13 (wp_J15_hasNext G h a6 (fun r7 h8 => ((r7 = 0 → Q x1 h8) ∧ (¬ r7 = 0 → w_is h8 a6 13 (wp_J15_next G h8 a6 (fun r9 h10 => w_nn r9 (fun a11 => w_cast h10 a11 12 (w_getq h10 a0 2 0 (fun r12 => w_nn r12 (fun a13 => w_is h10 a13 3 (wp_X3_begin G h10 a13 (some a11) (fun r14 h15 => (∃ n39, wp_X2_due_L39 G mc ms a0 Q (fun h nc nk x1 x2 => wp_X2_due_L10 G mc ms a0 Q n h nc nk x1 x2) n39 h15 nc nk x1 a6 r14))))))))))))))
set_option maxHeartbeats 4000000 in
theorem snd_X2_due_L10 {p : Program} {l : Launch} {e : Env} {s : State} {m : MethodId} {args : Array Value} {below : List Frame} {meth : Method} {c : Code} {h0 : HH} (G : GG) (mc : Nat) (ms : Nat) (a0 : Nat) (Q : Int32 → HH → Prop) (hE : hv_E p s m args meth c cX2_due 5 (some FieldType.int) RX2 G h0) : ∀ (n : Nat) (h : HH) (nc : Nat) (nk : Nat) (x1 : Int32) (x2 : Option Nat), wp_X2_due_L10 G mc ms a0 Q n h nc nk x1 x2 → nc ≤ mc → nk ≤ ms → ∀ (H : Heap) (locs : List Loc) (ls : Array Slot), hv_I G h0 s.heap h H locs → lv_has ls 5 [(0, .ref a0), (1, .int x1), (2, va_rf x2)] → W p l e (headSpec (ws_ yX2_due cX2_due 5 (some FieldType.int)) (rm_X2_due mc ms)).room s m args below meth c H locs nc nk (MQ below (hv_Qi G h0 s.heap.size Q) args s mc ms (hv_A h0 s.heap.size)) (F0 m 10 ls []) := by
  obtain ⟨⟨hx, hb, hml, hown, hts⟩, hr, hlocks, hXX⟩ := id hE
  intro n
  induction n with
  | zero => intro h nc nk x1 x2 hw; exact hw.elim
  | succ n ih =>
    intro h nc nk x1 x2 hw hc hs H locs ls hI hl
    unfold wp_X2_due_L10 at hw
    refine lv_aload_nq hx hb dX2_due_10 rfl (lv_at hl 2 rfl) ?_
    obtain ⟨a6, hz, hwa6⟩ := hw; have hla6 := hl; subst hz; have hw := hwa6; have hl := hla6
    obtain ⟨⟨fs, hre⟩, hw⟩ := hw
    refine hv_rFi hI (va_runF (As := []) (b := a6) (rest := []) (hXX.1.1 13 _ rfl).2 hE.1 (snd_J15_hasNext l G _ h a6 _ hw) (va_cwF 0 hts (lw_F q375 q379 q381 q121 q383) rfl rfl rfl (hv_fw0 hE.2.2.2.2.1) (by decide +kernel) ⟨Nat.le_of_ble_eq_true rfl, Nat.le_of_ble_eq_true rfl⟩) (hv_preV hE hI (ci := 13) rfl hre) rfl rfl hl.1 rfl (lv_room (Nat.le_of_ble_eq_true rfl)) dX2_due_11 ⟨hc, hs⟩) (fun r7 h8 H locs hw hI => ?_)
    refine lv_if_eq (tgt := 69) hx hb dX2_due_16 (by decide) (fun c_16 => ?_) (fun c_16 => ?_)
    · have hw := hw.1 c_16
      refine lv_iload_n hx hb dX2_due_69 rfl (lv_at hl 1 rfl) ?_
      exact hv_iret hE hI hc hs hw dX2_due_70
    · have hw := hw.2 c_16
      refine lv_aload_n hx hb dX2_due_19 rfl (lv_at hl 2 rfl) ?_
      obtain ⟨⟨fs, hre⟩, hw⟩ := hw
      refine hv_rFq hI (va_runF (As := []) (b := a6) (rest := []) (hXX.1.1 13 _ rfl).2 hE.1 (snd_J15_next l G _ h8 a6 _ hw) (va_cwF 0 hts (lw_F q385 q388 q390 q121 q392) rfl rfl rfl (hv_fw1 hE.2.2.2.2.1) (by decide +kernel) ⟨Nat.le_of_ble_eq_true rfl, Nat.le_of_ble_eq_true rfl⟩) (hv_preV hE hI (ci := 13) rfl hre) rfl rfl hl.1 rfl (lv_room (Nat.le_of_ble_eq_true rfl)) dX2_due_20 ⟨hc, hs⟩) (fun r9 h10 H locs hw hI => ?_)
      obtain ⟨a11, hz, hwa11⟩ := hw; have hla11 := hl; subst hz; have hw := hwa11; have hl := hla11
      refine hv_wcast (ci := 12) hE hI (hts _ q485) rfl hw dX2_due_25 (fun hw => ?_)
      refine lv_astore_n (lv' := [(3, .ref a11), (0, .ref a0), (1, .int x1), (2, .ref a6)]) hx hb dX2_due_28 rfl hl (by decide) rfl (fun ls hl => ?_)
      refine lv_aload_n hx hb dX2_due_29 rfl (lv_at hl 1 rfl) ?_
      refine hv_wgetq hE hI in_X2 (ci := 2) rfl 0 (by decide) (hts _ q218) (fun _ hx => hx) hw dX2_due_30 (fun r12 hw => ?_)
      refine lv_aload_n hx hb dX2_due_33 rfl (lv_at hl 0 rfl) ?_
      obtain ⟨a13, hz, hwa13⟩ := hw; have hla13 := hl; subst hz; have hw := hwa13; have hl := hla13
      obtain ⟨⟨fs, hre⟩, hw⟩ := hw
      refine hv_rcq hI (va_runV (As := [.ref a11]) (b := a13) (rest := []) hE.1 (snd_X3_begin l G _ h10 a13 (some a11) _ hw) (cwV 1 hts (lw_V q486 q487 q488 q99 q489) rfl rfl rfl (by decide +kernel) ⟨Nat.le_of_ble_eq_true rfl, Nat.le_of_ble_eq_true rfl⟩) (hv_preV hE hI (ci := 3) rfl hre) rfl rfl hl.1 rfl (lv_room (Nat.le_of_ble_eq_true rfl)) dX2_due_34 ⟨hc, hs⟩) (fun r14 h15 H locs hw hI => ?_)
      refine lv_astoreq (lv' := [(4, va_rf r14), (3, .ref a11), (0, .ref a0), (1, .int x1), (2, .ref a6)]) hx hb dX2_due_37 hl (by decide) rfl (fun ls hl => ?_)
      obtain ⟨n39, hw⟩ := hw
      exact snd_X2_due_L39 G mc ms a0 Q hE (fun h nc nk x1 x2 => wp_X2_due_L10 G mc ms a0 Q n h nc nk x1 x2) (fun h nc nk x1 x2 => ih h nc nk x1 x2) n39 h15 nc nk x1 a6 r14 hw hc hs _ _ _ hI (lv_sub hl [2, 3, 4, 0] rfl)
def wp_X2_due (G : GG) (mc : Nat) (ms : Nat) (h : HH) (a0 : Nat) (Q : Int32 → HH → Prop) : Prop := w_getq h a0 2 1 (fun r1 => w_nn r1 (fun a2 => (∃ mc3 ms3, 0 + mc3 ≤ mc ∧ 0 + ms3 ≤ ms ∧ w_is h a2 4 (wp_J2_iterator G mc3 ms3 h a2 (fun r4 h5 => (∃ n10, wp_X2_due_L10 G mc ms a0 Q n10 h5 (0 + mc3) (0 + ms3) (0 : Int32) r4))))))
set_option maxHeartbeats 4000000 in
theorem snd_X2_due (l : Launch) (G : GG) (sz : Nat) (mc : Nat) (ms : Nat) (h : HH) (a0 : Nat) (Q : Int32 → HH → Prop) (hw : wp_X2_due G mc ms h a0 Q) : Met l yX2_due (ws_ yX2_due cX2_due 5 (some FieldType.int)) (rm_X2_due mc ms) (hv_Pc G h sz [.ref a0]) (hv_Qi G h sz Q) mc ms (hv_A h sz) := by
  refine Met.ofW (cc := cX2_due) (maxL := 5) (ret := (some FieldType.int)) (by decide) rfl ?_
  intro p e s m args below meth c s₁ B hml hv
  obtain ⟨rfl, rfl, hE, hI⟩ := hv_open B hml hv
  have hE : hv_E p s m ([.ref a0] : List Value).toArray meth c cX2_due 5 (some FieldType.int) RX2 G h := hE
  obtain ⟨⟨hx, hb, hml, hown, hts⟩, hr, hlocks, hXX⟩ := id hE
  have hl := lv_entry ([.ref a0] : List Value) (n := 5) (Nat.le_of_ble_eq_true rfl)
  rw [lg_entry_eq]
  generalize (lg_sl ([.ref a0] : List Value) ++ List.replicate (5 - (lg_sl ([.ref a0] : List Value)).length) Slot.unset).toArray = ls at hl ⊢
  have hl : lv_has ls 5 [(0, .ref a0)] := hl
  have hc : 0 ≤ mc := Nat.zero_le _
  have hs : 0 ≤ ms := Nat.zero_le _
  unfold wp_X2_due at hw
  refine lv_iconst (v := 0) hx hb dX2_due_0 (by decide) ?_
  refine lv_istore_n (lv' := [(1, .int (0 : Int32)), (0, .ref a0)]) hx hb dX2_due_1 rfl hl (by decide) rfl (fun ls hl => ?_)
  refine lv_aload_n hx hb dX2_due_2 rfl (lv_at hl 1 rfl) ?_
  refine hv_wgetq hE hI in_X2 (ci := 2) rfl 1 (by decide) (hts _ q219) (fun _ hx => hx) hw dX2_due_3 (fun r1 hw => ?_)
  obtain ⟨a2, hz, hwa2⟩ := hw; have hla2 := hl; subst hz; have hw := hwa2; have hl := hla2
  obtain ⟨mc3, ms3, hc, hs, hw⟩ := hw
  obtain ⟨⟨fs, hre⟩, hw⟩ := hw
  refine hv_rcq hI (va_runV (As := []) (b := a2) (rest := []) hE.1 (snd_J2_iterator l G _ mc3 ms3 h a2 _ hw) (cwV 0 hts (lw_V q351 q352 q353 q102 q354) rfl rfl rfl (by decide +kernel) ⟨Nat.le_of_ble_eq_true rfl, Nat.le_of_ble_eq_true rfl⟩) (hv_preV hE hI (ci := 4) rfl hre) rfl rfl hl.1 rfl (lv_room (Nat.le_of_ble_eq_true rfl)) dX2_due_6 ⟨hc, hs⟩) (fun r4 h5 H locs hw hI => ?_)
  refine lv_astore_nq (lv' := [(2, va_rf r4), (1, .int (0 : Int32)), (0, .ref a0)]) hx hb dX2_due_9 rfl hl (by decide) rfl (fun ls hl => ?_)
  obtain ⟨n10, hw⟩ := hw
  exact snd_X2_due_L10 G mc ms a0 Q hE n10 h5 (0 + mc3) (0 + ms3) (0 : Int32) r4 hw hc hs _ _ _ hI (lv_sub hl [2, 1, 0] rfl)

/-- MatchmakerRules.due(Z)I -/
abbrev rm_X1_due (mc ms : Nat) : Room := { frames := 8, cells := mc, slots := ms, locals := 173 }
def wp_X1_due (G : GG) (mc : Nat) (ms : Nat) (h : HH) (a0 : Nat) (x1 : Int32) (Q : Int32 → HH → Prop) : Prop := ((x1 = 0 → w_getq h a0 1 0 (fun r1 => w_nn r1 (fun a2 => (∃ mc3 ms3, 0 + mc3 ≤ mc ∧ 0 + ms3 ≤ ms ∧ w_is h a2 2 (wp_X2_due G mc3 ms3 h a2 (fun r4 h5 => Q r4 h5)))))) ∧ (¬ x1 = 0 → w_getq h a0 1 0 (fun r6 => w_nn r6 (fun a7 => (∃ mc8 ms8, 0 + mc8 ≤ mc ∧ 0 + ms8 ≤ ms ∧ w_is h a7 2 (wp_X2_dueAgain G mc8 ms8 h a7 (fun r9 h10 => Q r9 h10)))))))
set_option maxHeartbeats 4000000 in
theorem snd_X1_due (l : Launch) (G : GG) (sz : Nat) (mc : Nat) (ms : Nat) (h : HH) (a0 : Nat) (x1 : Int32) (Q : Int32 → HH → Prop) (hw : wp_X1_due G mc ms h a0 x1 Q) : Met l yX1_due (ws_ yX1_due cX1_due 2 (some FieldType.int)) (rm_X1_due mc ms) (hv_Pc G h sz [.ref a0, .int x1]) (hv_Qi G h sz Q) mc ms (hv_A h sz) := by
  refine Met.ofW (cc := cX1_due) (maxL := 2) (ret := (some FieldType.int)) (by decide) rfl ?_
  intro p e s m args below meth c s₁ B hml hv
  obtain ⟨rfl, rfl, hE, hI⟩ := hv_open B hml hv
  have hE : hv_E p s m ([.ref a0, .int x1] : List Value).toArray meth c cX1_due 2 (some FieldType.int) RX1 G h := hE
  obtain ⟨⟨hx, hb, hml, hown, hts⟩, hr, hlocks, hXX⟩ := id hE
  have hl := lv_entry ([.ref a0, .int x1] : List Value) (n := 2) (Nat.le_of_ble_eq_true rfl)
  rw [lg_entry_eq]
  generalize (lg_sl ([.ref a0, .int x1] : List Value) ++ List.replicate (2 - (lg_sl ([.ref a0, .int x1] : List Value)).length) Slot.unset).toArray = ls at hl ⊢
  have hl : lv_has ls 2 [(0, .ref a0), (1, .int x1)] := hl
  have hc : 0 ≤ mc := Nat.zero_le _
  have hs : 0 ≤ ms := Nat.zero_le _
  unfold wp_X1_due at hw
  refine lv_iload_n hx hb dX1_due_0 rfl (lv_at hl 1 rfl) ?_
  refine lv_if_eq (tgt := 14) hx hb dX1_due_1 (by decide) (fun c_1 => ?_) (fun c_1 => ?_)
  · have hw := hw.1 c_1
    refine lv_aload_n hx hb dX1_due_14 rfl (lv_at hl 0 rfl) ?_
    refine hv_wgetq hE hI in_X1 (ci := 1) rfl 0 (by decide) (hts _ q300) (fun _ hx => hx) hw dX1_due_15 (fun r1 hw => ?_)
    obtain ⟨a2, hz, hwa2⟩ := hw; have hla2 := hl; subst hz; have hw := hwa2; have hl := hla2
    obtain ⟨mc3, ms3, hc, hs, hw⟩ := hw
    obtain ⟨⟨fs, hre⟩, hw⟩ := hw
    refine hv_rci hI (va_runV (As := []) (b := a2) (rest := []) hE.1 (snd_X2_due l G _ mc3 ms3 h a2 _ hw) (cwV 0 hts (lw_V q540 q541 q542 q98 q543) rfl rfl rfl (by decide +kernel) ⟨Nat.le_of_ble_eq_true rfl, Nat.le_of_ble_eq_true rfl⟩) (hv_preV hE hI (ci := 2) rfl hre) rfl rfl hl.1 rfl (lv_room (Nat.le_of_ble_eq_true rfl)) dX1_due_18 ⟨hc, hs⟩) (fun r4 h5 H locs hw hI => ?_)
    exact hv_iret hE hI hc hs hw dX1_due_21
  · have hw := hw.2 c_1
    refine lv_aload_n hx hb dX1_due_4 rfl (lv_at hl 0 rfl) ?_
    refine hv_wgetq hE hI in_X1 (ci := 1) rfl 0 (by decide) (hts _ q300) (fun _ hx => hx) hw dX1_due_5 (fun r6 hw => ?_)
    obtain ⟨a7, hz, hwa7⟩ := hw; have hla7 := hl; subst hz; have hw := hwa7; have hl := hla7
    obtain ⟨mc8, ms8, hc, hs, hw⟩ := hw
    obtain ⟨⟨fs, hre⟩, hw⟩ := hw
    refine hv_rci hI (va_runV (As := []) (b := a7) (rest := []) hE.1 (snd_X2_dueAgain l G _ mc8 ms8 h a7 _ hw) (cwV 0 hts (lw_V q347 q348 q349 q98 q350) rfl rfl rfl (by decide +kernel) ⟨Nat.le_of_ble_eq_true rfl, Nat.le_of_ble_eq_true rfl⟩) (hv_preV hE hI (ci := 2) rfl hre) rfl rfl hl.1 rfl (lv_room (Nat.le_of_ble_eq_true rfl)) dX1_due_8 ⟨hc, hs⟩) (fun r9 h10 H locs hw hI => ?_)
    refine lv_goto (tgt := 21) hx hb dX1_due_11 (by decide) ?_
    exact hv_iret hE hI hc hs hw dX1_due_21

/-- MatchmakerRules$Book.find(I)LMatchmakerRules$Fact; -/
abbrev rm_X2_find (mc ms : Nat) : Room := { frames := 3, cells := mc, slots := ms, locals := 73 }
def wp_X2_find_L8 (G : GG) (mc : Nat) (ms : Nat) (a0 : Nat) (Q : Option Nat → HH → Prop) : Nat → (HH) → (Nat) → (Nat) → (Int32) → (Option Nat) → Prop
  | 0, _, _, _, _, _ => False
  | n + 1, h, nc, nk, x1, x2 => w_nn x2 (fun a6 => w_is h a6 13 (wp_J15_hasNext G h a6 (fun r7 h8 => ((r7 = 0 → Q none h8) ∧ (¬ r7 = 0 → w_is h8 a6 13 (wp_J15_next G h8 a6 (fun r9 h10 => w_nn r9 (fun a11 => w_cast h10 a11 14 (w_geti h10 a11 14 0 (fun r12 => ((¬ r12 = x1 → wp_X2_find_L8 G mc ms a0 Q n h10 nc nk x1 (some a6)) ∧ (r12 = x1 → Q (some a11) h10))))))))))))
set_option maxHeartbeats 4000000 in
theorem snd_X2_find_L8 {p : Program} {l : Launch} {e : Env} {s : State} {m : MethodId} {args : Array Value} {below : List Frame} {meth : Method} {c : Code} {h0 : HH} (G : GG) (mc : Nat) (ms : Nat) (a0 : Nat) (Q : Option Nat → HH → Prop) (hE : hv_E p s m args meth c cX2_find 4 (some (FieldType.object "MatchmakerRules$Fact")) RX2 G h0) : ∀ (n : Nat) (h : HH) (nc : Nat) (nk : Nat) (x1 : Int32) (x2 : Option Nat), wp_X2_find_L8 G mc ms a0 Q n h nc nk x1 x2 → nc ≤ mc → nk ≤ ms → ∀ (H : Heap) (locs : List Loc) (ls : Array Slot), hv_I G h0 s.heap h H locs → lv_has ls 4 [(1, .int x1), (2, va_rf x2)] → W p l e (headSpec (ws_ yX2_find cX2_find 4 (some (FieldType.object "MatchmakerRules$Fact"))) (rm_X2_find mc ms)).room s m args below meth c H locs nc nk (MQ below (hv_Qq G h0 s.heap.size Q) args s mc ms (hv_A h0 s.heap.size)) (F0 m 8 ls []) := by
  obtain ⟨⟨hx, hb, hml, hown, hts⟩, hr, hlocks, hXX⟩ := id hE
  intro n
  induction n with
  | zero => intro h nc nk x1 x2 hw; exact hw.elim
  | succ n ih =>
    intro h nc nk x1 x2 hw hc hs H locs ls hI hl
    unfold wp_X2_find_L8 at hw
    refine lv_aload_nq hx hb dX2_find_8 rfl (lv_at hl 1 rfl) ?_
    obtain ⟨a6, hz, hwa6⟩ := hw; have hla6 := hl; subst hz; have hw := hwa6; have hl := hla6
    obtain ⟨⟨fs, hre⟩, hw⟩ := hw
    refine hv_rFi hI (va_runF (As := []) (b := a6) (rest := []) (hXX.1.1 13 _ rfl).2 hE.1 (snd_J15_hasNext l G _ h a6 _ hw) (va_cwF 0 hts (lw_F q375 q379 q381 q121 q383) rfl rfl rfl (hv_fw0 hE.2.2.2.2.1) (by decide +kernel) ⟨Nat.le_of_ble_eq_true rfl, Nat.le_of_ble_eq_true rfl⟩) (hv_preV hE hI (ci := 13) rfl hre) rfl rfl hl.1 rfl (lv_room (Nat.le_of_ble_eq_true rfl)) dX2_find_9 ⟨hc, hs⟩) (fun r7 h8 H locs hw hI => ?_)
    refine lv_if_eq (tgt := 40) hx hb dX2_find_14 (by decide) (fun c_14 => ?_) (fun c_14 => ?_)
    · have hw := hw.1 c_14
      refine lv_null hx hb dX2_find_40 ?_
      exact hv_qret (v := none) hE (Or.inl ⟨_, rfl⟩) hI hc hs hw dX2_find_41
    · have hw := hw.2 c_14
      refine lv_aload_n hx hb dX2_find_17 rfl (lv_at hl 1 rfl) ?_
      obtain ⟨⟨fs, hre⟩, hw⟩ := hw
      refine hv_rFq hI (va_runF (As := []) (b := a6) (rest := []) (hXX.1.1 13 _ rfl).2 hE.1 (snd_J15_next l G _ h8 a6 _ hw) (va_cwF 0 hts (lw_F q385 q388 q390 q121 q392) rfl rfl rfl (hv_fw1 hE.2.2.2.2.1) (by decide +kernel) ⟨Nat.le_of_ble_eq_true rfl, Nat.le_of_ble_eq_true rfl⟩) (hv_preV hE hI (ci := 13) rfl hre) rfl rfl hl.1 rfl (lv_room (Nat.le_of_ble_eq_true rfl)) dX2_find_18 ⟨hc, hs⟩) (fun r9 h10 H locs hw hI => ?_)
      obtain ⟨a11, hz, hwa11⟩ := hw; have hla11 := hl; subst hz; have hw := hwa11; have hl := hla11
      refine hv_wcast (ci := 14) hE hI (hts _ q469) rfl hw dX2_find_23 (fun hw => ?_)
      refine lv_astore_n (lv' := [(3, .ref a11), (1, .int x1), (2, .ref a6)]) hx hb dX2_find_26 rfl hl (by decide) rfl (fun ls hl => ?_)
      refine lv_aload_n hx hb dX2_find_27 rfl (lv_at hl 0 rfl) ?_
      refine hv_wgetiN hE hI in_X10 (ci := 14) rfl 0 (by decide) (hE.2.2.2.2.1.F 24 rfl) (fun _ hx => hx) hw dX2_find_28 (fun r12 hw => ?_)
      refine lv_iload_n hx hb dX2_find_31 rfl (lv_at hl 1 rfl) ?_
      refine lv_icmp_ne (tgt := 37) hx hb dX2_find_32 (by decide) (fun c_32 => ?_) (fun c_32 => ?_)
      · have hw := hw.1 c_32
        refine lv_goto (tgt := 8) hx hb dX2_find_37 (by decide) ?_
        exact ih h10 nc nk x1 (some a6) hw hc hs _ _ _ hI (lv_sub hl [1, 2] rfl)
      · have hw := hw.2 c_32
        refine lv_aload_n hx hb dX2_find_35 rfl (lv_at hl 0 rfl) ?_
        exact hv_qret (v := (some a11)) hE (Or.inl ⟨_, rfl⟩) hI hc hs hw dX2_find_36
def wp_X2_find (G : GG) (mc : Nat) (ms : Nat) (h : HH) (a0 : Nat) (x1 : Int32) (Q : Option Nat → HH → Prop) : Prop := w_getq h a0 2 2 (fun r1 => w_nn r1 (fun a2 => (∃ mc3 ms3, 0 + mc3 ≤ mc ∧ 0 + ms3 ≤ ms ∧ w_is h a2 4 (wp_J2_iterator G mc3 ms3 h a2 (fun r4 h5 => (∃ n8, wp_X2_find_L8 G mc ms a0 Q n8 h5 (0 + mc3) (0 + ms3) x1 r4))))))
set_option maxHeartbeats 4000000 in
theorem snd_X2_find (l : Launch) (G : GG) (sz : Nat) (mc : Nat) (ms : Nat) (h : HH) (a0 : Nat) (x1 : Int32) (Q : Option Nat → HH → Prop) (hw : wp_X2_find G mc ms h a0 x1 Q) : Met l yX2_find (ws_ yX2_find cX2_find 4 (some (FieldType.object "MatchmakerRules$Fact"))) (rm_X2_find mc ms) (hv_Pc G h sz [.ref a0, .int x1]) (hv_Qq G h sz Q) mc ms (hv_A h sz) := by
  refine Met.ofW (cc := cX2_find) (maxL := 4) (ret := (some (FieldType.object "MatchmakerRules$Fact"))) (by decide) rfl ?_
  intro p e s m args below meth c s₁ B hml hv
  obtain ⟨rfl, rfl, hE, hI⟩ := hv_open B hml hv
  have hE : hv_E p s m ([.ref a0, .int x1] : List Value).toArray meth c cX2_find 4 (some (FieldType.object "MatchmakerRules$Fact")) RX2 G h := hE
  obtain ⟨⟨hx, hb, hml, hown, hts⟩, hr, hlocks, hXX⟩ := id hE
  have hl := lv_entry ([.ref a0, .int x1] : List Value) (n := 4) (Nat.le_of_ble_eq_true rfl)
  rw [lg_entry_eq]
  generalize (lg_sl ([.ref a0, .int x1] : List Value) ++ List.replicate (4 - (lg_sl ([.ref a0, .int x1] : List Value)).length) Slot.unset).toArray = ls at hl ⊢
  have hl : lv_has ls 4 [(0, .ref a0), (1, .int x1)] := hl
  have hc : 0 ≤ mc := Nat.zero_le _
  have hs : 0 ≤ ms := Nat.zero_le _
  unfold wp_X2_find at hw
  refine lv_aload_n hx hb dX2_find_0 rfl (lv_at hl 0 rfl) ?_
  refine hv_wgetq hE hI in_X2 (ci := 2) rfl 2 (by decide) (hts _ q222) (fun _ hx => hx) hw dX2_find_1 (fun r1 hw => ?_)
  obtain ⟨a2, hz, hwa2⟩ := hw; have hla2 := hl; subst hz; have hw := hwa2; have hl := hla2
  obtain ⟨mc3, ms3, hc, hs, hw⟩ := hw
  obtain ⟨⟨fs, hre⟩, hw⟩ := hw
  refine hv_rcq hI (va_runV (As := []) (b := a2) (rest := []) hE.1 (snd_J2_iterator l G _ mc3 ms3 h a2 _ hw) (cwV 0 hts (lw_V q351 q352 q353 q102 q354) rfl rfl rfl (by decide +kernel) ⟨Nat.le_of_ble_eq_true rfl, Nat.le_of_ble_eq_true rfl⟩) (hv_preV hE hI (ci := 4) rfl hre) rfl rfl hl.1 rfl (lv_room (Nat.le_of_ble_eq_true rfl)) dX2_find_4 ⟨hc, hs⟩) (fun r4 h5 H locs hw hI => ?_)
  refine lv_astore_nq (lv' := [(2, va_rf r4), (0, .ref a0), (1, .int x1)]) hx hb dX2_find_7 rfl hl (by decide) rfl (fun ls hl => ?_)
  obtain ⟨n8, hw⟩ := hw
  exact snd_X2_find_L8 G mc ms a0 Q hE n8 h5 (0 + mc3) (0 + ms3) x1 r4 hw hc hs _ _ _ hI (lv_sub hl [2, 0] rfl)

/-- java/lang/Object.equals(Ljava/lang/Object;)Z -/
abbrev rm_J29_equals : Room := { frames := 1, cells := 0, slots := 0, locals := 12 }
def wp_J29_equals (G : GG) (h : HH) (a0 : Nat) (x1 : Option Nat) (Q : Int32 → HH → Prop) : Prop := ((¬ (some a0) = x1 → Q (0 : Int32) h) ∧ ((some a0) = x1 → Q (1 : Int32) h))
set_option maxHeartbeats 4000000 in
theorem snd_J29_equals (l : Launch) (G : GG) (sz : Nat) (h : HH) (a0 : Nat) (x1 : Option Nat) (Q : Int32 → HH → Prop) (hw : wp_J29_equals G h a0 x1 Q) : Met l yJ29_equals (ws_ yJ29_equals cJ29_equals 2 (some FieldType.boolean)) rm_J29_equals (hv_Pc G h sz [.ref a0, va_rf x1]) (hv_Qi G h sz Q) 0 0 (hv_A h sz) := by
  refine hv_ofW (cc := cJ29_equals) (maxL := 2) (ret := (some FieldType.boolean)) (by decide +kernel) rfl ?_
  intro p e s m args below meth c s₁ B hml hv
  obtain ⟨rfl, rfl, hE, hI⟩ := hv_open B hml hv
  have hE : hv_E p s m ([.ref a0, va_rf x1] : List Value).toArray meth c cJ29_equals 2 (some FieldType.boolean) RJ29 G h := hE
  obtain ⟨⟨hx, hb, hml, hown, hts⟩, hr, hlocks, hXX⟩ := id hE
  have hl := lv_entry ([.ref a0, va_rf x1] : List Value) (n := 2) (by cases x1 <;> exact Nat.le_of_ble_eq_true rfl)
  rw [lg_entry_eq]
  generalize (lg_sl ([.ref a0, va_rf x1] : List Value) ++ List.replicate (2 - (lg_sl ([.ref a0, va_rf x1] : List Value)).length) Slot.unset).toArray = ls at hl ⊢
  have hl : lv_has ls 2 [(0, .ref a0), (1, va_rf x1)] := (by cases x1 <;> exact hl)
  unfold wp_J29_equals at hw
  refine lv_aload_n hx hb dJ29_equals_0 rfl (lv_at hl 0 rfl) ?_
  refine lv_aload_nq hx hb dJ29_equals_1 rfl (lv_at hl 1 rfl) ?_
  refine lv_acmp_ne (rx := (some a0)) (ry := x1) (tgt := 9) hx hb dJ29_equals_2 (by decide) (fun c_2 => ?_) (fun c_2 => ?_)
  · have hw := hw.1 c_2
    refine lv_iconst (v := 0) hx hb dJ29_equals_9 (by decide) ?_
    exact hv_zret hE hI (Nat.le_refl _) (Nat.le_refl _) rfl hw dJ29_equals_10
  · have hw := hw.2 c_2
    refine lv_iconst (v := 1) hx hb dJ29_equals_5 (by decide) ?_
    refine lv_goto (tgt := 10) hx hb dJ29_equals_6 (by decide) ?_
    exact hv_zret hE hI (Nat.le_refl _) (Nat.le_refl _) rfl hw dJ29_equals_10

/-- Object.equals of a Rule or a Fact, called from ArrayList -/
theorem hv_eqo {p : Program} {l : Launch} {e : Env} {R : Room} {s : State} {m : MethodId} {args : Array Value} {below : List Frame} {meth : Method} {c : Code} {H : Heap} {locs : List Loc} {cells slots : Nat} {Q : State → Prop} {cc : ByteArray} {pc : Nat} {ls : Array Slot} {rest : List Value} {G : GG} {h0 h : HH} {nL : Nat} {ret : Option FieldType} {a : Nat} {r : Option Nat} {P : Int32 → Prop}
    (hE : hv_E p s m args meth c cc nL ret RJ2 G h0) (hI : hv_I G h0 s.heap h H locs) (hw : w_eqo h a r P) (hsize : ls.size = nL) (hW : (rest.map fun v => v.category).sum ≤ 8) (hR : rm_J29_equals.frames + 1 ≤ R.frames ∧ 8 + (2 + 11) + rm_J29_equals.locals ≤ R.locals) (hdg : decode cc pc = .ok (.invokevirtual 93, 3)) (hf : cells ≤ R.cells ∧ slots ≤ R.slots)
    (kk : ∀ (v : Int32) (H1 : Heap) (locs1 : List Loc), P v → hv_I G h0 s.heap h H1 locs1 → W p l e R s m args below meth c H1 locs1 cells slots Q (F0 m (pc + 3) ls (.int v :: rest))) : W p l e R s m args below meth c H locs cells slots Q (F0 m pc ls (va_rf r :: .ref a :: rest)) := by
  obtain ⟨hre, hw⟩ := hw
  have hq : wp_J29_equals G h a r (fun v h' => h' = h ∧ P v) := by
    unfold wp_J29_equals
    by_cases z : some a = r
    · rw [if_pos z] at hw
      simp only [z, not_true_eq_false, false_implies, forall_const, true_and, hw, and_self]
    · rw [if_neg z] at hw
      simp only [z, not_false_eq_true, false_implies, forall_const, and_true, true_and, hw, and_self]
  have key : ∀ (C : String) (ci : Nat) (T : u_T) (N : Nat) (fs : List Value), hv_cl[ci]? = some (C, T, N) → h a = some (.inr (ci, fs)) → Cond.selects C ⟨"java/lang/Object", "equals", "(Ljava/lang/Object;)Z"⟩ ⟨"java/lang/Object", "equals", "(Ljava/lang/Object;)Z"⟩ ∈ lw_all → W p l e R s m args below meth c H locs cells slots Q (F0 m pc ls (va_rf r :: .ref a :: rest)) := by
    intro C ci T N fs hcl ha hsel
    refine hv_rci hI (va_runU (As := [va_rf r]) (b := a) (rest := rest) hE.1 (snd_J29_equals l G _ h a r _ hq) (va_cwU 1 hE.1.2.2.2.2 (lw_U (owner := "java/lang/Object") q578 q580 hsel q579 q2525 q609) rfl rfl rfl rfl (by decide +kernel) hR) (hv_preV hE hI hcl ha) rfl rfl hsize rfl (lv_room hW) hdg hf) ?_
    intro v h1 H1 locs1 hq1 hI1
    obtain ⟨rfl, hq1⟩ := hq1
    exact kk v H1 locs1 hq1 hI1
  rcases hre with ⟨fs, ha⟩ | ⟨fs, ha⟩
  · exact key _ 12 _ _ fs rfl ha q590
  · exact key _ 14 _ _ fs rfl ha q585

/-- java/util/ArrayList.indexOfRange(Ljava/lang/Object;II)I -/
abbrev rm_J2_indexOfRange : Room := { frames := 3, cells := 0, slots := 0, locals := 64 }
def wp_J2_indexOfRange_L13 (G : GG) (a0 : Nat) (Q : Int32 → HH → Prop) : Nat → (HH) → (Int32) → (Option Nat) → (Int32) → Prop
  | 0, _, _, _, _ => False
  | n + 1, h, x3, x4, x5 => ((x3 ≤ x5 → Q (-1 : Int32) h) ∧ (¬ x3 ≤ x5 → w_nn x4 (fun a3 => w_qld G h a3 x5 (fun r4 => ((r4 = none → Q x5 h) ∧ (∀ a5, r4 = some a5 → wp_J2_indexOfRange_L13 G a0 Q n h x3 (some a3) (x5 + (1 : Int32))))))))
set_option maxHeartbeats 4000000 in
theorem snd_J2_indexOfRange_L13 {p : Program} {l : Launch} {e : Env} {s : State} {m : MethodId} {args : Array Value} {below : List Frame} {meth : Method} {c : Code} {h0 : HH} (G : GG) (a0 : Nat) (Q : Int32 → HH → Prop) (hE : hv_E p s m args meth c cJ2_indexOfRange 6 (some FieldType.int) RJ2 G h0) : ∀ (n : Nat) (h : HH) (x3 : Int32) (x4 : Option Nat) (x5 : Int32), wp_J2_indexOfRange_L13 G a0 Q n h x3 x4 x5 → ∀ (H : Heap) (locs : List Loc) (ls : Array Slot), hv_I G h0 s.heap h H locs → lv_has ls 6 [(3, .int x3), (4, va_rf x4), (5, .int x5)] → W p l e (headSpec (ws_ yJ2_indexOfRange cJ2_indexOfRange 6 (some FieldType.int)) rm_J2_indexOfRange).room s m args below meth c H locs 0 0 (MQ below (hv_Qi G h0 s.heap.size Q) args s 0 0 (hv_A h0 s.heap.size)) (F0 m 13 ls []) := by
  obtain ⟨⟨hx, hb, hml, hown, hts⟩, hr, hlocks, hXX⟩ := id hE
  intro n
  induction n with
  | zero => intro h x3 x4 x5 hw; exact hw.elim
  | succ n ih =>
    intro h x3 x4 x5 hw H locs ls hI hl
    unfold wp_J2_indexOfRange_L13 at hw
    refine lv_iload hx hb dJ2_indexOfRange_13 (lv_at hl 2 rfl) ?_
    refine lv_iload_n hx hb dJ2_indexOfRange_15 rfl (lv_at hl 0 rfl) ?_
    refine lv_icmp_ge (tgt := 36) hx hb dJ2_indexOfRange_16 (by decide) (fun c_16 => ?_) (fun c_16 => ?_)
    · have hw := hw.1 c_16
      refine lv_goto (tgt := 69) hx hb dJ2_indexOfRange_36 (by decide) ?_
      refine lv_iconst (v := -1) hx hb dJ2_indexOfRange_69 (by decide) ?_
      exact hv_iret hE hI (Nat.le_refl _) (Nat.le_refl _) hw dJ2_indexOfRange_70
    · have hw := hw.2 c_16
      refine lv_aloadq hx hb dJ2_indexOfRange_19 (lv_at hl 1 rfl) ?_
      refine lv_iload hx hb dJ2_indexOfRange_21 (lv_at hl 2 rfl) ?_
      obtain ⟨a3, hz, hwa3⟩ := hw; have hla3 := hl; subst hz; have hw := hwa3; have hl := hla3
      refine hv_wqld hE hI hw dJ2_indexOfRange_23 (fun r4 hw => ?_)
      refine lv_ifnonnullq (tgt := 30) hx hb dJ2_indexOfRange_24 (by decide) (fun c_24 => ?_) (fun c_24 => ?_)
      · obtain ⟨a5, hz⟩ := Option.ne_none_iff_exists.mp c_24
        have hwa5 := hw.2 a5 hz.symm; have hla5 := hl; subst hz; have hw := hwa5; have hl := hla5
        refine lv_iinc (v := (x5 + (1 : Int32))) (lv' := [(5, .int (x5 + (1 : Int32))), (3, .int x3), (4, .ref a3)]) hx hb dJ2_indexOfRange_30 hl (k := 2) rfl rfl (by decide) rfl (fun ls hl => ?_)
        refine lv_goto (tgt := 13) hx hb dJ2_indexOfRange_33 (by decide) ?_
        exact ih h x3 (some a3) (x5 + (1 : Int32)) hw _ _ _ hI (lv_sub hl [1, 2, 0] rfl)
      · have hwa5 := hw.1 c_24; have hla5 := hl; subst c_24; have hw := hwa5; have hl := hla5
        refine lv_iload hx hb dJ2_indexOfRange_27 (lv_at hl 2 rfl) ?_
        exact hv_iret hE hI (Nat.le_refl _) (Nat.le_refl _) hw dJ2_indexOfRange_29
def wp_J2_indexOfRange_L42 (G : GG) (a0 : Nat) (Q : Int32 → HH → Prop) : Nat → (HH) → (Nat) → (Int32) → (Option Nat) → (Int32) → Prop
  | 0, _, _, _, _, _ => False
  | n + 1, h, x1, x3, x4, x5 => ((x3 ≤ x5 → Q (-1 : Int32) h) ∧ (¬ x3 ≤ x5 → w_nn x4 (fun a6 => w_qld G h a6 x5 (fun r7 => w_eqo h x1 r7 (fun r8 => ((r8 = 0 → wp_J2_indexOfRange_L42 G a0 Q n h x1 x3 (some a6) (x5 + (1 : Int32))) ∧ (¬ r8 = 0 → Q x5 h)))))))
set_option maxHeartbeats 4000000 in
theorem snd_J2_indexOfRange_L42 {p : Program} {l : Launch} {e : Env} {s : State} {m : MethodId} {args : Array Value} {below : List Frame} {meth : Method} {c : Code} {h0 : HH} (G : GG) (a0 : Nat) (Q : Int32 → HH → Prop) (hE : hv_E p s m args meth c cJ2_indexOfRange 6 (some FieldType.int) RJ2 G h0) : ∀ (n : Nat) (h : HH) (x1 : Nat) (x3 : Int32) (x4 : Option Nat) (x5 : Int32), wp_J2_indexOfRange_L42 G a0 Q n h x1 x3 x4 x5 → ∀ (H : Heap) (locs : List Loc) (ls : Array Slot), hv_I G h0 s.heap h H locs → lv_has ls 6 [(1, .ref x1), (3, .int x3), (4, va_rf x4), (5, .int x5)] → W p l e (headSpec (ws_ yJ2_indexOfRange cJ2_indexOfRange 6 (some FieldType.int)) rm_J2_indexOfRange).room s m args below meth c H locs 0 0 (MQ below (hv_Qi G h0 s.heap.size Q) args s 0 0 (hv_A h0 s.heap.size)) (F0 m 42 ls []) := by
  obtain ⟨⟨hx, hb, hml, hown, hts⟩, hr, hlocks, hXX⟩ := id hE
  intro n
  induction n with
  | zero => intro h x1 x3 x4 x5 hw; exact hw.elim
  | succ n ih =>
    intro h x1 x3 x4 x5 hw H locs ls hI hl
    unfold wp_J2_indexOfRange_L42 at hw
    refine lv_iload hx hb dJ2_indexOfRange_42 (lv_at hl 3 rfl) ?_
    refine lv_iload_n hx hb dJ2_indexOfRange_44 rfl (lv_at hl 1 rfl) ?_
    refine lv_icmp_ge (tgt := 69) hx hb dJ2_indexOfRange_45 (by decide) (fun c_45 => ?_) (fun c_45 => ?_)
    · have hw := hw.1 c_45
      refine lv_iconst (v := -1) hx hb dJ2_indexOfRange_69 (by decide) ?_
      exact hv_iret hE hI (Nat.le_refl _) (Nat.le_refl _) hw dJ2_indexOfRange_70
    · have hw := hw.2 c_45
      refine lv_aload_n hx hb dJ2_indexOfRange_48 rfl (lv_at hl 0 rfl) ?_
      refine lv_aloadq hx hb dJ2_indexOfRange_49 (lv_at hl 2 rfl) ?_
      refine lv_iload hx hb dJ2_indexOfRange_51 (lv_at hl 3 rfl) ?_
      obtain ⟨a6, hz, hwa6⟩ := hw; have hla6 := hl; subst hz; have hw := hwa6; have hl := hla6
      refine hv_wqld hE hI hw dJ2_indexOfRange_53 (fun r7 hw => ?_)
      refine hv_eqo (r := r7) (rest := []) hE hI hw hl.1 (Nat.le_of_ble_eq_true rfl) ⟨Nat.le_of_ble_eq_true rfl, Nat.le_of_ble_eq_true rfl⟩ dJ2_indexOfRange_54 ⟨Nat.le_of_ble_eq_true rfl, Nat.le_of_ble_eq_true rfl⟩ (fun r8 H locs hw hI => ?_)
      refine lv_if_eq (tgt := 63) hx hb dJ2_indexOfRange_57 (by decide) (fun c_57 => ?_) (fun c_57 => ?_)
      · have hw := hw.1 c_57
        refine lv_iinc (v := (x5 + (1 : Int32))) (lv' := [(5, .int (x5 + (1 : Int32))), (1, .ref x1), (3, .int x3), (4, .ref a6)]) hx hb dJ2_indexOfRange_63 hl (k := 3) rfl rfl (by decide) rfl (fun ls hl => ?_)
        refine lv_goto (tgt := 42) hx hb dJ2_indexOfRange_66 (by decide) ?_
        exact ih h x1 x3 (some a6) (x5 + (1 : Int32)) hw _ _ _ hI (lv_sub hl [1, 2, 3, 0] rfl)
      · have hw := hw.2 c_57
        refine lv_iload hx hb dJ2_indexOfRange_60 (lv_at hl 3 rfl) ?_
        exact hv_iret hE hI (Nat.le_refl _) (Nat.le_refl _) hw dJ2_indexOfRange_62
def wp_J2_indexOfRange (G : GG) (h : HH) (a0 : Nat) (x1 : Option Nat) (x2 : Int32) (x3 : Int32) (Q : Int32 → HH → Prop) : Prop := w_getq h a0 4 1 (fun r1 => ((x1 = none → (∃ n13, wp_J2_indexOfRange_L13 G a0 Q n13 h x3 r1 x2)) ∧ (∀ a2, x1 = some a2 → (∃ n42, wp_J2_indexOfRange_L42 G a0 Q n42 h a2 x3 r1 x2))))
set_option maxHeartbeats 4000000 in
theorem snd_J2_indexOfRange (l : Launch) (G : GG) (sz : Nat) (h : HH) (a0 : Nat) (x1 : Option Nat) (x2 : Int32) (x3 : Int32) (Q : Int32 → HH → Prop) (hw : wp_J2_indexOfRange G h a0 x1 x2 x3 Q) : Met l yJ2_indexOfRange (ws_ yJ2_indexOfRange cJ2_indexOfRange 6 (some FieldType.int)) rm_J2_indexOfRange (hv_Pc G h sz [.ref a0, va_rf x1, .int x2, .int x3]) (hv_Qi G h sz Q) 0 0 (hv_A h sz) := by
  refine Met.ofW (cc := cJ2_indexOfRange) (maxL := 6) (ret := (some FieldType.int)) (by decide) rfl ?_
  intro p e s m args below meth c s₁ B hml hv
  obtain ⟨rfl, rfl, hE, hI⟩ := hv_open B hml hv
  have hE : hv_E p s m ([.ref a0, va_rf x1, .int x2, .int x3] : List Value).toArray meth c cJ2_indexOfRange 6 (some FieldType.int) RJ2 G h := hE
  obtain ⟨⟨hx, hb, hml, hown, hts⟩, hr, hlocks, hXX⟩ := id hE
  have hl := lv_entry ([.ref a0, va_rf x1, .int x2, .int x3] : List Value) (n := 6) (by cases x1 <;> exact Nat.le_of_ble_eq_true rfl)
  rw [lg_entry_eq]
  generalize (lg_sl ([.ref a0, va_rf x1, .int x2, .int x3] : List Value) ++ List.replicate (6 - (lg_sl ([.ref a0, va_rf x1, .int x2, .int x3] : List Value)).length) Slot.unset).toArray = ls at hl ⊢
  have hl : lv_has ls 6 [(0, .ref a0), (1, va_rf x1), (2, .int x2), (3, .int x3)] := (by cases x1 <;> exact hl)
  unfold wp_J2_indexOfRange at hw
  refine lv_aload_n hx hb dJ2_indexOfRange_0 rfl (lv_at hl 0 rfl) ?_
  refine hv_wgetq hE hI in_J2 (ci := 4) rfl 1 (by decide) (hts _ q203) (fun _ hx => hx) hw dJ2_indexOfRange_1 (fun r1 hw => ?_)
  refine lv_astoreq (lv' := [(4, va_rf r1), (0, .ref a0), (1, va_rf x1), (2, .int x2), (3, .int x3)]) hx hb dJ2_indexOfRange_4 hl (by decide) rfl (fun ls hl => ?_)
  refine lv_aload_nq hx hb dJ2_indexOfRange_6 rfl (lv_at hl 2 rfl) ?_
  refine lv_ifnonnullq (tgt := 39) hx hb dJ2_indexOfRange_7 (by decide) (fun c_7 => ?_) (fun c_7 => ?_)
  · obtain ⟨a2, hz⟩ := Option.ne_none_iff_exists.mp c_7
    have hwa2 := hw.2 a2 hz.symm; have hla2 := hl; subst hz; have hw := hwa2; have hl := hla2
    refine lv_iload_n hx hb dJ2_indexOfRange_39 rfl (lv_at hl 3 rfl) ?_
    refine lv_istore (lv' := [(5, .int x2), (4, va_rf r1), (0, .ref a0), (1, .ref a2), (2, .int x2), (3, .int x3)]) hx hb dJ2_indexOfRange_40 hl (by decide) (by cases r1 <;> exact rfl) (fun ls hl => ?_)
    obtain ⟨n42, hw⟩ := hw
    exact snd_J2_indexOfRange_L42 G a0 Q hE n42 h a2 x3 r1 x2 hw _ _ _ hI (lv_sub hl [3, 5, 1, 0] rfl)
  · have hwa2 := hw.1 c_7; have hla2 := hl; subst c_7; have hw := hwa2; have hl := hla2
    refine lv_iload_n hx hb dJ2_indexOfRange_10 rfl (lv_at hl 3 rfl) ?_
    refine lv_istore (lv' := [(5, .int x2), (4, va_rf r1), (0, .ref a0), (1, .null), (2, .int x2), (3, .int x3)]) hx hb dJ2_indexOfRange_11 hl (by decide) (by cases r1 <;> exact rfl) (fun ls hl => ?_)
    obtain ⟨n13, hw⟩ := hw
    exact snd_J2_indexOfRange_L13 G a0 Q hE n13 h x3 r1 x2 hw _ _ _ hI (lv_sub hl [5, 1, 0] rfl)
