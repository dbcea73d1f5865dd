/-! walks over a world (by gen/hvrun.py) -/
set_option maxRecDepth 100000
/-- MatchmakerRules$Book.lambda$isInOrder$5(LMatchmakerRules$Firing;LMatchmakerRules$Firing;)Z -/
abbrev rm_X2_lambda_isInOrder_5 : Room := { frames := 2, cells := 0, slots := 0, locals := 33 }
def wp_X2_lambda_isInOrder_5 (G : GG) (h : HH) (x0 : Option Nat) (x1 : Option Nat) (Q : Int32 → HH → Prop) : Prop := w_nn x1 (fun a1 => w_is h a1 16 (wp_X12_isLike G h a1 x0 (fun r2 h3 => (narrow .boolean (.int r2) = .int r2 ∧ Q r2 h3))))
set_option maxHeartbeats 4000000 in
theorem snd_X2_lambda_isInOrder_5 (l : Launch) (G : GG) (sz : Nat) (h : HH) (x0 : Option Nat) (x1 : Option Nat) (Q : Int32 → HH → Prop) (hw : wp_X2_lambda_isInOrder_5 G h x0 x1 Q) : Met l yX2_lambda_isInOrder_5 (ws_ yX2_lambda_isInOrder_5 cX2_lambda_isInOrder_5 2 (some FieldType.boolean)) rm_X2_lambda_isInOrder_5 (hv_Pc G h sz [va_rf x0, va_rf x1]) (hv_Qi G h sz Q) 0 0 (hv_A h sz) := by
  refine Met.ofW (cc := cX2_lambda_isInOrder_5) (maxL := 2) (ret := (some FieldType.boolean)) (by decide) rfl ?_
  intro p e s m args below meth c s₁ B hml hv
  obtain ⟨rfl, rfl, hE, hI⟩ := hv_open B hml hv
  have hE : hv_E p s m ([va_rf x0, va_rf x1] : List Value).toArray meth c cX2_lambda_isInOrder_5 2 (some FieldType.boolean) RX2 G h := hE
  obtain ⟨⟨hx, hb, hml, hown, hts⟩, hr, hlocks, hXX⟩ := id hE
  have hl := lv_entry ([va_rf x0, va_rf x1] : List Value) (n := 2) (by cases x0 <;> cases x1 <;> exact Nat.le_of_ble_eq_true rfl)
  rw [lg_entry_eq]
  generalize (lg_sl ([va_rf x0, va_rf x1] : List Value) ++ List.replicate (2 - (lg_sl ([va_rf x0, va_rf x1] : List Value)).length) Slot.unset).toArray = ls at hl ⊢
  have hl : lv_has ls 2 [(0, va_rf x0), (1, va_rf x1)] := (by cases x0 <;> cases x1 <;> exact hl)
  unfold wp_X2_lambda_isInOrder_5 at hw
  refine lv_aload_nq hx hb dX2_lambda_isInOrder_5_0 rfl (lv_at hl 1 rfl) ?_
  refine lv_aload_nq hx hb dX2_lambda_isInOrder_5_1 rfl (lv_at hl 0 rfl) ?_
  obtain ⟨a1, hz, hwa1⟩ := hw; have hla1 := hl; subst hz; have hw := hwa1; have hl := hla1
  obtain ⟨⟨fs, hre⟩, hw⟩ := hw
  refine hv_rci hI (va_runV (As := [va_rf x0]) (b := a1) (rest := []) hE.1 (snd_X12_isLike l G _ h a1 x0 _ hw) (cwV 1 hts (lw_V q628 q629 q630 q132 q631) rfl rfl rfl (by decide +kernel) ⟨Nat.le_of_ble_eq_true rfl, Nat.le_of_ble_eq_true rfl⟩) (hv_preV hE hI (ci := 16) rfl hre) rfl rfl hl.1 rfl (lv_room (Nat.le_of_ble_eq_true rfl)) dX2_lambda_isInOrder_5_2 ⟨Nat.le_of_ble_eq_true rfl, Nat.le_of_ble_eq_true rfl⟩) (fun r2 h3 H locs hw hI => ?_)
  obtain ⟨hnr, hw⟩ := hw
  exact hv_zret hE hI (Nat.le_refl _) (Nat.le_refl _) hnr hw dX2_lambda_isInOrder_5_5

/-- MatchmakerRules$Book.lambda$drop$2(LMatchmakerRules$Rule;LMatchmakerRules$Firing;)Z -/
abbrev rm_X2_lambda_drop_2 : Room := { frames := 1, cells := 0, slots := 0, locals := 12 }
def wp_X2_lambda_drop_2 (G : GG) (h : HH) (x0 : Option Nat) (x1 : Option Nat) (Q : Int32 → HH → Prop) : Prop := w_nn x1 (fun a1 => w_getq h a1 16 0 (fun r2 => ((¬ r2 = x0 → Q (0 : Int32) h) ∧ (r2 = x0 → Q (1 : Int32) h))))
set_option maxHeartbeats 4000000 in
theorem snd_X2_lambda_drop_2 (l : Launch) (G : GG) (sz : Nat) (h : HH) (x0 : Option Nat) (x1 : Option Nat) (Q : Int32 → HH → Prop) (hw : wp_X2_lambda_drop_2 G h x0 x1 Q) : Met l yX2_lambda_drop_2 (ws_ yX2_lambda_drop_2 cX2_lambda_drop_2 2 (some FieldType.boolean)) rm_X2_lambda_drop_2 (hv_Pc G h sz [va_rf x0, va_rf x1]) (hv_Qi G h sz Q) 0 0 (hv_A h sz) := by
  refine Met.ofW (cc := cX2_lambda_drop_2) (maxL := 2) (ret := (some FieldType.boolean)) (by decide) rfl ?_
  intro p e s m args below meth c s₁ B hml hv
  obtain ⟨rfl, rfl, hE, hI⟩ := hv_open B hml hv
  have hE : hv_E p s m ([va_rf x0, va_rf x1] : List Value).toArray meth c cX2_lambda_drop_2 2 (some FieldType.boolean) RX2 G h := hE
  obtain ⟨⟨hx, hb, hml, hown, hts⟩, hr, hlocks, hXX⟩ := id hE
  have hl := lv_entry ([va_rf x0, va_rf x1] : List Value) (n := 2) (by cases x0 <;> cases x1 <;> exact Nat.le_of_ble_eq_true rfl)
  rw [lg_entry_eq]
  generalize (lg_sl ([va_rf x0, va_rf x1] : List Value) ++ List.replicate (2 - (lg_sl ([va_rf x0, va_rf x1] : List Value)).length) Slot.unset).toArray = ls at hl ⊢
  have hl : lv_has ls 2 [(0, va_rf x0), (1, va_rf x1)] := (by cases x0 <;> cases x1 <;> exact hl)
  unfold wp_X2_lambda_drop_2 at hw
  refine lv_aload_nq hx hb dX2_lambda_drop_2_0 rfl (lv_at hl 1 rfl) ?_
  obtain ⟨a1, hz, hwa1⟩ := hw; have hla1 := hl; subst hz; have hw := hwa1; have hl := hla1
  refine hv_wgetqN hE hI in_X12 (ci := 16) rfl 0 (by decide) (hE.2.2.2.2.1.F 32 rfl) (fun _ hx => hx) hw dX2_lambda_drop_2_1 (fun r2 hw => ?_)
  refine lv_aload_nq hx hb dX2_lambda_drop_2_4 rfl (lv_at hl 0 rfl) ?_
  refine lv_acmp_ne (rx := r2) (ry := x0) (tgt := 12) hx hb dX2_lambda_drop_2_5 (by decide) (fun c_5 => ?_) (fun c_5 => ?_)
  · have hw := hw.1 c_5
    refine lv_iconst (v := 0) hx hb dX2_lambda_drop_2_12 (by decide) ?_
    exact hv_zret hE hI (Nat.le_refl _) (Nat.le_refl _) rfl hw dX2_lambda_drop_2_13
  · have hw := hw.2 c_5
    refine lv_iconst (v := 1) hx hb dX2_lambda_drop_2_8 (by decide) ?_
    refine lv_goto (tgt := 13) hx hb dX2_lambda_drop_2_9 (by decide) ?_
    exact hv_zret hE hI (Nat.le_refl _) (Nat.le_refl _) rfl hw dX2_lambda_drop_2_13

/-- MatchmakerRules$Book.lambda$drop$3(LMatchmakerRules$Rule;LMatchmakerRules$Firing;)Z -/
abbrev rm_X2_lambda_drop_3 : Room := { frames := 1, cells := 0, slots := 0, locals := 12 }
def wp_X2_lambda_drop_3 (G : GG) (h : HH) (x0 : Option Nat) (x1 : Option Nat) (Q : Int32 → HH → Prop) : Prop := w_nn x1 (fun a1 => w_getq h a1 16 0 (fun r2 => ((¬ r2 = x0 → Q (0 : Int32) h) ∧ (r2 = x0 → Q (1 : Int32) h))))
set_option maxHeartbeats 4000000 in
theorem snd_X2_lambda_drop_3 (l : Launch) (G : GG) (sz : Nat) (h : HH) (x0 : Option Nat) (x1 : Option Nat) (Q : Int32 → HH → Prop) (hw : wp_X2_lambda_drop_3 G h x0 x1 Q) : Met l yX2_lambda_drop_3 (ws_ yX2_lambda_drop_3 cX2_lambda_drop_3 2 (some FieldType.boolean)) rm_X2_lambda_drop_3 (hv_Pc G h sz [va_rf x0, va_rf x1]) (hv_Qi G h sz Q) 0 0 (hv_A h sz) := by
  refine Met.ofW (cc := cX2_lambda_drop_3) (maxL := 2) (ret := (some FieldType.boolean)) (by decide) rfl ?_
  intro p e s m args below meth c s₁ B hml hv
  obtain ⟨rfl, rfl, hE, hI⟩ := hv_open B hml hv
  have hE : hv_E p s m ([va_rf x0, va_rf x1] : List Value).toArray meth c cX2_lambda_drop_3 2 (some FieldType.boolean) RX2 G h := hE
  obtain ⟨⟨hx, hb, hml, hown, hts⟩, hr, hlocks, hXX⟩ := id hE
  have hl := lv_entry ([va_rf x0, va_rf x1] : List Value) (n := 2) (by cases x0 <;> cases x1 <;> exact Nat.le_of_ble_eq_true rfl)
  rw [lg_entry_eq]
  generalize (lg_sl ([va_rf x0, va_rf x1] : List Value) ++ List.replicate (2 - (lg_sl ([va_rf x0, va_rf x1] : List Value)).length) Slot.unset).toArray = ls at hl ⊢
  have hl : lv_has ls 2 [(0, va_rf x0), (1, va_rf x1)] := (by cases x0 <;> cases x1 <;> exact hl)
  unfold wp_X2_lambda_drop_3 at hw
  refine lv_aload_nq hx hb dX2_lambda_drop_3_0 rfl (lv_at hl 1 rfl) ?_
  obtain ⟨a1, hz, hwa1⟩ := hw; have hla1 := hl; subst hz; have hw := hwa1; have hl := hla1
  refine hv_wgetqN hE hI in_X12 (ci := 16) rfl 0 (by decide) (hE.2.2.2.2.1.F 32 rfl) (fun _ hx => hx) hw dX2_lambda_drop_3_1 (fun r2 hw => ?_)
  refine lv_aload_nq hx hb dX2_lambda_drop_3_4 rfl (lv_at hl 0 rfl) ?_
  refine lv_acmp_ne (rx := r2) (ry := x0) (tgt := 12) hx hb dX2_lambda_drop_3_5 (by decide) (fun c_5 => ?_) (fun c_5 => ?_)
  · have hw := hw.1 c_5
    refine lv_iconst (v := 0) hx hb dX2_lambda_drop_3_12 (by decide) ?_
    exact hv_zret hE hI (Nat.le_refl _) (Nat.le_refl _) rfl hw dX2_lambda_drop_3_13
  · have hw := hw.2 c_5
    refine lv_iconst (v := 1) hx hb dX2_lambda_drop_3_8 (by decide) ?_
    refine lv_goto (tgt := 13) hx hb dX2_lambda_drop_3_9 (by decide) ?_
    exact hv_zret hE hI (Nat.le_refl _) (Nat.le_refl _) rfl hw dX2_lambda_drop_3_13

/-- MatchmakerRules$Firing.has(I)Z -/
abbrev rm_X12_has : Room := { frames := 1, cells := 0, slots := 0, locals := 12 }
def wp_X12_has (G : GG) (h : HH) (a0 : Nat) (x1 : Int32) (Q : Int32 → HH → Prop) : Prop := w_geti h a0 16 1 (fun r1 => ((r1 = x1 → Q (1 : Int32) h) ∧ (¬ r1 = x1 → w_geti h a0 16 2 (fun r2 => ((¬ r2 = x1 → Q (0 : Int32) h) ∧ (r2 = x1 → Q (1 : Int32) h))))))
set_option maxHeartbeats 4000000 in
theorem snd_X12_has (l : Launch) (G : GG) (sz : Nat) (h : HH) (a0 : Nat) (x1 : Int32) (Q : Int32 → HH → Prop) (hw : wp_X12_has G h a0 x1 Q) : Met l yX12_has (ws_ yX12_has cX12_has 2 (some FieldType.boolean)) rm_X12_has (hv_Pc G h sz [.ref a0, .int x1]) (hv_Qi G h sz Q) 0 0 (hv_A h sz) := by
  refine Met.ofW (cc := cX12_has) (maxL := 2) (ret := (some FieldType.boolean)) (by decide) rfl ?_
  intro p e s m args below meth c s₁ B hml hv
  obtain ⟨rfl, rfl, hE, hI⟩ := hv_open B hml hv
  have hE : hv_E p s m ([.ref a0, .int x1] : List Value).toArray meth c cX12_has 2 (some FieldType.boolean) RX12 G h := hE
  obtain ⟨⟨hx, hb, hml, hown, hts⟩, hr, hlocks, hXX⟩ := id hE
  have hl := lv_entry ([.ref a0, .int x1] : List Value) (n := 2) (Nat.le_of_ble_eq_true rfl)
  rw [lg_entry_eq]
  generalize (lg_sl ([.ref a0, .int x1] : List Value) ++ List.replicate (2 - (lg_sl ([.ref a0, .int x1] : List Value)).length) Slot.unset).toArray = ls at hl ⊢
  have hl : lv_has ls 2 [(0, .ref a0), (1, .int x1)] := hl
  unfold wp_X12_has at hw
  refine lv_aload_n hx hb dX12_has_0 rfl (lv_at hl 0 rfl) ?_
  refine hv_wgeti hE hI in_X12 (ci := 16) rfl 1 (by decide) (hts _ q1188) (fun _ hx => hx) hw dX12_has_1 (fun r1 hw => ?_)
  refine lv_iload_n hx hb dX12_has_4 rfl (lv_at hl 1 rfl) ?_
  refine lv_icmp_eq (tgt := 16) hx hb dX12_has_5 (by decide) (fun c_5 => ?_) (fun c_5 => ?_)
  · have hw := hw.1 c_5
    refine lv_iconst (v := 1) hx hb dX12_has_16 (by decide) ?_
    refine lv_goto (tgt := 21) hx hb dX12_has_17 (by decide) ?_
    exact hv_zret hE hI (Nat.le_refl _) (Nat.le_refl _) rfl hw dX12_has_21
  · have hw := hw.2 c_5
    refine lv_aload_n hx hb dX12_has_8 rfl (lv_at hl 0 rfl) ?_
    refine hv_wgeti hE hI in_X12 (ci := 16) rfl 2 (by decide) (hts _ q1191) (fun _ hx => hx) hw dX12_has_9 (fun r2 hw => ?_)
    refine lv_iload_n hx hb dX12_has_12 rfl (lv_at hl 1 rfl) ?_
    refine lv_icmp_ne (tgt := 20) hx hb dX12_has_13 (by decide) (fun c_13 => ?_) (fun c_13 => ?_)
    · have hw := hw.1 c_13
      refine lv_iconst (v := 0) hx hb dX12_has_20 (by decide) ?_
      exact hv_zret hE hI (Nat.le_refl _) (Nat.le_refl _) rfl hw dX12_has_21
    · have hw := hw.2 c_13
      refine lv_iconst (v := 1) hx hb dX12_has_16 (by decide) ?_
      refine lv_goto (tgt := 21) hx hb dX12_has_17 (by decide) ?_
      exact hv_zret hE hI (Nat.le_refl _) (Nat.le_refl _) rfl hw dX12_has_21

/-- MatchmakerRules$Book.lambda$loseGround$0(ILMatchmakerRules$Firing;)Z -/
abbrev rm_X2_lambda_loseGround_0 : Room := { frames := 2, cells := 0, slots := 0, locals := 33 }
def wp_X2_lambda_loseGround_0 (G : GG) (h : HH) (x0 : Int32) (x1 : Option Nat) (Q : Int32 → HH → Prop) : Prop := w_nn x1 (fun a1 => w_is h a1 16 (wp_X12_has G h a1 x0 (fun r2 h3 => (narrow .boolean (.int r2) = .int r2 ∧ Q r2 h3))))
set_option maxHeartbeats 4000000 in
theorem snd_X2_lambda_loseGround_0 (l : Launch) (G : GG) (sz : Nat) (h : HH) (x0 : Int32) (x1 : Option Nat) (Q : Int32 → HH → Prop) (hw : wp_X2_lambda_loseGround_0 G h x0 x1 Q) : Met l yX2_lambda_loseGround_0 (ws_ yX2_lambda_loseGround_0 cX2_lambda_loseGround_0 2 (some FieldType.boolean)) rm_X2_lambda_loseGround_0 (hv_Pc G h sz [.int x0, va_rf x1]) (hv_Qi G h sz Q) 0 0 (hv_A h sz) := by
  refine Met.ofW (cc := cX2_lambda_loseGround_0) (maxL := 2) (ret := (some FieldType.boolean)) (by decide) rfl ?_
  intro p e s m args below meth c s₁ B hml hv
  obtain ⟨rfl, rfl, hE, hI⟩ := hv_open B hml hv
  have hE : hv_E p s m ([.int x0, va_rf x1] : List Value).toArray meth c cX2_lambda_loseGround_0 2 (some FieldType.boolean) RX2 G h := hE
  obtain ⟨⟨hx, hb, hml, hown, hts⟩, hr, hlocks, hXX⟩ := id hE
  have hl := lv_entry ([.int x0, va_rf x1] : List Value) (n := 2) (by cases x1 <;> exact Nat.le_of_ble_eq_true rfl)
  rw [lg_entry_eq]
  generalize (lg_sl ([.int x0, va_rf x1] : List Value) ++ List.replicate (2 - (lg_sl ([.int x0, va_rf x1] : List Value)).length) Slot.unset).toArray = ls at hl ⊢
  have hl : lv_has ls 2 [(0, .int x0), (1, va_rf x1)] := (by cases x1 <;> exact hl)
  unfold wp_X2_lambda_loseGround_0 at hw
  refine lv_aload_nq hx hb dX2_lambda_loseGround_0_0 rfl (lv_at hl 1 rfl) ?_
  refine lv_iload_n hx hb dX2_lambda_loseGround_0_1 rfl (lv_at hl 0 rfl) ?_
  obtain ⟨a1, hz, hwa1⟩ := hw; have hla1 := hl; subst hz; have hw := hwa1; have hl := hla1
  obtain ⟨⟨fs, hre⟩, hw⟩ := hw
  refine hv_rci hI (va_runV (As := [.int x0]) (b := a1) (rest := []) hE.1 (snd_X12_has l G _ h a1 x0 _ hw) (cwV 1 hts (lw_V q1144 q1145 q1146 q132 q1147) rfl rfl rfl (by decide +kernel) ⟨Nat.le_of_ble_eq_true rfl, Nat.le_of_ble_eq_true rfl⟩) (hv_preV hE hI (ci := 16) rfl hre) rfl rfl hl.1 rfl (lv_room (Nat.le_of_ble_eq_true rfl)) dX2_lambda_loseGround_0_2 ⟨Nat.le_of_ble_eq_true rfl, Nat.le_of_ble_eq_true rfl⟩) (fun r2 h3 H locs hw hI => ?_)
  obtain ⟨hnr, hw⟩ := hw
  exact hv_zret hE hI (Nat.le_refl _) (Nat.le_refl _) hnr hw dX2_lambda_loseGround_0_5

/-- MatchmakerRules$Book.lambda$loseGround$1(ILMatchmakerRules$Firing;)Z -/
abbrev rm_X2_lambda_loseGround_1 : Room := { frames := 2, cells := 0, slots := 0, locals := 33 }
def wp_X2_lambda_loseGround_1 (G : GG) (h : HH) (x0 : Int32) (x1 : Option Nat) (Q : Int32 → HH → Prop) : Prop := w_nn x1 (fun a1 => w_is h a1 16 (wp_X12_has G h a1 x0 (fun r2 h3 => (narrow .boolean (.int r2) = .int r2 ∧ Q r2 h3))))
set_option maxHeartbeats 4000000 in
theorem snd_X2_lambda_loseGround_1 (l : Launch) (G : GG) (sz : Nat) (h : HH) (x0 : Int32) (x1 : Option Nat) (Q : Int32 → HH → Prop) (hw : wp_X2_lambda_loseGround_1 G h x0 x1 Q) : Met l yX2_lambda_loseGround_1 (ws_ yX2_lambda_loseGround_1 cX2_lambda_loseGround_1 2 (some FieldType.boolean)) rm_X2_lambda_loseGround_1 (hv_Pc G h sz [.int x0, va_rf x1]) (hv_Qi G h sz Q) 0 0 (hv_A h sz) := by
  refine Met.ofW (cc := cX2_lambda_loseGround_1) (maxL := 2) (ret := (some FieldType.boolean)) (by decide) rfl ?_
  intro p e s m args below meth c s₁ B hml hv
  obtain ⟨rfl, rfl, hE, hI⟩ := hv_open B hml hv
  have hE : hv_E p s m ([.int x0, va_rf x1] : List Value).toArray meth c cX2_lambda_loseGround_1 2 (some FieldType.boolean) RX2 G h := hE
  obtain ⟨⟨hx, hb, hml, hown, hts⟩, hr, hlocks, hXX⟩ := id hE
  have hl := lv_entry ([.int x0, va_rf x1] : List Value) (n := 2) (by cases x1 <;> exact Nat.le_of_ble_eq_true rfl)
  rw [lg_entry_eq]
  generalize (lg_sl ([.int x0, va_rf x1] : List Value) ++ List.replicate (2 - (lg_sl ([.int x0, va_rf x1] : List Value)).length) Slot.unset).toArray = ls at hl ⊢
  have hl : lv_has ls 2 [(0, .int x0), (1, va_rf x1)] := (by cases x1 <;> exact hl)
  unfold wp_X2_lambda_loseGround_1 at hw
  refine lv_aload_nq hx hb dX2_lambda_loseGround_1_0 rfl (lv_at hl 1 rfl) ?_
  refine lv_iload_n hx hb dX2_lambda_loseGround_1_1 rfl (lv_at hl 0 rfl) ?_
  obtain ⟨a1, hz, hwa1⟩ := hw; have hla1 := hl; subst hz; have hw := hwa1; have hl := hla1
  obtain ⟨⟨fs, hre⟩, hw⟩ := hw
  refine hv_rci hI (va_runV (As := [.int x0]) (b := a1) (rest := []) hE.1 (snd_X12_has l G _ h a1 x0 _ hw) (cwV 1 hts (lw_V q1144 q1145 q1146 q132 q1147) rfl rfl rfl (by decide +kernel) ⟨Nat.le_of_ble_eq_true rfl, Nat.le_of_ble_eq_true rfl⟩) (hv_preV hE hI (ci := 16) rfl hre) rfl rfl hl.1 rfl (lv_room (Nat.le_of_ble_eq_true rfl)) dX2_lambda_loseGround_1_2 ⟨Nat.le_of_ble_eq_true rfl, Nat.le_of_ble_eq_true rfl⟩) (fun r2 h3 H locs hw hI => ?_)
  obtain ⟨hnr, hw⟩ := hw
  exact hv_zret hE hI (Nat.le_refl _) (Nat.le_refl _) hnr hw dX2_lambda_loseGround_1_5

/-- MatchmakerRules$Book.lambda$uses$4(LMatchmakerRules$Fact;LMatchmakerRules$Firing;)Z -/
abbrev rm_X2_lambda_uses_4 : Room := { frames := 2, cells := 0, slots := 0, locals := 33 }
def wp_X2_lambda_uses_4 (G : GG) (h : HH) (x0 : Option Nat) (x1 : Option Nat) (Q : Int32 → HH → Prop) : Prop := w_nn x0 (fun a1 => w_geti h a1 14 0 (fun r2 => w_nn x1 (fun a3 => w_is h a3 16 (wp_X12_has G h a3 r2 (fun r4 h5 => (narrow .boolean (.int r4) = .int r4 ∧ Q r4 h5))))))
set_option maxHeartbeats 4000000 in
theorem snd_X2_lambda_uses_4 (l : Launch) (G : GG) (sz : Nat) (h : HH) (x0 : Option Nat) (x1 : Option Nat) (Q : Int32 → HH → Prop) (hw : wp_X2_lambda_uses_4 G h x0 x1 Q) : Met l yX2_lambda_uses_4 (ws_ yX2_lambda_uses_4 cX2_lambda_uses_4 2 (some FieldType.boolean)) rm_X2_lambda_uses_4 (hv_Pc G h sz [va_rf x0, va_rf x1]) (hv_Qi G h sz Q) 0 0 (hv_A h sz) := by
  refine Met.ofW (cc := cX2_lambda_uses_4) (maxL := 2) (ret := (some FieldType.boolean)) (by decide) rfl ?_
  intro p e s m args below meth c s₁ B hml hv
  obtain ⟨rfl, rfl, hE, hI⟩ := hv_open B hml hv
  have hE : hv_E p s m ([va_rf x0, va_rf x1] : List Value).toArray meth c cX2_lambda_uses_4 2 (some FieldType.boolean) RX2 G h := hE
  obtain ⟨⟨hx, hb, hml, hown, hts⟩, hr, hlocks, hXX⟩ := id hE
  have hl := lv_entry ([va_rf x0, va_rf x1] : List Value) (n := 2) (by cases x0 <;> cases x1 <;> exact Nat.le_of_ble_eq_true rfl)
  rw [lg_entry_eq]
  generalize (lg_sl ([va_rf x0, va_rf x1] : List Value) ++ List.replicate (2 - (lg_sl ([va_rf x0, va_rf x1] : List Value)).length) Slot.unset).toArray = ls at hl ⊢
  have hl : lv_has ls 2 [(0, va_rf x0), (1, va_rf x1)] := (by cases x0 <;> cases x1 <;> exact hl)
  unfold wp_X2_lambda_uses_4 at hw
  refine lv_aload_nq hx hb dX2_lambda_uses_4_0 rfl (lv_at hl 1 rfl) ?_
  refine lv_aload_nq hx hb dX2_lambda_uses_4_1 rfl (lv_at hl 0 rfl) ?_
  obtain ⟨a1, hz, hwa1⟩ := hw; have hla1 := hl; subst hz; have hw := hwa1; have hl := hla1
  refine hv_wgetiN hE hI in_X10 (ci := 14) rfl 0 (by decide) (hE.2.2.2.2.1.F 24 rfl) (fun _ hx => hx) hw dX2_lambda_uses_4_2 (fun r2 hw => ?_)
  obtain ⟨a3, hz, hwa3⟩ := hw; have hla3 := hl; subst hz; have hw := hwa3; have hl := hla3
  obtain ⟨⟨fs, hre⟩, hw⟩ := hw
  refine hv_rci hI (va_runV (As := [.int r2]) (b := a3) (rest := []) hE.1 (snd_X12_has l G _ h a3 r2 _ hw) (cwV 1 hts (lw_V q1144 q1145 q1146 q132 q1147) rfl rfl rfl (by decide +kernel) ⟨Nat.le_of_ble_eq_true rfl, Nat.le_of_ble_eq_true rfl⟩) (hv_preV hE hI (ci := 16) rfl hre) rfl rfl hl.1 rfl (lv_room (Nat.le_of_ble_eq_true rfl)) dX2_lambda_uses_4_5 ⟨Nat.le_of_ble_eq_true rfl, Nat.le_of_ble_eq_true rfl⟩) (fun r4 h5 H locs hw hI => ?_)
  obtain ⟨hnr, hw⟩ := hw
  exact hv_zret hE hI (Nat.le_refl _) (Nat.le_refl _) hnr hw dX2_lambda_uses_4_8

/-! OBJECTS OF THE SIX LAMBDAS, over a world (by gen/mklam.py) -/
theorem la_cellI (cA : ClassId) (v : Int32) : vp_cell cA (1, .inl (fun _ => v)) = { cls := cA, slots := #[.int v], vm := .none } := rfl
theorem la_cellQ (cA : ClassId) (v : Option Nat) : vp_cell cA (1, .inr (.inr (.inr (.inr (fun _ => v))))) = { cls := cA, slots := #[va_rf v], vm := .none } := rfl
def w_test (G : GG) (h : HH) (a : Nat) (f : Option Nat) (P : Int32 → HH → Prop) : Prop := (∃ v : Option Nat, h a = some (.inl (G.2.1 10, 1, .inr (.inr (.inr (.inr (fun _ => v)))))) ∧ wp_X2_lambda_isInOrder_5 G h v f (fun r h1 => narrow .boolean (.int r) = .int r ∧ P r h1)) ∨ (∃ v : Option Nat, h a = some (.inl (G.2.1 11, 1, .inr (.inr (.inr (.inr (fun _ => v)))))) ∧ wp_X2_lambda_drop_2 G h v f (fun r h1 => narrow .boolean (.int r) = .int r ∧ P r h1)) ∨ (∃ v : Option Nat, h a = some (.inl (G.2.1 12, 1, .inr (.inr (.inr (.inr (fun _ => v)))))) ∧ wp_X2_lambda_drop_3 G h v f (fun r h1 => narrow .boolean (.int r) = .int r ∧ P r h1)) ∨ (∃ v : Int32, h a = some (.inl (G.2.1 13, 1, .inl (fun _ => v))) ∧ wp_X2_lambda_loseGround_0 G h v f (fun r h1 => narrow .boolean (.int r) = .int r ∧ P r h1)) ∨ (∃ v : Int32, h a = some (.inl (G.2.1 14, 1, .inl (fun _ => v))) ∧ wp_X2_lambda_loseGround_1 G h v f (fun r h1 => narrow .boolean (.int r) = .int r ∧ P r h1)) ∨ (∃ v : Option Nat, h a = some (.inl (G.2.1 15, 1, .inr (.inr (.inr (.inr (fun _ => v)))))) ∧ wp_X2_lambda_uses_4 G h v f (fun r h1 => narrow .boolean (.int r) = .int r ∧ P r h1))
section HVL
variable {p : Program} {l : Launch} {e : Env} {R : Room} {s : State} {m : MethodId} {args : Array Value} {below : List Frame} {meth : Method} {c : Code} {H : Heap} {locs : List Loc} {cells slots mc ms : Nat} {Q : State → Prop}
variable {cc : ByteArray} {pc : Nat} {ls : Array Slot} {rest : List Value} {G : GG} {h0 h : HH} {nL : Nat} {own : String} {ret : Option FieldType} {a : Nat}
theorem hv_isSo {f : Option Nat} {P : Int32 → HH → Prop} {count : Nat} (hE : hv_E p s m args meth c cc nL ret RX1 G h0) (hI : hv_I G h0 s.heap h H locs) (hw : w_test G h a f P) (hsize : ls.size = nL) (hW : (rest.map fun v => v.category).sum ≤ 8) (hR : 4 ≤ R.frames ∧ 75 ≤ R.locals) (hf : cells ≤ R.cells ∧ slots ≤ R.slots) (hdg : decode cc pc = .ok (.invokeinterface 37 count, 5))
    (kk : ∀ (r : Int32) (h1 : HH) (H1 : Heap) (locs1 : List Loc), P r h1 → hv_I G h0 s.heap h1 H1 locs1 → W p l e R s m args below meth c H1 locs1 cells slots Q (F0 m (pc + 5) ls (.int r :: rest))) : W p l e R s m args below meth c H locs cells slots Q (F0 m pc ls (va_rf f :: .ref a :: rest)) := by
  have hL := (hv_zH hE).2.2.2.2.2.2.2.2.2.2.2.2.1.2
  have hts := hE.1.2.2.2.2
  have hvf : (va_rf f).isRef = true := by cases f <;> rfl
  obtain ⟨hR1, hR2⟩ := hR
  rcases hw with ⟨v, ha, hw⟩ | ⟨v, ha, hw⟩ | ⟨v, ha, hw⟩ | ⟨v, ha, hw⟩ | ⟨v, ha, hw⟩ | ⟨v, ha, hw⟩
  · refine hv_rFi hI (la_isSo (v := va_rf v) (vf := va_rf f) (rest := rest) hE.1 la_k0 hL.2.1 rfl hL.1 (hts _ q2564) rfl la_p0 (snd_X2_lambda_isInOrder_5 l G _ h v f _ hw) hv_blind rfl rfl (pay_in hts (lw_meth q627)) List.mem_cons_self (hts _ q627) (hts _ q626) (hts _ q98) (hts _ q642) ((hI.1 _ _ ha).trans (congrArg some (la_cellQ _ v))) hvf (va_rf_cat _) (fun U hU hW1 => (hv_preS (As := [va_rf v, va_rf f]) hE hI).2 U hU hW1) (fun st t v1 hq => ?_) rfl hsize rfl (lv_room hW) hdg ?_ ?_ hf) ?_
    · obtain ⟨⟨r, h1, hr, ⟨hn, -⟩, -⟩, -⟩ := hq
      exact ⟨r, Outcome.returned.inj hr, hn⟩
    · exact Nat.le_trans (Nat.le_of_ble_eq_true rfl) hR1
    · exact Nat.le_trans (Nat.le_of_ble_eq_true rfl) hR2
    · intro r h1 H1 locs1 hq hI1
      exact kk r h1 H1 locs1 hq.2 hI1
  · refine hv_rFi hI (la_isSo (v := va_rf v) (vf := va_rf f) (rest := rest) hE.1 la_k1 hL.2.2.1 rfl hL.1 (hts _ q2564) rfl la_p1 (snd_X2_lambda_drop_2 l G _ h v f _ hw) hv_blind rfl rfl (pay_in hts (lw_meth q1092)) List.mem_cons_self (hts _ q1092) (hts _ q1091) (hts _ q98) (hts _ q642) ((hI.1 _ _ ha).trans (congrArg some (la_cellQ _ v))) hvf (va_rf_cat _) (fun U hU hW1 => (hv_preS (As := [va_rf v, va_rf f]) hE hI).2 U hU hW1) (fun st t v1 hq => ?_) rfl hsize rfl (lv_room hW) hdg ?_ ?_ hf) ?_
    · obtain ⟨⟨r, h1, hr, ⟨hn, -⟩, -⟩, -⟩ := hq
      exact ⟨r, Outcome.returned.inj hr, hn⟩
    · exact Nat.le_trans (Nat.le_of_ble_eq_true rfl) hR1
    · exact Nat.le_trans (Nat.le_of_ble_eq_true rfl) hR2
    · intro r h1 H1 locs1 hq hI1
      exact kk r h1 H1 locs1 hq.2 hI1
  · refine hv_rFi hI (la_isSo (v := va_rf v) (vf := va_rf f) (rest := rest) hE.1 la_k2 hL.2.2.2.1 rfl hL.1 (hts _ q2564) rfl la_p2 (snd_X2_lambda_drop_3 l G _ h v f _ hw) hv_blind rfl rfl (pay_in hts (lw_meth q1137)) List.mem_cons_self (hts _ q1137) (hts _ q1136) (hts _ q98) (hts _ q642) ((hI.1 _ _ ha).trans (congrArg some (la_cellQ _ v))) hvf (va_rf_cat _) (fun U hU hW1 => (hv_preS (As := [va_rf v, va_rf f]) hE hI).2 U hU hW1) (fun st t v1 hq => ?_) rfl hsize rfl (lv_room hW) hdg ?_ ?_ hf) ?_
    · obtain ⟨⟨r, h1, hr, ⟨hn, -⟩, -⟩, -⟩ := hq
      exact ⟨r, Outcome.returned.inj hr, hn⟩
    · exact Nat.le_trans (Nat.le_of_ble_eq_true rfl) hR1
    · exact Nat.le_trans (Nat.le_of_ble_eq_true rfl) hR2
    · intro r h1 H1 locs1 hq hI1
      exact kk r h1 H1 locs1 hq.2 hI1
  · refine hv_rFi hI (la_isSo (v := .int v) (vf := va_rf f) (rest := rest) hE.1 la_k3 hL.2.2.2.2.1 rfl hL.1 (hts _ q2564) rfl la_p3 (snd_X2_lambda_loseGround_0 l G _ h v f _ hw) hv_blind rfl rfl (pay_in hts (lw_meth q1143)) List.mem_cons_self (hts _ q1143) (hts _ q1142) (hts _ q98) (hts _ q642) ((hI.1 _ _ ha).trans (congrArg some (la_cellI _ v))) hvf rfl (fun U hU hW1 => (hv_preS (As := [.int v, va_rf f]) hE hI).2 U hU hW1) (fun st t v1 hq => ?_) rfl hsize rfl (lv_room hW) hdg ?_ ?_ hf) ?_
    · obtain ⟨⟨r, h1, hr, ⟨hn, -⟩, -⟩, -⟩ := hq
      exact ⟨r, Outcome.returned.inj hr, hn⟩
    · exact Nat.le_trans (Nat.le_of_ble_eq_true rfl) hR1
    · exact Nat.le_trans (Nat.le_of_ble_eq_true rfl) hR2
    · intro r h1 H1 locs1 hq hI1
      exact kk r h1 H1 locs1 hq.2 hI1
  · refine hv_rFi hI (la_isSo (v := .int v) (vf := va_rf f) (rest := rest) hE.1 la_k4 hL.2.2.2.2.2.1 rfl hL.1 (hts _ q2564) rfl la_p4 (snd_X2_lambda_loseGround_1 l G _ h v f _ hw) hv_blind rfl rfl (pay_in hts (lw_meth q1149)) List.mem_cons_self (hts _ q1149) (hts _ q1148) (hts _ q98) (hts _ q642) ((hI.1 _ _ ha).trans (congrArg some (la_cellI _ v))) hvf rfl (fun U hU hW1 => (hv_preS (As := [.int v, va_rf f]) hE hI).2 U hU hW1) (fun st t v1 hq => ?_) rfl hsize rfl (lv_room hW) hdg ?_ ?_ hf) ?_
    · obtain ⟨⟨r, h1, hr, ⟨hn, -⟩, -⟩, -⟩ := hq
      exact ⟨r, Outcome.returned.inj hr, hn⟩
    · exact Nat.le_trans (Nat.le_of_ble_eq_true rfl) hR1
    · exact Nat.le_trans (Nat.le_of_ble_eq_true rfl) hR2
    · intro r h1 H1 locs1 hq hI1
      exact kk r h1 H1 locs1 hq.2 hI1
  · refine hv_rFi hI (la_isSo (v := va_rf v) (vf := va_rf f) (rest := rest) hE.1 la_k5 hL.2.2.2.2.2.2 rfl hL.1 (hts _ q2564) rfl la_p5 (snd_X2_lambda_uses_4 l G _ h v f _ hw) hv_blind rfl rfl (pay_in hts (lw_meth q1378)) List.mem_cons_self (hts _ q1378) (hts _ q1377) (hts _ q98) (hts _ q642) ((hI.1 _ _ ha).trans (congrArg some (la_cellQ _ v))) hvf (va_rf_cat _) (fun U hU hW1 => (hv_preS (As := [va_rf v, va_rf f]) hE hI).2 U hU hW1) (fun st t v1 hq => ?_) rfl hsize rfl (lv_room hW) hdg ?_ ?_ hf) ?_
    · obtain ⟨⟨r, h1, hr, ⟨hn, -⟩, -⟩, -⟩ := hq
      exact ⟨r, Outcome.returned.inj hr, hn⟩
    · exact Nat.le_trans (Nat.le_of_ble_eq_true rfl) hR1
    · exact Nat.le_trans (Nat.le_of_ble_eq_true rfl) hR2
    · intro r h1 H1 locs1 hq hI1
      exact kk r h1 H1 locs1 hq.2 hI1
theorem hv_push {e1 : va_E} {cell : Cell} (hI : hv_I G h0 s.heap h H locs) (hc : ∀ H1 : Heap, H1[H.size]? = some cell → va_at G.1 hv_cl (H.size, e1) H1) : h H.size = none ∧ hv_I G h0 s.heap (va_up h H.size (some e1)) (H.push cell) locs := by
  have hn : h H.size = none := by
    cases hh : h H.size with
    | none => rfl
    | some x1 => exact absurd (hI.1 _ _ hh).lt (Nat.lt_irrefl _)
  refine ⟨hn, fun b x1 hb => ?_, ⟨?_, fun q hq hA => ?_, hI.2.1.2.2⟩, fun b hb => hv_up_dom hI.2.2 (hv_A_new hI.2.1.1) hb⟩
  · unfold va_up at hb
    split at hb
    · next z =>
      subst z
      cases hb
      exact hc _ (by simp)
    · next z =>
      have h1 := hI.1 b x1 hb
      refine h1.kept ?_
      have := h1.lt
      show (H.push cell)[b]? = H[b]?
      rw [Array.getElem?_push, if_neg (by omega)]
  · have := hI.2.1.1
    simp only [Array.size_push]
    omega
  · have h1 := hI.2.1.1
    rw [Array.getElem?_push, if_neg (by omega)]
    exact hI.2.1.2.1 q hq hA
theorem hv_mk0 {v : Option Nat} {P : Nat → HH → Prop} (hE : hv_E p s m args meth c cc nL ret own G h0) (hnm : s.methodNamed? ⟨"MatchmakerRules$Book", "isInOrder", "()Z"⟩ = some m) (hI : hv_I G h0 s.heap h H locs) (hw : w_new h (.inl (G.2.1 10, 1, .inr (.inr (.inr (.inr (fun _ => v)))))) P) (hsize : ls.size = nL) (hlo : (rest.map fun v => v.category).sum + 1 + 3072 ≤ R.locals) (hcells : cells + 1 ≤ R.cells) (hslots : slots + 1 ≤ R.slots) (hdg : decode cc 187 = .ok (.invokedynamic 289, 5))
    (kk : ∀ (q : Nat) (h1 : HH) (H1 : Heap), P q h1 → hv_I G h0 s.heap h1 H1 locs → W p l e R s m args below meth c H1 locs (cells + 1) (slots + 1) Q (F0 m 192 ls (.ref q :: rest))) : W p l e R s m args below meth c H locs cells slots Q (F0 m 187 ls (va_rf v :: rest)) := by
  have hL := (hv_zH hE).2.2.2.2.2.2.2.2.2.2.2.2.1.2
  have hp := hv_push (e1 := .inl (G.2.1 10, 1, .inr (.inr (.inr (.inr (fun _ => v)))))) (cell := { cls := G.2.1 10, slots := #[va_rf v], vm := .none }) hI (fun H1 h1 => h1.trans (congrArg some (la_cellQ _ v).symm))
  exact la_mk hE.1 la_k0 hL.2.1 rfl hnm (hE.1.2.2.2.2 _ q2564) (va_rf_cat _) (va_rf_nar _ _) (va_rf_fit _ _) hsize hdg hlo hcells hslots (kk _ _ _ (hw _ hp.1) hp.2)
theorem hv_mk1 {v : Option Nat} {P : Nat → HH → Prop} (hE : hv_E p s m args meth c cc nL ret own G h0) (hnm : s.methodNamed? ⟨"MatchmakerRules$Book", "drop", "(I)I"⟩ = some m) (hI : hv_I G h0 s.heap h H locs) (hw : w_new h (.inl (G.2.1 11, 1, .inr (.inr (.inr (.inr (fun _ => v)))))) P) (hsize : ls.size = nL) (hlo : (rest.map fun v => v.category).sum + 1 + 3072 ≤ R.locals) (hcells : cells + 1 ≤ R.cells) (hslots : slots + 1 ≤ R.slots) (hdg : decode cc 67 = .ok (.invokedynamic 249, 5))
    (kk : ∀ (q : Nat) (h1 : HH) (H1 : Heap), P q h1 → hv_I G h0 s.heap h1 H1 locs → W p l e R s m args below meth c H1 locs (cells + 1) (slots + 1) Q (F0 m 72 ls (.ref q :: rest))) : W p l e R s m args below meth c H locs cells slots Q (F0 m 67 ls (va_rf v :: rest)) := by
  have hL := (hv_zH hE).2.2.2.2.2.2.2.2.2.2.2.2.1.2
  have hp := hv_push (e1 := .inl (G.2.1 11, 1, .inr (.inr (.inr (.inr (fun _ => v)))))) (cell := { cls := G.2.1 11, slots := #[va_rf v], vm := .none }) hI (fun H1 h1 => h1.trans (congrArg some (la_cellQ _ v).symm))
  exact la_mk hE.1 la_k1 hL.2.2.1 rfl hnm (hE.1.2.2.2.2 _ q2564) (va_rf_cat _) (va_rf_nar _ _) (va_rf_fit _ _) hsize hdg hlo hcells hslots (kk _ _ _ (hw _ hp.1) hp.2)
theorem hv_mk2 {v : Option Nat} {P : Nat → HH → Prop} (hE : hv_E p s m args meth c cc nL ret own G h0) (hnm : s.methodNamed? ⟨"MatchmakerRules$Book", "drop", "(I)I"⟩ = some m) (hI : hv_I G h0 s.heap h H locs) (hw : w_new h (.inl (G.2.1 12, 1, .inr (.inr (.inr (.inr (fun _ => v)))))) P) (hsize : ls.size = nL) (hlo : (rest.map fun v => v.category).sum + 1 + 3072 ≤ R.locals) (hcells : cells + 1 ≤ R.cells) (hslots : slots + 1 ≤ R.slots) (hdg : decode cc 81 = .ok (.invokedynamic 252, 5))
    (kk : ∀ (q : Nat) (h1 : HH) (H1 : Heap), P q h1 → hv_I G h0 s.heap h1 H1 locs → W p l e R s m args below meth c H1 locs (cells + 1) (slots + 1) Q (F0 m 86 ls (.ref q :: rest))) : W p l e R s m args below meth c H locs cells slots Q (F0 m 81 ls (va_rf v :: rest)) := by
  have hL := (hv_zH hE).2.2.2.2.2.2.2.2.2.2.2.2.1.2
  have hp := hv_push (e1 := .inl (G.2.1 12, 1, .inr (.inr (.inr (.inr (fun _ => v)))))) (cell := { cls := G.2.1 12, slots := #[va_rf v], vm := .none }) hI (fun H1 h1 => h1.trans (congrArg some (la_cellQ _ v).symm))
  exact la_mk hE.1 la_k2 hL.2.2.2.1 rfl hnm (hE.1.2.2.2.2 _ q2564) (va_rf_cat _) (va_rf_nar _ _) (va_rf_fit _ _) hsize hdg hlo hcells hslots (kk _ _ _ (hw _ hp.1) hp.2)
theorem hv_mk3 {v : Int32} {P : Nat → HH → Prop} (hE : hv_E p s m args meth c cc nL ret own G h0) (hnm : s.methodNamed? ⟨"MatchmakerRules$Book", "loseGround", "()I"⟩ = some m) (hI : hv_I G h0 s.heap h H locs) (hw : w_new h (.inl (G.2.1 13, 1, .inl (fun _ => v))) P) (hsize : ls.size = nL) (hlo : (rest.map fun v => v.category).sum + 1 + 3072 ≤ R.locals) (hcells : cells + 1 ≤ R.cells) (hslots : slots + 1 ≤ R.slots) (hdg : decode cc 79 = .ok (.invokedynamic 241, 5))
    (kk : ∀ (q : Nat) (h1 : HH) (H1 : Heap), P q h1 → hv_I G h0 s.heap h1 H1 locs → W p l e R s m args below meth c H1 locs (cells + 1) (slots + 1) Q (F0 m 84 ls (.ref q :: rest))) : W p l e R s m args below meth c H locs cells slots Q (F0 m 79 ls (.int v :: rest)) := by
  have hL := (hv_zH hE).2.2.2.2.2.2.2.2.2.2.2.2.1.2
  have hp := hv_push (e1 := .inl (G.2.1 13, 1, .inl (fun _ => v))) (cell := { cls := G.2.1 13, slots := #[.int v], vm := .none }) hI (fun H1 h1 => h1.trans (congrArg some (la_cellI _ v).symm))
  exact la_mk hE.1 la_k3 hL.2.2.2.2.1 rfl hnm (hE.1.2.2.2.2 _ q2564) rfl rfl rfl hsize hdg hlo hcells hslots (kk _ _ _ (hw _ hp.1) hp.2)
theorem hv_mk4 {v : Int32} {P : Nat → HH → Prop} (hE : hv_E p s m args meth c cc nL ret own G h0) (hnm : s.methodNamed? ⟨"MatchmakerRules$Book", "loseGround", "()I"⟩ = some m) (hI : hv_I G h0 s.heap h H locs) (hw : w_new h (.inl (G.2.1 14, 1, .inl (fun _ => v))) P) (hsize : ls.size = nL) (hlo : (rest.map fun v => v.category).sum + 1 + 3072 ≤ R.locals) (hcells : cells + 1 ≤ R.cells) (hslots : slots + 1 ≤ R.slots) (hdg : decode cc 94 = .ok (.invokedynamic 248, 5))
    (kk : ∀ (q : Nat) (h1 : HH) (H1 : Heap), P q h1 → hv_I G h0 s.heap h1 H1 locs → W p l e R s m args below meth c H1 locs (cells + 1) (slots + 1) Q (F0 m 99 ls (.ref q :: rest))) : W p l e R s m args below meth c H locs cells slots Q (F0 m 94 ls (.int v :: rest)) := by
  have hL := (hv_zH hE).2.2.2.2.2.2.2.2.2.2.2.2.1.2
  have hp := hv_push (e1 := .inl (G.2.1 14, 1, .inl (fun _ => v))) (cell := { cls := G.2.1 14, slots := #[.int v], vm := .none }) hI (fun H1 h1 => h1.trans (congrArg some (la_cellI _ v).symm))
  exact la_mk hE.1 la_k4 hL.2.2.2.2.2.1 rfl hnm (hE.1.2.2.2.2 _ q2564) rfl rfl rfl hsize hdg hlo hcells hslots (kk _ _ _ (hw _ hp.1) hp.2)
theorem hv_mk5 {v : Option Nat} {P : Nat → HH → Prop} (hE : hv_E p s m args meth c cc nL ret own G h0) (hnm : s.methodNamed? ⟨"MatchmakerRules$Book", "uses", "(LMatchmakerRules$Fact;)I"⟩ = some m) (hI : hv_I G h0 s.heap h H locs) (hw : w_new h (.inl (G.2.1 15, 1, .inr (.inr (.inr (.inr (fun _ => v)))))) P) (hsize : ls.size = nL) (hlo : (rest.map fun v => v.category).sum + 1 + 3072 ≤ R.locals) (hcells : cells + 1 ≤ R.cells) (hslots : slots + 1 ≤ R.slots) (hdg : decode cc 47 = .ok (.invokedynamic 268, 5))
    (kk : ∀ (q : Nat) (h1 : HH) (H1 : Heap), P q h1 → hv_I G h0 s.heap h1 H1 locs → W p l e R s m args below meth c H1 locs (cells + 1) (slots + 1) Q (F0 m 52 ls (.ref q :: rest))) : W p l e R s m args below meth c H locs cells slots Q (F0 m 47 ls (va_rf v :: rest)) := by
  have hL := (hv_zH hE).2.2.2.2.2.2.2.2.2.2.2.2.1.2
  have hp := hv_push (e1 := .inl (G.2.1 15, 1, .inr (.inr (.inr (.inr (fun _ => v)))))) (cell := { cls := G.2.1 15, slots := #[va_rf v], vm := .none }) hI (fun H1 h1 => h1.trans (congrArg some (la_cellQ _ v).symm))
  exact la_mk hE.1 la_k5 hL.2.2.2.2.2.2 rfl hnm (hE.1.2.2.2.2 _ q2564) (va_rf_cat _) (va_rf_nar _ _) (va_rf_fit _ _) hsize hdg hlo hcells hslots (kk _ _ _ (hw _ hp.1) hp.2)
end HVL

/-- MatchmakerRules.count(Ljava/util/ArrayList;LMatchmakerRules$Test;)I -/
abbrev rm_X1_count (mc ms : Nat) : Room := { frames := 4, cells := mc, slots := ms, locals := 75 }
def wp_X1_count_L7 (G : GG) (mc : Nat) (ms : Nat) (Q : Int32 → HH → Prop) : Nat → (HH) → (Nat) → (Nat) → (Option Nat) → (Int32) → (Option Nat) → Prop
  | 0, _, _, _, _, _, _ => False
  | n + 1, h, nc, nk, x1, x2, x3 => w_nn x3 (fun a5 => w_is h a5 13 (wp_J15_hasNext G h a5 (fun r6 h7 => ((r6 = 0 → Q x2 h7) ∧ (¬ r6 = 0 → w_is h7 a5 13 (wp_J15_next G h7 a5 (fun r8 h9 => w_nn r8 (fun a10 => w_cast h9 a10 16 (w_nn x1 (fun a11 => w_test G h9 a11 (some a10) (fun r12 h13 => ((r12 = 0 → wp_X1_count_L7 G mc ms Q n h13 nc nk (some a11) (x2 + (0 : Int32)) (some a5)) ∧ (¬ r12 = 0 → wp_X1_count_L7 G mc ms Q n h13 nc nk (some a11) (x2 + (1 : Int32)) (some a5))))))))))))))
set_option maxHeartbeats 4000000 in
theorem snd_X1_count_L7 {p : Program} {l : Launch} {e : Env} {s : State} {m : MethodId} {args : Array Value} {below : List Frame} {meth : Method} {c : Code} {h0 : HH} (G : GG) (mc : Nat) (ms : Nat) (Q : Int32 → HH → Prop) (hE : hv_E p s m args meth c cX1_count 5 (some FieldType.int) RX1 G h0) : ∀ (n : Nat) (h : HH) (nc : Nat) (nk : Nat) (x1 : Option Nat) (x2 : Int32) (x3 : Option Nat), wp_X1_count_L7 G mc ms Q n h nc nk x1 x2 x3 → nc ≤ mc → nk ≤ ms → ∀ (H : Heap) (locs : List Loc) (ls : Array Slot), hv_I G h0 s.heap h H locs → lv_has ls 5 [(1, va_rf x1), (2, .int x2), (3, va_rf x3)] → W p l e (headSpec (ws_ yX1_count cX1_count 5 (some FieldType.int)) (rm_X1_count mc ms)).room s m args below meth c H locs nc nk (MQ below (hv_Qi G h0 s.heap.size Q) args s mc ms (hv_A h0 s.heap.size)) (F0 m 7 ls []) := by
  obtain ⟨⟨hx, hb, hml, hown, hts⟩, hr, hlocks, hXX⟩ := id hE
  intro n
  induction n with
  | zero => intro h nc nk x1 x2 x3 hw; exact hw.elim
  | succ n ih =>
    intro h nc nk x1 x2 x3 hw hc hs H locs ls hI hl
    unfold wp_X1_count_L7 at hw
    refine lv_aload_nq hx hb dX1_count_7 rfl (lv_at hl 2 rfl) ?_
    obtain ⟨a5, hz, hwa5⟩ := hw; have hla5 := hl; subst hz; have hw := hwa5; have hl := hla5
    obtain ⟨⟨fs, hre⟩, hw⟩ := hw
    refine hv_rFi hI (va_runF (As := []) (b := a5) (rest := []) (hXX.1.1 13 _ rfl).2 hE.1 (snd_J15_hasNext l G _ h a5 _ hw) (va_cwF 0 hts (lw_F q637 q379 q381 q121 q383) rfl rfl rfl (hv_fw0 hE.2.2.2.2.1) (by decide +kernel) ⟨Nat.le_of_ble_eq_true rfl, Nat.le_of_ble_eq_true rfl⟩) (hv_preV hE hI (ci := 13) rfl hre) rfl rfl hl.1 rfl (lv_room (Nat.le_of_ble_eq_true rfl)) dX1_count_8 ⟨hc, hs⟩) (fun r6 h7 H locs hw hI => ?_)
    refine lv_if_eq (tgt := 49) hx hb dX1_count_13 (by decide) (fun c_13 => ?_) (fun c_13 => ?_)
    · have hw := hw.1 c_13
      refine lv_iload_n hx hb dX1_count_49 rfl (lv_at hl 1 rfl) ?_
      exact hv_iret hE hI hc hs hw dX1_count_50
    · have hw := hw.2 c_13
      refine lv_aload_n hx hb dX1_count_16 rfl (lv_at hl 2 rfl) ?_
      obtain ⟨⟨fs, hre⟩, hw⟩ := hw
      refine hv_rFq hI (va_runF (As := []) (b := a5) (rest := []) (hXX.1.1 13 _ rfl).2 hE.1 (snd_J15_next l G _ h7 a5 _ hw) (va_cwF 0 hts (lw_F q639 q388 q390 q121 q392) rfl rfl rfl (hv_fw1 hE.2.2.2.2.1) (by decide +kernel) ⟨Nat.le_of_ble_eq_true rfl, Nat.le_of_ble_eq_true rfl⟩) (hv_preV hE hI (ci := 13) rfl hre) rfl rfl hl.1 rfl (lv_room (Nat.le_of_ble_eq_true rfl)) dX1_count_17 ⟨hc, hs⟩) (fun r8 h9 H locs hw hI => ?_)
      obtain ⟨a10, hz, hwa10⟩ := hw; have hla10 := hl; subst hz; have hw := hwa10; have hl := hla10
      refine hv_wcast (ci := 16) hE hI (hts _ q640) rfl hw dX1_count_22 (fun hw => ?_)
      refine lv_astore (lv' := [(4, .ref a10), (1, va_rf x1), (2, .int x2), (3, .ref a5)]) hx hb dX1_count_25 hl (by decide) rfl (fun ls hl => ?_)
      refine lv_iload_n hx hb dX1_count_27 rfl (lv_at hl 2 rfl) ?_
      refine lv_aload_nq hx hb dX1_count_28 rfl (lv_at hl 1 rfl) ?_
      refine lv_aload hx hb dX1_count_29 (lv_at hl 0 rfl) ?_
      obtain ⟨a11, hz, hwa11⟩ := hw; have hla11 := hl; subst hz; have hw := hwa11; have hl := hla11
      refine hv_isSo (f := (some a10)) (rest := [.int x2]) hE hI hw hl.1 (Nat.le_of_ble_eq_true rfl) ⟨Nat.le_of_ble_eq_true rfl, Nat.le_of_ble_eq_true rfl⟩ ⟨hc, hs⟩ dX1_count_31 (fun r12 h13 H locs hw hI => ?_)
      refine lv_if_eq (tgt := 43) hx hb dX1_count_36 (by decide) (fun c_36 => ?_) (fun c_36 => ?_)
      · have hw := hw.1 c_36
        refine lv_iconst (v := 0) hx hb dX1_count_43 (by decide) ?_
        refine lv_iadd hx hb dX1_count_44 ?_
        refine lv_istore_n (lv' := [(2, .int (x2 + (0 : Int32))), (4, .ref a10), (1, .ref a11), (3, .ref a5)]) hx hb dX1_count_45 rfl hl (by decide) rfl (fun ls hl => ?_)
        refine lv_goto (tgt := 7) hx hb dX1_count_46 (by decide) ?_
        exact ih h13 nc nk (some a11) (x2 + (0 : Int32)) (some a5) hw hc hs _ _ _ hI (lv_sub hl [2, 0, 3] rfl)
      · have hw := hw.2 c_36
        refine lv_iconst (v := 1) hx hb dX1_count_39 (by decide) ?_
        refine lv_goto (tgt := 44) hx hb dX1_count_40 (by decide) ?_
        refine lv_iadd hx hb dX1_count_44 ?_
        refine lv_istore_n (lv' := [(2, .int (x2 + (1 : Int32))), (4, .ref a10), (1, .ref a11), (3, .ref a5)]) hx hb dX1_count_45 rfl hl (by decide) rfl (fun ls hl => ?_)
        refine lv_goto (tgt := 7) hx hb dX1_count_46 (by decide) ?_
        exact ih h13 nc nk (some a11) (x2 + (1 : Int32)) (some a5) hw hc hs _ _ _ hI (lv_sub hl [2, 0, 3] rfl)
def wp_X1_count (G : GG) (mc : Nat) (ms : Nat) (h : HH) (x0 : Option Nat) (x1 : Option Nat) (Q : Int32 → HH → Prop) : Prop := w_nn x0 (fun a1 => (∃ mc2 ms2, 0 + mc2 ≤ mc ∧ 0 + ms2 ≤ ms ∧ w_is h a1 4 (wp_J2_iterator G mc2 ms2 h a1 (fun r3 h4 => (∃ n7, wp_X1_count_L7 G mc ms Q n7 h4 (0 + mc2) (0 + ms2) x1 (0 : Int32) r3)))))
set_option maxHeartbeats 4000000 in
theorem snd_X1_count (l : Launch) (G : GG) (sz : Nat) (mc : Nat) (ms : Nat) (h : HH) (x0 : Option Nat) (x1 : Option Nat) (Q : Int32 → HH → Prop) (hw : wp_X1_count G mc ms h x0 x1 Q) : Met l yX1_count (ws_ yX1_count cX1_count 5 (some FieldType.int)) (rm_X1_count mc ms) (hv_Pc G h sz [va_rf x0, va_rf x1]) (hv_Qi G h sz Q) mc ms (hv_A h sz) := by
  refine Met.ofW (cc := cX1_count) (maxL := 5) (ret := (some FieldType.int)) (by decide) rfl ?_
  intro p e s m args below meth c s₁ B hml hv
  obtain ⟨rfl, rfl, hE, hI⟩ := hv_open B hml hv
  have hE : hv_E p s m ([va_rf x0, va_rf x1] : List Value).toArray meth c cX1_count 5 (some FieldType.int) RX1 G h := hE
  obtain ⟨⟨hx, hb, hml, hown, hts⟩, hr, hlocks, hXX⟩ := id hE
  have hl := lv_entry ([va_rf x0, va_rf x1] : List Value) (n := 5) (by cases x0 <;> cases x1 <;> exact Nat.le_of_ble_eq_true rfl)
  rw [lg_entry_eq]
  generalize (lg_sl ([va_rf x0, va_rf x1] : List Value) ++ List.replicate (5 - (lg_sl ([va_rf x0, va_rf x1] : List Value)).length) Slot.unset).toArray = ls at hl ⊢
  have hl : lv_has ls 5 [(0, va_rf x0), (1, va_rf x1)] := (by cases x0 <;> cases x1 <;> exact hl)
  have hc : 0 ≤ mc := Nat.zero_le _
  have hs : 0 ≤ ms := Nat.zero_le _
  unfold wp_X1_count at hw
  refine lv_iconst (v := 0) hx hb dX1_count_0 (by decide) ?_
  refine lv_istore_n (lv' := [(2, .int (0 : Int32)), (0, va_rf x0), (1, va_rf x1)]) hx hb dX1_count_1 rfl hl (by decide) (by cases x1 <;> exact rfl) (fun ls hl => ?_)
  refine lv_aload_nq hx hb dX1_count_2 rfl (lv_at hl 1 rfl) ?_
  obtain ⟨a1, hz, hwa1⟩ := hw; have hla1 := hl; subst hz; have hw := hwa1; have hl := hla1
  obtain ⟨mc2, ms2, hc, hs, hw⟩ := hw
  obtain ⟨⟨fs, hre⟩, hw⟩ := hw
  refine hv_rcq hI (va_runV (As := []) (b := a1) (rest := []) hE.1 (snd_J2_iterator l G _ mc2 ms2 h a1 _ hw) (cwV 0 hts (lw_V q635 q352 q353 q102 q354) rfl rfl rfl (by decide +kernel) ⟨Nat.le_of_ble_eq_true rfl, Nat.le_of_ble_eq_true rfl⟩) (hv_preV hE hI (ci := 4) rfl hre) rfl rfl hl.1 rfl (lv_room (Nat.le_of_ble_eq_true rfl)) dX1_count_3 ⟨hc, hs⟩) (fun r3 h4 H locs hw hI => ?_)
  refine lv_astore_nq (lv' := [(3, va_rf r3), (2, .int (0 : Int32)), (0, .ref a1), (1, va_rf x1)]) hx hb dX1_count_6 rfl hl (by decide) rfl (fun ls hl => ?_)
  obtain ⟨n7, hw⟩ := hw
  exact snd_X1_count_L7 G mc ms Q hE n7 h4 (0 + mc2) (0 + ms2) x1 (0 : Int32) r3 hw hc hs _ _ _ hI (lv_sub hl [3, 1, 0] rfl)

/-- MatchmakerRules$Book.isInOrder()Z -/
abbrev rm_X2_isInOrder (mc ms : Nat) : Room := { frames := 8, cells := mc, slots := ms, locals := 3100 }
def wp_X2_isInOrder_L146 (G : GG) (mc : Nat) (ms : Nat) (a0 : Nat) (Q : Int32 → HH → Prop) (k24 : (HH) → (Nat) → (Nat) → (Int32) → (Option Nat) → Prop) : Nat → (HH) → (Nat) → (Nat) → (Int32) → (Nat) → (Nat) → (Option Nat) → Prop
  | 0, _, _, _, _, _, _, _ => False
  | n + 1, h, nc, nk, x1, x2, x3, x4 => w_nn x4 (fun a34 => w_is h a34 13 (wp_J15_hasNext G h a34 (fun r35 h36 => ((r35 = 0 → k24 h36 nc nk x1 (some x2)) ∧ (¬ r35 = 0 → w_is h36 a34 13 (wp_J15_next G h36 a34 (fun r37 h38 => w_nn r37 (fun a39 => w_cast h38 a39 16 (w_geti h38 a39 16 1 (fun r40 => w_geti h38 x3 14 0 (fun r41 => ((¬ r40 = r41 → wp_X2_isInOrder_L146 G mc ms a0 Q k24 n h38 nc nk (x1 &&& (0 : Int32)) x2 x3 (some a34)) ∧ (r40 = r41 → w_getq h38 x3 14 8 (fun r42 => (nc + 1 ≤ mc ∧ nk + 1 ≤ ms ∧ w_new h38 (.inl (G.2.1 10, 1, .inr (.inr (.inr (.inr (fun _ => (some a39))))))) (fun a43 h44 => (∃ mc45 ms45, (nc + 1) + mc45 ≤ mc ∧ (nk + 1) + ms45 ≤ ms ∧ wp_X1_count G mc45 ms45 h44 r42 (some a43) (fun r46 h47 => ((¬ r46 = (1 : Int32) → wp_X2_isInOrder_L146 G mc ms a0 Q k24 n h47 ((nc + 1) + mc45) ((nk + 1) + ms45) (x1 &&& (0 : Int32)) x2 x3 (some a34)) ∧ (r46 = (1 : Int32) → wp_X2_isInOrder_L146 G mc ms a0 Q k24 n h47 ((nc + 1) + mc45) ((nk + 1) + ms45) (x1 &&& (1 : Int32)) x2 x3 (some a34)))))))))))))))))))))
set_option maxHeartbeats 4000000 in
theorem snd_X2_isInOrder_L146 {p : Program} {l : Launch} {e : Env} {s : State} {m : MethodId} {args : Array Value} {below : List Frame} {meth : Method} {c : Code} {h0 : HH} (G : GG) (mc : Nat) (ms : Nat) (a0 : Nat) (Q : Int32 → HH → Prop) (hnm : s.methodNamed? yX2_isInOrder = some m) (hE : hv_E p s m args meth c cX2_isInOrder 6 (some FieldType.boolean) RX2 G h0) (k24 : (HH) → (Nat) → (Nat) → (Int32) → (Option Nat) → Prop) (hk24 : ∀ (h : HH) (nc : Nat) (nk : Nat) (x1 : Int32) (x2 : Option Nat), k24 h nc nk x1 x2 → nc ≤ mc → nk ≤ ms → ∀ (H : Heap) (locs : List Loc) (ls : Array Slot), hv_I G h0 s.heap h H locs → lv_has ls 6 [(0, .ref a0), (1, .int x1), (2, va_rf x2)] → W p l e (headSpec (ws_ yX2_isInOrder cX2_isInOrder 6 (some FieldType.boolean)) (rm_X2_isInOrder mc ms)).room s m args below meth c H locs nc nk (MQ below (hv_Qi G h0 s.heap.size Q) args s mc ms (hv_A h0 s.heap.size)) (F0 m 24 ls [])) : ∀ (n : Nat) (h : HH) (nc : Nat) (nk : Nat) (x1 : Int32) (x2 : Nat) (x3 : Nat) (x4 : Option Nat), wp_X2_isInOrder_L146 G mc ms a0 Q k24 n h nc nk x1 x2 x3 x4 → nc ≤ mc → nk ≤ ms → ∀ (H : Heap) (locs : List Loc) (ls : Array Slot), hv_I G h0 s.heap h H locs → lv_has ls 6 [(0, .ref a0), (1, .int x1), (2, .ref x2), (3, .ref x3), (4, va_rf x4)] → W p l e (headSpec (ws_ yX2_isInOrder cX2_isInOrder 6 (some FieldType.boolean)) (rm_X2_isInOrder mc ms)).room s m args below meth c H locs nc nk (MQ below (hv_Qi G h0 s.heap.size Q) args s mc ms (hv_A h0 s.heap.size)) (F0 m 146 ls []) := by
  obtain ⟨⟨hx, hb, hml, hown, hts⟩, hr, hlocks, hXX⟩ := id hE
  intro n
  induction n with
  | zero => intro h nc nk x1 x2 x3 x4 hw; exact hw.elim
  | succ n ih =>
    intro h nc nk x1 x2 x3 x4 hw hc hs H locs ls hI hl
    unfold wp_X2_isInOrder_L146 at hw
    refine lv_aloadq hx hb dX2_isInOrder_146 (lv_at hl 4 rfl) ?_
    obtain ⟨a34, hz, hwa34⟩ := hw; have hla34 := hl; subst hz; have hw := hwa34; have hl := hla34
    obtain ⟨⟨fs, hre⟩, hw⟩ := hw
    refine hv_rFi hI (va_runF (As := []) (b := a34) (rest := []) (hXX.1.1 13 _ rfl).2 hE.1 (snd_J15_hasNext l G _ h a34 _ hw) (va_cwF 0 hts (lw_F q375 q379 q381 q121 q383) rfl rfl rfl (hv_fw0 hE.2.2.2.2.1) (by decide +kernel) ⟨Nat.le_of_ble_eq_true rfl, Nat.le_of_ble_eq_true rfl⟩) (hv_preV hE hI (ci := 13) rfl hre) rfl rfl hl.1 rfl (lv_room (Nat.le_of_ble_eq_true rfl)) dX2_isInOrder_148 ⟨hc, hs⟩) (fun r35 h36 H locs hw hI => ?_)
    refine lv_if_eq (tgt := 209) hx hb dX2_isInOrder_153 (by decide) (fun c_153 => ?_) (fun c_153 => ?_)
    · have hw := hw.1 c_153
      refine lv_goto (tgt := 24) hx hb dX2_isInOrder_209 (by decide) ?_
      exact hk24 h36 nc nk x1 (some x2) hw hc hs _ _ _ hI (lv_sub hl [0, 1, 2] rfl)
    · have hw := hw.2 c_153
      refine lv_aload hx hb dX2_isInOrder_156 (lv_at hl 4 rfl) ?_
      obtain ⟨⟨fs, hre⟩, hw⟩ := hw
      refine hv_rFq hI (va_runF (As := []) (b := a34) (rest := []) (hXX.1.1 13 _ rfl).2 hE.1 (snd_J15_next l G _ h36 a34 _ hw) (va_cwF 0 hts (lw_F q385 q388 q390 q121 q392) rfl rfl rfl (hv_fw1 hE.2.2.2.2.1) (by decide +kernel) ⟨Nat.le_of_ble_eq_true rfl, Nat.le_of_ble_eq_true rfl⟩) (hv_preV hE hI (ci := 13) rfl hre) rfl rfl hl.1 rfl (lv_room (Nat.le_of_ble_eq_true rfl)) dX2_isInOrder_158 ⟨hc, hs⟩) (fun r37 h38 H locs hw hI => ?_)
      obtain ⟨a39, hz, hwa39⟩ := hw; have hla39 := hl; subst hz; have hw := hwa39; have hl := hla39
      refine hv_wcast (ci := 16) hE hI (hts _ q560) rfl hw dX2_isInOrder_163 (fun hw => ?_)
      refine lv_astore (lv' := [(5, .ref a39), (0, .ref a0), (1, .int x1), (2, .ref x2), (3, .ref x3), (4, .ref a34)]) hx hb dX2_isInOrder_166 hl (by decide) rfl (fun ls hl => ?_)
      refine lv_iload_n hx hb dX2_isInOrder_168 rfl (lv_at hl 2 rfl) ?_
      refine lv_aload hx hb dX2_isInOrder_169 (lv_at hl 0 rfl) ?_
      refine hv_wgetiN hE hI in_X12 (ci := 16) rfl 1 (by decide) (hE.2.2.2.2.1.F 33 rfl) (fun _ hx => hx) hw dX2_isInOrder_171 (fun r40 hw => ?_)
      refine lv_aload_n hx hb dX2_isInOrder_174 rfl (lv_at hl 4 rfl) ?_
      refine hv_wgetiN hE hI in_X10 (ci := 14) rfl 0 (by decide) (hE.2.2.2.2.1.F 24 rfl) (fun _ hx => hx) hw dX2_isInOrder_175 (fun r41 hw => ?_)
      refine lv_icmp_ne (tgt := 203) hx hb dX2_isInOrder_178 (by decide) (fun c_178 => ?_) (fun c_178 => ?_)
      · have hw := hw.1 c_178
        refine lv_iconst (v := 0) hx hb dX2_isInOrder_203 (by decide) ?_
        refine lv_iand hx hb dX2_isInOrder_204 ?_
        refine lv_istore_n (lv' := [(1, .int (x1 &&& (0 : Int32))), (5, .ref a39), (0, .ref a0), (2, .ref x2), (3, .ref x3), (4, .ref a34)]) hx hb dX2_isInOrder_205 rfl hl (by decide) rfl (fun ls hl => ?_)
        refine lv_goto (tgt := 146) hx hb dX2_isInOrder_206 (by decide) ?_
        exact ih h38 nc nk (x1 &&& (0 : Int32)) x2 x3 (some a34) hw hc hs _ _ _ hI (lv_sub hl [2, 0, 3, 4, 5] rfl)
      · have hw := hw.2 c_178
        refine lv_aload_n hx hb dX2_isInOrder_181 rfl (lv_at hl 4 rfl) ?_
        refine hv_wgetqN hE hI in_X10 (ci := 14) rfl 8 (by decide) (hE.2.2.2.2.1.F 31 rfl) (fun _ hx => hx) hw dX2_isInOrder_182 (fun r42 hw => ?_)
        refine lv_aload hx hb dX2_isInOrder_185 (lv_at hl 0 rfl) ?_
        obtain ⟨hc, hs, hw⟩ := hw
        refine hv_mk0 (v := (some a39)) (rest := [va_rf r42, .int x1]) hE hnm hI hw hl.1 (by cases r42 <;> exact Nat.le_of_ble_eq_true rfl) hc hs dX2_isInOrder_187 (fun a43 h44 H hw hI => ?_)
        obtain ⟨mc45, ms45, hc, hs, hw⟩ := hw
        refine hv_rci hI (va_runSN (As := [va_rf r42, .ref a43]) (rest := [.int x1]) hE.1 (snd_X1_count l G _ mc45 ms45 h44 r42 (some a43) _ hw) ⟨va_cnB 2 hts (lw_meth q634) rfl rfl rfl (hE.2.2.2.2.1.M 2 rfl) (hts _ q97) (by decide +kernel) ⟨Nat.le_of_ble_eq_true rfl, Nat.le_of_ble_eq_true rfl⟩, hts _ q633, trivial⟩ (hv_preS hE hI) rfl rfl hl.1 rfl (lv_room (Nat.le_of_ble_eq_true rfl)) dX2_isInOrder_192 ⟨hc, hs⟩) (fun r46 h47 H locs hw hI => ?_)
        refine lv_iconst (v := 1) hx hb dX2_isInOrder_195 (by decide) ?_
        refine lv_icmp_ne (tgt := 203) hx hb dX2_isInOrder_196 (by decide) (fun c_196 => ?_) (fun c_196 => ?_)
        · have hw := hw.1 c_196
          refine lv_iconst (v := 0) hx hb dX2_isInOrder_203 (by decide) ?_
          refine lv_iand hx hb dX2_isInOrder_204 ?_
          refine lv_istore_n (lv' := [(1, .int (x1 &&& (0 : Int32))), (5, .ref a39), (0, .ref a0), (2, .ref x2), (3, .ref x3), (4, .ref a34)]) hx hb dX2_isInOrder_205 rfl hl (by decide) rfl (fun ls hl => ?_)
          refine lv_goto (tgt := 146) hx hb dX2_isInOrder_206 (by decide) ?_
          exact ih h47 ((nc + 1) + mc45) ((nk + 1) + ms45) (x1 &&& (0 : Int32)) x2 x3 (some a34) hw hc hs _ _ _ hI (lv_sub hl [2, 0, 3, 4, 5] rfl)
        · have hw := hw.2 c_196
          refine lv_iconst (v := 1) hx hb dX2_isInOrder_199 (by decide) ?_
          refine lv_goto (tgt := 204) hx hb dX2_isInOrder_200 (by decide) ?_
          refine lv_iand hx hb dX2_isInOrder_204 ?_
          refine lv_istore_n (lv' := [(1, .int (x1 &&& (1 : Int32))), (5, .ref a39), (0, .ref a0), (2, .ref x2), (3, .ref x3), (4, .ref a34)]) hx hb dX2_isInOrder_205 rfl hl (by decide) rfl (fun ls hl => ?_)
          refine lv_goto (tgt := 146) hx hb dX2_isInOrder_206 (by decide) ?_
          exact ih h47 ((nc + 1) + mc45) ((nk + 1) + ms45) (x1 &&& (1 : Int32)) x2 x3 (some a34) hw hc hs _ _ _ hI (lv_sub hl [2, 0, 3, 4, 5] rfl)
def wp_X2_isInOrder_L80 (G : GG) (mc : Nat) (ms : Nat) (a0 : Nat) (Q : Int32 → HH → Prop) (k24 : (HH) → (Nat) → (Nat) → (Int32) → (Option Nat) → Prop) : Nat → (HH) → (Nat) → (Nat) → (Int32) → (Nat) → (Nat) → (Option Nat) → Prop
  | 0, _, _, _, _, _, _, _ => False
  | n + 1, h, nc, nk, x1, x2, x3, x4 => w_nn x4 (fun a26 => w_is h a26 13 (wp_J15_hasNext G h a26 (fun r27 h28 => ((r27 = 0 → w_getq h28 x3 14 8 (fun r29 => w_nn r29 (fun a30 => (∃ mc31 ms31, nc + mc31 ≤ mc ∧ nk + ms31 ≤ ms ∧ w_is h28 a30 4 (wp_J2_iterator G mc31 ms31 h28 a30 (fun r32 h33 => (∃ n146, wp_X2_isInOrder_L146 G mc ms a0 Q k24 n146 h33 (nc + mc31) (nk + ms31) x1 x2 x3 r32))))))) ∧ (¬ r27 = 0 → w_is h28 a26 13 (wp_J15_next G h28 a26 (fun r48 h49 => w_nn r48 (fun a50 => w_cast h49 a50 16 (w_geti h49 a50 16 1 (fun r51 => (∃ mc52 ms52, nc + mc52 ≤ mc ∧ nk + ms52 ≤ ms ∧ w_is h49 a0 2 (wp_X2_isThere G mc52 ms52 h49 a0 r51 (fun r53 h54 => ((r53 = 0 → wp_X2_isInOrder_L80 G mc ms a0 Q k24 n h54 (nc + mc52) (nk + ms52) (x1 &&& (0 : Int32)) x2 x3 (some a26)) ∧ (¬ r53 = 0 → w_geti h54 a50 16 2 (fun r55 => (∃ mc56 ms56, (nc + mc52) + mc56 ≤ mc ∧ (nk + ms52) + ms56 ≤ ms ∧ w_is h54 a0 2 (wp_X2_isThere G mc56 ms56 h54 a0 r55 (fun r57 h58 => ((r57 = 0 → wp_X2_isInOrder_L80 G mc ms a0 Q k24 n h58 ((nc + mc52) + mc56) ((nk + ms52) + ms56) (x1 &&& (0 : Int32)) x2 x3 (some a26)) ∧ (¬ r57 = 0 → wp_X2_isInOrder_L80 G mc ms a0 Q k24 n h58 ((nc + mc52) + mc56) ((nk + ms52) + ms56) (x1 &&& (1 : Int32)) x2 x3 (some a26))))))))))))))))))))))
set_option maxHeartbeats 4000000 in
theorem snd_X2_isInOrder_L80 {p : Program} {l : Launch} {e : Env} {s : State} {m : MethodId} {args : Array Value} {below : List Frame} {meth : Method} {c : Code} {h0 : HH} (G : GG) (mc : Nat) (ms : Nat) (a0 : Nat) (Q : Int32 → HH → Prop) (hnm : s.methodNamed? yX2_isInOrder = some m) (hE : hv_E p s m args meth c cX2_isInOrder 6 (some FieldType.boolean) RX2 G h0) (k24 : (HH) → (Nat) → (Nat) → (Int32) → (Option Nat) → Prop) (hk24 : ∀ (h : HH) (nc : Nat) (nk : Nat) (x1 : Int32) (x2 : Option Nat), k24 h nc nk x1 x2 → nc ≤ mc → nk ≤ ms → ∀ (H : Heap) (locs : List Loc) (ls : Array Slot), hv_I G h0 s.heap h H locs → lv_has ls 6 [(0, .ref a0), (1, .int x1), (2, va_rf x2)] → W p l e (headSpec (ws_ yX2_isInOrder cX2_isInOrder 6 (some FieldType.boolean)) (rm_X2_isInOrder mc ms)).room s m args below meth c H locs nc nk (MQ below (hv_Qi G h0 s.heap.size Q) args s mc ms (hv_A h0 s.heap.size)) (F0 m 24 ls [])) : ∀ (n : Nat) (h : HH) (nc : Nat) (nk : Nat) (x1 : Int32) (x2 : Nat) (x3 : Nat) (x4 : Option Nat), wp_X2_isInOrder_L80 G mc ms a0 Q k24 n h nc nk x1 x2 x3 x4 → nc ≤ mc → nk ≤ ms → ∀ (H : Heap) (locs : List Loc) (ls : Array Slot), hv_I G h0 s.heap h H locs → lv_has ls 6 [(0, .ref a0), (1, .int x1), (2, .ref x2), (3, .ref x3), (4, va_rf x4)] → W p l e (headSpec (ws_ yX2_isInOrder cX2_isInOrder 6 (some FieldType.boolean)) (rm_X2_isInOrder mc ms)).room s m args below meth c H locs nc nk (MQ below (hv_Qi G h0 s.heap.size Q) args s mc ms (hv_A h0 s.heap.size)) (F0 m 80 ls []) := by
  obtain ⟨⟨hx, hb, hml, hown, hts⟩, hr, hlocks, hXX⟩ := id hE
  intro n
  induction n with
  | zero => intro h nc nk x1 x2 x3 x4 hw; exact hw.elim
  | succ n ih =>
    intro h nc nk x1 x2 x3 x4 hw hc hs H locs ls hI hl
    unfold wp_X2_isInOrder_L80 at hw
    refine lv_aloadq hx hb dX2_isInOrder_80 (lv_at hl 4 rfl) ?_
    obtain ⟨a26, hz, hwa26⟩ := hw; have hla26 := hl; subst hz; have hw := hwa26; have hl := hla26
    obtain ⟨⟨fs, hre⟩, hw⟩ := hw
    refine hv_rFi hI (va_runF (As := []) (b := a26) (rest := []) (hXX.1.1 13 _ rfl).2 hE.1 (snd_J15_hasNext l G _ h a26 _ hw) (va_cwF 0 hts (lw_F q375 q379 q381 q121 q383) rfl rfl rfl (hv_fw0 hE.2.2.2.2.1) (by decide +kernel) ⟨Nat.le_of_ble_eq_true rfl, Nat.le_of_ble_eq_true rfl⟩) (hv_preV hE hI (ci := 13) rfl hre) rfl rfl hl.1 rfl (lv_room (Nat.le_of_ble_eq_true rfl)) dX2_isInOrder_82 ⟨hc, hs⟩) (fun r27 h28 H locs hw hI => ?_)
    refine lv_if_eq (tgt := 137) hx hb dX2_isInOrder_87 (by decide) (fun c_87 => ?_) (fun c_87 => ?_)
    · have hw := hw.1 c_87
      refine lv_aload_n hx hb dX2_isInOrder_137 rfl (lv_at hl 3 rfl) ?_
      refine hv_wgetqN hE hI in_X10 (ci := 14) rfl 8 (by decide) (hE.2.2.2.2.1.F 31 rfl) (fun _ hx => hx) hw dX2_isInOrder_138 (fun r29 hw => ?_)
      obtain ⟨a30, hz, hwa30⟩ := hw; have hla30 := hl; subst hz; have hw := hwa30; have hl := hla30
      obtain ⟨mc31, ms31, hc, hs, hw⟩ := hw
      obtain ⟨⟨fs, hre⟩, hw⟩ := hw
      refine hv_rcq hI (va_runV (As := []) (b := a30) (rest := []) hE.1 (snd_J2_iterator l G _ mc31 ms31 h28 a30 _ hw) (cwV 0 hts (lw_V q351 q352 q353 q102 q354) rfl rfl rfl (by decide +kernel) ⟨Nat.le_of_ble_eq_true rfl, Nat.le_of_ble_eq_true rfl⟩) (hv_preV hE hI (ci := 4) rfl hre) rfl rfl hl.1 rfl (lv_room (Nat.le_of_ble_eq_true rfl)) dX2_isInOrder_141 ⟨hc, hs⟩) (fun r32 h33 H locs hw hI => ?_)
      refine lv_astoreq (lv' := [(4, va_rf r32), (0, .ref a0), (1, .int x1), (2, .ref x2), (3, .ref x3)]) hx hb dX2_isInOrder_144 hl (by decide) rfl (fun ls hl => ?_)
      obtain ⟨n146, hw⟩ := hw
      exact snd_X2_isInOrder_L146 G mc ms a0 Q hnm hE k24 hk24 n146 h33 (nc + mc31) (nk + ms31) x1 x2 x3 r32 hw hc hs _ _ _ hI (lv_sub hl [1, 2, 3, 4, 0] rfl)
    · have hw := hw.2 c_87
      refine lv_aload hx hb dX2_isInOrder_90 (lv_at hl 4 rfl) ?_
      obtain ⟨⟨fs, hre⟩, hw⟩ := hw
      refine hv_rFq hI (va_runF (As := []) (b := a26) (rest := []) (hXX.1.1 13 _ rfl).2 hE.1 (snd_J15_next l G _ h28 a26 _ hw) (va_cwF 0 hts (lw_F q385 q388 q390 q121 q392) rfl rfl rfl (hv_fw1 hE.2.2.2.2.1) (by decide +kernel) ⟨Nat.le_of_ble_eq_true rfl, Nat.le_of_ble_eq_true rfl⟩) (hv_preV hE hI (ci := 13) rfl hre) rfl rfl hl.1 rfl (lv_room (Nat.le_of_ble_eq_true rfl)) dX2_isInOrder_92 ⟨hc, hs⟩) (fun r48 h49 H locs hw hI => ?_)
      obtain ⟨a50, hz, hwa50⟩ := hw; have hla50 := hl; subst hz; have hw := hwa50; have hl := hla50
      refine hv_wcast (ci := 16) hE hI (hts _ q560) rfl hw dX2_isInOrder_97 (fun hw => ?_)
      refine lv_astore (lv' := [(5, .ref a50), (0, .ref a0), (1, .int x1), (2, .ref x2), (3, .ref x3), (4, .ref a26)]) hx hb dX2_isInOrder_100 hl (by decide) rfl (fun ls hl => ?_)
      refine lv_iload_n hx hb dX2_isInOrder_102 rfl (lv_at hl 2 rfl) ?_
      refine lv_aload_n hx hb dX2_isInOrder_103 rfl (lv_at hl 1 rfl) ?_
      refine lv_aload hx hb dX2_isInOrder_104 (lv_at hl 0 rfl) ?_
      refine hv_wgetiN hE hI in_X12 (ci := 16) rfl 1 (by decide) (hE.2.2.2.2.1.F 33 rfl) (fun _ hx => hx) hw dX2_isInOrder_106 (fun r51 hw => ?_)
      obtain ⟨mc52, ms52, hc, hs, hw⟩ := hw
      obtain ⟨⟨fs, hre⟩, hw⟩ := hw
      refine hv_rci hI (va_runV (As := [.int r51]) (b := a0) (rest := [.int x1]) hE.1 (snd_X2_isThere l G _ mc52 ms52 h49 a0 r51 _ hw) (cwV 1 hts (lw_V q622 q624 qs6 q98 q625) rfl rfl rfl (by decide +kernel) ⟨Nat.le_of_ble_eq_true rfl, Nat.le_of_ble_eq_true rfl⟩) (hv_preV hE hI (ci := 2) rfl hre) rfl rfl hl.1 rfl (lv_room (Nat.le_of_ble_eq_true rfl)) dX2_isInOrder_109 ⟨hc, hs⟩) (fun r53 h54 H locs hw hI => ?_)
      refine lv_if_eq (tgt := 131) hx hb dX2_isInOrder_112 (by decide) (fun c_112 => ?_) (fun c_112 => ?_)
      · have hw := hw.1 c_112
        refine lv_iconst (v := 0) hx hb dX2_isInOrder_131 (by decide) ?_
        refine lv_iand hx hb dX2_isInOrder_132 ?_
        refine lv_istore_n (lv' := [(1, .int (x1 &&& (0 : Int32))), (5, .ref a50), (0, .ref a0), (2, .ref x2), (3, .ref x3), (4, .ref a26)]) hx hb dX2_isInOrder_133 rfl hl (by decide) rfl (fun ls hl => ?_)
        refine lv_goto (tgt := 80) hx hb dX2_isInOrder_134 (by decide) ?_
        exact ih h54 (nc + mc52) (nk + ms52) (x1 &&& (0 : Int32)) x2 x3 (some a26) hw hc hs _ _ _ hI (lv_sub hl [2, 0, 3, 4, 5] rfl)
      · have hw := hw.2 c_112
        refine lv_aload_n hx hb dX2_isInOrder_115 rfl (lv_at hl 1 rfl) ?_
        refine lv_aload hx hb dX2_isInOrder_116 (lv_at hl 0 rfl) ?_
        refine hv_wgetiN hE hI in_X12 (ci := 16) rfl 2 (by decide) (hE.2.2.2.2.1.F 34 rfl) (fun _ hx => hx) hw dX2_isInOrder_118 (fun r55 hw => ?_)
        obtain ⟨mc56, ms56, hc, hs, hw⟩ := hw
        obtain ⟨⟨fs, hre⟩, hw⟩ := hw
        refine hv_rci hI (va_runV (As := [.int r55]) (b := a0) (rest := [.int x1]) hE.1 (snd_X2_isThere l G _ mc56 ms56 h54 a0 r55 _ hw) (cwV 1 hts (lw_V q622 q624 qs6 q98 q625) rfl rfl rfl (by decide +kernel) ⟨Nat.le_of_ble_eq_true rfl, Nat.le_of_ble_eq_true rfl⟩) (hv_preV hE hI (ci := 2) rfl hre) rfl rfl hl.1 rfl (lv_room (Nat.le_of_ble_eq_true rfl)) dX2_isInOrder_121 ⟨hc, hs⟩) (fun r57 h58 H locs hw hI => ?_)
        refine lv_if_eq (tgt := 131) hx hb dX2_isInOrder_124 (by decide) (fun c_124 => ?_) (fun c_124 => ?_)
        · have hw := hw.1 c_124
          refine lv_iconst (v := 0) hx hb dX2_isInOrder_131 (by decide) ?_
          refine lv_iand hx hb dX2_isInOrder_132 ?_
          refine lv_istore_n (lv' := [(1, .int (x1 &&& (0 : Int32))), (5, .ref a50), (0, .ref a0), (2, .ref x2), (3, .ref x3), (4, .ref a26)]) hx hb dX2_isInOrder_133 rfl hl (by decide) rfl (fun ls hl => ?_)
          refine lv_goto (tgt := 80) hx hb dX2_isInOrder_134 (by decide) ?_
          exact ih h58 ((nc + mc52) + mc56) ((nk + ms52) + ms56) (x1 &&& (0 : Int32)) x2 x3 (some a26) hw hc hs _ _ _ hI (lv_sub hl [2, 0, 3, 4, 5] rfl)
        · have hw := hw.2 c_124
          refine lv_iconst (v := 1) hx hb dX2_isInOrder_127 (by decide) ?_
          refine lv_goto (tgt := 132) hx hb dX2_isInOrder_128 (by decide) ?_
          refine lv_iand hx hb dX2_isInOrder_132 ?_
          refine lv_istore_n (lv' := [(1, .int (x1 &&& (1 : Int32))), (5, .ref a50), (0, .ref a0), (2, .ref x2), (3, .ref x3), (4, .ref a26)]) hx hb dX2_isInOrder_133 rfl hl (by decide) rfl (fun ls hl => ?_)
          refine lv_goto (tgt := 80) hx hb dX2_isInOrder_134 (by decide) ?_
          exact ih h58 ((nc + mc52) + mc56) ((nk + ms52) + ms56) (x1 &&& (1 : Int32)) x2 x3 (some a26) hw hc hs _ _ _ hI (lv_sub hl [2, 0, 3, 4, 5] rfl)
def wp_X2_isInOrder_L24 (G : GG) (mc : Nat) (ms : Nat) (a0 : Nat) (Q : Int32 → HH → Prop) : Nat → (HH) → (Nat) → (Nat) → (Int32) → (Option Nat) → Prop
  | 0, _, _, _, _, _ => False
  | n + 1, h, nc, nk, x1, x2 => w_nn x2 (fun a9 => w_is h a9 13 (wp_J15_hasNext G h a9 (fun r10 h11 => ((r10 = 0 → (narrow .boolean (.int x1) = .int x1 ∧ Q x1 h11)) ∧ (¬ r10 = 0 → w_is h11 a9 13 (wp_J15_next G h11 a9 (fun r12 h13 => w_nn r12 (fun a14 => w_cast h13 a14 14 (w_geti h13 a14 14 1 (fun r15 => w_geti h13 a14 14 2 (fun r16 => w_geti h13 a14 14 3 (fun r17 => (∃ mc18 ms18, nc + mc18 ≤ mc ∧ nk + ms18 ≤ ms ∧ w_is h13 a0 2 (wp_X2_find_2 G mc18 ms18 h13 a0 r15 r16 r17 (fun r19 h20 => ((¬ r19 = (some a14) → w_getq h20 a14 14 7 (fun r21 => w_nn r21 (fun a22 => (∃ mc23 ms23, (nc + mc18) + mc23 ≤ mc ∧ (nk + ms18) + ms23 ≤ ms ∧ w_is h20 a22 4 (wp_J2_iterator G mc23 ms23 h20 a22 (fun r24 h25 => (∃ n80, wp_X2_isInOrder_L80 G mc ms a0 Q (fun h nc nk x1 x2 => wp_X2_isInOrder_L24 G mc ms a0 Q n h nc nk x1 x2) n80 h25 ((nc + mc18) + mc23) ((nk + ms18) + ms23) (x1 &&& (0 : Int32)) a9 a14 r24))))))) ∧ (r19 = (some a14) → w_getq h20 a14 14 7 (fun r59 => w_nn r59 (fun a60 => (∃ mc61 ms61, (nc + mc18) + mc61 ≤ mc ∧ (nk + ms18) + ms61 ≤ ms ∧ w_is h20 a60 4 (wp_J2_iterator G mc61 ms61 h20 a60 (fun r62 h63 => (∃ n80, wp_X2_isInOrder_L80 G mc ms a0 Q (fun h nc nk x1 x2 => wp_X2_isInOrder_L24 G mc ms a0 Q n h nc nk x1 x2) n80 h63 ((nc + mc18) + mc61) ((nk + ms18) + ms61) (x1 &&& (1 : Int32)) a9 a14 r62)))))))))))))))))))))))
set_option maxHeartbeats 4000000 in
theorem snd_X2_isInOrder_L24 {p : Program} {l : Launch} {e : Env} {s : State} {m : MethodId} {args : Array Value} {below : List Frame} {meth : Method} {c : Code} {h0 : HH} (G : GG) (mc : Nat) (ms : Nat) (a0 : Nat) (Q : Int32 → HH → Prop) (hnm : s.methodNamed? yX2_isInOrder = some m) (hE : hv_E p s m args meth c cX2_isInOrder 6 (some FieldType.boolean) RX2 G h0) : ∀ (n : Nat) (h : HH) (nc : Nat) (nk : Nat) (x1 : Int32) (x2 : Option Nat), wp_X2_isInOrder_L24 G mc ms a0 Q n h nc nk x1 x2 → nc ≤ mc → nk ≤ ms → ∀ (H : Heap) (locs : List Loc) (ls : Array Slot), hv_I G h0 s.heap h H locs → lv_has ls 6 [(0, .ref a0), (1, .int x1), (2, va_rf x2)] → W p l e (headSpec (ws_ yX2_isInOrder cX2_isInOrder 6 (some FieldType.boolean)) (rm_X2_isInOrder mc ms)).room s m args below meth c H locs nc nk (MQ below (hv_Qi G h0 s.heap.size Q) args s mc ms (hv_A h0 s.heap.size)) (F0 m 24 ls []) := by
  obtain ⟨⟨hx, hb, hml, hown, hts⟩, hr, hlocks, hXX⟩ := id hE
  intro n
  induction n with
  | zero => intro h nc nk x1 x2 hw; exact hw.elim
  | succ n ih =>
    intro h nc nk x1 x2 hw hc hs H locs ls hI hl
    unfold wp_X2_isInOrder_L24 at hw
    refine lv_aload_nq hx hb dX2_isInOrder_24 rfl (lv_at hl 2 rfl) ?_
    obtain ⟨a9, hz, hwa9⟩ := hw; have hla9 := hl; subst hz; have hw := hwa9; have hl := hla9
    obtain ⟨⟨fs, hre⟩, hw⟩ := hw
    refine hv_rFi hI (va_runF (As := []) (b := a9) (rest := []) (hXX.1.1 13 _ rfl).2 hE.1 (snd_J15_hasNext l G _ h a9 _ hw) (va_cwF 0 hts (lw_F q375 q379 q381 q121 q383) rfl rfl rfl (hv_fw0 hE.2.2.2.2.1) (by decide +kernel) ⟨Nat.le_of_ble_eq_true rfl, Nat.le_of_ble_eq_true rfl⟩) (hv_preV hE hI (ci := 13) rfl hre) rfl rfl hl.1 rfl (lv_room (Nat.le_of_ble_eq_true rfl)) dX2_isInOrder_25 ⟨hc, hs⟩) (fun r10 h11 H locs hw hI => ?_)
    refine lv_if_eq (tgt := 212) hx hb dX2_isInOrder_30 (by decide) (fun c_30 => ?_) (fun c_30 => ?_)
    · have hw := hw.1 c_30
      refine lv_iload_n hx hb dX2_isInOrder_212 rfl (lv_at hl 1 rfl) ?_
      obtain ⟨hnr, hw⟩ := hw
      exact hv_zret hE hI hc hs hnr hw dX2_isInOrder_213
    · have hw := hw.2 c_30
      refine lv_aload_n hx hb dX2_isInOrder_33 rfl (lv_at hl 2 rfl) ?_
      obtain ⟨⟨fs, hre⟩, hw⟩ := hw
      refine hv_rFq hI (va_runF (As := []) (b := a9) (rest := []) (hXX.1.1 13 _ rfl).2 hE.1 (snd_J15_next l G _ h11 a9 _ hw) (va_cwF 0 hts (lw_F q385 q388 q390 q121 q392) rfl rfl rfl (hv_fw1 hE.2.2.2.2.1) (by decide +kernel) ⟨Nat.le_of_ble_eq_true rfl, Nat.le_of_ble_eq_true rfl⟩) (hv_preV hE hI (ci := 13) rfl hre) rfl rfl hl.1 rfl (lv_room (Nat.le_of_ble_eq_true rfl)) dX2_isInOrder_34 ⟨hc, hs⟩) (fun r12 h13 H locs hw hI => ?_)
      obtain ⟨a14, hz, hwa14⟩ := hw; have hla14 := hl; subst hz; have hw := hwa14; have hl := hla14
      refine hv_wcast (ci := 14) hE hI (hts _ q469) rfl hw dX2_isInOrder_39 (fun hw => ?_)
      refine lv_astore_n (lv' := [(3, .ref a14), (0, .ref a0), (1, .int x1), (2, .ref a9)]) hx hb dX2_isInOrder_42 rfl hl (by decide) rfl (fun ls hl => ?_)
      refine lv_iload_n hx hb dX2_isInOrder_43 rfl (lv_at hl 2 rfl) ?_
      refine lv_aload_n hx hb dX2_isInOrder_44 rfl (lv_at hl 1 rfl) ?_
      refine lv_aload_n hx hb dX2_isInOrder_45 rfl (lv_at hl 0 rfl) ?_
      refine hv_wgetiN hE hI in_X10 (ci := 14) rfl 1 (by decide) (hE.2.2.2.2.1.F 25 rfl) (fun _ hx => hx) hw dX2_isInOrder_46 (fun r15 hw => ?_)
      refine lv_aload_n hx hb dX2_isInOrder_49 rfl (lv_at hl 0 rfl) ?_
      refine hv_wgetiN hE hI in_X10 (ci := 14) rfl 2 (by decide) (hE.2.2.2.2.1.F 26 rfl) (fun _ hx => hx) hw dX2_isInOrder_50 (fun r16 hw => ?_)
      refine lv_aload_n hx hb dX2_isInOrder_53 rfl (lv_at hl 0 rfl) ?_
      refine hv_wgetiN hE hI in_X10 (ci := 14) rfl 3 (by decide) (hE.2.2.2.2.1.F 27 rfl) (fun _ hx => hx) hw dX2_isInOrder_54 (fun r17 hw => ?_)
      obtain ⟨mc18, ms18, hc, hs, hw⟩ := hw
      obtain ⟨⟨fs, hre⟩, hw⟩ := hw
      refine hv_rcq hI (va_runV (As := [.int r15, .int r16, .int r17]) (b := a0) (rest := [.int x1]) hE.1 (snd_X2_find_2 l G _ mc18 ms18 h13 a0 r15 r16 r17 _ hw) (cwV 3 hts (lw_V q614 q615 q616 q98 q617) rfl rfl rfl (by decide +kernel) ⟨Nat.le_of_ble_eq_true rfl, Nat.le_of_ble_eq_true rfl⟩) (hv_preV hE hI (ci := 2) rfl hre) rfl rfl hl.1 rfl (lv_room (Nat.le_of_ble_eq_true rfl)) dX2_isInOrder_57 ⟨hc, hs⟩) (fun r19 h20 H locs hw hI => ?_)
      refine lv_aload_n hx hb dX2_isInOrder_60 rfl (lv_at hl 0 rfl) ?_
      refine lv_acmp_ne (rx := r19) (ry := (some a14)) (tgt := 68) hx hb dX2_isInOrder_61 (by decide) (fun c_61 => ?_) (fun c_61 => ?_)
      · have hw := hw.1 c_61
        refine lv_iconst (v := 0) hx hb dX2_isInOrder_68 (by decide) ?_
        refine lv_iand hx hb dX2_isInOrder_69 ?_
        refine lv_istore_n (lv' := [(1, .int (x1 &&& (0 : Int32))), (3, .ref a14), (0, .ref a0), (2, .ref a9)]) hx hb dX2_isInOrder_70 rfl hl (by decide) rfl (fun ls hl => ?_)
        refine lv_aload_n hx hb dX2_isInOrder_71 rfl (lv_at hl 1 rfl) ?_
        refine hv_wgetqN hE hI in_X10 (ci := 14) rfl 7 (by decide) (hE.2.2.2.2.1.F 30 rfl) (fun _ hx => hx) hw dX2_isInOrder_72 (fun r21 hw => ?_)
        obtain ⟨a22, hz, hwa22⟩ := hw; have hla22 := hl; subst hz; have hw := hwa22; have hl := hla22
        obtain ⟨mc23, ms23, hc, hs, hw⟩ := hw
        obtain ⟨⟨fs, hre⟩, hw⟩ := hw
        refine hv_rcq hI (va_runV (As := []) (b := a22) (rest := []) hE.1 (snd_J2_iterator l G _ mc23 ms23 h20 a22 _ hw) (cwV 0 hts (lw_V q351 q352 q353 q102 q354) rfl rfl rfl (by decide +kernel) ⟨Nat.le_of_ble_eq_true rfl, Nat.le_of_ble_eq_true rfl⟩) (hv_preV hE hI (ci := 4) rfl hre) rfl rfl hl.1 rfl (lv_room (Nat.le_of_ble_eq_true rfl)) dX2_isInOrder_75 ⟨hc, hs⟩) (fun r24 h25 H locs hw hI => ?_)
        refine lv_astoreq (lv' := [(4, va_rf r24), (1, .int (x1 &&& (0 : Int32))), (3, .ref a14), (0, .ref a0), (2, .ref a9)]) hx hb dX2_isInOrder_78 hl (by decide) rfl (fun ls hl => ?_)
        obtain ⟨n80, hw⟩ := hw
        exact snd_X2_isInOrder_L80 G mc ms a0 Q hnm hE (fun h nc nk x1 x2 => wp_X2_isInOrder_L24 G mc ms a0 Q n h nc nk x1 x2) (fun h nc nk x1 x2 => ih h nc nk x1 x2) n80 h25 ((nc + mc18) + mc23) ((nk + ms18) + ms23) (x1 &&& (0 : Int32)) a9 a14 r24 hw hc hs _ _ _ hI (lv_sub hl [3, 1, 4, 2, 0] rfl)
      · have hw := hw.2 c_61
        refine lv_iconst (v := 1) hx hb dX2_isInOrder_64 (by decide) ?_
        refine lv_goto (tgt := 69) hx hb dX2_isInOrder_65 (by decide) ?_
        refine lv_iand hx hb dX2_isInOrder_69 ?_
        refine lv_istore_n (lv' := [(1, .int (x1 &&& (1 : Int32))), (3, .ref a14), (0, .ref a0), (2, .ref a9)]) hx hb dX2_isInOrder_70 rfl hl (by decide) rfl (fun ls hl => ?_)
        refine lv_aload_n hx hb dX2_isInOrder_71 rfl (lv_at hl 1 rfl) ?_
        refine hv_wgetqN hE hI in_X10 (ci := 14) rfl 7 (by decide) (hE.2.2.2.2.1.F 30 rfl) (fun _ hx => hx) hw dX2_isInOrder_72 (fun r59 hw => ?_)
        obtain ⟨a60, hz, hwa60⟩ := hw; have hla60 := hl; subst hz; have hw := hwa60; have hl := hla60
        obtain ⟨mc61, ms61, hc, hs, hw⟩ := hw
        obtain ⟨⟨fs, hre⟩, hw⟩ := hw
        refine hv_rcq hI (va_runV (As := []) (b := a60) (rest := []) hE.1 (snd_J2_iterator l G _ mc61 ms61 h20 a60 _ hw) (cwV 0 hts (lw_V q351 q352 q353 q102 q354) rfl rfl rfl (by decide +kernel) ⟨Nat.le_of_ble_eq_true rfl, Nat.le_of_ble_eq_true rfl⟩) (hv_preV hE hI (ci := 4) rfl hre) rfl rfl hl.1 rfl (lv_room (Nat.le_of_ble_eq_true rfl)) dX2_isInOrder_75 ⟨hc, hs⟩) (fun r62 h63 H locs hw hI => ?_)
        refine lv_astoreq (lv' := [(4, va_rf r62), (1, .int (x1 &&& (1 : Int32))), (3, .ref a14), (0, .ref a0), (2, .ref a9)]) hx hb dX2_isInOrder_78 hl (by decide) rfl (fun ls hl => ?_)
        obtain ⟨n80, hw⟩ := hw
        exact snd_X2_isInOrder_L80 G mc ms a0 Q hnm hE (fun h nc nk x1 x2 => wp_X2_isInOrder_L24 G mc ms a0 Q n h nc nk x1 x2) (fun h nc nk x1 x2 => ih h nc nk x1 x2) n80 h63 ((nc + mc18) + mc61) ((nk + ms18) + ms61) (x1 &&& (1 : Int32)) a9 a14 r62 hw hc hs _ _ _ hI (lv_sub hl [3, 1, 4, 2, 0] rfl)
def wp_X2_isInOrder (G : GG) (mc : Nat) (ms : Nat) (h : HH) (a0 : Nat) (Q : Int32 → HH → Prop) : Prop := (∃ mc1 ms1, 0 + mc1 ≤ mc ∧ 0 + ms1 ≤ ms ∧ w_is h a0 2 (wp_X2_greatestDepth G mc1 ms1 h a0 (fun r2 h3 => (((1000 : Int32) ≤ r2 → w_getq h3 a0 2 2 (fun r4 => w_nn r4 (fun a5 => (∃ mc6 ms6, (0 + mc1) + mc6 ≤ mc ∧ (0 + ms1) + ms6 ≤ ms ∧ w_is h3 a5 4 (wp_J2_iterator G mc6 ms6 h3 a5 (fun r7 h8 => (∃ n24, wp_X2_isInOrder_L24 G mc ms a0 Q n24 h8 ((0 + mc1) + mc6) ((0 + ms1) + ms6) (0 : Int32) r7))))))) ∧ (¬ (1000 : Int32) ≤ r2 → w_getq h3 a0 2 2 (fun r64 => w_nn r64 (fun a65 => (∃ mc66 ms66, (0 + mc1) + mc66 ≤ mc ∧ (0 + ms1) + ms66 ≤ ms ∧ w_is h3 a65 4 (wp_J2_iterator G mc66 ms66 h3 a65 (fun r67 h68 => (∃ n24, wp_X2_isInOrder_L24 G mc ms a0 Q n24 h68 ((0 + mc1) + mc66) ((0 + ms1) + ms66) (1 : Int32) r67)))))))))))
set_option maxHeartbeats 4000000 in
theorem snd_X2_isInOrder (l : Launch) (G : GG) (sz : Nat) (mc : Nat) (ms : Nat) (h : HH) (a0 : Nat) (Q : Int32 → HH → Prop) (hw : wp_X2_isInOrder G mc ms h a0 Q) : Met l yX2_isInOrder (ws_ yX2_isInOrder cX2_isInOrder 6 (some FieldType.boolean)) (rm_X2_isInOrder mc ms) (hv_Pc G h sz [.ref a0]) (hv_Qi G h sz Q) mc ms (hv_A h sz) := by
  refine Met.ofW (cc := cX2_isInOrder) (maxL := 6) (ret := (some FieldType.boolean)) (by decide) rfl ?_
  intro p e s m args below meth c s₁ B hml hv
  have hnm : s.methodNamed? yX2_isInOrder = some m := B.named
  obtain ⟨rfl, rfl, hE, hI⟩ := hv_open B hml hv
  have hE : hv_E p s m ([.ref a0] : List Value).toArray meth c cX2_isInOrder 6 (some FieldType.boolean) RX2 G h := hE
  obtain ⟨⟨hx, hb, hml, hown, hts⟩, hr, hlocks, hXX⟩ := id hE
  have hl := lv_entry ([.ref a0] : List Value) (n := 6) (Nat.le_of_ble_eq_true rfl)
  rw [lg_entry_eq]
  generalize (lg_sl ([.ref a0] : List Value) ++ List.replicate (6 - (lg_sl ([.ref a0] : List Value)).length) Slot.unset).toArray = ls at hl ⊢
  have hl : lv_has ls 6 [(0, .ref a0)] := hl
  have hc : 0 ≤ mc := Nat.zero_le _
  have hs : 0 ≤ ms := Nat.zero_le _
  unfold wp_X2_isInOrder at hw
  refine lv_aload_n hx hb dX2_isInOrder_0 rfl (lv_at hl 0 rfl) ?_
  obtain ⟨mc1, ms1, hc, hs, hw⟩ := hw
  obtain ⟨⟨fs, hre⟩, hw⟩ := hw
  refine hv_rci hI (va_runV (As := []) (b := a0) (rest := []) hE.1 (snd_X2_greatestDepth l G _ mc1 ms1 h a0 _ hw) (cwV 0 hts (lw_V q552 q553 q554 q98 q555) rfl rfl rfl (by decide +kernel) ⟨Nat.le_of_ble_eq_true rfl, Nat.le_of_ble_eq_true rfl⟩) (hv_preV hE hI (ci := 2) rfl hre) rfl rfl hl.1 rfl (lv_room (Nat.le_of_ble_eq_true rfl)) dX2_isInOrder_1 ⟨hc, hs⟩) (fun r2 h3 H locs hw hI => ?_)
  refine lv_sipush (v := 1000) hx hb dX2_isInOrder_4 (by decide) ?_
  refine lv_icmp_ge (tgt := 14) hx hb dX2_isInOrder_7 (by decide) (fun c_7 => ?_) (fun c_7 => ?_)
  · have hw := hw.1 c_7
    refine lv_iconst (v := 0) hx hb dX2_isInOrder_14 (by decide) ?_
    refine lv_istore_n (lv' := [(1, .int (0 : Int32)), (0, .ref a0)]) hx hb dX2_isInOrder_15 rfl hl (by decide) rfl (fun ls hl => ?_)
    refine lv_aload_n hx hb dX2_isInOrder_16 rfl (lv_at hl 1 rfl) ?_
    refine hv_wgetq hE hI in_X2 (ci := 2) rfl 2 (by decide) (hts _ q222) (fun _ hx => hx) hw dX2_isInOrder_17 (fun r4 hw => ?_)
    obtain ⟨a5, hz, hwa5⟩ := hw; have hla5 := hl; subst hz; have hw := hwa5; have hl := hla5
    obtain ⟨mc6, ms6, hc, hs, hw⟩ := hw
    obtain ⟨⟨fs, hre⟩, hw⟩ := hw
    refine hv_rcq hI (va_runV (As := []) (b := a5) (rest := []) hE.1 (snd_J2_iterator l G _ mc6 ms6 h3 a5 _ hw) (cwV 0 hts (lw_V q351 q352 q353 q102 q354) rfl rfl rfl (by decide +kernel) ⟨Nat.le_of_ble_eq_true rfl, Nat.le_of_ble_eq_true rfl⟩) (hv_preV hE hI (ci := 4) rfl hre) rfl rfl hl.1 rfl (lv_room (Nat.le_of_ble_eq_true rfl)) dX2_isInOrder_20 ⟨hc, hs⟩) (fun r7 h8 H locs hw hI => ?_)
    refine lv_astore_nq (lv' := [(2, va_rf r7), (1, .int (0 : Int32)), (0, .ref a0)]) hx hb dX2_isInOrder_23 rfl hl (by decide) rfl (fun ls hl => ?_)
    obtain ⟨n24, hw⟩ := hw
    exact snd_X2_isInOrder_L24 G mc ms a0 Q hnm hE n24 h8 ((0 + mc1) + mc6) ((0 + ms1) + ms6) (0 : Int32) r7 hw hc hs _ _ _ hI (lv_sub hl [2, 1, 0] rfl)
  · have hw := hw.2 c_7
    refine lv_iconst (v := 1) hx hb dX2_isInOrder_10 (by decide) ?_
    refine lv_goto (tgt := 15) hx hb dX2_isInOrder_11 (by decide) ?_
    refine lv_istore_n (lv' := [(1, .int (1 : Int32)), (0, .ref a0)]) hx hb dX2_isInOrder_15 rfl hl (by decide) rfl (fun ls hl => ?_)
    refine lv_aload_n hx hb dX2_isInOrder_16 rfl (lv_at hl 1 rfl) ?_
    refine hv_wgetq hE hI in_X2 (ci := 2) rfl 2 (by decide) (hts _ q222) (fun _ hx => hx) hw dX2_isInOrder_17 (fun r64 hw => ?_)
    obtain ⟨a65, hz, hwa65⟩ := hw; have hla65 := hl; subst hz; have hw := hwa65; have hl := hla65
    obtain ⟨mc66, ms66, hc, hs, hw⟩ := hw
    obtain ⟨⟨fs, hre⟩, hw⟩ := hw
    refine hv_rcq hI (va_runV (As := []) (b := a65) (rest := []) hE.1 (snd_J2_iterator l G _ mc66 ms66 h3 a65 _ hw) (cwV 0 hts (lw_V q351 q352 q353 q102 q354) rfl rfl rfl (by decide +kernel) ⟨Nat.le_of_ble_eq_true rfl, Nat.le_of_ble_eq_true rfl⟩) (hv_preV hE hI (ci := 4) rfl hre) rfl rfl hl.1 rfl (lv_room (Nat.le_of_ble_eq_true rfl)) dX2_isInOrder_20 ⟨hc, hs⟩) (fun r67 h68 H locs hw hI => ?_)
    refine lv_astore_nq (lv' := [(2, va_rf r67), (1, .int (1 : Int32)), (0, .ref a0)]) hx hb dX2_isInOrder_23 rfl hl (by decide) rfl (fun ls hl => ?_)
    obtain ⟨n24, hw⟩ := hw
    exact snd_X2_isInOrder_L24 G mc ms a0 Q hnm hE n24 h68 ((0 + mc1) + mc66) ((0 + ms1) + ms66) (1 : Int32) r67 hw hc hs _ _ _ hI (lv_sub hl [2, 1, 0] rfl)
