/-! the reference's methods, walked (by gen/model.py) -/
set_option maxRecDepth 100000
/-- MatchmakerRulesModel.addsRuleAt(I)I -/
abbrev rm_X4_addsRuleAt : Room := { frames := 6, cells := 0, slots := 0, locals := 116 }
def wp_X4_addsRuleAt (F : Nat → Int32) (A : Nat → Nat → Int32) (L : Nat → UInt32) (x1 : Int32) (Q : Int32 → (Nat → Int32) → (Nat → Nat → Int32) → (Nat → UInt32) → Prop) : Prop := wp_X4_readsRule (upd (upd F 32 x1) 35 (0 : Int32)) A L (fun F1 A1 L1 => wp_X4_addsRule F1 A1 L1 (fun r2 F2 A2 L2 => Q r2 F2 A2 L2))
set_option maxHeartbeats 4000000 in
theorem snd_X4_addsRuleAt (l : Launch) (G : GG) (sz : Nat) (h : HH) (ad : Nat → Nat) (F : Nat → Int32) (A : Nat → Nat → Int32) (L : Nat → UInt32) (x1 : Int32) (Q : Int32 → (Nat → Int32) → (Nat → Nat → Int32) → (Nat → UInt32) → Prop) (hS : ml_S G h ad F A L) (hw : wp_X4_addsRuleAt F A L x1 Q) : Met l yX4_addsRuleAt (ws_ yX4_addsRuleAt cX4_addsRuleAt 2 (some FieldType.int)) rm_X4_addsRuleAt (hv_Pc G h sz [.ref (ad 0), .int x1]) (hv_Qi G h sz (fun r => ml_Q G h ad (Q r))) 0 0 (hv_A h sz) := by
  refine Met.ofW (cc := cX4_addsRuleAt) (maxL := 2) (ret := (some FieldType.int)) (by decide) rfl ?_
  intro p e s m args below meth c s₁ B hml hv
  obtain ⟨rfl, rfl, hE, hI⟩ := hv_open B hml hv
  have hE : hv_E p s m ([.ref (ad 0), .int x1] : List Value).toArray meth c cX4_addsRuleAt 2 (some FieldType.int) RX4 G h := hE
  have hI := ml_I.start hI hS
  obtain ⟨⟨hx, hb, hml, hown, hts⟩, hr, hlocks, -⟩ := id hE
  have hl := lv_entry ([.ref (ad 0), .int x1] : List Value) (n := 2) (Nat.le_of_ble_eq_true rfl)
  rw [lg_entry_eq]
  generalize (lg_sl ([.ref (ad 0), .int x1] : List Value) ++ List.replicate (2 - (lg_sl ([.ref (ad 0), .int x1] : List Value)).length) Slot.unset).toArray = ls at hl ⊢
  have hl : lv_has ls 2 [(0, .ref (ad 0)), (1, .int x1)] := hl
  unfold wp_X4_addsRuleAt at hw
  refine lv_aload_n hx hb dX4_addsRuleAt_0 rfl (lv_at hl 0 rfl) ?_
  refine lv_iload_n hx hb dX4_addsRuleAt_1 rfl (lv_at hl 1 rfl) ?_
  refine ml_put hE hI 32 (by decide) q2017 rfl rfl (ty := .int) rfl rfl rfl (fun _ => rfl) dX4_addsRuleAt_2 (fun H locs hI => ?_)
  refine lv_aload_n hx hb dX4_addsRuleAt_5 rfl (lv_at hl 0 rfl) ?_
  refine lv_iconst (v := 0) hx hb dX4_addsRuleAt_6 (by decide) ?_
  refine ml_put hE hI 35 (by decide) q2020 rfl rfl (ty := .boolean) rfl rfl rfl (fun _ => rfl) dX4_addsRuleAt_7 (fun H locs hI => ?_)
  refine lv_aload_n hx hb dX4_addsRuleAt_10 rfl (lv_at hl 0 rfl) ?_
  refine ml_callv (As := []) (rest := []) (cells := 0) (slots := 0) hE hI (fun h hS => snd_X4_readsRule l G _ h ad (upd (upd F 32 x1) 35 (0 : Int32)) A L _ hS hw) (cwV 0 hts (lw_V q2114 q2116 qs35 q108 q2117) rfl rfl rfl (by decide +kernel) ⟨Nat.le_of_ble_eq_true rfl, Nat.le_of_ble_eq_true rfl⟩) rfl hl.1 (Nat.le_of_ble_eq_true rfl) dX4_addsRuleAt_11 ⟨Nat.le_of_ble_eq_true rfl, Nat.le_of_ble_eq_true rfl⟩ (fun F1 A1 L1 H locs hw hI => ?_)
  refine lv_aload_n hx hb dX4_addsRuleAt_14 rfl (lv_at hl 0 rfl) ?_
  refine ml_calli (As := []) (rest := []) (cells := 0) (slots := 0) hE hI (fun h hS => snd_X4_addsRule l G _ h ad F1 A1 L1 _ hS hw) (cwV 0 hts (lw_V q2153 q2155 qs44 q108 q2156) rfl rfl rfl (by decide +kernel) ⟨Nat.le_of_ble_eq_true rfl, Nat.le_of_ble_eq_true rfl⟩) rfl hl.1 (Nat.le_of_ble_eq_true rfl) dX4_addsRuleAt_15 ⟨Nat.le_of_ble_eq_true rfl, Nat.le_of_ble_eq_true rfl⟩ (fun r2 F2 A2 L2 H locs hw hI => ?_)
  exact ml_iret hE hI hw dX4_addsRuleAt_18

/-- MatchmakerRulesModel.does(I)I -/
abbrev rm_X4_does : Room := { frames := 7, cells := 0, slots := 0, locals := 158 }
def wp_X4_does (F : Nat → Int32) (A : Nat → Nat → Int32) (L : Nat → UInt32) (x1 : Int32) (Q : Int32 → (Nat → Int32) → (Nat → Nat → Int32) → (Nat → UInt32) → Prop) : Prop := (vp_in (((4 : Int32) * x1) + (1 : Int32)) 240 ∧ (vp_in (((4 : Int32) * x1) + (2 : Int32)) 240 ∧ (vp_in ((4 : Int32) * x1) 240 ∧ (((A 9 (Int32.toNatClampNeg ((4 : Int32) * x1))) = (43 : Int32) → (¬ (10 : Int32) = 0 ∧ (¬ (10 : Int32) = 0 ∧ (vp_in (((4 : Int32) * x1) + (3 : Int32)) 240 ∧ wp_X4_tells F A L (A 9 (Int32.toNatClampNeg (((4 : Int32) * x1) + (1 : Int32)))) ((A 9 (Int32.toNatClampNeg (((4 : Int32) * x1) + (2 : Int32)))) / (10 : Int32)) ((A 9 (Int32.toNatClampNeg (((4 : Int32) * x1) + (2 : Int32)))) - (A 9 (Int32.toNatClampNeg (((4 : Int32) * x1) + (2 : Int32)))) / (10 : Int32) * (10 : Int32)) (A 9 (Int32.toNatClampNeg (((4 : Int32) * x1) + (3 : Int32)))) (fun r1 F1 A1 L1 => Q r1 F1 A1 L1))))) ∧ (¬ (A 9 (Int32.toNatClampNeg ((4 : Int32) * x1))) = (43 : Int32) → (((A 9 (Int32.toNatClampNeg ((4 : Int32) * x1))) = (45 : Int32) → wp_X4_untells F A L (A 9 (Int32.toNatClampNeg (((4 : Int32) * x1) + (1 : Int32)))) (fun r2 F2 A2 L2 => Q r2 F2 A2 L2)) ∧ (¬ (A 9 (Int32.toNatClampNeg ((4 : Int32) * x1))) = (45 : Int32) → (((A 9 (Int32.toNatClampNeg ((4 : Int32) * x1))) = (102 : Int32) → wp_X4_runs F A L (A 9 (Int32.toNatClampNeg (((4 : Int32) * x1) + (1 : Int32)))) (fun r3 F3 A3 L3 => Q r3 F3 A3 L3)) ∧ (¬ (A 9 (Int32.toNatClampNeg ((4 : Int32) * x1))) = (102 : Int32) → (((A 9 (Int32.toNatClampNeg ((4 : Int32) * x1))) = (120 : Int32) → wp_X4_drops F A L (A 9 (Int32.toNatClampNeg (((4 : Int32) * x1) + (1 : Int32)))) (fun r4 F4 A4 L4 => Q r4 F4 A4 L4)) ∧ (¬ (A 9 (Int32.toNatClampNeg ((4 : Int32) * x1))) = (120 : Int32) → wp_X4_addsRuleAt F A L (A 9 (Int32.toNatClampNeg (((4 : Int32) * x1) + (1 : Int32)))) (fun r5 F5 A5 L5 => Q r5 F5 A5 L5))))))))))))
set_option maxHeartbeats 4000000 in
theorem snd_X4_does (l : Launch) (G : GG) (sz : Nat) (h : HH) (ad : Nat → Nat) (F : Nat → Int32) (A : Nat → Nat → Int32) (L : Nat → UInt32) (x1 : Int32) (Q : Int32 → (Nat → Int32) → (Nat → Nat → Int32) → (Nat → UInt32) → Prop) (hS : ml_S G h ad F A L) (hw : wp_X4_does F A L x1 Q) : Met l yX4_does (ws_ yX4_does cX4_does 4 (some FieldType.int)) rm_X4_does (hv_Pc G h sz [.ref (ad 0), .int x1]) (hv_Qi G h sz (fun r => ml_Q G h ad (Q r))) 0 0 (hv_A h sz) := by
  refine Met.ofW (cc := cX4_does) (maxL := 4) (ret := (some FieldType.int)) (by decide) rfl ?_
  intro p e s m args below meth c s₁ B hml hv
  obtain ⟨rfl, rfl, hE, hI⟩ := hv_open B hml hv
  have hE : hv_E p s m ([.ref (ad 0), .int x1] : List Value).toArray meth c cX4_does 4 (some FieldType.int) RX4 G h := hE
  have hI := ml_I.start hI hS
  obtain ⟨⟨hx, hb, hml, hown, hts⟩, hr, hlocks, -⟩ := id hE
  have hl := lv_entry ([.ref (ad 0), .int x1] : List Value) (n := 4) (Nat.le_of_ble_eq_true rfl)
  rw [lg_entry_eq]
  generalize (lg_sl ([.ref (ad 0), .int x1] : List Value) ++ List.replicate (4 - (lg_sl ([.ref (ad 0), .int x1] : List Value)).length) Slot.unset).toArray = ls at hl ⊢
  have hl : lv_has ls 4 [(0, .ref (ad 0)), (1, .int x1)] := hl
  unfold wp_X4_does at hw
  refine lv_aload_n hx hb dX4_does_0 rfl (lv_at hl 0 rfl) ?_
  refine ml_get hE hI 9 (by decide) q1994 rfl rfl dX4_does_1 ?_
  refine lv_iconst (v := 4) hx hb dX4_does_4 (by decide) ?_
  refine lv_iload_n hx hb dX4_does_5 rfl (lv_at hl 1 rfl) ?_
  refine lv_imul hx hb dX4_does_6 ?_
  refine lv_iconst (v := 1) hx hb dX4_does_7 (by decide) ?_
  refine lv_iadd hx hb dX4_does_8 ?_
  obtain ⟨hin, hw⟩ := hw
  refine ml_iald hE hI 9 rfl rfl rfl hin dX4_does_9 ?_
  refine lv_istore_n (lv' := [(2, .int (A 9 (Int32.toNatClampNeg (((4 : Int32) * x1) + (1 : Int32))))), (0, .ref (ad 0)), (1, .int x1)]) hx hb dX4_does_10 rfl hl (by decide) rfl (fun ls hl => ?_)
  refine lv_aload_n hx hb dX4_does_11 rfl (lv_at hl 1 rfl) ?_
  refine ml_get hE hI 9 (by decide) q1994 rfl rfl dX4_does_12 ?_
  refine lv_iconst (v := 4) hx hb dX4_does_15 (by decide) ?_
  refine lv_iload_n hx hb dX4_does_16 rfl (lv_at hl 2 rfl) ?_
  refine lv_imul hx hb dX4_does_17 ?_
  refine lv_iconst (v := 2) hx hb dX4_does_18 (by decide) ?_
  refine lv_iadd hx hb dX4_does_19 ?_
  obtain ⟨hin, hw⟩ := hw
  refine ml_iald hE hI 9 rfl rfl rfl hin dX4_does_20 ?_
  refine lv_istore_n (lv' := [(3, .int (A 9 (Int32.toNatClampNeg (((4 : Int32) * x1) + (2 : Int32))))), (2, .int (A 9 (Int32.toNatClampNeg (((4 : Int32) * x1) + (1 : Int32))))), (0, .ref (ad 0)), (1, .int x1)]) hx hb dX4_does_21 rfl hl (by decide) rfl (fun ls hl => ?_)
  refine lv_aload_n hx hb dX4_does_22 rfl (lv_at hl 2 rfl) ?_
  refine ml_get hE hI 9 (by decide) q1994 rfl rfl dX4_does_23 ?_
  refine lv_iconst (v := 4) hx hb dX4_does_26 (by decide) ?_
  refine lv_iload_n hx hb dX4_does_27 rfl (lv_at hl 3 rfl) ?_
  refine lv_imul hx hb dX4_does_28 ?_
  obtain ⟨hin, hw⟩ := hw
  refine ml_iald hE hI 9 rfl rfl rfl hin dX4_does_29 ?_
  by_cases s30_43 : (A 9 (Int32.toNatClampNeg ((4 : Int32) * x1))) = (43 : Int32)
  · have hw := hw.1 s30_43
    refine lv_lookup (tgt := 72) (off := 42) hx hb dX4_does_30 (by decide) (by rw [s30_43]; decide) (by decide) ?_
    refine lv_aload_n hx hb dX4_does_72 rfl (lv_at hl 2 rfl) ?_
    refine lv_iload_n hx hb dX4_does_73 rfl (lv_at hl 1 rfl) ?_
    refine lv_iload_n hx hb dX4_does_74 rfl (lv_at hl 0 rfl) ?_
    refine lv_bipush (v := 10) hx hb dX4_does_75 (by decide) ?_
    obtain ⟨hne, hw⟩ := hw
    refine lv_idiv hx hb dX4_does_77 hne ?_
    refine lv_iload_n hx hb dX4_does_78 rfl (lv_at hl 0 rfl) ?_
    refine lv_bipush (v := 10) hx hb dX4_does_79 (by decide) ?_
    obtain ⟨hne, hw⟩ := hw
    refine lv_irem hx hb dX4_does_81 hne ?_
    refine lv_aload_n hx hb dX4_does_82 rfl (lv_at hl 2 rfl) ?_
    refine ml_get hE hI 9 (by decide) q1994 rfl rfl dX4_does_83 ?_
    refine lv_iconst (v := 4) hx hb dX4_does_86 (by decide) ?_
    refine lv_iload_n hx hb dX4_does_87 rfl (lv_at hl 3 rfl) ?_
    refine lv_imul hx hb dX4_does_88 ?_
    refine lv_iconst (v := 3) hx hb dX4_does_89 (by decide) ?_
    refine lv_iadd hx hb dX4_does_90 ?_
    obtain ⟨hin, hw⟩ := hw
    refine ml_iald hE hI 9 rfl rfl rfl hin dX4_does_91 ?_
    refine ml_calli (As := [.int (A 9 (Int32.toNatClampNeg (((4 : Int32) * x1) + (1 : Int32)))), .int ((A 9 (Int32.toNatClampNeg (((4 : Int32) * x1) + (2 : Int32)))) / (10 : Int32)), .int ((A 9 (Int32.toNatClampNeg (((4 : Int32) * x1) + (2 : Int32)))) - (A 9 (Int32.toNatClampNeg (((4 : Int32) * x1) + (2 : Int32)))) / (10 : Int32) * (10 : Int32)), .int (A 9 (Int32.toNatClampNeg (((4 : Int32) * x1) + (3 : Int32))))]) (rest := []) (cells := 0) (slots := 0) hE hI (fun h hS => snd_X4_tells l G _ h ad F A L (A 9 (Int32.toNatClampNeg (((4 : Int32) * x1) + (1 : Int32)))) ((A 9 (Int32.toNatClampNeg (((4 : Int32) * x1) + (2 : Int32)))) / (10 : Int32)) ((A 9 (Int32.toNatClampNeg (((4 : Int32) * x1) + (2 : Int32)))) - (A 9 (Int32.toNatClampNeg (((4 : Int32) * x1) + (2 : Int32)))) / (10 : Int32) * (10 : Int32)) (A 9 (Int32.toNatClampNeg (((4 : Int32) * x1) + (3 : Int32)))) _ hS hw) (cwV 4 hts (lw_V q2218 q2220 qs58 q108 q2221) rfl rfl rfl (by decide +kernel) ⟨Nat.le_of_ble_eq_true rfl, Nat.le_of_ble_eq_true rfl⟩) rfl hl.1 (Nat.le_of_ble_eq_true rfl) dX4_does_92 ⟨Nat.le_of_ble_eq_true rfl, Nat.le_of_ble_eq_true rfl⟩ (fun r1 F1 A1 L1 H locs hw hI => ?_)
    exact ml_iret hE hI hw dX4_does_95
  · have hw := hw.2 s30_43
    by_cases s30_45 : (A 9 (Int32.toNatClampNeg ((4 : Int32) * x1))) = (45 : Int32)
    · have hw := hw.1 s30_45
      refine lv_lookup (tgt := 96) (off := 66) hx hb dX4_does_30 (by decide) (by rw [s30_45]; decide) (by decide) ?_
      refine lv_aload_n hx hb dX4_does_96 rfl (lv_at hl 2 rfl) ?_
      refine lv_iload_n hx hb dX4_does_97 rfl (lv_at hl 1 rfl) ?_
      refine ml_calli (As := [.int (A 9 (Int32.toNatClampNeg (((4 : Int32) * x1) + (1 : Int32))))]) (rest := []) (cells := 0) (slots := 0) hE hI (fun h hS => snd_X4_untells l G _ h ad F A L (A 9 (Int32.toNatClampNeg (((4 : Int32) * x1) + (1 : Int32)))) _ hS hw) (cwV 1 hts (lw_V q2236 q2238 qs61 q108 q2239) rfl rfl rfl (by decide +kernel) ⟨Nat.le_of_ble_eq_true rfl, Nat.le_of_ble_eq_true rfl⟩) rfl hl.1 (Nat.le_of_ble_eq_true rfl) dX4_does_98 ⟨Nat.le_of_ble_eq_true rfl, Nat.le_of_ble_eq_true rfl⟩ (fun r2 F2 A2 L2 H locs hw hI => ?_)
      exact ml_iret hE hI hw dX4_does_101
    · have hw := hw.2 s30_45
      by_cases s30_102 : (A 9 (Int32.toNatClampNeg ((4 : Int32) * x1))) = (102 : Int32)
      · have hw := hw.1 s30_102
        refine lv_lookup (tgt := 102) (off := 72) hx hb dX4_does_30 (by decide) (by rw [s30_102]; decide) (by decide) ?_
        refine lv_aload_n hx hb dX4_does_102 rfl (lv_at hl 2 rfl) ?_
        refine lv_iload_n hx hb dX4_does_103 rfl (lv_at hl 1 rfl) ?_
        refine ml_calli (As := [.int (A 9 (Int32.toNatClampNeg (((4 : Int32) * x1) + (1 : Int32))))]) (rest := []) (cells := 0) (slots := 0) hE hI (fun h hS => snd_X4_runs l G _ h ad F A L (A 9 (Int32.toNatClampNeg (((4 : Int32) * x1) + (1 : Int32)))) _ hS hw) (cwV 1 hts (lw_V q2367 q2369 qs81 q108 q2370) rfl rfl rfl (by decide +kernel) ⟨Nat.le_of_ble_eq_true rfl, Nat.le_of_ble_eq_true rfl⟩) rfl hl.1 (Nat.le_of_ble_eq_true rfl) dX4_does_104 ⟨Nat.le_of_ble_eq_true rfl, Nat.le_of_ble_eq_true rfl⟩ (fun r3 F3 A3 L3 H locs hw hI => ?_)
        exact ml_iret hE hI hw dX4_does_107
      · have hw := hw.2 s30_102
        by_cases s30_120 : (A 9 (Int32.toNatClampNeg ((4 : Int32) * x1))) = (120 : Int32)
        · have hw := hw.1 s30_120
          refine lv_lookup (tgt := 108) (off := 78) hx hb dX4_does_30 (by decide) (by rw [s30_120]; decide) (by decide) ?_
          refine lv_aload_n hx hb dX4_does_108 rfl (lv_at hl 2 rfl) ?_
          refine lv_iload_n hx hb dX4_does_109 rfl (lv_at hl 1 rfl) ?_
          refine ml_calli (As := [.int (A 9 (Int32.toNatClampNeg (((4 : Int32) * x1) + (1 : Int32))))]) (rest := []) (cells := 0) (slots := 0) hE hI (fun h hS => snd_X4_drops l G _ h ad F A L (A 9 (Int32.toNatClampNeg (((4 : Int32) * x1) + (1 : Int32)))) _ hS hw) (cwV 1 hts (lw_V q2178 q2180 qs49 q108 q2181) rfl rfl rfl (by decide +kernel) ⟨Nat.le_of_ble_eq_true rfl, Nat.le_of_ble_eq_true rfl⟩) rfl hl.1 (Nat.le_of_ble_eq_true rfl) dX4_does_110 ⟨Nat.le_of_ble_eq_true rfl, Nat.le_of_ble_eq_true rfl⟩ (fun r4 F4 A4 L4 H locs hw hI => ?_)
          exact ml_iret hE hI hw dX4_does_113
        · have hw := hw.2 s30_120
          refine lv_lookup (tgt := 114) (off := 84) hx hb dX4_does_30 (by decide) (by refine (lv_osw s30_43 (by decide)).trans ?_; refine (lv_osw s30_45 (by decide)).trans ?_; refine (lv_osw s30_102 (by decide)).trans ?_; refine (lv_osw s30_120 (by decide)).trans ?_; rfl) (by decide) ?_
          refine lv_aload_n hx hb dX4_does_114 rfl (lv_at hl 2 rfl) ?_
          refine lv_iload_n hx hb dX4_does_115 rfl (lv_at hl 1 rfl) ?_
          refine ml_calli (As := [.int (A 9 (Int32.toNatClampNeg (((4 : Int32) * x1) + (1 : Int32))))]) (rest := []) (cells := 0) (slots := 0) hE hI (fun h hS => snd_X4_addsRuleAt l G _ h ad F A L (A 9 (Int32.toNatClampNeg (((4 : Int32) * x1) + (1 : Int32)))) _ hS hw) (cwV 1 hts (lw_V q2483 q2485 qs95 q108 q2486) rfl rfl rfl (by decide +kernel) ⟨Nat.le_of_ble_eq_true rfl, Nat.le_of_ble_eq_true rfl⟩) rfl hl.1 (Nat.le_of_ble_eq_true rfl) dX4_does_116 ⟨Nat.le_of_ble_eq_true rfl, Nat.le_of_ble_eq_true rfl⟩ (fun r5 F5 A5 L5 H locs hw hI => ?_)
          exact ml_iret hE hI hw dX4_does_119

/-- MatchmakerRulesModel.read()I -/
abbrev rm_X4_read : Room := { frames := 8, cells := 0, slots := 0, locals := 181 }
def wp_X4_read_L87 (Q : Int32 → (Nat → Int32) → (Nat → Nat → Int32) → (Nat → UInt32) → Prop) (F : Nat → Int32) (A : Nat → Nat → Int32) (L : Nat → UInt32) : Prop := wp_X4_fails (upd F 25 (F 32)) A L (1 : Int32) (fun r3 F3 A3 L3 => Q r3 F3 A3 L3)
set_option maxHeartbeats 4000000 in
theorem snd_X4_read_L87 {p : Program} {l : Launch} {e : Env} {s : State} {m : MethodId} {args : Array Value} {below : List Frame} {meth : Method} {c : Code} {G : GG} {h0 : HH} {ad : Nat → Nat} (hE : hv_E p s m args meth c cX4_read 4 (some FieldType.int) RX4 G h0) (Q : Int32 → (Nat → Int32) → (Nat → Nat → Int32) → (Nat → UInt32) → Prop) : ∀ (F : Nat → Int32) (A : Nat → Nat → Int32) (L : Nat → UInt32), wp_X4_read_L87 Q F A L → ∀ (H : Heap) (locs : List Loc) (ls : Array Slot), ml_I G h0 s.heap ad F A L H locs → lv_has ls 4 [(0, .ref (ad 0))] → W p l e (headSpec (ws_ yX4_read cX4_read 4 (some FieldType.int)) rm_X4_read).room s m args below meth c H locs 0 0 (MQ below (hv_Qi G h0 s.heap.size (fun r => ml_Q G h0 ad (Q r))) args s 0 0 (hv_A h0 s.heap.size)) (F0 m 87 ls []) := by
  obtain ⟨⟨hx, hb, hml, hown, hts⟩, hr, hlocks, -⟩ := id hE
  intro F A L hw H locs ls hI hl
  unfold wp_X4_read_L87 at hw
  refine lv_aload_n hx hb dX4_read_87 rfl (lv_at hl 0 rfl) ?_
  refine lv_aload_n hx hb dX4_read_88 rfl (lv_at hl 0 rfl) ?_
  refine ml_get hE hI 32 (by decide) q2017 rfl rfl dX4_read_89 ?_
  refine ml_put hE hI 25 (by decide) q2010 rfl rfl (ty := .int) rfl rfl rfl (fun _ => rfl) dX4_read_92 (fun H locs hI => ?_)
  refine lv_aload_n hx hb dX4_read_95 rfl (lv_at hl 0 rfl) ?_
  refine lv_iconst (v := 1) hx hb dX4_read_96 (by decide) ?_
  refine ml_calli (As := [.int (1 : Int32)]) (rest := []) (cells := 0) (slots := 0) hE hI (fun h hS => snd_X4_fails l G _ h ad (upd F 25 (F 32)) A L (1 : Int32) _ hS hw) (cwV 1 hts (lw_V q2149 q2151 qs43 q108 q2152) rfl rfl rfl (by decide +kernel) ⟨Nat.le_of_ble_eq_true rfl, Nat.le_of_ble_eq_true rfl⟩) rfl hl.1 (Nat.le_of_ble_eq_true rfl) dX4_read_97 ⟨Nat.le_of_ble_eq_true rfl, Nat.le_of_ble_eq_true rfl⟩ (fun r3 F3 A3 L3 H locs hw hI => ?_)
  exact ml_iret hE hI hw dX4_read_100
def wp_X4_read_L126 (Q : Int32 → (Nat → Int32) → (Nat → Nat → Int32) → (Nat → UInt32) → Prop) : Nat → (Nat → Int32) → (Nat → Nat → Int32) → (Nat → UInt32) → (Int32) → (Int32) → (Int32) → Prop
  | 0, _, _, _, _, _, _ => False
  | n + 1, F, A, L, x1, x2, x3 => (((13675 : Int32) ≤ x3 → wp_X4_ends (upd F 26 x1) A L x2 (2 : Int32) (fun r6 F6 A6 L6 => wp_X4_fails F6 A6 L6 (2 : Int32) (fun r7 F7 A7 L7 => Q r7 F7 A7 L7))) ∧ (¬ (13675 : Int32) ≤ x3 → (vp_in x3 13675 ∧ (vp_in x3 13675 ∧ wp_X4_read_L126 Q n F (ml_up A 1 (Int32.toNatClampNeg x3) (A 2 (Int32.toNatClampNeg x3))) L x1 x2 (x3 + (1 : Int32))))))
set_option maxHeartbeats 4000000 in
theorem snd_X4_read_L126 {p : Program} {l : Launch} {e : Env} {s : State} {m : MethodId} {args : Array Value} {below : List Frame} {meth : Method} {c : Code} {G : GG} {h0 : HH} {ad : Nat → Nat} (hE : hv_E p s m args meth c cX4_read 4 (some FieldType.int) RX4 G h0) (Q : Int32 → (Nat → Int32) → (Nat → Nat → Int32) → (Nat → UInt32) → Prop) : ∀ (n : Nat) (F : Nat → Int32) (A : Nat → Nat → Int32) (L : Nat → UInt32) (x1 : Int32) (x2 : Int32) (x3 : Int32), wp_X4_read_L126 Q n F A L x1 x2 x3 → ∀ (H : Heap) (locs : List Loc) (ls : Array Slot), ml_I G h0 s.heap ad F A L H locs → lv_has ls 4 [(0, .ref (ad 0)), (1, .int x1), (2, .int x2), (3, .int x3)] → W p l e (headSpec (ws_ yX4_read cX4_read 4 (some FieldType.int)) rm_X4_read).room s m args below meth c H locs 0 0 (MQ below (hv_Qi G h0 s.heap.size (fun r => ml_Q G h0 ad (Q r))) args s 0 0 (hv_A h0 s.heap.size)) (F0 m 126 ls []) := by
  obtain ⟨⟨hx, hb, hml, hown, hts⟩, hr, hlocks, -⟩ := id hE
  intro n
  induction n with
  | zero => intro F A L x1 x2 x3 hw; exact hw.elim
  | succ n ih =>
    intro F A L x1 x2 x3 hw H locs ls hI hl
    unfold wp_X4_read_L126 at hw
    refine lv_iload_n hx hb dX4_read_126 rfl (lv_at hl 3 rfl) ?_
    refine lv_sipush (v := 13675) hx hb dX4_read_127 (by decide) ?_
    refine lv_icmp_ge (tgt := 151) hx hb dX4_read_130 (by decide) (fun c_130 => ?_) (fun c_130 => ?_)
    · have hw := hw.1 c_130
      refine lv_aload_n hx hb dX4_read_151 rfl (lv_at hl 0 rfl) ?_
      refine lv_iload_n hx hb dX4_read_152 rfl (lv_at hl 1 rfl) ?_
      refine ml_put hE hI 26 (by decide) q2011 rfl rfl (ty := .int) rfl rfl rfl (fun _ => rfl) dX4_read_153 (fun H locs hI => ?_)
      refine lv_aload_n hx hb dX4_read_156 rfl (lv_at hl 0 rfl) ?_
      refine lv_iload_n hx hb dX4_read_157 rfl (lv_at hl 2 rfl) ?_
      refine lv_iconst (v := 2) hx hb dX4_read_158 (by decide) ?_
      refine ml_calli (As := [.int x2, .int (2 : Int32)]) (rest := []) (cells := 0) (slots := 0) hE hI (fun h hS => snd_X4_ends l G _ h ad (upd F 26 x1) A L x2 (2 : Int32) _ hS hw) (cwV 2 hts (lw_V q2165 q2167 qs47 q108 q2168) rfl rfl rfl (by decide +kernel) ⟨Nat.le_of_ble_eq_true rfl, Nat.le_of_ble_eq_true rfl⟩) rfl hl.1 (Nat.le_of_ble_eq_true rfl) dX4_read_159 ⟨Nat.le_of_ble_eq_true rfl, Nat.le_of_ble_eq_true rfl⟩ (fun r6 F6 A6 L6 H locs hw hI => ?_)
      refine lv_istore_n (lv' := [(3, .int r6), (0, .ref (ad 0)), (1, .int x1), (2, .int x2)]) hx hb dX4_read_162 rfl hl (by decide) rfl (fun ls hl => ?_)
      refine lv_aload_n hx hb dX4_read_163 rfl (lv_at hl 1 rfl) ?_
      refine lv_iconst (v := 2) hx hb dX4_read_164 (by decide) ?_
      refine ml_calli (As := [.int (2 : Int32)]) (rest := []) (cells := 0) (slots := 0) hE hI (fun h hS => snd_X4_fails l G _ h ad F6 A6 L6 (2 : Int32) _ hS hw) (cwV 1 hts (lw_V q2149 q2151 qs43 q108 q2152) rfl rfl rfl (by decide +kernel) ⟨Nat.le_of_ble_eq_true rfl, Nat.le_of_ble_eq_true rfl⟩) rfl hl.1 (Nat.le_of_ble_eq_true rfl) dX4_read_165 ⟨Nat.le_of_ble_eq_true rfl, Nat.le_of_ble_eq_true rfl⟩ (fun r7 F7 A7 L7 H locs hw hI => ?_)
      exact ml_iret hE hI hw dX4_read_168
    · have hw := hw.2 c_130
      refine lv_aload_n hx hb dX4_read_133 rfl (lv_at hl 0 rfl) ?_
      refine ml_get hE hI 1 (by decide) q1986 rfl rfl dX4_read_134 ?_
      refine lv_iload_n hx hb dX4_read_137 rfl (lv_at hl 3 rfl) ?_
      refine lv_aload_n hx hb dX4_read_138 rfl (lv_at hl 0 rfl) ?_
      refine ml_get hE hI 2 (by decide) q1987 rfl rfl dX4_read_139 ?_
      refine lv_iload_n hx hb dX4_read_142 rfl (lv_at hl 3 rfl) ?_
      obtain ⟨hin, hw⟩ := hw
      refine ml_iald hE hI 2 rfl rfl rfl hin dX4_read_143 ?_
      obtain ⟨hin, hw⟩ := hw
      refine ml_iast hE hI 1 rfl rfl rfl hin dX4_read_144 (fun H locs hI => ?_)
      refine lv_iinc (v := (x3 + (1 : Int32))) (lv' := [(3, .int (x3 + (1 : Int32))), (0, .ref (ad 0)), (1, .int x1), (2, .int x2)]) hx hb dX4_read_145 hl (k := 3) rfl rfl (by decide) rfl (fun ls hl => ?_)
      refine lv_goto (tgt := 126) hx hb dX4_read_148 (by decide) ?_
      exact ih F (ml_up A 1 (Int32.toNatClampNeg x3) (A 2 (Int32.toNatClampNeg x3))) L x1 x2 (x3 + (1 : Int32)) hw _ _ _ hI (lv_sub hl [1, 2, 3, 0] rfl)
def wp_X4_read_L103 (Q : Int32 → (Nat → Int32) → (Nat → Nat → Int32) → (Nat → UInt32) → Prop) : Nat → (Nat → Int32) → (Nat → Nat → Int32) → (Nat → UInt32) → (Int32) → Prop
  | 0, _, _, _, _ => False
  | n + 1, F, A, L, x1 => (((F 34) ≤ x1 → wp_X4_changed F A L (F 34) (fun r4 F4 A4 L4 => Q r4 F4 A4 L4)) ∧ (¬ (F 34) ≤ x1 → wp_X4_does F A L x1 (fun r5 F5 A5 L5 => ((¬ r5 = 0 → (∃ n126, wp_X4_read_L126 Q n126 F5 A5 L5 x1 r5 (0 : Int32))) ∧ (r5 = 0 → wp_X4_read_L103 Q n F5 A5 L5 (x1 + (1 : Int32)))))))
set_option maxHeartbeats 4000000 in
theorem snd_X4_read_L103 {p : Program} {l : Launch} {e : Env} {s : State} {m : MethodId} {args : Array Value} {below : List Frame} {meth : Method} {c : Code} {G : GG} {h0 : HH} {ad : Nat → Nat} (hE : hv_E p s m args meth c cX4_read 4 (some FieldType.int) RX4 G h0) (Q : Int32 → (Nat → Int32) → (Nat → Nat → Int32) → (Nat → UInt32) → Prop) : ∀ (n : Nat) (F : Nat → Int32) (A : Nat → Nat → Int32) (L : Nat → UInt32) (x1 : Int32), wp_X4_read_L103 Q n F A L x1 → ∀ (H : Heap) (locs : List Loc) (ls : Array Slot), ml_I G h0 s.heap ad F A L H locs → lv_has ls 4 [(0, .ref (ad 0)), (1, .int x1)] → W p l e (headSpec (ws_ yX4_read cX4_read 4 (some FieldType.int)) rm_X4_read).room s m args below meth c H locs 0 0 (MQ below (hv_Qi G h0 s.heap.size (fun r => ml_Q G h0 ad (Q r))) args s 0 0 (hv_A h0 s.heap.size)) (F0 m 103 ls []) := by
  obtain ⟨⟨hx, hb, hml, hown, hts⟩, hr, hlocks, -⟩ := id hE
  intro n
  induction n with
  | zero => intro F A L x1 hw; exact hw.elim
  | succ n ih =>
    intro F A L x1 hw H locs ls hI hl
    unfold wp_X4_read_L103 at hw
    refine lv_iload_n hx hb dX4_read_103 rfl (lv_at hl 1 rfl) ?_
    refine lv_aload_n hx hb dX4_read_104 rfl (lv_at hl 0 rfl) ?_
    refine ml_get hE hI 34 (by decide) q2019 rfl rfl dX4_read_105 ?_
    refine lv_icmp_ge (tgt := 175) hx hb dX4_read_108 (by decide) (fun c_108 => ?_) (fun c_108 => ?_)
    · have hw := hw.1 c_108
      refine lv_aload_n hx hb dX4_read_175 rfl (lv_at hl 0 rfl) ?_
      refine lv_aload_n hx hb dX4_read_176 rfl (lv_at hl 0 rfl) ?_
      refine ml_get hE hI 34 (by decide) q2019 rfl rfl dX4_read_177 ?_
      refine ml_calli (As := [.int (F 34)]) (rest := []) (cells := 0) (slots := 0) hE hI (fun h hS => snd_X4_changed l G _ h ad F A L (F 34) _ hS hw) (cwV 1 hts (lw_V q2169 q2171 qs48 q108 q2172) rfl rfl rfl (by decide +kernel) ⟨Nat.le_of_ble_eq_true rfl, Nat.le_of_ble_eq_true rfl⟩) rfl hl.1 (Nat.le_of_ble_eq_true rfl) dX4_read_180 ⟨Nat.le_of_ble_eq_true rfl, Nat.le_of_ble_eq_true rfl⟩ (fun r4 F4 A4 L4 H locs hw hI => ?_)
      exact ml_iret hE hI hw dX4_read_183
    · have hw := hw.2 c_108
      refine lv_aload_n hx hb dX4_read_111 rfl (lv_at hl 0 rfl) ?_
      refine lv_iload_n hx hb dX4_read_112 rfl (lv_at hl 1 rfl) ?_
      refine ml_calli (As := [.int x1]) (rest := []) (cells := 0) (slots := 0) hE hI (fun h hS => snd_X4_does l G _ h ad F A L x1 _ hS hw) (cwV 1 hts (lw_V q2479 q2481 qs94 q108 q2482) rfl rfl rfl (by decide +kernel) ⟨Nat.le_of_ble_eq_true rfl, Nat.le_of_ble_eq_true rfl⟩) rfl hl.1 (Nat.le_of_ble_eq_true rfl) dX4_read_113 ⟨Nat.le_of_ble_eq_true rfl, Nat.le_of_ble_eq_true rfl⟩ (fun r5 F5 A5 L5 H locs hw hI => ?_)
      refine lv_istore_n (lv' := [(2, .int r5), (0, .ref (ad 0)), (1, .int x1)]) hx hb dX4_read_116 rfl hl (by decide) rfl (fun ls hl => ?_)
      refine lv_iload_n hx hb dX4_read_117 rfl (lv_at hl 0 rfl) ?_
      refine lv_if_ne (tgt := 124) hx hb dX4_read_118 (by decide) (fun c_118 => ?_) (fun c_118 => ?_)
      · have hw := hw.1 c_118
        refine lv_iconst (v := 0) hx hb dX4_read_124 (by decide) ?_
        refine lv_istore_n (lv' := [(3, .int (0 : Int32)), (2, .int r5), (0, .ref (ad 0)), (1, .int x1)]) hx hb dX4_read_125 rfl hl (by decide) rfl (fun ls hl => ?_)
        obtain ⟨n126, hw⟩ := hw
        exact snd_X4_read_L126 hE Q n126 F5 A5 L5 x1 r5 (0 : Int32) hw _ _ _ hI (lv_sub hl [2, 3, 1, 0] rfl)
      · have hw := hw.2 c_118
        refine lv_goto (tgt := 169) hx hb dX4_read_121 (by decide) ?_
        refine lv_iinc (v := (x1 + (1 : Int32))) (lv' := [(1, .int (x1 + (1 : Int32))), (2, .int r5), (0, .ref (ad 0))]) hx hb dX4_read_169 hl (k := 2) rfl rfl (by decide) rfl (fun ls hl => ?_)
        refine lv_goto (tgt := 103) hx hb dX4_read_172 (by decide) ?_
        exact ih F5 A5 L5 (x1 + (1 : Int32)) hw _ _ _ hI (lv_sub hl [2, 0] rfl)
def wp_X4_read_L69 (Q : Int32 → (Nat → Int32) → (Nat → Nat → Int32) → (Nat → UInt32) → Prop) (F : Nat → Int32) (A : Nat → Nat → Int32) (L : Nat → UInt32) : Prop := ((¬ (F 35) = 0 → wp_X4_read_L87 Q F A L) ∧ ((F 35) = 0 → (((F 33) ≤ (F 32) → (∃ n103, wp_X4_read_L103 Q n103 F A L (0 : Int32))) ∧ (¬ (F 33) ≤ (F 32) → wp_X4_read_L87 Q F A L))))
set_option maxHeartbeats 4000000 in
theorem snd_X4_read_L69 {p : Program} {l : Launch} {e : Env} {s : State} {m : MethodId} {args : Array Value} {below : List Frame} {meth : Method} {c : Code} {G : GG} {h0 : HH} {ad : Nat → Nat} (hE : hv_E p s m args meth c cX4_read 4 (some FieldType.int) RX4 G h0) (Q : Int32 → (Nat → Int32) → (Nat → Nat → Int32) → (Nat → UInt32) → Prop) : ∀ (F : Nat → Int32) (A : Nat → Nat → Int32) (L : Nat → UInt32), wp_X4_read_L69 Q F A L → ∀ (H : Heap) (locs : List Loc) (ls : Array Slot), ml_I G h0 s.heap ad F A L H locs → lv_has ls 4 [(0, .ref (ad 0))] → W p l e (headSpec (ws_ yX4_read cX4_read 4 (some FieldType.int)) rm_X4_read).room s m args below meth c H locs 0 0 (MQ below (hv_Qi G h0 s.heap.size (fun r => ml_Q G h0 ad (Q r))) args s 0 0 (hv_A h0 s.heap.size)) (F0 m 69 ls []) := by
  obtain ⟨⟨hx, hb, hml, hown, hts⟩, hr, hlocks, -⟩ := id hE
  intro F A L hw H locs ls hI hl
  unfold wp_X4_read_L69 at hw
  refine lv_aload_n hx hb dX4_read_69 rfl (lv_at hl 0 rfl) ?_
  refine ml_get hE hI 35 (by decide) q2020 rfl rfl dX4_read_70 ?_
  refine lv_if_ne (tgt := 87) hx hb dX4_read_73 (by decide) (fun c_73 => ?_) (fun c_73 => ?_)
  · have hw := hw.1 c_73
    exact snd_X4_read_L87 hE Q F A L hw _ _ _ hI (lv_sub hl [0] rfl)
  · have hw := hw.2 c_73
    refine lv_aload_n hx hb dX4_read_76 rfl (lv_at hl 0 rfl) ?_
    refine ml_get hE hI 32 (by decide) q2017 rfl rfl dX4_read_77 ?_
    refine lv_aload_n hx hb dX4_read_80 rfl (lv_at hl 0 rfl) ?_
    refine ml_get hE hI 33 (by decide) q2018 rfl rfl dX4_read_81 ?_
    refine lv_icmp_ge (tgt := 101) hx hb dX4_read_84 (by decide) (fun c_84 => ?_) (fun c_84 => ?_)
    · have hw := hw.1 c_84
      refine lv_iconst (v := 0) hx hb dX4_read_101 (by decide) ?_
      refine lv_istore_n (lv' := [(1, .int (0 : Int32)), (0, .ref (ad 0))]) hx hb dX4_read_102 rfl hl (by decide) rfl (fun ls hl => ?_)
      obtain ⟨n103, hw⟩ := hw
      exact snd_X4_read_L103 hE Q n103 F A L (0 : Int32) hw _ _ _ hI (lv_sub hl [1, 0] rfl)
    · have hw := hw.2 c_84
      exact snd_X4_read_L87 hE Q F A L hw _ _ _ hI (lv_sub hl [0] rfl)
def wp_X4_read_L36 (Q : Int32 → (Nat → Int32) → (Nat → Nat → Int32) → (Nat → UInt32) → Prop) : Nat → (Nat → Int32) → (Nat → Nat → Int32) → (Nat → UInt32) → Prop
  | 0, _, _, _ => False
  | n + 1, F, A, L => ((¬ (F 35) = 0 → wp_X4_read_L69 Q F A L) ∧ ((F 35) = 0 → wp_X4_here F A L (fun r8 F8 A8 L8 => ((¬ r8 = (59 : Int32) → wp_X4_read_L69 Q F8 A8 L8) ∧ (r8 = (59 : Int32) → wp_X4_readsOne (upd F8 32 ((F8 32) + (1 : Int32))) A8 L8 (fun F9 A9 L9 => wp_X4_read_L36 Q n F9 A9 L9))))))
set_option maxHeartbeats 4000000 in
theorem snd_X4_read_L36 {p : Program} {l : Launch} {e : Env} {s : State} {m : MethodId} {args : Array Value} {below : List Frame} {meth : Method} {c : Code} {G : GG} {h0 : HH} {ad : Nat → Nat} (hE : hv_E p s m args meth c cX4_read 4 (some FieldType.int) RX4 G h0) (Q : Int32 → (Nat → Int32) → (Nat → Nat → Int32) → (Nat → UInt32) → Prop) : ∀ (n : Nat) (F : Nat → Int32) (A : Nat → Nat → Int32) (L : Nat → UInt32), wp_X4_read_L36 Q n F A L → ∀ (H : Heap) (locs : List Loc) (ls : Array Slot), ml_I G h0 s.heap ad F A L H locs → lv_has ls 4 [(0, .ref (ad 0))] → W p l e (headSpec (ws_ yX4_read cX4_read 4 (some FieldType.int)) rm_X4_read).room s m args below meth c H locs 0 0 (MQ below (hv_Qi G h0 s.heap.size (fun r => ml_Q G h0 ad (Q r))) args s 0 0 (hv_A h0 s.heap.size)) (F0 m 36 ls []) := by
  obtain ⟨⟨hx, hb, hml, hown, hts⟩, hr, hlocks, -⟩ := id hE
  intro n
  induction n with
  | zero => intro F A L hw; exact hw.elim
  | succ n ih =>
    intro F A L hw H locs ls hI hl
    unfold wp_X4_read_L36 at hw
    refine lv_aload_n hx hb dX4_read_36 rfl (lv_at hl 0 rfl) ?_
    refine ml_get hE hI 35 (by decide) q2020 rfl rfl dX4_read_37 ?_
    refine lv_if_ne (tgt := 69) hx hb dX4_read_40 (by decide) (fun c_40 => ?_) (fun c_40 => ?_)
    · have hw := hw.1 c_40
      exact snd_X4_read_L69 hE Q F A L hw _ _ _ hI (lv_sub hl [0] rfl)
    · have hw := hw.2 c_40
      refine lv_aload_n hx hb dX4_read_43 rfl (lv_at hl 0 rfl) ?_
      refine ml_calli (As := []) (rest := []) (cells := 0) (slots := 0) hE hI (fun h hS => snd_X4_here l G _ h ad F A L _ hS hw) (cwV 0 hts (lw_V q2126 q2128 qs38 q108 q2129) rfl rfl rfl (by decide +kernel) ⟨Nat.le_of_ble_eq_true rfl, Nat.le_of_ble_eq_true rfl⟩) rfl hl.1 (Nat.le_of_ble_eq_true rfl) dX4_read_44 ⟨Nat.le_of_ble_eq_true rfl, Nat.le_of_ble_eq_true rfl⟩ (fun r8 F8 A8 L8 H locs hw hI => ?_)
      refine lv_bipush (v := 59) hx hb dX4_read_47 (by decide) ?_
      refine lv_icmp_ne (tgt := 69) hx hb dX4_read_49 (by decide) (fun c_49 => ?_) (fun c_49 => ?_)
      · have hw := hw.1 c_49
        exact snd_X4_read_L69 hE Q F8 A8 L8 hw _ _ _ hI (lv_sub hl [0] rfl)
      · have hw := hw.2 c_49
        refine lv_aload_n hx hb dX4_read_52 rfl (lv_at hl 0 rfl) ?_
        refine lv_dup hx hb dX4_read_53 rfl ?_
        refine ml_get hE hI 32 (by decide) q2017 rfl rfl dX4_read_54 ?_
        refine lv_iconst (v := 1) hx hb dX4_read_57 (by decide) ?_
        refine lv_iadd hx hb dX4_read_58 ?_
        refine ml_put hE hI 32 (by decide) q2017 rfl rfl (ty := .int) rfl rfl rfl (fun _ => rfl) dX4_read_59 (fun H locs hI => ?_)
        refine lv_aload_n hx hb dX4_read_62 rfl (lv_at hl 0 rfl) ?_
        refine ml_callv (As := []) (rest := []) (cells := 0) (slots := 0) hE hI (fun h hS => snd_X4_readsOne l G _ h ad (upd F8 32 ((F8 32) + (1 : Int32))) A8 L8 _ hS hw) (cwV 0 hts (lw_V q2475 q2477 qs93 q108 q2478) rfl rfl rfl (by decide +kernel) ⟨Nat.le_of_ble_eq_true rfl, Nat.le_of_ble_eq_true rfl⟩) rfl hl.1 (Nat.le_of_ble_eq_true rfl) dX4_read_63 ⟨Nat.le_of_ble_eq_true rfl, Nat.le_of_ble_eq_true rfl⟩ (fun F9 A9 L9 H locs hw hI => ?_)
        refine lv_goto (tgt := 36) hx hb dX4_read_66 (by decide) ?_
        exact ih F9 A9 L9 hw _ _ _ hI (lv_sub hl [0] rfl)
def wp_X4_read (F : Nat → Int32) (A : Nat → Nat → Int32) (L : Nat → UInt32) (Q : Int32 → (Nat → Int32) → (Nat → Nat → Int32) → (Nat → UInt32) → Prop) : Prop := wp_X4_remembers F A L (fun F1 A1 L1 => wp_X4_readsOne (upd (upd (upd (upd (upd F1 32 (0 : Int32)) 33 ((upd F1 32 (0 : Int32)) 23)) 23 (0 : Int32)) 34 (0 : Int32)) 35 (0 : Int32)) A1 L1 (fun F2 A2 L2 => (∃ n36, wp_X4_read_L36 Q n36 F2 A2 L2)))
set_option maxHeartbeats 4000000 in
theorem snd_X4_read (l : Launch) (G : GG) (sz : Nat) (h : HH) (ad : Nat → Nat) (F : Nat → Int32) (A : Nat → Nat → Int32) (L : Nat → UInt32) (Q : Int32 → (Nat → Int32) → (Nat → Nat → Int32) → (Nat → UInt32) → Prop) (hS : ml_S G h ad F A L) (hw : wp_X4_read F A L Q) : Met l yX4_read (ws_ yX4_read cX4_read 4 (some FieldType.int)) rm_X4_read (hv_Pc G h sz [.ref (ad 0)]) (hv_Qi G h sz (fun r => ml_Q G h ad (Q r))) 0 0 (hv_A h sz) := by
  refine Met.ofW (cc := cX4_read) (maxL := 4) (ret := (some FieldType.int)) (by decide) rfl ?_
  intro p e s m args below meth c s₁ B hml hv
  obtain ⟨rfl, rfl, hE, hI⟩ := hv_open B hml hv
  have hE : hv_E p s m ([.ref (ad 0)] : List Value).toArray meth c cX4_read 4 (some FieldType.int) RX4 G h := hE
  have hI := ml_I.start hI hS
  obtain ⟨⟨hx, hb, hml, hown, hts⟩, hr, hlocks, -⟩ := id hE
  have hl := lv_entry ([.ref (ad 0)] : List Value) (n := 4) (Nat.le_of_ble_eq_true rfl)
  rw [lg_entry_eq]
  generalize (lg_sl ([.ref (ad 0)] : List Value) ++ List.replicate (4 - (lg_sl ([.ref (ad 0)] : List Value)).length) Slot.unset).toArray = ls at hl ⊢
  have hl : lv_has ls 4 [(0, .ref (ad 0))] := hl
  unfold wp_X4_read at hw
  refine lv_aload_n hx hb dX4_read_0 rfl (lv_at hl 0 rfl) ?_
  refine ml_callv (As := []) (rest := []) (cells := 0) (slots := 0) hE hI (fun h hS => snd_X4_remembers l G _ h ad F A L _ hS hw) (cwV 0 hts (lw_V q2110 q2112 qs34 q108 q2113) rfl rfl rfl (by decide +kernel) ⟨Nat.le_of_ble_eq_true rfl, Nat.le_of_ble_eq_true rfl⟩) rfl hl.1 (Nat.le_of_ble_eq_true rfl) dX4_read_1 ⟨Nat.le_of_ble_eq_true rfl, Nat.le_of_ble_eq_true rfl⟩ (fun F1 A1 L1 H locs hw hI => ?_)
  refine lv_aload_n hx hb dX4_read_4 rfl (lv_at hl 0 rfl) ?_
  refine lv_iconst (v := 0) hx hb dX4_read_5 (by decide) ?_
  refine ml_put hE hI 32 (by decide) q2017 rfl rfl (ty := .int) rfl rfl rfl (fun _ => rfl) dX4_read_6 (fun H locs hI => ?_)
  refine lv_aload_n hx hb dX4_read_9 rfl (lv_at hl 0 rfl) ?_
  refine lv_aload_n hx hb dX4_read_10 rfl (lv_at hl 0 rfl) ?_
  refine ml_get hE hI 23 (by decide) q2008 rfl rfl dX4_read_11 ?_
  refine ml_put hE hI 33 (by decide) q2018 rfl rfl (ty := .int) rfl rfl rfl (fun _ => rfl) dX4_read_14 (fun H locs hI => ?_)
  refine lv_aload_n hx hb dX4_read_17 rfl (lv_at hl 0 rfl) ?_
  refine lv_iconst (v := 0) hx hb dX4_read_18 (by decide) ?_
  refine ml_put hE hI 23 (by decide) q2008 rfl rfl (ty := .int) rfl rfl rfl (fun _ => rfl) dX4_read_19 (fun H locs hI => ?_)
  refine lv_aload_n hx hb dX4_read_22 rfl (lv_at hl 0 rfl) ?_
  refine lv_iconst (v := 0) hx hb dX4_read_23 (by decide) ?_
  refine ml_put hE hI 34 (by decide) q2019 rfl rfl (ty := .int) rfl rfl rfl (fun _ => rfl) dX4_read_24 (fun H locs hI => ?_)
  refine lv_aload_n hx hb dX4_read_27 rfl (lv_at hl 0 rfl) ?_
  refine lv_iconst (v := 0) hx hb dX4_read_28 (by decide) ?_
  refine ml_put hE hI 35 (by decide) q2020 rfl rfl (ty := .boolean) rfl rfl rfl (fun _ => rfl) dX4_read_29 (fun H locs hI => ?_)
  refine lv_aload_n hx hb dX4_read_32 rfl (lv_at hl 0 rfl) ?_
  refine ml_callv (As := []) (rest := []) (cells := 0) (slots := 0) hE hI (fun h hS => snd_X4_readsOne l G _ h ad (upd (upd (upd (upd (upd F1 32 (0 : Int32)) 33 ((upd F1 32 (0 : Int32)) 23)) 23 (0 : Int32)) 34 (0 : Int32)) 35 (0 : Int32)) A1 L1 _ hS hw) (cwV 0 hts (lw_V q2475 q2477 qs93 q108 q2478) rfl rfl rfl (by decide +kernel) ⟨Nat.le_of_ble_eq_true rfl, Nat.le_of_ble_eq_true rfl⟩) rfl hl.1 (Nat.le_of_ble_eq_true rfl) dX4_read_33 ⟨Nat.le_of_ble_eq_true rfl, Nat.le_of_ble_eq_true rfl⟩ (fun F2 A2 L2 H locs hw hI => ?_)
  obtain ⟨n36, hw⟩ := hw
  exact snd_X4_read_L36 hE Q n36 F2 A2 L2 hw _ _ _ hI (lv_sub hl [0] rfl)

/-- MatchmakerRulesModel.errorPosition()I -/
abbrev rm_X4_errorPosition : Room := { frames := 2, cells := 0, slots := 0, locals := 33 }
def wp_X4_errorPosition (F : Nat → Int32) (A : Nat → Nat → Int32) (L : Nat → UInt32) (Q : Int32 → (Nat → Int32) → (Nat → Nat → Int32) → (Nat → UInt32) → Prop) : Prop := ((¬ ((upd F 0 (0 : Int32)) 25) = (-1 : Int32) → Q ((upd F 0 (0 : Int32)) 25) (upd F 0 (0 : Int32)) A L) ∧ (((upd F 0 (0 : Int32)) 25) = (-1 : Int32) → wp_X4_fails (upd F 0 (0 : Int32)) A L (1 : Int32) (fun r1 F1 A1 L1 => Q r1 F1 A1 L1)))
set_option maxHeartbeats 4000000 in
theorem snd_X4_errorPosition (l : Launch) (G : GG) (sz : Nat) (h : HH) (ad : Nat → Nat) (F : Nat → Int32) (A : Nat → Nat → Int32) (L : Nat → UInt32) (Q : Int32 → (Nat → Int32) → (Nat → Nat → Int32) → (Nat → UInt32) → Prop) (hS : ml_S G h ad F A L) (hw : wp_X4_errorPosition F A L Q) : Met l yX4_errorPosition (ws_ yX4_errorPosition cX4_errorPosition 1 (some FieldType.int)) rm_X4_errorPosition (hv_Pc G h sz [.ref (ad 0)]) (hv_Qi G h sz (fun r => ml_Q G h ad (Q r))) 0 0 (hv_A h sz) := by
  refine Met.ofW (cc := cX4_errorPosition) (maxL := 1) (ret := (some FieldType.int)) (by decide) rfl ?_
  intro p e s m args below meth c s₁ B hml hv
  obtain ⟨rfl, rfl, hE, hI⟩ := hv_open B hml hv
  have hE : hv_E p s m ([.ref (ad 0)] : List Value).toArray meth c cX4_errorPosition 1 (some FieldType.int) RX4 G h := hE
  have hI := ml_I.start hI hS
  obtain ⟨⟨hx, hb, hml, hown, hts⟩, hr, hlocks, -⟩ := id hE
  have hl := lv_entry ([.ref (ad 0)] : List Value) (n := 1) (Nat.le_of_ble_eq_true rfl)
  rw [lg_entry_eq]
  generalize (lg_sl ([.ref (ad 0)] : List Value) ++ List.replicate (1 - (lg_sl ([.ref (ad 0)] : List Value)).length) Slot.unset).toArray = ls at hl ⊢
  have hl : lv_has ls 1 [(0, .ref (ad 0))] := hl
  unfold wp_X4_errorPosition at hw
  refine lv_aload_n hx hb dX4_errorPosition_0 rfl (lv_at hl 0 rfl) ?_
  refine lv_iconst (v := 0) hx hb dX4_errorPosition_1 (by decide) ?_
  refine ml_put hE hI 0 (by decide) q1985 rfl rfl (ty := .int) rfl rfl rfl (fun _ => rfl) dX4_errorPosition_2 (fun H locs hI => ?_)
  refine lv_aload_n hx hb dX4_errorPosition_5 rfl (lv_at hl 0 rfl) ?_
  refine ml_get hE hI 25 (by decide) q2010 rfl rfl dX4_errorPosition_6 ?_
  refine lv_iconst (v := -1) hx hb dX4_errorPosition_9 (by decide) ?_
  refine lv_icmp_ne (tgt := 21) hx hb dX4_errorPosition_10 (by decide) (fun c_10 => ?_) (fun c_10 => ?_)
  · have hw := hw.1 c_10
    refine lv_aload_n hx hb dX4_errorPosition_21 rfl (lv_at hl 0 rfl) ?_
    refine ml_get hE hI 25 (by decide) q2010 rfl rfl dX4_errorPosition_22 ?_
    exact ml_iret hE hI hw dX4_errorPosition_25
  · have hw := hw.2 c_10
    refine lv_aload_n hx hb dX4_errorPosition_13 rfl (lv_at hl 0 rfl) ?_
    refine lv_iconst (v := 1) hx hb dX4_errorPosition_14 (by decide) ?_
    refine ml_calli (As := [.int (1 : Int32)]) (rest := []) (cells := 0) (slots := 0) hE hI (fun h hS => snd_X4_fails l G _ h ad (upd F 0 (0 : Int32)) A L (1 : Int32) _ hS hw) (cwV 1 hts (lw_V q2149 q2151 qs43 q108 q2152) rfl rfl rfl (by decide +kernel) ⟨Nat.le_of_ble_eq_true rfl, Nat.le_of_ble_eq_true rfl⟩) rfl hl.1 (Nat.le_of_ble_eq_true rfl) dX4_errorPosition_15 ⟨Nat.le_of_ble_eq_true rfl, Nat.le_of_ble_eq_true rfl⟩ (fun r1 F1 A1 L1 H locs hw hI => ?_)
    refine lv_goto (tgt := 25) hx hb dX4_errorPosition_18 (by decide) ?_
    exact ml_iret hE hI hw dX4_errorPosition_25

/-- MatchmakerRulesModel.refusedItem()I -/
abbrev rm_X4_refusedItem : Room := { frames := 2, cells := 0, slots := 0, locals := 33 }
def wp_X4_refusedItem (F : Nat → Int32) (A : Nat → Nat → Int32) (L : Nat → UInt32) (Q : Int32 → (Nat → Int32) → (Nat → Nat → Int32) → (Nat → UInt32) → Prop) : Prop := ((¬ ((upd F 0 (0 : Int32)) 26) = (-1 : Int32) → Q ((upd F 0 (0 : Int32)) 26) (upd F 0 (0 : Int32)) A L) ∧ (((upd F 0 (0 : Int32)) 26) = (-1 : Int32) → wp_X4_fails (upd F 0 (0 : Int32)) A L (1 : Int32) (fun r1 F1 A1 L1 => Q r1 F1 A1 L1)))
set_option maxHeartbeats 4000000 in
theorem snd_X4_refusedItem (l : Launch) (G : GG) (sz : Nat) (h : HH) (ad : Nat → Nat) (F : Nat → Int32) (A : Nat → Nat → Int32) (L : Nat → UInt32) (Q : Int32 → (Nat → Int32) → (Nat → Nat → Int32) → (Nat → UInt32) → Prop) (hS : ml_S G h ad F A L) (hw : wp_X4_refusedItem F A L Q) : Met l yX4_refusedItem (ws_ yX4_refusedItem cX4_refusedItem 1 (some FieldType.int)) rm_X4_refusedItem (hv_Pc G h sz [.ref (ad 0)]) (hv_Qi G h sz (fun r => ml_Q G h ad (Q r))) 0 0 (hv_A h sz) := by
  refine Met.ofW (cc := cX4_refusedItem) (maxL := 1) (ret := (some FieldType.int)) (by decide) rfl ?_
  intro p e s m args below meth c s₁ B hml hv
  obtain ⟨rfl, rfl, hE, hI⟩ := hv_open B hml hv
  have hE : hv_E p s m ([.ref (ad 0)] : List Value).toArray meth c cX4_refusedItem 1 (some FieldType.int) RX4 G h := hE
  have hI := ml_I.start hI hS
  obtain ⟨⟨hx, hb, hml, hown, hts⟩, hr, hlocks, -⟩ := id hE
  have hl := lv_entry ([.ref (ad 0)] : List Value) (n := 1) (Nat.le_of_ble_eq_true rfl)
  rw [lg_entry_eq]
  generalize (lg_sl ([.ref (ad 0)] : List Value) ++ List.replicate (1 - (lg_sl ([.ref (ad 0)] : List Value)).length) Slot.unset).toArray = ls at hl ⊢
  have hl : lv_has ls 1 [(0, .ref (ad 0))] := hl
  unfold wp_X4_refusedItem at hw
  refine lv_aload_n hx hb dX4_refusedItem_0 rfl (lv_at hl 0 rfl) ?_
  refine lv_iconst (v := 0) hx hb dX4_refusedItem_1 (by decide) ?_
  refine ml_put hE hI 0 (by decide) q1985 rfl rfl (ty := .int) rfl rfl rfl (fun _ => rfl) dX4_refusedItem_2 (fun H locs hI => ?_)
  refine lv_aload_n hx hb dX4_refusedItem_5 rfl (lv_at hl 0 rfl) ?_
  refine ml_get hE hI 26 (by decide) q2011 rfl rfl dX4_refusedItem_6 ?_
  refine lv_iconst (v := -1) hx hb dX4_refusedItem_9 (by decide) ?_
  refine lv_icmp_ne (tgt := 21) hx hb dX4_refusedItem_10 (by decide) (fun c_10 => ?_) (fun c_10 => ?_)
  · have hw := hw.1 c_10
    refine lv_aload_n hx hb dX4_refusedItem_21 rfl (lv_at hl 0 rfl) ?_
    refine ml_get hE hI 26 (by decide) q2011 rfl rfl dX4_refusedItem_22 ?_
    exact ml_iret hE hI hw dX4_refusedItem_25
  · have hw := hw.2 c_10
    refine lv_aload_n hx hb dX4_refusedItem_13 rfl (lv_at hl 0 rfl) ?_
    refine lv_iconst (v := 1) hx hb dX4_refusedItem_14 (by decide) ?_
    refine ml_calli (As := [.int (1 : Int32)]) (rest := []) (cells := 0) (slots := 0) hE hI (fun h hS => snd_X4_fails l G _ h ad (upd F 0 (0 : Int32)) A L (1 : Int32) _ hS hw) (cwV 1 hts (lw_V q2149 q2151 qs43 q108 q2152) rfl rfl rfl (by decide +kernel) ⟨Nat.le_of_ble_eq_true rfl, Nat.le_of_ble_eq_true rfl⟩) rfl hl.1 (Nat.le_of_ble_eq_true rfl) dX4_refusedItem_15 ⟨Nat.le_of_ble_eq_true rfl, Nat.le_of_ble_eq_true rfl⟩ (fun r1 F1 A1 L1 H locs hw hI => ?_)
    refine lv_goto (tgt := 25) hx hb dX4_refusedItem_18 (by decide) ?_
    exact ml_iret hE hI hw dX4_refusedItem_25

/-- MatchmakerRulesModel.undo()I -/
abbrev rm_X4_undo : Room := { frames := 2, cells := 0, slots := 0, locals := 33 }
def wp_X4_undo_L30 (Q : Int32 → (Nat → Int32) → (Nat → Nat → Int32) → (Nat → UInt32) → Prop) : Nat → (Nat → Int32) → (Nat → Nat → Int32) → (Nat → UInt32) → (Int32) → Prop
  | 0, _, _, _, _ => False
  | n + 1, F, A, L, x1 => (((13675 : Int32) ≤ x1 → Q (F 6) F A L) ∧ (¬ (13675 : Int32) ≤ x1 → (vp_in (((13675 : Int32) * (F 6)) + x1) 109400 ∧ (vp_in x1 13675 ∧ wp_X4_undo_L30 Q n F (ml_up A 1 (Int32.toNatClampNeg x1) (A 5 (Int32.toNatClampNeg (((13675 : Int32) * (F 6)) + x1)))) L (x1 + (1 : Int32))))))
set_option maxHeartbeats 4000000 in
theorem snd_X4_undo_L30 {p : Program} {l : Launch} {e : Env} {s : State} {m : MethodId} {args : Array Value} {below : List Frame} {meth : Method} {c : Code} {G : GG} {h0 : HH} {ad : Nat → Nat} (hE : hv_E p s m args meth c cX4_undo 2 (some FieldType.int) RX4 G h0) (Q : Int32 → (Nat → Int32) → (Nat → Nat → Int32) → (Nat → UInt32) → Prop) : ∀ (n : Nat) (F : Nat → Int32) (A : Nat → Nat → Int32) (L : Nat → UInt32) (x1 : Int32), wp_X4_undo_L30 Q n F A L x1 → ∀ (H : Heap) (locs : List Loc) (ls : Array Slot), ml_I G h0 s.heap ad F A L H locs → lv_has ls 2 [(0, .ref (ad 0)), (1, .int x1)] → W p l e (headSpec (ws_ yX4_undo cX4_undo 2 (some FieldType.int)) rm_X4_undo).room s m args below meth c H locs 0 0 (MQ below (hv_Qi G h0 s.heap.size (fun r => ml_Q G h0 ad (Q r))) args s 0 0 (hv_A h0 s.heap.size)) (F0 m 30 ls []) := by
  obtain ⟨⟨hx, hb, hml, hown, hts⟩, hr, hlocks, -⟩ := id hE
  intro n
  induction n with
  | zero => intro F A L x1 hw; exact hw.elim
  | succ n ih =>
    intro F A L x1 hw H locs ls hI hl
    unfold wp_X4_undo_L30 at hw
    refine lv_iload_n hx hb dX4_undo_30 rfl (lv_at hl 1 rfl) ?_
    refine lv_sipush (v := 13675) hx hb dX4_undo_31 (by decide) ?_
    refine lv_icmp_ge (tgt := 64) hx hb dX4_undo_34 (by decide) (fun c_34 => ?_) (fun c_34 => ?_)
    · have hw := hw.1 c_34
      refine lv_aload_n hx hb dX4_undo_64 rfl (lv_at hl 0 rfl) ?_
      refine ml_get hE hI 6 (by decide) q1991 rfl rfl dX4_undo_65 ?_
      exact ml_iret hE hI hw dX4_undo_68
    · have hw := hw.2 c_34
      refine lv_aload_n hx hb dX4_undo_37 rfl (lv_at hl 0 rfl) ?_
      refine ml_get hE hI 1 (by decide) q1986 rfl rfl dX4_undo_38 ?_
      refine lv_iload_n hx hb dX4_undo_41 rfl (lv_at hl 1 rfl) ?_
      refine lv_aload_n hx hb dX4_undo_42 rfl (lv_at hl 0 rfl) ?_
      refine ml_get hE hI 5 (by decide) q1990 rfl rfl dX4_undo_43 ?_
      refine lv_sipush (v := 13675) hx hb dX4_undo_46 (by decide) ?_
      refine lv_aload_n hx hb dX4_undo_49 rfl (lv_at hl 0 rfl) ?_
      refine ml_get hE hI 6 (by decide) q1991 rfl rfl dX4_undo_50 ?_
      refine lv_imul hx hb dX4_undo_53 ?_
      refine lv_iload_n hx hb dX4_undo_54 rfl (lv_at hl 1 rfl) ?_
      refine lv_iadd hx hb dX4_undo_55 ?_
      obtain ⟨hin, hw⟩ := hw
      refine ml_iald hE hI 5 rfl rfl rfl hin dX4_undo_56 ?_
      obtain ⟨hin, hw⟩ := hw
      refine ml_iast hE hI 1 rfl rfl rfl hin dX4_undo_57 (fun H locs hI => ?_)
      refine lv_iinc (v := (x1 + (1 : Int32))) (lv' := [(1, .int (x1 + (1 : Int32))), (0, .ref (ad 0))]) hx hb dX4_undo_58 hl (k := 1) rfl rfl (by decide) rfl (fun ls hl => ?_)
      refine lv_goto (tgt := 30) hx hb dX4_undo_61 (by decide) ?_
      exact ih F (ml_up A 1 (Int32.toNatClampNeg x1) (A 5 (Int32.toNatClampNeg (((13675 : Int32) * (F 6)) + x1)))) L (x1 + (1 : Int32)) hw _ _ _ hI (lv_sub hl [1, 0] rfl)
def wp_X4_undo (F : Nat → Int32) (A : Nat → Nat → Int32) (L : Nat → UInt32) (Q : Int32 → (Nat → Int32) → (Nat → Nat → Int32) → (Nat → UInt32) → Prop) : Prop := ((¬ ((upd F 0 (0 : Int32)) 6) = 0 → (∃ n30, wp_X4_undo_L30 Q n30 (upd (upd F 0 (0 : Int32)) 6 (((upd F 0 (0 : Int32)) 6) - (1 : Int32))) A L (0 : Int32))) ∧ (((upd F 0 (0 : Int32)) 6) = 0 → wp_X4_fails (upd F 0 (0 : Int32)) A L (1 : Int32) (fun r1 F1 A1 L1 => Q r1 F1 A1 L1)))
set_option maxHeartbeats 4000000 in
theorem snd_X4_undo (l : Launch) (G : GG) (sz : Nat) (h : HH) (ad : Nat → Nat) (F : Nat → Int32) (A : Nat → Nat → Int32) (L : Nat → UInt32) (Q : Int32 → (Nat → Int32) → (Nat → Nat → Int32) → (Nat → UInt32) → Prop) (hS : ml_S G h ad F A L) (hw : wp_X4_undo F A L Q) : Met l yX4_undo (ws_ yX4_undo cX4_undo 2 (some FieldType.int)) rm_X4_undo (hv_Pc G h sz [.ref (ad 0)]) (hv_Qi G h sz (fun r => ml_Q G h ad (Q r))) 0 0 (hv_A h sz) := by
  refine Met.ofW (cc := cX4_undo) (maxL := 2) (ret := (some FieldType.int)) (by decide) rfl ?_
  intro p e s m args below meth c s₁ B hml hv
  obtain ⟨rfl, rfl, hE, hI⟩ := hv_open B hml hv
  have hE : hv_E p s m ([.ref (ad 0)] : List Value).toArray meth c cX4_undo 2 (some FieldType.int) RX4 G h := hE
  have hI := ml_I.start hI hS
  obtain ⟨⟨hx, hb, hml, hown, hts⟩, hr, hlocks, -⟩ := id hE
  have hl := lv_entry ([.ref (ad 0)] : List Value) (n := 2) (Nat.le_of_ble_eq_true rfl)
  rw [lg_entry_eq]
  generalize (lg_sl ([.ref (ad 0)] : List Value) ++ List.replicate (2 - (lg_sl ([.ref (ad 0)] : List Value)).length) Slot.unset).toArray = ls at hl ⊢
  have hl : lv_has ls 2 [(0, .ref (ad 0))] := hl
  unfold wp_X4_undo at hw
  refine lv_aload_n hx hb dX4_undo_0 rfl (lv_at hl 0 rfl) ?_
  refine lv_iconst (v := 0) hx hb dX4_undo_1 (by decide) ?_
  refine ml_put hE hI 0 (by decide) q1985 rfl rfl (ty := .int) rfl rfl rfl (fun _ => rfl) dX4_undo_2 (fun H locs hI => ?_)
  refine lv_aload_n hx hb dX4_undo_5 rfl (lv_at hl 0 rfl) ?_
  refine ml_get hE hI 6 (by decide) q1991 rfl rfl dX4_undo_6 ?_
  refine lv_if_ne (tgt := 18) hx hb dX4_undo_9 (by decide) (fun c_9 => ?_) (fun c_9 => ?_)
  · have hw := hw.1 c_9
    refine lv_aload_n hx hb dX4_undo_18 rfl (lv_at hl 0 rfl) ?_
    refine lv_dup hx hb dX4_undo_19 rfl ?_
    refine ml_get hE hI 6 (by decide) q1991 rfl rfl dX4_undo_20 ?_
    refine lv_iconst (v := 1) hx hb dX4_undo_23 (by decide) ?_
    refine lv_isub hx hb dX4_undo_24 ?_
    refine ml_put hE hI 6 (by decide) q1991 rfl rfl (ty := .int) rfl rfl rfl (fun _ => rfl) dX4_undo_25 (fun H locs hI => ?_)
    refine lv_iconst (v := 0) hx hb dX4_undo_28 (by decide) ?_
    refine lv_istore_n (lv' := [(1, .int (0 : Int32)), (0, .ref (ad 0))]) hx hb dX4_undo_29 rfl hl (by decide) rfl (fun ls hl => ?_)
    obtain ⟨n30, hw⟩ := hw
    exact snd_X4_undo_L30 hE Q n30 (upd (upd F 0 (0 : Int32)) 6 (((upd F 0 (0 : Int32)) 6) - (1 : Int32))) A L (0 : Int32) hw _ _ _ hI (lv_sub hl [1, 0] rfl)
  · have hw := hw.2 c_9
    refine lv_aload_n hx hb dX4_undo_12 rfl (lv_at hl 0 rfl) ?_
    refine lv_iconst (v := 1) hx hb dX4_undo_13 (by decide) ?_
    refine ml_calli (As := [.int (1 : Int32)]) (rest := []) (cells := 0) (slots := 0) hE hI (fun h hS => snd_X4_fails l G _ h ad (upd F 0 (0 : Int32)) A L (1 : Int32) _ hS hw) (cwV 1 hts (lw_V q2149 q2151 qs43 q108 q2152) rfl rfl rfl (by decide +kernel) ⟨Nat.le_of_ble_eq_true rfl, Nat.le_of_ble_eq_true rfl⟩) rfl hl.1 (Nat.le_of_ble_eq_true rfl) dX4_undo_14 ⟨Nat.le_of_ble_eq_true rfl, Nat.le_of_ble_eq_true rfl⟩ (fun r1 F1 A1 L1 H locs hw hI => ?_)
    exact ml_iret hE hI hw dX4_undo_17

/-- MatchmakerRulesModel.snapshot()I -/
abbrev rm_X4_snapshot : Room := { frames := 1, cells := 0, slots := 0, locals := 12 }
def wp_X4_snapshot_L7 (Q : Int32 → (Nat → Int32) → (Nat → Nat → Int32) → (Nat → UInt32) → Prop) : Nat → (Nat → Int32) → (Nat → Nat → Int32) → (Nat → UInt32) → (Int32) → Prop
  | 0, _, _, _, _ => False
  | n + 1, F, A, L, x1 => (((13675 : Int32) ≤ x1 → Q (A 1 1) (upd F 7 (1 : Int32)) A L) ∧ (¬ (13675 : Int32) ≤ x1 → (vp_in x1 13675 ∧ (vp_in x1 13675 ∧ wp_X4_snapshot_L7 Q n F (ml_up A 3 (Int32.toNatClampNeg x1) (A 1 (Int32.toNatClampNeg x1))) L (x1 + (1 : Int32))))))
set_option maxHeartbeats 4000000 in
theorem snd_X4_snapshot_L7 {p : Program} {l : Launch} {e : Env} {s : State} {m : MethodId} {args : Array Value} {below : List Frame} {meth : Method} {c : Code} {G : GG} {h0 : HH} {ad : Nat → Nat} (hE : hv_E p s m args meth c cX4_snapshot 2 (some FieldType.int) RX4 G h0) (Q : Int32 → (Nat → Int32) → (Nat → Nat → Int32) → (Nat → UInt32) → Prop) : ∀ (n : Nat) (F : Nat → Int32) (A : Nat → Nat → Int32) (L : Nat → UInt32) (x1 : Int32), wp_X4_snapshot_L7 Q n F A L x1 → ∀ (H : Heap) (locs : List Loc) (ls : Array Slot), ml_I G h0 s.heap ad F A L H locs → lv_has ls 2 [(0, .ref (ad 0)), (1, .int x1)] → W p l e (headSpec (ws_ yX4_snapshot cX4_snapshot 2 (some FieldType.int)) rm_X4_snapshot).room s m args below meth c H locs 0 0 (MQ below (hv_Qi G h0 s.heap.size (fun r => ml_Q G h0 ad (Q r))) args s 0 0 (hv_A h0 s.heap.size)) (F0 m 7 ls []) := by
  obtain ⟨⟨hx, hb, hml, hown, hts⟩, hr, hlocks, -⟩ := id hE
  intro n
  induction n with
  | zero => intro F A L x1 hw; exact hw.elim
  | succ n ih =>
    intro F A L x1 hw H locs ls hI hl
    unfold wp_X4_snapshot_L7 at hw
    refine lv_iload_n hx hb dX4_snapshot_7 rfl (lv_at hl 1 rfl) ?_
    refine lv_sipush (v := 13675) hx hb dX4_snapshot_8 (by decide) ?_
    refine lv_icmp_ge (tgt := 32) hx hb dX4_snapshot_11 (by decide) (fun c_11 => ?_) (fun c_11 => ?_)
    · have hw := hw.1 c_11
      refine lv_aload_n hx hb dX4_snapshot_32 rfl (lv_at hl 0 rfl) ?_
      refine lv_iconst (v := 1) hx hb dX4_snapshot_33 (by decide) ?_
      refine ml_put hE hI 7 (by decide) q1992 rfl rfl (ty := .boolean) rfl rfl rfl (fun _ => rfl) dX4_snapshot_34 (fun H locs hI => ?_)
      refine lv_aload_n hx hb dX4_snapshot_37 rfl (lv_at hl 0 rfl) ?_
      refine ml_get hE hI 1 (by decide) q1986 rfl rfl dX4_snapshot_38 ?_
      refine lv_iconst (v := 1) hx hb dX4_snapshot_41 (by decide) ?_
      have hin : vp_in (1 : Int32) 13675 := by unfold vp_in; decide +kernel
      refine ml_iald hE hI 1 rfl rfl (show Int32.toNatClampNeg (1 : Int32) = 1 from by decide +kernel) hin dX4_snapshot_42 ?_
      exact ml_iret hE hI hw dX4_snapshot_43
    · have hw := hw.2 c_11
      refine lv_aload_n hx hb dX4_snapshot_14 rfl (lv_at hl 0 rfl) ?_
      refine ml_get hE hI 3 (by decide) q1988 rfl rfl dX4_snapshot_15 ?_
      refine lv_iload_n hx hb dX4_snapshot_18 rfl (lv_at hl 1 rfl) ?_
      refine lv_aload_n hx hb dX4_snapshot_19 rfl (lv_at hl 0 rfl) ?_
      refine ml_get hE hI 1 (by decide) q1986 rfl rfl dX4_snapshot_20 ?_
      refine lv_iload_n hx hb dX4_snapshot_23 rfl (lv_at hl 1 rfl) ?_
      obtain ⟨hin, hw⟩ := hw
      refine ml_iald hE hI 1 rfl rfl rfl hin dX4_snapshot_24 ?_
      obtain ⟨hin, hw⟩ := hw
      refine ml_iast hE hI 3 rfl rfl rfl hin dX4_snapshot_25 (fun H locs hI => ?_)
      refine lv_iinc (v := (x1 + (1 : Int32))) (lv' := [(1, .int (x1 + (1 : Int32))), (0, .ref (ad 0))]) hx hb dX4_snapshot_26 hl (k := 1) rfl rfl (by decide) rfl (fun ls hl => ?_)
      refine lv_goto (tgt := 7) hx hb dX4_snapshot_29 (by decide) ?_
      exact ih F (ml_up A 3 (Int32.toNatClampNeg x1) (A 1 (Int32.toNatClampNeg x1))) L (x1 + (1 : Int32)) hw _ _ _ hI (lv_sub hl [1, 0] rfl)
def wp_X4_snapshot (F : Nat → Int32) (A : Nat → Nat → Int32) (L : Nat → UInt32) (Q : Int32 → (Nat → Int32) → (Nat → Nat → Int32) → (Nat → UInt32) → Prop) : Prop := (∃ n7, wp_X4_snapshot_L7 Q n7 (upd F 0 (0 : Int32)) A L (0 : Int32))
set_option maxHeartbeats 4000000 in
theorem snd_X4_snapshot (l : Launch) (G : GG) (sz : Nat) (h : HH) (ad : Nat → Nat) (F : Nat → Int32) (A : Nat → Nat → Int32) (L : Nat → UInt32) (Q : Int32 → (Nat → Int32) → (Nat → Nat → Int32) → (Nat → UInt32) → Prop) (hS : ml_S G h ad F A L) (hw : wp_X4_snapshot F A L Q) : Met l yX4_snapshot (ws_ yX4_snapshot cX4_snapshot 2 (some FieldType.int)) rm_X4_snapshot (hv_Pc G h sz [.ref (ad 0)]) (hv_Qi G h sz (fun r => ml_Q G h ad (Q r))) 0 0 (hv_A h sz) := by
  refine Met.ofW (cc := cX4_snapshot) (maxL := 2) (ret := (some FieldType.int)) (by decide) rfl ?_
  intro p e s m args below meth c s₁ B hml hv
  obtain ⟨rfl, rfl, hE, hI⟩ := hv_open B hml hv
  have hE : hv_E p s m ([.ref (ad 0)] : List Value).toArray meth c cX4_snapshot 2 (some FieldType.int) RX4 G h := hE
  have hI := ml_I.start hI hS
  obtain ⟨⟨hx, hb, hml, hown, hts⟩, hr, hlocks, -⟩ := id hE
  have hl := lv_entry ([.ref (ad 0)] : List Value) (n := 2) (Nat.le_of_ble_eq_true rfl)
  rw [lg_entry_eq]
  generalize (lg_sl ([.ref (ad 0)] : List Value) ++ List.replicate (2 - (lg_sl ([.ref (ad 0)] : List Value)).length) Slot.unset).toArray = ls at hl ⊢
  have hl : lv_has ls 2 [(0, .ref (ad 0))] := hl
  unfold wp_X4_snapshot at hw
  refine lv_aload_n hx hb dX4_snapshot_0 rfl (lv_at hl 0 rfl) ?_
  refine lv_iconst (v := 0) hx hb dX4_snapshot_1 (by decide) ?_
  refine ml_put hE hI 0 (by decide) q1985 rfl rfl (ty := .int) rfl rfl rfl (fun _ => rfl) dX4_snapshot_2 (fun H locs hI => ?_)
  refine lv_iconst (v := 0) hx hb dX4_snapshot_5 (by decide) ?_
  refine lv_istore_n (lv' := [(1, .int (0 : Int32)), (0, .ref (ad 0))]) hx hb dX4_snapshot_6 rfl hl (by decide) rfl (fun ls hl => ?_)
  obtain ⟨n7, hw⟩ := hw
  exact snd_X4_snapshot_L7 hE Q n7 (upd F 0 (0 : Int32)) A L (0 : Int32) hw _ _ _ hI (lv_sub hl [1, 0] rfl)

/-- MatchmakerRulesModel.restore()I -/
abbrev rm_X4_restore : Room := { frames := 2, cells := 0, slots := 0, locals := 33 }
def wp_X4_restore_L20 (Q : Int32 → (Nat → Int32) → (Nat → Nat → Int32) → (Nat → UInt32) → Prop) : Nat → (Nat → Int32) → (Nat → Nat → Int32) → (Nat → UInt32) → (Int32) → Prop
  | 0, _, _, _, _ => False
  | n + 1, F, A, L, x1 => (((13675 : Int32) ≤ x1 → Q (A 1 1) (upd F 6 (0 : Int32)) A L) ∧ (¬ (13675 : Int32) ≤ x1 → (vp_in x1 13675 ∧ (vp_in x1 13675 ∧ wp_X4_restore_L20 Q n F (ml_up A 1 (Int32.toNatClampNeg x1) (A 3 (Int32.toNatClampNeg x1))) L (x1 + (1 : Int32))))))
set_option maxHeartbeats 4000000 in
theorem snd_X4_restore_L20 {p : Program} {l : Launch} {e : Env} {s : State} {m : MethodId} {args : Array Value} {below : List Frame} {meth : Method} {c : Code} {G : GG} {h0 : HH} {ad : Nat → Nat} (hE : hv_E p s m args meth c cX4_restore 2 (some FieldType.int) RX4 G h0) (Q : Int32 → (Nat → Int32) → (Nat → Nat → Int32) → (Nat → UInt32) → Prop) : ∀ (n : Nat) (F : Nat → Int32) (A : Nat → Nat → Int32) (L : Nat → UInt32) (x1 : Int32), wp_X4_restore_L20 Q n F A L x1 → ∀ (H : Heap) (locs : List Loc) (ls : Array Slot), ml_I G h0 s.heap ad F A L H locs → lv_has ls 2 [(0, .ref (ad 0)), (1, .int x1)] → W p l e (headSpec (ws_ yX4_restore cX4_restore 2 (some FieldType.int)) rm_X4_restore).room s m args below meth c H locs 0 0 (MQ below (hv_Qi G h0 s.heap.size (fun r => ml_Q G h0 ad (Q r))) args s 0 0 (hv_A h0 s.heap.size)) (F0 m 20 ls []) := by
  obtain ⟨⟨hx, hb, hml, hown, hts⟩, hr, hlocks, -⟩ := id hE
  intro n
  induction n with
  | zero => intro F A L x1 hw; exact hw.elim
  | succ n ih =>
    intro F A L x1 hw H locs ls hI hl
    unfold wp_X4_restore_L20 at hw
    refine lv_iload_n hx hb dX4_restore_20 rfl (lv_at hl 1 rfl) ?_
    refine lv_sipush (v := 13675) hx hb dX4_restore_21 (by decide) ?_
    refine lv_icmp_ge (tgt := 45) hx hb dX4_restore_24 (by decide) (fun c_24 => ?_) (fun c_24 => ?_)
    · have hw := hw.1 c_24
      refine lv_aload_n hx hb dX4_restore_45 rfl (lv_at hl 0 rfl) ?_
      refine lv_iconst (v := 0) hx hb dX4_restore_46 (by decide) ?_
      refine ml_put hE hI 6 (by decide) q1991 rfl rfl (ty := .int) rfl rfl rfl (fun _ => rfl) dX4_restore_47 (fun H locs hI => ?_)
      refine lv_aload_n hx hb dX4_restore_50 rfl (lv_at hl 0 rfl) ?_
      refine ml_get hE hI 1 (by decide) q1986 rfl rfl dX4_restore_51 ?_
      refine lv_iconst (v := 1) hx hb dX4_restore_54 (by decide) ?_
      have hin : vp_in (1 : Int32) 13675 := by unfold vp_in; decide +kernel
      refine ml_iald hE hI 1 rfl rfl (show Int32.toNatClampNeg (1 : Int32) = 1 from by decide +kernel) hin dX4_restore_55 ?_
      exact ml_iret hE hI hw dX4_restore_56
    · have hw := hw.2 c_24
      refine lv_aload_n hx hb dX4_restore_27 rfl (lv_at hl 0 rfl) ?_
      refine ml_get hE hI 1 (by decide) q1986 rfl rfl dX4_restore_28 ?_
      refine lv_iload_n hx hb dX4_restore_31 rfl (lv_at hl 1 rfl) ?_
      refine lv_aload_n hx hb dX4_restore_32 rfl (lv_at hl 0 rfl) ?_
      refine ml_get hE hI 3 (by decide) q1988 rfl rfl dX4_restore_33 ?_
      refine lv_iload_n hx hb dX4_restore_36 rfl (lv_at hl 1 rfl) ?_
      obtain ⟨hin, hw⟩ := hw
      refine ml_iald hE hI 3 rfl rfl rfl hin dX4_restore_37 ?_
      obtain ⟨hin, hw⟩ := hw
      refine ml_iast hE hI 1 rfl rfl rfl hin dX4_restore_38 (fun H locs hI => ?_)
      refine lv_iinc (v := (x1 + (1 : Int32))) (lv' := [(1, .int (x1 + (1 : Int32))), (0, .ref (ad 0))]) hx hb dX4_restore_39 hl (k := 1) rfl rfl (by decide) rfl (fun ls hl => ?_)
      refine lv_goto (tgt := 20) hx hb dX4_restore_42 (by decide) ?_
      exact ih F (ml_up A 1 (Int32.toNatClampNeg x1) (A 3 (Int32.toNatClampNeg x1))) L (x1 + (1 : Int32)) hw _ _ _ hI (lv_sub hl [1, 0] rfl)
def wp_X4_restore (F : Nat → Int32) (A : Nat → Nat → Int32) (L : Nat → UInt32) (Q : Int32 → (Nat → Int32) → (Nat → Nat → Int32) → (Nat → UInt32) → Prop) : Prop := ((¬ ((upd F 0 (0 : Int32)) 7) = 0 → (∃ n20, wp_X4_restore_L20 Q n20 (upd F 0 (0 : Int32)) A L (0 : Int32))) ∧ (((upd F 0 (0 : Int32)) 7) = 0 → wp_X4_fails (upd F 0 (0 : Int32)) A L (1 : Int32) (fun r1 F1 A1 L1 => Q r1 F1 A1 L1)))
set_option maxHeartbeats 4000000 in
theorem snd_X4_restore (l : Launch) (G : GG) (sz : Nat) (h : HH) (ad : Nat → Nat) (F : Nat → Int32) (A : Nat → Nat → Int32) (L : Nat → UInt32) (Q : Int32 → (Nat → Int32) → (Nat → Nat → Int32) → (Nat → UInt32) → Prop) (hS : ml_S G h ad F A L) (hw : wp_X4_restore F A L Q) : Met l yX4_restore (ws_ yX4_restore cX4_restore 2 (some FieldType.int)) rm_X4_restore (hv_Pc G h sz [.ref (ad 0)]) (hv_Qi G h sz (fun r => ml_Q G h ad (Q r))) 0 0 (hv_A h sz) := by
  refine Met.ofW (cc := cX4_restore) (maxL := 2) (ret := (some FieldType.int)) (by decide) rfl ?_
  intro p e s m args below meth c s₁ B hml hv
  obtain ⟨rfl, rfl, hE, hI⟩ := hv_open B hml hv
  have hE : hv_E p s m ([.ref (ad 0)] : List Value).toArray meth c cX4_restore 2 (some FieldType.int) RX4 G h := hE
  have hI := ml_I.start hI hS
  obtain ⟨⟨hx, hb, hml, hown, hts⟩, hr, hlocks, -⟩ := id hE
  have hl := lv_entry ([.ref (ad 0)] : List Value) (n := 2) (Nat.le_of_ble_eq_true rfl)
  rw [lg_entry_eq]
  generalize (lg_sl ([.ref (ad 0)] : List Value) ++ List.replicate (2 - (lg_sl ([.ref (ad 0)] : List Value)).length) Slot.unset).toArray = ls at hl ⊢
  have hl : lv_has ls 2 [(0, .ref (ad 0))] := hl
  unfold wp_X4_restore at hw
  refine lv_aload_n hx hb dX4_restore_0 rfl (lv_at hl 0 rfl) ?_
  refine lv_iconst (v := 0) hx hb dX4_restore_1 (by decide) ?_
  refine ml_put hE hI 0 (by decide) q1985 rfl rfl (ty := .int) rfl rfl rfl (fun _ => rfl) dX4_restore_2 (fun H locs hI => ?_)
  refine lv_aload_n hx hb dX4_restore_5 rfl (lv_at hl 0 rfl) ?_
  refine ml_get hE hI 7 (by decide) q1992 rfl rfl dX4_restore_6 ?_
  refine lv_if_ne (tgt := 18) hx hb dX4_restore_9 (by decide) (fun c_9 => ?_) (fun c_9 => ?_)
  · have hw := hw.1 c_9
    refine lv_iconst (v := 0) hx hb dX4_restore_18 (by decide) ?_
    refine lv_istore_n (lv' := [(1, .int (0 : Int32)), (0, .ref (ad 0))]) hx hb dX4_restore_19 rfl hl (by decide) rfl (fun ls hl => ?_)
    obtain ⟨n20, hw⟩ := hw
    exact snd_X4_restore_L20 hE Q n20 (upd F 0 (0 : Int32)) A L (0 : Int32) hw _ _ _ hI (lv_sub hl [1, 0] rfl)
  · have hw := hw.2 c_9
    refine lv_aload_n hx hb dX4_restore_12 rfl (lv_at hl 0 rfl) ?_
    refine lv_iconst (v := 1) hx hb dX4_restore_13 (by decide) ?_
    refine ml_calli (As := [.int (1 : Int32)]) (rest := []) (cells := 0) (slots := 0) hE hI (fun h hS => snd_X4_fails l G _ h ad (upd F 0 (0 : Int32)) A L (1 : Int32) _ hS hw) (cwV 1 hts (lw_V q2149 q2151 qs43 q108 q2152) rfl rfl rfl (by decide +kernel) ⟨Nat.le_of_ble_eq_true rfl, Nat.le_of_ble_eq_true rfl⟩) rfl hl.1 (Nat.le_of_ble_eq_true rfl) dX4_restore_14 ⟨Nat.le_of_ble_eq_true rfl, Nat.le_of_ble_eq_true rfl⟩ (fun r1 F1 A1 L1 H locs hw hI => ?_)
    exact ml_iret hE hI hw dX4_restore_17
