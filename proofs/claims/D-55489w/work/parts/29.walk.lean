/-! the reference's methods, walked (by gen/model.py) -/
set_option maxRecDepth 100000
/-- MatchmakerRulesModel.isInOrder()Z -/
abbrev rm_X4_isInOrder : Room := { frames := 4, cells := 0, slots := 0, locals := 78 }
def wp_X4_isInOrder_L75 (Q : Int32 → (Nat → Int32) → (Nat → Nat → Int32) → (Nat → UInt32) → Prop) : Nat → (Nat → Int32) → (Nat → Nat → Int32) → (Nat → UInt32) → (Int32) → Prop
  | 0, _, _, _, _ => False
  | n + 1, F, A, L, x1 => (((A 1 1) ≤ x1 → wp_X4_grounds F A L (fun r1 F1 A1 L1 => ((¬ r1 = 0 → Q (0 : Int32) F1 A1 L1) ∧ (r1 = 0 → Q (1 : Int32) F1 A1 L1)))) ∧ (¬ (A 1 1) ≤ x1 → (vp_in ((115 : Int32) + x1) 13675 ∧ (vp_in ((135 : Int32) + x1) 13675 ∧ (vp_in ((155 : Int32) + x1) 13675 ∧ wp_X4_slotOf3 F A L (A 1 (Int32.toNatClampNeg ((115 : Int32) + x1))) (A 1 (Int32.toNatClampNeg ((135 : Int32) + x1))) (A 1 (Int32.toNatClampNeg ((155 : Int32) + x1))) (fun r2 F2 A2 L2 => ((r2 = x1 → wp_X4_isInOrder_L75 Q n F2 A2 L2 (x1 + (1 : Int32))) ∧ (¬ r2 = x1 → Q (0 : Int32) F2 A2 L2))))))))
set_option maxHeartbeats 4000000 in
theorem snd_X4_isInOrder_L75 {p : Program} {l : Launch} {e : Env} {s : State} {m : MethodId} {args : Array Value} {below : List Frame} {meth : Method} {c : Code} {G : GG} {h0 : HH} {ad : Nat → Nat} (hE : hv_E p s m args meth c cX4_isInOrder 2 (some FieldType.boolean) RX4 G h0) (Q : Int32 → (Nat → Int32) → (Nat → Nat → Int32) → (Nat → UInt32) → Prop) : ∀ (n : Nat) (F : Nat → Int32) (A : Nat → Nat → Int32) (L : Nat → UInt32) (x1 : Int32), wp_X4_isInOrder_L75 Q n F A L x1 → ∀ (H : Heap) (locs : List Loc) (ls : Array Slot), ml_I G h0 s.heap ad F A L H locs → lv_has ls 2 [(0, .ref (ad 0)), (1, .int x1)] → W p l e (headSpec (ws_ yX4_isInOrder cX4_isInOrder 2 (some FieldType.boolean)) rm_X4_isInOrder).room s m args below meth c H locs 0 0 (MQ below (hv_Qi G h0 s.heap.size (fun r => ml_Q G h0 ad (Q r))) args s 0 0 (hv_A h0 s.heap.size)) (F0 m 75 ls []) := by
  obtain ⟨⟨hx, hb, hml, hown, hts⟩, hr, hlocks, -⟩ := id hE
  intro n
  induction n with
  | zero => intro F A L x1 hw; exact hw.elim
  | succ n ih =>
    intro F A L x1 hw H locs ls hI hl
    unfold wp_X4_isInOrder_L75 at hw
    refine lv_iload_n hx hb dX4_isInOrder_75 rfl (lv_at hl 1 rfl) ?_
    refine lv_aload_n hx hb dX4_isInOrder_76 rfl (lv_at hl 0 rfl) ?_
    refine ml_get hE hI 1 (by decide) q1986 rfl rfl dX4_isInOrder_77 ?_
    refine lv_iconst (v := 1) hx hb dX4_isInOrder_80 (by decide) ?_
    have hin : vp_in (1 : Int32) 13675 := by unfold vp_in; decide +kernel
    refine ml_iald hE hI 1 rfl rfl (show Int32.toNatClampNeg (1 : Int32) = 1 from by decide +kernel) hin dX4_isInOrder_81 ?_
    refine lv_icmp_ge (tgt := 130) hx hb dX4_isInOrder_82 (by decide) (fun c_82 => ?_) (fun c_82 => ?_)
    · have hw := hw.1 c_82
      refine lv_aload_n hx hb dX4_isInOrder_130 rfl (lv_at hl 0 rfl) ?_
      refine ml_calli (As := []) (rest := []) (cells := 0) (slots := 0) hE hI (fun h hS => snd_X4_grounds l G _ h ad F A L _ hS hw) (cwV 0 hts (lw_V q2194 q2196 qs53 q108 q2197) rfl rfl rfl (by decide +kernel) ⟨Nat.le_of_ble_eq_true rfl, Nat.le_of_ble_eq_true rfl⟩) rfl hl.1 (Nat.le_of_ble_eq_true rfl) dX4_isInOrder_131 ⟨Nat.le_of_ble_eq_true rfl, Nat.le_of_ble_eq_true rfl⟩ (fun r1 F1 A1 L1 H locs hw hI => ?_)
      refine lv_if_ne (tgt := 141) hx hb dX4_isInOrder_134 (by decide) (fun c_134 => ?_) (fun c_134 => ?_)
      · have hw := hw.1 c_134
        refine lv_iconst (v := 0) hx hb dX4_isInOrder_141 (by decide) ?_
        exact ml_zret hE hI rfl hw dX4_isInOrder_142
      · have hw := hw.2 c_134
        refine lv_iconst (v := 1) hx hb dX4_isInOrder_137 (by decide) ?_
        refine lv_goto (tgt := 142) hx hb dX4_isInOrder_138 (by decide) ?_
        exact ml_zret hE hI rfl hw dX4_isInOrder_142
    · have hw := hw.2 c_82
      refine lv_aload_n hx hb dX4_isInOrder_85 rfl (lv_at hl 0 rfl) ?_
      refine lv_aload_n hx hb dX4_isInOrder_86 rfl (lv_at hl 0 rfl) ?_
      refine ml_get hE hI 1 (by decide) q1986 rfl rfl dX4_isInOrder_87 ?_
      refine lv_bipush (v := 115) hx hb dX4_isInOrder_90 (by decide) ?_
      refine lv_iload_n hx hb dX4_isInOrder_92 rfl (lv_at hl 1 rfl) ?_
      refine lv_iadd hx hb dX4_isInOrder_93 ?_
      obtain ⟨hin, hw⟩ := hw
      refine ml_iald hE hI 1 rfl rfl rfl hin dX4_isInOrder_94 ?_
      refine lv_aload_n hx hb dX4_isInOrder_95 rfl (lv_at hl 0 rfl) ?_
      refine ml_get hE hI 1 (by decide) q1986 rfl rfl dX4_isInOrder_96 ?_
      refine lv_sipush (v := 135) hx hb dX4_isInOrder_99 (by decide) ?_
      refine lv_iload_n hx hb dX4_isInOrder_102 rfl (lv_at hl 1 rfl) ?_
      refine lv_iadd hx hb dX4_isInOrder_103 ?_
      obtain ⟨hin, hw⟩ := hw
      refine ml_iald hE hI 1 rfl rfl rfl hin dX4_isInOrder_104 ?_
      refine lv_aload_n hx hb dX4_isInOrder_105 rfl (lv_at hl 0 rfl) ?_
      refine ml_get hE hI 1 (by decide) q1986 rfl rfl dX4_isInOrder_106 ?_
      refine lv_sipush (v := 155) hx hb dX4_isInOrder_109 (by decide) ?_
      refine lv_iload_n hx hb dX4_isInOrder_112 rfl (lv_at hl 1 rfl) ?_
      refine lv_iadd hx hb dX4_isInOrder_113 ?_
      obtain ⟨hin, hw⟩ := hw
      refine ml_iald hE hI 1 rfl rfl rfl hin dX4_isInOrder_114 ?_
      refine ml_calli (As := [.int (A 1 (Int32.toNatClampNeg ((115 : Int32) + x1))), .int (A 1 (Int32.toNatClampNeg ((135 : Int32) + x1))), .int (A 1 (Int32.toNatClampNeg ((155 : Int32) + x1)))]) (rest := []) (cells := 0) (slots := 0) hE hI (fun h hS => snd_X4_slotOf3 l G _ h ad F A L (A 1 (Int32.toNatClampNeg ((115 : Int32) + x1))) (A 1 (Int32.toNatClampNeg ((135 : Int32) + x1))) (A 1 (Int32.toNatClampNeg ((155 : Int32) + x1))) _ hS hw) (cwV 3 hts (lw_V q2222 q2224 qs59 q108 q2225) rfl rfl rfl (by decide +kernel) ⟨Nat.le_of_ble_eq_true rfl, Nat.le_of_ble_eq_true rfl⟩) rfl hl.1 (Nat.le_of_ble_eq_true rfl) dX4_isInOrder_115 ⟨Nat.le_of_ble_eq_true rfl, Nat.le_of_ble_eq_true rfl⟩ (fun r2 F2 A2 L2 H locs hw hI => ?_)
      refine lv_iload_n hx hb dX4_isInOrder_118 rfl (lv_at hl 1 rfl) ?_
      refine lv_icmp_eq (tgt := 124) hx hb dX4_isInOrder_119 (by decide) (fun c_119 => ?_) (fun c_119 => ?_)
      · have hw := hw.1 c_119
        refine lv_iinc (v := (x1 + (1 : Int32))) (lv' := [(1, .int (x1 + (1 : Int32))), (0, .ref (ad 0))]) hx hb dX4_isInOrder_124 hl (k := 1) rfl rfl (by decide) rfl (fun ls hl => ?_)
        refine lv_goto (tgt := 75) hx hb dX4_isInOrder_127 (by decide) ?_
        exact ih F2 A2 L2 (x1 + (1 : Int32)) hw _ _ _ hI (lv_sub hl [1, 0] rfl)
      · have hw := hw.2 c_119
        refine lv_iconst (v := 0) hx hb dX4_isInOrder_122 (by decide) ?_
        exact ml_zret hE hI rfl hw dX4_isInOrder_123
def wp_X4_isInOrder_L7 (Q : Int32 → (Nat → Int32) → (Nat → Nat → Int32) → (Nat → UInt32) → Prop) : Nat → (Nat → Int32) → (Nat → Nat → Int32) → (Nat → UInt32) → (Int32) → Prop
  | 0, _, _, _, _ => False
  | n + 1, F, A, L, x1 => (((A 1 6) ≤ x1 → (∃ n75, wp_X4_isInOrder_L75 Q n75 F A L (0 : Int32))) ∧ (¬ (A 1 6) ≤ x1 → wp_X4_firing F A L x1 (1 : Int32) (fun r3 F3 A3 L3 => wp_X4_isThere F3 A3 L3 r3 (fun r4 F4 A4 L4 => ((r4 = 0 → Q (0 : Int32) F4 A4 L4) ∧ (¬ r4 = 0 → wp_X4_firing F4 A4 L4 x1 (2 : Int32) (fun r5 F5 A5 L5 => wp_X4_isThere F5 A5 L5 r5 (fun r6 F6 A6 L6 => ((r6 = 0 → Q (0 : Int32) F6 A6 L6) ∧ (¬ r6 = 0 → wp_X4_firing F6 A6 L6 x1 (3 : Int32) (fun r7 F7 A7 L7 => wp_X4_isThere F7 A7 L7 r7 (fun r8 F8 A8 L8 => ((r8 = 0 → Q (0 : Int32) F8 A8 L8) ∧ (¬ r8 = 0 → wp_X4_isTwice F8 A8 L8 x1 (fun r9 F9 A9 L9 => ((r9 = 0 → wp_X4_isInOrder_L7 Q n F9 A9 L9 (x1 + (1 : Int32))) ∧ (¬ r9 = 0 → Q (0 : Int32) F9 A9 L9)))))))))))))))))
set_option maxHeartbeats 4000000 in
theorem snd_X4_isInOrder_L7 {p : Program} {l : Launch} {e : Env} {s : State} {m : MethodId} {args : Array Value} {below : List Frame} {meth : Method} {c : Code} {G : GG} {h0 : HH} {ad : Nat → Nat} (hE : hv_E p s m args meth c cX4_isInOrder 2 (some FieldType.boolean) RX4 G h0) (Q : Int32 → (Nat → Int32) → (Nat → Nat → Int32) → (Nat → UInt32) → Prop) : ∀ (n : Nat) (F : Nat → Int32) (A : Nat → Nat → Int32) (L : Nat → UInt32) (x1 : Int32), wp_X4_isInOrder_L7 Q n F A L x1 → ∀ (H : Heap) (locs : List Loc) (ls : Array Slot), ml_I G h0 s.heap ad F A L H locs → lv_has ls 2 [(0, .ref (ad 0)), (1, .int x1)] → W p l e (headSpec (ws_ yX4_isInOrder cX4_isInOrder 2 (some FieldType.boolean)) rm_X4_isInOrder).room s m args below meth c H locs 0 0 (MQ below (hv_Qi G h0 s.heap.size (fun r => ml_Q G h0 ad (Q r))) args s 0 0 (hv_A h0 s.heap.size)) (F0 m 7 ls []) := by
  obtain ⟨⟨hx, hb, hml, hown, hts⟩, hr, hlocks, -⟩ := id hE
  intro n
  induction n with
  | zero => intro F A L x1 hw; exact hw.elim
  | succ n ih =>
    intro F A L x1 hw H locs ls hI hl
    unfold wp_X4_isInOrder_L7 at hw
    refine lv_iload_n hx hb dX4_isInOrder_7 rfl (lv_at hl 1 rfl) ?_
    refine lv_aload_n hx hb dX4_isInOrder_8 rfl (lv_at hl 0 rfl) ?_
    refine ml_get hE hI 1 (by decide) q1986 rfl rfl dX4_isInOrder_9 ?_
    refine lv_bipush (v := 6) hx hb dX4_isInOrder_12 (by decide) ?_
    have hin : vp_in (6 : Int32) 13675 := by unfold vp_in; decide +kernel
    refine ml_iald hE hI 1 rfl rfl (show Int32.toNatClampNeg (6 : Int32) = 6 from by decide +kernel) hin dX4_isInOrder_14 ?_
    refine lv_icmp_ge (tgt := 73) hx hb dX4_isInOrder_15 (by decide) (fun c_15 => ?_) (fun c_15 => ?_)
    · have hw := hw.1 c_15
      refine lv_iconst (v := 0) hx hb dX4_isInOrder_73 (by decide) ?_
      refine lv_istore_n (lv' := [(1, .int (0 : Int32)), (0, .ref (ad 0))]) hx hb dX4_isInOrder_74 rfl hl (by decide) rfl (fun ls hl => ?_)
      obtain ⟨n75, hw⟩ := hw
      exact snd_X4_isInOrder_L75 hE Q n75 F A L (0 : Int32) hw _ _ _ hI (lv_sub hl [1, 0] rfl)
    · have hw := hw.2 c_15
      refine lv_aload_n hx hb dX4_isInOrder_18 rfl (lv_at hl 0 rfl) ?_
      refine lv_aload_n hx hb dX4_isInOrder_19 rfl (lv_at hl 0 rfl) ?_
      refine lv_iload_n hx hb dX4_isInOrder_20 rfl (lv_at hl 1 rfl) ?_
      refine lv_iconst (v := 1) hx hb dX4_isInOrder_21 (by decide) ?_
      refine ml_calli (As := [.int x1, .int (1 : Int32)]) (rest := [.ref (ad 0)]) (cells := 0) (slots := 0) hE hI (fun h hS => snd_X4_firing l G _ h ad F A L x1 (1 : Int32) _ hS hw) (cwV 2 hts (lw_V q2182 q2184 qs50 q108 q2185) rfl rfl rfl (by decide +kernel) ⟨Nat.le_of_ble_eq_true rfl, Nat.le_of_ble_eq_true rfl⟩) rfl hl.1 (Nat.le_of_ble_eq_true rfl) dX4_isInOrder_22 ⟨Nat.le_of_ble_eq_true rfl, Nat.le_of_ble_eq_true rfl⟩ (fun r3 F3 A3 L3 H locs hw hI => ?_)
      refine ml_calli (As := [.int r3]) (rest := []) (cells := 0) (slots := 0) hE hI (fun h hS => snd_X4_isThere l G _ h ad F3 A3 L3 r3 _ hS hw) (cwV 1 hts (lw_V q2210 q2212 qs57 q108 q2213) rfl rfl rfl (by decide +kernel) ⟨Nat.le_of_ble_eq_true rfl, Nat.le_of_ble_eq_true rfl⟩) rfl hl.1 (Nat.le_of_ble_eq_true rfl) dX4_isInOrder_25 ⟨Nat.le_of_ble_eq_true rfl, Nat.le_of_ble_eq_true rfl⟩ (fun r4 F4 A4 L4 H locs hw hI => ?_)
      refine lv_if_eq (tgt := 65) hx hb dX4_isInOrder_28 (by decide) (fun c_28 => ?_) (fun c_28 => ?_)
      · have hw := hw.1 c_28
        refine lv_iconst (v := 0) hx hb dX4_isInOrder_65 (by decide) ?_
        exact ml_zret hE hI rfl hw dX4_isInOrder_66
      · have hw := hw.2 c_28
        refine lv_aload_n hx hb dX4_isInOrder_31 rfl (lv_at hl 0 rfl) ?_
        refine lv_aload_n hx hb dX4_isInOrder_32 rfl (lv_at hl 0 rfl) ?_
        refine lv_iload_n hx hb dX4_isInOrder_33 rfl (lv_at hl 1 rfl) ?_
        refine lv_iconst (v := 2) hx hb dX4_isInOrder_34 (by decide) ?_
        refine ml_calli (As := [.int x1, .int (2 : Int32)]) (rest := [.ref (ad 0)]) (cells := 0) (slots := 0) hE hI (fun h hS => snd_X4_firing l G _ h ad F4 A4 L4 x1 (2 : Int32) _ hS hw) (cwV 2 hts (lw_V q2182 q2184 qs50 q108 q2185) rfl rfl rfl (by decide +kernel) ⟨Nat.le_of_ble_eq_true rfl, Nat.le_of_ble_eq_true rfl⟩) rfl hl.1 (Nat.le_of_ble_eq_true rfl) dX4_isInOrder_35 ⟨Nat.le_of_ble_eq_true rfl, Nat.le_of_ble_eq_true rfl⟩ (fun r5 F5 A5 L5 H locs hw hI => ?_)
        refine ml_calli (As := [.int r5]) (rest := []) (cells := 0) (slots := 0) hE hI (fun h hS => snd_X4_isThere l G _ h ad F5 A5 L5 r5 _ hS hw) (cwV 1 hts (lw_V q2210 q2212 qs57 q108 q2213) rfl rfl rfl (by decide +kernel) ⟨Nat.le_of_ble_eq_true rfl, Nat.le_of_ble_eq_true rfl⟩) rfl hl.1 (Nat.le_of_ble_eq_true rfl) dX4_isInOrder_38 ⟨Nat.le_of_ble_eq_true rfl, Nat.le_of_ble_eq_true rfl⟩ (fun r6 F6 A6 L6 H locs hw hI => ?_)
        refine lv_if_eq (tgt := 65) hx hb dX4_isInOrder_41 (by decide) (fun c_41 => ?_) (fun c_41 => ?_)
        · have hw := hw.1 c_41
          refine lv_iconst (v := 0) hx hb dX4_isInOrder_65 (by decide) ?_
          exact ml_zret hE hI rfl hw dX4_isInOrder_66
        · have hw := hw.2 c_41
          refine lv_aload_n hx hb dX4_isInOrder_44 rfl (lv_at hl 0 rfl) ?_
          refine lv_aload_n hx hb dX4_isInOrder_45 rfl (lv_at hl 0 rfl) ?_
          refine lv_iload_n hx hb dX4_isInOrder_46 rfl (lv_at hl 1 rfl) ?_
          refine lv_iconst (v := 3) hx hb dX4_isInOrder_47 (by decide) ?_
          refine ml_calli (As := [.int x1, .int (3 : Int32)]) (rest := [.ref (ad 0)]) (cells := 0) (slots := 0) hE hI (fun h hS => snd_X4_firing l G _ h ad F6 A6 L6 x1 (3 : Int32) _ hS hw) (cwV 2 hts (lw_V q2182 q2184 qs50 q108 q2185) rfl rfl rfl (by decide +kernel) ⟨Nat.le_of_ble_eq_true rfl, Nat.le_of_ble_eq_true rfl⟩) rfl hl.1 (Nat.le_of_ble_eq_true rfl) dX4_isInOrder_48 ⟨Nat.le_of_ble_eq_true rfl, Nat.le_of_ble_eq_true rfl⟩ (fun r7 F7 A7 L7 H locs hw hI => ?_)
          refine ml_calli (As := [.int r7]) (rest := []) (cells := 0) (slots := 0) hE hI (fun h hS => snd_X4_isThere l G _ h ad F7 A7 L7 r7 _ hS hw) (cwV 1 hts (lw_V q2210 q2212 qs57 q108 q2213) rfl rfl rfl (by decide +kernel) ⟨Nat.le_of_ble_eq_true rfl, Nat.le_of_ble_eq_true rfl⟩) rfl hl.1 (Nat.le_of_ble_eq_true rfl) dX4_isInOrder_51 ⟨Nat.le_of_ble_eq_true rfl, Nat.le_of_ble_eq_true rfl⟩ (fun r8 F8 A8 L8 H locs hw hI => ?_)
          refine lv_if_eq (tgt := 65) hx hb dX4_isInOrder_54 (by decide) (fun c_54 => ?_) (fun c_54 => ?_)
          · have hw := hw.1 c_54
            refine lv_iconst (v := 0) hx hb dX4_isInOrder_65 (by decide) ?_
            exact ml_zret hE hI rfl hw dX4_isInOrder_66
          · have hw := hw.2 c_54
            refine lv_aload_n hx hb dX4_isInOrder_57 rfl (lv_at hl 0 rfl) ?_
            refine lv_iload_n hx hb dX4_isInOrder_58 rfl (lv_at hl 1 rfl) ?_
            refine ml_calli (As := [.int x1]) (rest := []) (cells := 0) (slots := 0) hE hI (fun h hS => snd_X4_isTwice l G _ h ad F8 A8 L8 x1 _ hS hw) (cwV 1 hts (lw_V q2391 q2393 qs83 q108 q2394) rfl rfl rfl (by decide +kernel) ⟨Nat.le_of_ble_eq_true rfl, Nat.le_of_ble_eq_true rfl⟩) rfl hl.1 (Nat.le_of_ble_eq_true rfl) dX4_isInOrder_59 ⟨Nat.le_of_ble_eq_true rfl, Nat.le_of_ble_eq_true rfl⟩ (fun r9 F9 A9 L9 H locs hw hI => ?_)
            refine lv_if_eq (tgt := 67) hx hb dX4_isInOrder_62 (by decide) (fun c_62 => ?_) (fun c_62 => ?_)
            · have hw := hw.1 c_62
              refine lv_iinc (v := (x1 + (1 : Int32))) (lv' := [(1, .int (x1 + (1 : Int32))), (0, .ref (ad 0))]) hx hb dX4_isInOrder_67 hl (k := 1) rfl rfl (by decide) rfl (fun ls hl => ?_)
              refine lv_goto (tgt := 7) hx hb dX4_isInOrder_70 (by decide) ?_
              exact ih F9 A9 L9 (x1 + (1 : Int32)) hw _ _ _ hI (lv_sub hl [1, 0] rfl)
            · have hw := hw.2 c_62
              refine lv_iconst (v := 0) hx hb dX4_isInOrder_65 (by decide) ?_
              exact ml_zret hE hI rfl hw dX4_isInOrder_66
def wp_X4_isInOrder (F : Nat → Int32) (A : Nat → Nat → Int32) (L : Nat → UInt32) (Q : Int32 → (Nat → Int32) → (Nat → Nat → Int32) → (Nat → UInt32) → Prop) : Prop := (∃ n7, wp_X4_isInOrder_L7 Q n7 (upd F 0 (0 : Int32)) A L (0 : Int32))
set_option maxHeartbeats 4000000 in
theorem snd_X4_isInOrder (l : Launch) (G : GG) (sz : Nat) (h : HH) (ad : Nat → Nat) (F : Nat → Int32) (A : Nat → Nat → Int32) (L : Nat → UInt32) (Q : Int32 → (Nat → Int32) → (Nat → Nat → Int32) → (Nat → UInt32) → Prop) (hS : ml_S G h ad F A L) (hw : wp_X4_isInOrder F A L Q) : Met l yX4_isInOrder (ws_ yX4_isInOrder cX4_isInOrder 2 (some FieldType.boolean)) rm_X4_isInOrder (hv_Pc G h sz [.ref (ad 0)]) (hv_Qi G h sz (fun r => ml_Q G h ad (Q r))) 0 0 (hv_A h sz) := by
  refine Met.ofW (cc := cX4_isInOrder) (maxL := 2) (ret := (some FieldType.boolean)) (by decide) rfl ?_
  intro p e s m args below meth c s₁ B hml hv
  obtain ⟨rfl, rfl, hE, hI⟩ := hv_open B hml hv
  have hE : hv_E p s m ([.ref (ad 0)] : List Value).toArray meth c cX4_isInOrder 2 (some FieldType.boolean) RX4 G h := hE
  have hI := ml_I.start hI hS
  obtain ⟨⟨hx, hb, hml, hown, hts⟩, hr, hlocks, -⟩ := id hE
  have hl := lv_entry ([.ref (ad 0)] : List Value) (n := 2) (Nat.le_of_ble_eq_true rfl)
  rw [lg_entry_eq]
  generalize (lg_sl ([.ref (ad 0)] : List Value) ++ List.replicate (2 - (lg_sl ([.ref (ad 0)] : List Value)).length) Slot.unset).toArray = ls at hl ⊢
  have hl : lv_has ls 2 [(0, .ref (ad 0))] := hl
  unfold wp_X4_isInOrder at hw
  refine lv_aload_n hx hb dX4_isInOrder_0 rfl (lv_at hl 0 rfl) ?_
  refine lv_iconst (v := 0) hx hb dX4_isInOrder_1 (by decide) ?_
  refine ml_put hE hI 0 (by decide) q1985 rfl rfl (ty := .int) rfl rfl rfl (fun _ => rfl) dX4_isInOrder_2 (fun H locs hI => ?_)
  refine lv_iconst (v := 0) hx hb dX4_isInOrder_5 (by decide) ?_
  refine lv_istore_n (lv' := [(1, .int (0 : Int32)), (0, .ref (ad 0))]) hx hb dX4_isInOrder_6 rfl hl (by decide) rfl (fun ls hl => ?_)
  obtain ⟨n7, hw⟩ := hw
  exact snd_X4_isInOrder_L7 hE Q n7 (upd F 0 (0 : Int32)) A L (0 : Int32) hw _ _ _ hI (lv_sub hl [1, 0] rfl)

/-- MatchmakerRulesModel.writes(I)V -/
abbrev rm_X4_writes : Room := { frames := 1, cells := 0, slots := 0, locals := 12 }
def wp_X4_writes (F : Nat → Int32) (A : Nat → Nat → Int32) (L : Nat → UInt32) (x1 : Int32) (Q : (Nat → Int32) → (Nat → Nat → Int32) → (Nat → UInt32) → Prop) : Prop := (vp_in (F 24) 60000 ∧ Q (upd F 24 ((F 24) + (1 : Int32))) (ml_up A 10 (Int32.toNatClampNeg (F 24)) x1) L)
set_option maxHeartbeats 4000000 in
theorem snd_X4_writes (l : Launch) (G : GG) (sz : Nat) (h : HH) (ad : Nat → Nat) (F : Nat → Int32) (A : Nat → Nat → Int32) (L : Nat → UInt32) (x1 : Int32) (Q : (Nat → Int32) → (Nat → Nat → Int32) → (Nat → UInt32) → Prop) (hS : ml_S G h ad F A L) (hw : wp_X4_writes F A L x1 Q) : Met l yX4_writes (ws_ yX4_writes cX4_writes 2 (none : Option FieldType)) rm_X4_writes (hv_Pc G h sz [.ref (ad 0), .int x1]) (hv_Qv G h sz (ml_Q G h ad Q)) 0 0 (hv_A h sz) := by
  refine Met.ofW (cc := cX4_writes) (maxL := 2) (ret := (none : Option FieldType)) (by decide) rfl ?_
  intro p e s m args below meth c s₁ B hml hv
  obtain ⟨rfl, rfl, hE, hI⟩ := hv_open B hml hv
  have hE : hv_E p s m ([.ref (ad 0), .int x1] : List Value).toArray meth c cX4_writes 2 (none : Option FieldType) RX4 G h := hE
  have hI := ml_I.start hI hS
  obtain ⟨⟨hx, hb, hml, hown, hts⟩, hr, hlocks, -⟩ := id hE
  have hl := lv_entry ([.ref (ad 0), .int x1] : List Value) (n := 2) (Nat.le_of_ble_eq_true rfl)
  rw [lg_entry_eq]
  generalize (lg_sl ([.ref (ad 0), .int x1] : List Value) ++ List.replicate (2 - (lg_sl ([.ref (ad 0), .int x1] : List Value)).length) Slot.unset).toArray = ls at hl ⊢
  have hl : lv_has ls 2 [(0, .ref (ad 0)), (1, .int x1)] := hl
  unfold wp_X4_writes at hw
  refine lv_aload_n hx hb dX4_writes_0 rfl (lv_at hl 0 rfl) ?_
  refine ml_get hE hI 10 (by decide) q1995 rfl rfl dX4_writes_1 ?_
  refine lv_aload_n hx hb dX4_writes_4 rfl (lv_at hl 0 rfl) ?_
  refine ml_get hE hI 24 (by decide) q2009 rfl rfl dX4_writes_5 ?_
  refine lv_iload_n hx hb dX4_writes_8 rfl (lv_at hl 1 rfl) ?_
  obtain ⟨hin, hw⟩ := hw
  refine ml_iast hE hI 10 rfl rfl rfl hin dX4_writes_9 (fun H locs hI => ?_)
  refine lv_aload_n hx hb dX4_writes_10 rfl (lv_at hl 0 rfl) ?_
  refine lv_dup hx hb dX4_writes_11 rfl ?_
  refine ml_get hE hI 24 (by decide) q2009 rfl rfl dX4_writes_12 ?_
  refine lv_iconst (v := 1) hx hb dX4_writes_15 (by decide) ?_
  refine lv_iadd hx hb dX4_writes_16 ?_
  refine ml_put hE hI 24 (by decide) q2009 rfl rfl (ty := .int) rfl rfl rfl (fun _ => rfl) dX4_writes_17 (fun H locs hI => ?_)
  exact ml_vret hE hI hw dX4_writes_20

/-- MatchmakerRulesModel.writesTerm(I)V -/
abbrev rm_X4_writesTerm : Room := { frames := 2, cells := 0, slots := 0, locals := 33 }
def wp_X4_writesTerm (F : Nat → Int32) (A : Nat → Nat → Int32) (L : Nat → UInt32) (x1 : Int32) (Q : (Nat → Int32) → (Nat → Nat → Int32) → (Nat → UInt32) → Prop) : Prop := (((10 : Int32) ≤ x1 → wp_X4_writes F A L (((88 : Int32) + x1) - (10 : Int32)) (fun F1 A1 L1 => Q F1 A1 L1)) ∧ (¬ (10 : Int32) ≤ x1 → wp_X4_writes F A L ((48 : Int32) + x1) (fun F2 A2 L2 => Q F2 A2 L2)))
set_option maxHeartbeats 4000000 in
theorem snd_X4_writesTerm (l : Launch) (G : GG) (sz : Nat) (h : HH) (ad : Nat → Nat) (F : Nat → Int32) (A : Nat → Nat → Int32) (L : Nat → UInt32) (x1 : Int32) (Q : (Nat → Int32) → (Nat → Nat → Int32) → (Nat → UInt32) → Prop) (hS : ml_S G h ad F A L) (hw : wp_X4_writesTerm F A L x1 Q) : Met l yX4_writesTerm (ws_ yX4_writesTerm cX4_writesTerm 2 (none : Option FieldType)) rm_X4_writesTerm (hv_Pc G h sz [.ref (ad 0), .int x1]) (hv_Qv G h sz (ml_Q G h ad Q)) 0 0 (hv_A h sz) := by
  refine Met.ofW (cc := cX4_writesTerm) (maxL := 2) (ret := (none : Option FieldType)) (by decide) rfl ?_
  intro p e s m args below meth c s₁ B hml hv
  obtain ⟨rfl, rfl, hE, hI⟩ := hv_open B hml hv
  have hE : hv_E p s m ([.ref (ad 0), .int x1] : List Value).toArray meth c cX4_writesTerm 2 (none : Option FieldType) RX4 G h := hE
  have hI := ml_I.start hI hS
  obtain ⟨⟨hx, hb, hml, hown, hts⟩, hr, hlocks, -⟩ := id hE
  have hl := lv_entry ([.ref (ad 0), .int x1] : List Value) (n := 2) (Nat.le_of_ble_eq_true rfl)
  rw [lg_entry_eq]
  generalize (lg_sl ([.ref (ad 0), .int x1] : List Value) ++ List.replicate (2 - (lg_sl ([.ref (ad 0), .int x1] : List Value)).length) Slot.unset).toArray = ls at hl ⊢
  have hl : lv_has ls 2 [(0, .ref (ad 0)), (1, .int x1)] := hl
  unfold wp_X4_writesTerm at hw
  refine lv_aload_n hx hb dX4_writesTerm_0 rfl (lv_at hl 0 rfl) ?_
  refine lv_iload_n hx hb dX4_writesTerm_1 rfl (lv_at hl 1 rfl) ?_
  refine lv_bipush (v := 10) hx hb dX4_writesTerm_2 (by decide) ?_
  refine lv_icmp_ge (tgt := 14) hx hb dX4_writesTerm_4 (by decide) (fun c_4 => ?_) (fun c_4 => ?_)
  · have hw := hw.1 c_4
    refine lv_bipush (v := 88) hx hb dX4_writesTerm_14 (by decide) ?_
    refine lv_iload_n hx hb dX4_writesTerm_16 rfl (lv_at hl 1 rfl) ?_
    refine lv_iadd hx hb dX4_writesTerm_17 ?_
    refine lv_bipush (v := 10) hx hb dX4_writesTerm_18 (by decide) ?_
    refine lv_isub hx hb dX4_writesTerm_20 ?_
    refine ml_callv (As := [.int (((88 : Int32) + x1) - (10 : Int32))]) (rest := []) (cells := 0) (slots := 0) hE hI (fun h hS => snd_X4_writes l G _ h ad F A L (((88 : Int32) + x1) - (10 : Int32)) _ hS hw) (cwV 1 hts (lw_V q2403 q2405 qs85 q108 q2406) rfl rfl rfl (by decide +kernel) ⟨Nat.le_of_ble_eq_true rfl, Nat.le_of_ble_eq_true rfl⟩) rfl hl.1 (Nat.le_of_ble_eq_true rfl) dX4_writesTerm_21 ⟨Nat.le_of_ble_eq_true rfl, Nat.le_of_ble_eq_true rfl⟩ (fun F1 A1 L1 H locs hw hI => ?_)
    exact ml_vret hE hI hw dX4_writesTerm_24
  · have hw := hw.2 c_4
    refine lv_bipush (v := 48) hx hb dX4_writesTerm_7 (by decide) ?_
    refine lv_iload_n hx hb dX4_writesTerm_9 rfl (lv_at hl 1 rfl) ?_
    refine lv_iadd hx hb dX4_writesTerm_10 ?_
    refine lv_goto (tgt := 21) hx hb dX4_writesTerm_11 (by decide) ?_
    refine ml_callv (As := [.int ((48 : Int32) + x1)]) (rest := []) (cells := 0) (slots := 0) hE hI (fun h hS => snd_X4_writes l G _ h ad F A L ((48 : Int32) + x1) _ hS hw) (cwV 1 hts (lw_V q2403 q2405 qs85 q108 q2406) rfl rfl rfl (by decide +kernel) ⟨Nat.le_of_ble_eq_true rfl, Nat.le_of_ble_eq_true rfl⟩) rfl hl.1 (Nat.le_of_ble_eq_true rfl) dX4_writesTerm_21 ⟨Nat.le_of_ble_eq_true rfl, Nat.le_of_ble_eq_true rfl⟩ (fun F2 A2 L2 H locs hw hI => ?_)
    exact ml_vret hE hI hw dX4_writesTerm_24

/-- MatchmakerRulesModel.writesPattern(II)V -/
abbrev rm_X4_writesPattern : Room := { frames := 3, cells := 0, slots := 0, locals := 54 }
def wp_X4_writesPattern (F : Nat → Int32) (A : Nat → Nat → Int32) (L : Nat → UInt32) (x1 : Int32) (x2 : Int32) (Q : (Nat → Int32) → (Nat → Nat → Int32) → (Nat → UInt32) → Prop) : Prop := wp_X4_of F A L x1 x2 (fun r1 F1 A1 L1 => wp_X4_writes F1 A1 L1 r1 (fun F2 A2 L2 => wp_X4_of F2 A2 L2 x1 (x2 + (1 : Int32)) (fun r3 F3 A3 L3 => wp_X4_writesTerm F3 A3 L3 r3 (fun F4 A4 L4 => wp_X4_of F4 A4 L4 x1 (x2 + (2 : Int32)) (fun r5 F5 A5 L5 => wp_X4_writesTerm F5 A5 L5 r5 (fun F6 A6 L6 => Q F6 A6 L6))))))
set_option maxHeartbeats 4000000 in
theorem snd_X4_writesPattern (l : Launch) (G : GG) (sz : Nat) (h : HH) (ad : Nat → Nat) (F : Nat → Int32) (A : Nat → Nat → Int32) (L : Nat → UInt32) (x1 : Int32) (x2 : Int32) (Q : (Nat → Int32) → (Nat → Nat → Int32) → (Nat → UInt32) → Prop) (hS : ml_S G h ad F A L) (hw : wp_X4_writesPattern F A L x1 x2 Q) : Met l yX4_writesPattern (ws_ yX4_writesPattern cX4_writesPattern 3 (none : Option FieldType)) rm_X4_writesPattern (hv_Pc G h sz [.ref (ad 0), .int x1, .int x2]) (hv_Qv G h sz (ml_Q G h ad Q)) 0 0 (hv_A h sz) := by
  refine Met.ofW (cc := cX4_writesPattern) (maxL := 3) (ret := (none : Option FieldType)) (by decide) rfl ?_
  intro p e s m args below meth c s₁ B hml hv
  obtain ⟨rfl, rfl, hE, hI⟩ := hv_open B hml hv
  have hE : hv_E p s m ([.ref (ad 0), .int x1, .int x2] : List Value).toArray meth c cX4_writesPattern 3 (none : Option FieldType) RX4 G h := hE
  have hI := ml_I.start hI hS
  obtain ⟨⟨hx, hb, hml, hown, hts⟩, hr, hlocks, -⟩ := id hE
  have hl := lv_entry ([.ref (ad 0), .int x1, .int x2] : List Value) (n := 3) (Nat.le_of_ble_eq_true rfl)
  rw [lg_entry_eq]
  generalize (lg_sl ([.ref (ad 0), .int x1, .int x2] : List Value) ++ List.replicate (3 - (lg_sl ([.ref (ad 0), .int x1, .int x2] : List Value)).length) Slot.unset).toArray = ls at hl ⊢
  have hl : lv_has ls 3 [(0, .ref (ad 0)), (1, .int x1), (2, .int x2)] := hl
  unfold wp_X4_writesPattern at hw
  refine lv_aload_n hx hb dX4_writesPattern_0 rfl (lv_at hl 0 rfl) ?_
  refine lv_aload_n hx hb dX4_writesPattern_1 rfl (lv_at hl 0 rfl) ?_
  refine lv_iload_n hx hb dX4_writesPattern_2 rfl (lv_at hl 1 rfl) ?_
  refine lv_iload_n hx hb dX4_writesPattern_3 rfl (lv_at hl 2 rfl) ?_
  refine ml_calli (As := [.int x1, .int x2]) (rest := [.ref (ad 0)]) (cells := 0) (slots := 0) hE hI (fun h hS => snd_X4_of l G _ h ad F A L x1 x2 _ hS hw) (cwV 2 hts (lw_V q2319 q2321 qs73 q108 q2322) rfl rfl rfl (by decide +kernel) ⟨Nat.le_of_ble_eq_true rfl, Nat.le_of_ble_eq_true rfl⟩) rfl hl.1 (Nat.le_of_ble_eq_true rfl) dX4_writesPattern_4 ⟨Nat.le_of_ble_eq_true rfl, Nat.le_of_ble_eq_true rfl⟩ (fun r1 F1 A1 L1 H locs hw hI => ?_)
  refine ml_callv (As := [.int r1]) (rest := []) (cells := 0) (slots := 0) hE hI (fun h hS => snd_X4_writes l G _ h ad F1 A1 L1 r1 _ hS hw) (cwV 1 hts (lw_V q2403 q2405 qs85 q108 q2406) rfl rfl rfl (by decide +kernel) ⟨Nat.le_of_ble_eq_true rfl, Nat.le_of_ble_eq_true rfl⟩) rfl hl.1 (Nat.le_of_ble_eq_true rfl) dX4_writesPattern_7 ⟨Nat.le_of_ble_eq_true rfl, Nat.le_of_ble_eq_true rfl⟩ (fun F2 A2 L2 H locs hw hI => ?_)
  refine lv_aload_n hx hb dX4_writesPattern_10 rfl (lv_at hl 0 rfl) ?_
  refine lv_aload_n hx hb dX4_writesPattern_11 rfl (lv_at hl 0 rfl) ?_
  refine lv_iload_n hx hb dX4_writesPattern_12 rfl (lv_at hl 1 rfl) ?_
  refine lv_iload_n hx hb dX4_writesPattern_13 rfl (lv_at hl 2 rfl) ?_
  refine lv_iconst (v := 1) hx hb dX4_writesPattern_14 (by decide) ?_
  refine lv_iadd hx hb dX4_writesPattern_15 ?_
  refine ml_calli (As := [.int x1, .int (x2 + (1 : Int32))]) (rest := [.ref (ad 0)]) (cells := 0) (slots := 0) hE hI (fun h hS => snd_X4_of l G _ h ad F2 A2 L2 x1 (x2 + (1 : Int32)) _ hS hw) (cwV 2 hts (lw_V q2319 q2321 qs73 q108 q2322) rfl rfl rfl (by decide +kernel) ⟨Nat.le_of_ble_eq_true rfl, Nat.le_of_ble_eq_true rfl⟩) rfl hl.1 (Nat.le_of_ble_eq_true rfl) dX4_writesPattern_16 ⟨Nat.le_of_ble_eq_true rfl, Nat.le_of_ble_eq_true rfl⟩ (fun r3 F3 A3 L3 H locs hw hI => ?_)
  refine ml_callv (As := [.int r3]) (rest := []) (cells := 0) (slots := 0) hE hI (fun h hS => snd_X4_writesTerm l G _ h ad F3 A3 L3 r3 _ hS hw) (cwV 1 hts (lw_V q2407 q2409 qs86 q108 q2410) rfl rfl rfl (by decide +kernel) ⟨Nat.le_of_ble_eq_true rfl, Nat.le_of_ble_eq_true rfl⟩) rfl hl.1 (Nat.le_of_ble_eq_true rfl) dX4_writesPattern_19 ⟨Nat.le_of_ble_eq_true rfl, Nat.le_of_ble_eq_true rfl⟩ (fun F4 A4 L4 H locs hw hI => ?_)
  refine lv_aload_n hx hb dX4_writesPattern_22 rfl (lv_at hl 0 rfl) ?_
  refine lv_aload_n hx hb dX4_writesPattern_23 rfl (lv_at hl 0 rfl) ?_
  refine lv_iload_n hx hb dX4_writesPattern_24 rfl (lv_at hl 1 rfl) ?_
  refine lv_iload_n hx hb dX4_writesPattern_25 rfl (lv_at hl 2 rfl) ?_
  refine lv_iconst (v := 2) hx hb dX4_writesPattern_26 (by decide) ?_
  refine lv_iadd hx hb dX4_writesPattern_27 ?_
  refine ml_calli (As := [.int x1, .int (x2 + (2 : Int32))]) (rest := [.ref (ad 0)]) (cells := 0) (slots := 0) hE hI (fun h hS => snd_X4_of l G _ h ad F4 A4 L4 x1 (x2 + (2 : Int32)) _ hS hw) (cwV 2 hts (lw_V q2319 q2321 qs73 q108 q2322) rfl rfl rfl (by decide +kernel) ⟨Nat.le_of_ble_eq_true rfl, Nat.le_of_ble_eq_true rfl⟩) rfl hl.1 (Nat.le_of_ble_eq_true rfl) dX4_writesPattern_28 ⟨Nat.le_of_ble_eq_true rfl, Nat.le_of_ble_eq_true rfl⟩ (fun r5 F5 A5 L5 H locs hw hI => ?_)
  refine ml_callv (As := [.int r5]) (rest := []) (cells := 0) (slots := 0) hE hI (fun h hS => snd_X4_writesTerm l G _ h ad F5 A5 L5 r5 _ hS hw) (cwV 1 hts (lw_V q2407 q2409 qs86 q108 q2410) rfl rfl rfl (by decide +kernel) ⟨Nat.le_of_ble_eq_true rfl, Nat.le_of_ble_eq_true rfl⟩) rfl hl.1 (Nat.le_of_ble_eq_true rfl) dX4_writesPattern_31 ⟨Nat.le_of_ble_eq_true rfl, Nat.le_of_ble_eq_true rfl⟩ (fun F6 A6 L6 H locs hw hI => ?_)
  exact ml_vret hE hI hw dX4_writesPattern_34

/-- MatchmakerRulesModel.line(I)I -/
abbrev rm_X4_line : Room := { frames := 4, cells := 0, slots := 0, locals := 76 }
def wp_X4_line_L69 (Q : Int32 → (Nat → Int32) → (Nat → Nat → Int32) → (Nat → UInt32) → Prop) (F : Nat → Int32) (A : Nat → Nat → Int32) (L : Nat → UInt32) (x1 : Int32) : Prop := wp_X4_writes F A L (62 : Int32) (fun F5 A5 L5 => wp_X4_writesPattern F5 A5 L5 x1 (7 : Int32) (fun F6 A6 L6 => wp_X4_writes F6 A6 L6 (42 : Int32) (fun F7 A7 L7 => wp_X4_of F7 A7 L7 x1 (10 : Int32) (fun r8 F8 A8 L8 => wp_X4_writes F8 A8 L8 ((48 : Int32) + r8) (fun F9 A9 L9 => Q (F9 24) F9 A9 L9)))))
set_option maxHeartbeats 4000000 in
theorem snd_X4_line_L69 {p : Program} {l : Launch} {e : Env} {s : State} {m : MethodId} {args : Array Value} {below : List Frame} {meth : Method} {c : Code} {G : GG} {h0 : HH} {ad : Nat → Nat} (hE : hv_E p s m args meth c cX4_line 2 (some FieldType.int) RX4 G h0) (Q : Int32 → (Nat → Int32) → (Nat → Nat → Int32) → (Nat → UInt32) → Prop) : ∀ (F : Nat → Int32) (A : Nat → Nat → Int32) (L : Nat → UInt32) (x1 : Int32), wp_X4_line_L69 Q F A L x1 → ∀ (H : Heap) (locs : List Loc) (ls : Array Slot), ml_I G h0 s.heap ad F A L H locs → lv_has ls 2 [(0, .ref (ad 0)), (1, .int x1)] → W p l e (headSpec (ws_ yX4_line cX4_line 2 (some FieldType.int)) rm_X4_line).room s m args below meth c H locs 0 0 (MQ below (hv_Qi G h0 s.heap.size (fun r => ml_Q G h0 ad (Q r))) args s 0 0 (hv_A h0 s.heap.size)) (F0 m 69 ls []) := by
  obtain ⟨⟨hx, hb, hml, hown, hts⟩, hr, hlocks, -⟩ := id hE
  intro F A L x1 hw H locs ls hI hl
  unfold wp_X4_line_L69 at hw
  refine lv_aload_n hx hb dX4_line_69 rfl (lv_at hl 0 rfl) ?_
  refine lv_bipush (v := 62) hx hb dX4_line_70 (by decide) ?_
  refine ml_callv (As := [.int (62 : Int32)]) (rest := []) (cells := 0) (slots := 0) hE hI (fun h hS => snd_X4_writes l G _ h ad F A L (62 : Int32) _ hS hw) (cwV 1 hts (lw_V q2403 q2405 qs85 q108 q2406) rfl rfl rfl (by decide +kernel) ⟨Nat.le_of_ble_eq_true rfl, Nat.le_of_ble_eq_true rfl⟩) rfl hl.1 (Nat.le_of_ble_eq_true rfl) dX4_line_72 ⟨Nat.le_of_ble_eq_true rfl, Nat.le_of_ble_eq_true rfl⟩ (fun F5 A5 L5 H locs hw hI => ?_)
  refine lv_aload_n hx hb dX4_line_75 rfl (lv_at hl 0 rfl) ?_
  refine lv_iload_n hx hb dX4_line_76 rfl (lv_at hl 1 rfl) ?_
  refine lv_bipush (v := 7) hx hb dX4_line_77 (by decide) ?_
  refine ml_callv (As := [.int x1, .int (7 : Int32)]) (rest := []) (cells := 0) (slots := 0) hE hI (fun h hS => snd_X4_writesPattern l G _ h ad F5 A5 L5 x1 (7 : Int32) _ hS hw) (cwV 2 hts (lw_V q2399 q2401 qs84 q108 q2402) rfl rfl rfl (by decide +kernel) ⟨Nat.le_of_ble_eq_true rfl, Nat.le_of_ble_eq_true rfl⟩) rfl hl.1 (Nat.le_of_ble_eq_true rfl) dX4_line_79 ⟨Nat.le_of_ble_eq_true rfl, Nat.le_of_ble_eq_true rfl⟩ (fun F6 A6 L6 H locs hw hI => ?_)
  refine lv_aload_n hx hb dX4_line_82 rfl (lv_at hl 0 rfl) ?_
  refine lv_bipush (v := 42) hx hb dX4_line_83 (by decide) ?_
  refine ml_callv (As := [.int (42 : Int32)]) (rest := []) (cells := 0) (slots := 0) hE hI (fun h hS => snd_X4_writes l G _ h ad F6 A6 L6 (42 : Int32) _ hS hw) (cwV 1 hts (lw_V q2403 q2405 qs85 q108 q2406) rfl rfl rfl (by decide +kernel) ⟨Nat.le_of_ble_eq_true rfl, Nat.le_of_ble_eq_true rfl⟩) rfl hl.1 (Nat.le_of_ble_eq_true rfl) dX4_line_85 ⟨Nat.le_of_ble_eq_true rfl, Nat.le_of_ble_eq_true rfl⟩ (fun F7 A7 L7 H locs hw hI => ?_)
  refine lv_aload_n hx hb dX4_line_88 rfl (lv_at hl 0 rfl) ?_
  refine lv_bipush (v := 48) hx hb dX4_line_89 (by decide) ?_
  refine lv_aload_n hx hb dX4_line_91 rfl (lv_at hl 0 rfl) ?_
  refine lv_iload_n hx hb dX4_line_92 rfl (lv_at hl 1 rfl) ?_
  refine lv_bipush (v := 10) hx hb dX4_line_93 (by decide) ?_
  refine ml_calli (As := [.int x1, .int (10 : Int32)]) (rest := [.int (48 : Int32), .ref (ad 0)]) (cells := 0) (slots := 0) hE hI (fun h hS => snd_X4_of l G _ h ad F7 A7 L7 x1 (10 : Int32) _ hS hw) (cwV 2 hts (lw_V q2319 q2321 qs73 q108 q2322) rfl rfl rfl (by decide +kernel) ⟨Nat.le_of_ble_eq_true rfl, Nat.le_of_ble_eq_true rfl⟩) rfl hl.1 (Nat.le_of_ble_eq_true rfl) dX4_line_95 ⟨Nat.le_of_ble_eq_true rfl, Nat.le_of_ble_eq_true rfl⟩ (fun r8 F8 A8 L8 H locs hw hI => ?_)
  refine lv_iadd hx hb dX4_line_98 ?_
  refine ml_callv (As := [.int ((48 : Int32) + r8)]) (rest := []) (cells := 0) (slots := 0) hE hI (fun h hS => snd_X4_writes l G _ h ad F8 A8 L8 ((48 : Int32) + r8) _ hS hw) (cwV 1 hts (lw_V q2403 q2405 qs85 q108 q2406) rfl rfl rfl (by decide +kernel) ⟨Nat.le_of_ble_eq_true rfl, Nat.le_of_ble_eq_true rfl⟩) rfl hl.1 (Nat.le_of_ble_eq_true rfl) dX4_line_99 ⟨Nat.le_of_ble_eq_true rfl, Nat.le_of_ble_eq_true rfl⟩ (fun F9 A9 L9 H locs hw hI => ?_)
  refine lv_aload_n hx hb dX4_line_102 rfl (lv_at hl 0 rfl) ?_
  refine ml_get hE hI 24 (by decide) q2009 rfl rfl dX4_line_103 ?_
  exact ml_iret hE hI hw dX4_line_106
def wp_X4_line_L54 (Q : Int32 → (Nat → Int32) → (Nat → Nat → Int32) → (Nat → UInt32) → Prop) (F : Nat → Int32) (A : Nat → Nat → Int32) (L : Nat → UInt32) (x1 : Int32) : Prop := wp_X4_of F A L x1 (3 : Int32) (fun r4 F4 A4 L4 => ((r4 ≤ 0 → wp_X4_line_L69 Q F4 A4 L4 x1) ∧ (¬ r4 ≤ 0 → wp_X4_writesPattern F4 A4 L4 x1 (4 : Int32) (fun F10 A10 L10 => wp_X4_line_L69 Q F10 A10 L10 x1))))
set_option maxHeartbeats 4000000 in
theorem snd_X4_line_L54 {p : Program} {l : Launch} {e : Env} {s : State} {m : MethodId} {args : Array Value} {below : List Frame} {meth : Method} {c : Code} {G : GG} {h0 : HH} {ad : Nat → Nat} (hE : hv_E p s m args meth c cX4_line 2 (some FieldType.int) RX4 G h0) (Q : Int32 → (Nat → Int32) → (Nat → Nat → Int32) → (Nat → UInt32) → Prop) : ∀ (F : Nat → Int32) (A : Nat → Nat → Int32) (L : Nat → UInt32) (x1 : Int32), wp_X4_line_L54 Q F A L x1 → ∀ (H : Heap) (locs : List Loc) (ls : Array Slot), ml_I G h0 s.heap ad F A L H locs → lv_has ls 2 [(0, .ref (ad 0)), (1, .int x1)] → W p l e (headSpec (ws_ yX4_line cX4_line 2 (some FieldType.int)) rm_X4_line).room s m args below meth c H locs 0 0 (MQ below (hv_Qi G h0 s.heap.size (fun r => ml_Q G h0 ad (Q r))) args s 0 0 (hv_A h0 s.heap.size)) (F0 m 54 ls []) := by
  obtain ⟨⟨hx, hb, hml, hown, hts⟩, hr, hlocks, -⟩ := id hE
  intro F A L x1 hw H locs ls hI hl
  unfold wp_X4_line_L54 at hw
  refine lv_aload_n hx hb dX4_line_54 rfl (lv_at hl 0 rfl) ?_
  refine lv_iload_n hx hb dX4_line_55 rfl (lv_at hl 1 rfl) ?_
  refine lv_iconst (v := 3) hx hb dX4_line_56 (by decide) ?_
  refine ml_calli (As := [.int x1, .int (3 : Int32)]) (rest := []) (cells := 0) (slots := 0) hE hI (fun h hS => snd_X4_of l G _ h ad F A L x1 (3 : Int32) _ hS hw) (cwV 2 hts (lw_V q2319 q2321 qs73 q108 q2322) rfl rfl rfl (by decide +kernel) ⟨Nat.le_of_ble_eq_true rfl, Nat.le_of_ble_eq_true rfl⟩) rfl hl.1 (Nat.le_of_ble_eq_true rfl) dX4_line_57 ⟨Nat.le_of_ble_eq_true rfl, Nat.le_of_ble_eq_true rfl⟩ (fun r4 F4 A4 L4 H locs hw hI => ?_)
  refine lv_if_le (tgt := 69) hx hb dX4_line_60 (by decide) (fun c_60 => ?_) (fun c_60 => ?_)
  · have hw := hw.1 c_60
    exact snd_X4_line_L69 hE Q F4 A4 L4 x1 hw _ _ _ hI (lv_sub hl [0, 1] rfl)
  · have hw := hw.2 c_60
    refine lv_aload_n hx hb dX4_line_63 rfl (lv_at hl 0 rfl) ?_
    refine lv_iload_n hx hb dX4_line_64 rfl (lv_at hl 1 rfl) ?_
    refine lv_iconst (v := 4) hx hb dX4_line_65 (by decide) ?_
    refine ml_callv (As := [.int x1, .int (4 : Int32)]) (rest := []) (cells := 0) (slots := 0) hE hI (fun h hS => snd_X4_writesPattern l G _ h ad F4 A4 L4 x1 (4 : Int32) _ hS hw) (cwV 2 hts (lw_V q2399 q2401 qs84 q108 q2402) rfl rfl rfl (by decide +kernel) ⟨Nat.le_of_ble_eq_true rfl, Nat.le_of_ble_eq_true rfl⟩) rfl hl.1 (Nat.le_of_ble_eq_true rfl) dX4_line_66 ⟨Nat.le_of_ble_eq_true rfl, Nat.le_of_ble_eq_true rfl⟩ (fun F10 A10 L10 H locs hw hI => ?_)
    exact snd_X4_line_L69 hE Q F10 A10 L10 x1 hw _ _ _ hI (lv_sub hl [0, 1] rfl)
def wp_X4_line (F : Nat → Int32) (A : Nat → Nat → Int32) (L : Nat → UInt32) (x1 : Int32) (Q : Int32 → (Nat → Int32) → (Nat → Nat → Int32) → (Nat → UInt32) → Prop) : Prop := wp_X4_in x1 (0 : Int32) ((A 1 0) - (1 : Int32)) (fun r1 => ((¬ r1 = 0 → wp_X4_writesPattern (upd (upd F 0 (0 : Int32)) 24 (0 : Int32)) A L x1 (0 : Int32) (fun F2 A2 L2 => wp_X4_of F2 A2 L2 x1 (3 : Int32) (fun r3 F3 A3 L3 => ((¬ r3 = (2 : Int32) → wp_X4_line_L54 Q F3 A3 L3 x1) ∧ (r3 = (2 : Int32) → wp_X4_writes F3 A3 L3 (33 : Int32) (fun F11 A11 L11 => wp_X4_line_L54 Q F11 A11 L11 x1)))))) ∧ (r1 = 0 → wp_X4_fails (upd F 0 (0 : Int32)) A L (1 : Int32) (fun r12 F12 A12 L12 => Q r12 F12 A12 L12))))
set_option maxHeartbeats 4000000 in
theorem snd_X4_line (l : Launch) (G : GG) (sz : Nat) (h : HH) (ad : Nat → Nat) (F : Nat → Int32) (A : Nat → Nat → Int32) (L : Nat → UInt32) (x1 : Int32) (Q : Int32 → (Nat → Int32) → (Nat → Nat → Int32) → (Nat → UInt32) → Prop) (hS : ml_S G h ad F A L) (hw : wp_X4_line F A L x1 Q) : Met l yX4_line (ws_ yX4_line cX4_line 2 (some FieldType.int)) rm_X4_line (hv_Pc G h sz [.ref (ad 0), .int x1]) (hv_Qi G h sz (fun r => ml_Q G h ad (Q r))) 0 0 (hv_A h sz) := by
  refine Met.ofW (cc := cX4_line) (maxL := 2) (ret := (some FieldType.int)) (by decide) rfl ?_
  intro p e s m args below meth c s₁ B hml hv
  obtain ⟨rfl, rfl, hE, hI⟩ := hv_open B hml hv
  have hE : hv_E p s m ([.ref (ad 0), .int x1] : List Value).toArray meth c cX4_line 2 (some FieldType.int) RX4 G h := hE
  have hI := ml_I.start hI hS
  obtain ⟨⟨hx, hb, hml, hown, hts⟩, hr, hlocks, -⟩ := id hE
  have hl := lv_entry ([.ref (ad 0), .int x1] : List Value) (n := 2) (Nat.le_of_ble_eq_true rfl)
  rw [lg_entry_eq]
  generalize (lg_sl ([.ref (ad 0), .int x1] : List Value) ++ List.replicate (2 - (lg_sl ([.ref (ad 0), .int x1] : List Value)).length) Slot.unset).toArray = ls at hl ⊢
  have hl : lv_has ls 2 [(0, .ref (ad 0)), (1, .int x1)] := hl
  unfold wp_X4_line at hw
  refine lv_aload_n hx hb dX4_line_0 rfl (lv_at hl 0 rfl) ?_
  refine lv_iconst (v := 0) hx hb dX4_line_1 (by decide) ?_
  refine ml_put hE hI 0 (by decide) q1985 rfl rfl (ty := .int) rfl rfl rfl (fun _ => rfl) dX4_line_2 (fun H locs hI => ?_)
  refine lv_iload_n hx hb dX4_line_5 rfl (lv_at hl 1 rfl) ?_
  refine lv_iconst (v := 0) hx hb dX4_line_6 (by decide) ?_
  refine lv_aload_n hx hb dX4_line_7 rfl (lv_at hl 0 rfl) ?_
  refine ml_get hE hI 1 (by decide) q1986 rfl rfl dX4_line_8 ?_
  refine lv_iconst (v := 0) hx hb dX4_line_11 (by decide) ?_
  have hin : vp_in (0 : Int32) 13675 := by unfold vp_in; decide +kernel
  refine ml_iald hE hI 1 rfl rfl (show Int32.toNatClampNeg (0 : Int32) = 0 from by decide +kernel) hin dX4_line_12 ?_
  refine lv_iconst (v := 1) hx hb dX4_line_13 (by decide) ?_
  refine lv_isub hx hb dX4_line_14 ?_
  refine ml_calls (As := [.int x1, .int (0 : Int32), .int ((A 1 0) - (1 : Int32))]) (rest := []) (cells := 0) (slots := 0) hE hI (fun h => snd_X4_in l G _ h x1 (0 : Int32) ((A 1 0) - (1 : Int32)) _ hw) (va_cwS 3 hts (lw_S q2130 q2131 q108 q2132) rfl rfl rfl (by decide +kernel) ⟨Nat.le_of_ble_eq_true rfl, Nat.le_of_ble_eq_true rfl⟩) rfl hl.1 (Nat.le_of_ble_eq_true rfl) dX4_line_15 ⟨Nat.le_of_ble_eq_true rfl, Nat.le_of_ble_eq_true rfl⟩ (fun r1 H locs hw hI => ?_)
  refine lv_if_ne (tgt := 27) hx hb dX4_line_18 (by decide) (fun c_18 => ?_) (fun c_18 => ?_)
  · have hw := hw.1 c_18
    refine lv_aload_n hx hb dX4_line_27 rfl (lv_at hl 0 rfl) ?_
    refine lv_iconst (v := 0) hx hb dX4_line_28 (by decide) ?_
    refine ml_put hE hI 24 (by decide) q2009 rfl rfl (ty := .int) rfl rfl rfl (fun _ => rfl) dX4_line_29 (fun H locs hI => ?_)
    refine lv_aload_n hx hb dX4_line_32 rfl (lv_at hl 0 rfl) ?_
    refine lv_iload_n hx hb dX4_line_33 rfl (lv_at hl 1 rfl) ?_
    refine lv_iconst (v := 0) hx hb dX4_line_34 (by decide) ?_
    refine ml_callv (As := [.int x1, .int (0 : Int32)]) (rest := []) (cells := 0) (slots := 0) hE hI (fun h hS => snd_X4_writesPattern l G _ h ad (upd (upd F 0 (0 : Int32)) 24 (0 : Int32)) A L x1 (0 : Int32) _ hS hw) (cwV 2 hts (lw_V q2399 q2401 qs84 q108 q2402) rfl rfl rfl (by decide +kernel) ⟨Nat.le_of_ble_eq_true rfl, Nat.le_of_ble_eq_true rfl⟩) rfl hl.1 (Nat.le_of_ble_eq_true rfl) dX4_line_35 ⟨Nat.le_of_ble_eq_true rfl, Nat.le_of_ble_eq_true rfl⟩ (fun F2 A2 L2 H locs hw hI => ?_)
    refine lv_aload_n hx hb dX4_line_38 rfl (lv_at hl 0 rfl) ?_
    refine lv_iload_n hx hb dX4_line_39 rfl (lv_at hl 1 rfl) ?_
    refine lv_iconst (v := 3) hx hb dX4_line_40 (by decide) ?_
    refine ml_calli (As := [.int x1, .int (3 : Int32)]) (rest := []) (cells := 0) (slots := 0) hE hI (fun h hS => snd_X4_of l G _ h ad F2 A2 L2 x1 (3 : Int32) _ hS hw) (cwV 2 hts (lw_V q2319 q2321 qs73 q108 q2322) rfl rfl rfl (by decide +kernel) ⟨Nat.le_of_ble_eq_true rfl, Nat.le_of_ble_eq_true rfl⟩) rfl hl.1 (Nat.le_of_ble_eq_true rfl) dX4_line_41 ⟨Nat.le_of_ble_eq_true rfl, Nat.le_of_ble_eq_true rfl⟩ (fun r3 F3 A3 L3 H locs hw hI => ?_)
    refine lv_iconst (v := 2) hx hb dX4_line_44 (by decide) ?_
    refine lv_icmp_ne (tgt := 54) hx hb dX4_line_45 (by decide) (fun c_45 => ?_) (fun c_45 => ?_)
    · have hw := hw.1 c_45
      exact snd_X4_line_L54 hE Q F3 A3 L3 x1 hw _ _ _ hI (lv_sub hl [0, 1] rfl)
    · have hw := hw.2 c_45
      refine lv_aload_n hx hb dX4_line_48 rfl (lv_at hl 0 rfl) ?_
      refine lv_bipush (v := 33) hx hb dX4_line_49 (by decide) ?_
      refine ml_callv (As := [.int (33 : Int32)]) (rest := []) (cells := 0) (slots := 0) hE hI (fun h hS => snd_X4_writes l G _ h ad F3 A3 L3 (33 : Int32) _ hS hw) (cwV 1 hts (lw_V q2403 q2405 qs85 q108 q2406) rfl rfl rfl (by decide +kernel) ⟨Nat.le_of_ble_eq_true rfl, Nat.le_of_ble_eq_true rfl⟩) rfl hl.1 (Nat.le_of_ble_eq_true rfl) dX4_line_51 ⟨Nat.le_of_ble_eq_true rfl, Nat.le_of_ble_eq_true rfl⟩ (fun F11 A11 L11 H locs hw hI => ?_)
      exact snd_X4_line_L54 hE Q F11 A11 L11 x1 hw _ _ _ hI (lv_sub hl [0, 1] rfl)
  · have hw := hw.2 c_18
    refine lv_aload_n hx hb dX4_line_21 rfl (lv_at hl 0 rfl) ?_
    refine lv_iconst (v := 1) hx hb dX4_line_22 (by decide) ?_
    refine ml_calli (As := [.int (1 : Int32)]) (rest := []) (cells := 0) (slots := 0) hE hI (fun h hS => snd_X4_fails l G _ h ad (upd F 0 (0 : Int32)) A L (1 : Int32) _ hS hw) (cwV 1 hts (lw_V q2149 q2151 qs43 q108 q2152) rfl rfl rfl (by decide +kernel) ⟨Nat.le_of_ble_eq_true rfl, Nat.le_of_ble_eq_true rfl⟩) rfl hl.1 (Nat.le_of_ble_eq_true rfl) dX4_line_23 ⟨Nat.le_of_ble_eq_true rfl, Nat.le_of_ble_eq_true rfl⟩ (fun r12 F12 A12 L12 H locs hw hI => ?_)
    exact ml_iret hE hI hw dX4_line_26

/-- MatchmakerRulesModel.writesNumber(I)V -/
abbrev rm_X4_writesNumber : Room := { frames := 2, cells := 0, slots := 0, locals := 33 }
def wp_X4_writesNumber_L20 (Q : (Nat → Int32) → (Nat → Nat → Int32) → (Nat → UInt32) → Prop) : Nat → (Nat → Int32) → (Nat → Nat → Int32) → (Nat → UInt32) → (Int32) → (Int32) → Prop
  | 0, _, _, _, _, _ => False
  | n + 1, F, A, L, x1, x3 => ((x3 ≤ 0 → Q F A L) ∧ (¬ x3 ≤ 0 → (¬ x3 = 0 ∧ (¬ (10 : Int32) = 0 ∧ wp_X4_writes F A L ((48 : Int32) + ((x1 / x3) - (x1 / x3) / (10 : Int32) * (10 : Int32))) (fun F1 A1 L1 => (¬ (10 : Int32) = 0 ∧ wp_X4_writesNumber_L20 Q n F1 A1 L1 x1 (x3 / (10 : Int32))))))))
set_option maxHeartbeats 4000000 in
theorem snd_X4_writesNumber_L20 {p : Program} {l : Launch} {e : Env} {s : State} {m : MethodId} {args : Array Value} {below : List Frame} {meth : Method} {c : Code} {G : GG} {h0 : HH} {ad : Nat → Nat} (hE : hv_E p s m args meth c cX4_writesNumber 4 (none : Option FieldType) RX4 G h0) (Q : (Nat → Int32) → (Nat → Nat → Int32) → (Nat → UInt32) → Prop) : ∀ (n : Nat) (F : Nat → Int32) (A : Nat → Nat → Int32) (L : Nat → UInt32) (x1 : Int32) (x3 : Int32), wp_X4_writesNumber_L20 Q n F A L x1 x3 → ∀ (H : Heap) (locs : List Loc) (ls : Array Slot), ml_I G h0 s.heap ad F A L H locs → lv_has ls 4 [(0, .ref (ad 0)), (1, .int x1), (3, .int x3)] → W p l e (headSpec (ws_ yX4_writesNumber cX4_writesNumber 4 (none : Option FieldType)) rm_X4_writesNumber).room s m args below meth c H locs 0 0 (MQ below (hv_Qv G h0 s.heap.size (ml_Q G h0 ad Q)) args s 0 0 (hv_A h0 s.heap.size)) (F0 m 20 ls []) := by
  obtain ⟨⟨hx, hb, hml, hown, hts⟩, hr, hlocks, -⟩ := id hE
  intro n
  induction n with
  | zero => intro F A L x1 x3 hw; exact hw.elim
  | succ n ih =>
    intro F A L x1 x3 hw H locs ls hI hl
    unfold wp_X4_writesNumber_L20 at hw
    refine lv_iload_n hx hb dX4_writesNumber_20 rfl (lv_at hl 2 rfl) ?_
    refine lv_if_le (tgt := 45) hx hb dX4_writesNumber_21 (by decide) (fun c_21 => ?_) (fun c_21 => ?_)
    · have hw := hw.1 c_21
      exact ml_vret hE hI hw dX4_writesNumber_45
    · have hw := hw.2 c_21
      refine lv_aload_n hx hb dX4_writesNumber_24 rfl (lv_at hl 0 rfl) ?_
      refine lv_bipush (v := 48) hx hb dX4_writesNumber_25 (by decide) ?_
      refine lv_iload_n hx hb dX4_writesNumber_27 rfl (lv_at hl 1 rfl) ?_
      refine lv_iload_n hx hb dX4_writesNumber_28 rfl (lv_at hl 2 rfl) ?_
      obtain ⟨hne, hw⟩ := hw
      refine lv_idiv hx hb dX4_writesNumber_29 hne ?_
      refine lv_bipush (v := 10) hx hb dX4_writesNumber_30 (by decide) ?_
      obtain ⟨hne, hw⟩ := hw
      refine lv_irem hx hb dX4_writesNumber_32 hne ?_
      refine lv_iadd hx hb dX4_writesNumber_33 ?_
      refine ml_callv (As := [.int ((48 : Int32) + ((x1 / x3) - (x1 / x3) / (10 : Int32) * (10 : Int32)))]) (rest := []) (cells := 0) (slots := 0) hE hI (fun h hS => snd_X4_writes l G _ h ad F A L ((48 : Int32) + ((x1 / x3) - (x1 / x3) / (10 : Int32) * (10 : Int32))) _ hS hw) (cwV 1 hts (lw_V q2403 q2405 qs85 q108 q2406) rfl rfl rfl (by decide +kernel) ⟨Nat.le_of_ble_eq_true rfl, Nat.le_of_ble_eq_true rfl⟩) rfl hl.1 (Nat.le_of_ble_eq_true rfl) dX4_writesNumber_34 ⟨Nat.le_of_ble_eq_true rfl, Nat.le_of_ble_eq_true rfl⟩ (fun F1 A1 L1 H locs hw hI => ?_)
      refine lv_iload_n hx hb dX4_writesNumber_37 rfl (lv_at hl 2 rfl) ?_
      refine lv_bipush (v := 10) hx hb dX4_writesNumber_38 (by decide) ?_
      obtain ⟨hne, hw⟩ := hw
      refine lv_idiv hx hb dX4_writesNumber_40 hne ?_
      refine lv_istore_n (lv' := [(3, .int (x3 / (10 : Int32))), (0, .ref (ad 0)), (1, .int x1)]) hx hb dX4_writesNumber_41 rfl hl (by decide) rfl (fun ls hl => ?_)
      refine lv_goto (tgt := 20) hx hb dX4_writesNumber_42 (by decide) ?_
      exact ih F1 A1 L1 x1 (x3 / (10 : Int32)) hw _ _ _ hI (lv_sub hl [1, 2, 0] rfl)
def wp_X4_writesNumber_L2 (Q : (Nat → Int32) → (Nat → Nat → Int32) → (Nat → UInt32) → Prop) : Nat → (Nat → Int32) → (Nat → Nat → Int32) → (Nat → UInt32) → (Int32) → (Int32) → Prop
  | 0, _, _, _, _, _ => False
  | n + 1, F, A, L, x1, x2 => (¬ x2 = 0 ∧ (((x1 / x2) ≤ (9 : Int32) → (∃ n20, wp_X4_writesNumber_L20 Q n20 F A L x1 x2)) ∧ (¬ (x1 / x2) ≤ (9 : Int32) → wp_X4_writesNumber_L2 Q n F A L x1 (x2 * (10 : Int32)))))
set_option maxHeartbeats 4000000 in
theorem snd_X4_writesNumber_L2 {p : Program} {l : Launch} {e : Env} {s : State} {m : MethodId} {args : Array Value} {below : List Frame} {meth : Method} {c : Code} {G : GG} {h0 : HH} {ad : Nat → Nat} (hE : hv_E p s m args meth c cX4_writesNumber 4 (none : Option FieldType) RX4 G h0) (Q : (Nat → Int32) → (Nat → Nat → Int32) → (Nat → UInt32) → Prop) : ∀ (n : Nat) (F : Nat → Int32) (A : Nat → Nat → Int32) (L : Nat → UInt32) (x1 : Int32) (x2 : Int32), wp_X4_writesNumber_L2 Q n F A L x1 x2 → ∀ (H : Heap) (locs : List Loc) (ls : Array Slot), ml_I G h0 s.heap ad F A L H locs → lv_has ls 4 [(0, .ref (ad 0)), (1, .int x1), (2, .int x2)] → W p l e (headSpec (ws_ yX4_writesNumber cX4_writesNumber 4 (none : Option FieldType)) rm_X4_writesNumber).room s m args below meth c H locs 0 0 (MQ below (hv_Qv G h0 s.heap.size (ml_Q G h0 ad Q)) args s 0 0 (hv_A h0 s.heap.size)) (F0 m 2 ls []) := by
  obtain ⟨⟨hx, hb, hml, hown, hts⟩, hr, hlocks, -⟩ := id hE
  intro n
  induction n with
  | zero => intro F A L x1 x2 hw; exact hw.elim
  | succ n ih =>
    intro F A L x1 x2 hw H locs ls hI hl
    unfold wp_X4_writesNumber_L2 at hw
    refine lv_iload_n hx hb dX4_writesNumber_2 rfl (lv_at hl 1 rfl) ?_
    refine lv_iload_n hx hb dX4_writesNumber_3 rfl (lv_at hl 2 rfl) ?_
    obtain ⟨hne, hw⟩ := hw
    refine lv_idiv hx hb dX4_writesNumber_4 hne ?_
    refine lv_bipush (v := 9) hx hb dX4_writesNumber_5 (by decide) ?_
    refine lv_icmp_le (tgt := 18) hx hb dX4_writesNumber_7 (by decide) (fun c_7 => ?_) (fun c_7 => ?_)
    · have hw := hw.1 c_7
      refine lv_iload_n hx hb dX4_writesNumber_18 rfl (lv_at hl 2 rfl) ?_
      refine lv_istore_n (lv' := [(3, .int x2), (0, .ref (ad 0)), (1, .int x1), (2, .int x2)]) hx hb dX4_writesNumber_19 rfl hl (by decide) rfl (fun ls hl => ?_)
      obtain ⟨n20, hw⟩ := hw
      exact snd_X4_writesNumber_L20 hE Q n20 F A L x1 x2 hw _ _ _ hI (lv_sub hl [1, 2, 0] rfl)
    · have hw := hw.2 c_7
      refine lv_iload_n hx hb dX4_writesNumber_10 rfl (lv_at hl 2 rfl) ?_
      refine lv_bipush (v := 10) hx hb dX4_writesNumber_11 (by decide) ?_
      refine lv_imul hx hb dX4_writesNumber_13 ?_
      refine lv_istore_n (lv' := [(2, .int (x2 * (10 : Int32))), (0, .ref (ad 0)), (1, .int x1)]) hx hb dX4_writesNumber_14 rfl hl (by decide) rfl (fun ls hl => ?_)
      refine lv_goto (tgt := 2) hx hb dX4_writesNumber_15 (by decide) ?_
      exact ih F A L x1 (x2 * (10 : Int32)) hw _ _ _ hI (lv_sub hl [1, 2, 0] rfl)
def wp_X4_writesNumber (F : Nat → Int32) (A : Nat → Nat → Int32) (L : Nat → UInt32) (x1 : Int32) (Q : (Nat → Int32) → (Nat → Nat → Int32) → (Nat → UInt32) → Prop) : Prop := (∃ n2, wp_X4_writesNumber_L2 Q n2 F A L x1 (1 : Int32))
set_option maxHeartbeats 4000000 in
theorem snd_X4_writesNumber (l : Launch) (G : GG) (sz : Nat) (h : HH) (ad : Nat → Nat) (F : Nat → Int32) (A : Nat → Nat → Int32) (L : Nat → UInt32) (x1 : Int32) (Q : (Nat → Int32) → (Nat → Nat → Int32) → (Nat → UInt32) → Prop) (hS : ml_S G h ad F A L) (hw : wp_X4_writesNumber F A L x1 Q) : Met l yX4_writesNumber (ws_ yX4_writesNumber cX4_writesNumber 4 (none : Option FieldType)) rm_X4_writesNumber (hv_Pc G h sz [.ref (ad 0), .int x1]) (hv_Qv G h sz (ml_Q G h ad Q)) 0 0 (hv_A h sz) := by
  refine Met.ofW (cc := cX4_writesNumber) (maxL := 4) (ret := (none : Option FieldType)) (by decide) rfl ?_
  intro p e s m args below meth c s₁ B hml hv
  obtain ⟨rfl, rfl, hE, hI⟩ := hv_open B hml hv
  have hE : hv_E p s m ([.ref (ad 0), .int x1] : List Value).toArray meth c cX4_writesNumber 4 (none : Option FieldType) RX4 G h := hE
  have hI := ml_I.start hI hS
  obtain ⟨⟨hx, hb, hml, hown, hts⟩, hr, hlocks, -⟩ := id hE
  have hl := lv_entry ([.ref (ad 0), .int x1] : List Value) (n := 4) (Nat.le_of_ble_eq_true rfl)
  rw [lg_entry_eq]
  generalize (lg_sl ([.ref (ad 0), .int x1] : List Value) ++ List.replicate (4 - (lg_sl ([.ref (ad 0), .int x1] : List Value)).length) Slot.unset).toArray = ls at hl ⊢
  have hl : lv_has ls 4 [(0, .ref (ad 0)), (1, .int x1)] := hl
  unfold wp_X4_writesNumber at hw
  refine lv_iconst (v := 1) hx hb dX4_writesNumber_0 (by decide) ?_
  refine lv_istore_n (lv' := [(2, .int (1 : Int32)), (0, .ref (ad 0)), (1, .int x1)]) hx hb dX4_writesNumber_1 rfl hl (by decide) rfl (fun ls hl => ?_)
  obtain ⟨n2, hw⟩ := hw
  exact snd_X4_writesNumber_L2 hE Q n2 F A L x1 (1 : Int32) hw _ _ _ hI (lv_sub hl [1, 2, 0] rfl)

/-- MatchmakerRulesModel.factLine(I)I -/
abbrev rm_X4_factLine : Room := { frames := 3, cells := 0, slots := 0, locals := 56 }
def wp_X4_factLine_L107 (Q : Int32 → (Nat → Int32) → (Nat → Nat → Int32) → (Nat → UInt32) → Prop) : Nat → (Nat → Int32) → (Nat → Nat → Int32) → (Nat → UInt32) → (Int32) → (Int32) → Prop
  | 0, _, _, _, _, _ => False
  | n + 1, F, A, L, x1, x3 => (((A 1 6) ≤ x3 → Q (F 24) F A L) ∧ (¬ (A 1 6) ≤ x3 → wp_X4_isReasonOf F A L x3 x1 (fun r7 F7 A7 L7 => ((¬ r7 = 0 → wp_X4_writes F7 A7 L7 (32 : Int32) (fun F8 A8 L8 => wp_X4_writes F8 A8 L8 (114 : Int32) (fun F9 A9 L9 => wp_X4_firing F9 A9 L9 x3 (0 : Int32) (fun r10 F10 A10 L10 => wp_X4_writes F10 A10 L10 ((48 : Int32) + r10) (fun F11 A11 L11 => wp_X4_writes F11 A11 L11 (44 : Int32) (fun F12 A12 L12 => wp_X4_firing F12 A12 L12 x3 (1 : Int32) (fun r13 F13 A13 L13 => wp_X4_writesNumber F13 A13 L13 r13 (fun F14 A14 L14 => wp_X4_firing F14 A14 L14 x3 (2 : Int32) (fun r15 F15 A15 L15 => ((¬ r15 = (-1 : Int32) → wp_X4_writes F15 A15 L15 (44 : Int32) (fun F16 A16 L16 => wp_X4_firing F16 A16 L16 x3 (2 : Int32) (fun r17 F17 A17 L17 => wp_X4_writesNumber F17 A17 L17 r17 (fun F18 A18 L18 => wp_X4_factLine_L107 Q n F18 A18 L18 x1 (x3 + (1 : Int32)))))) ∧ (r15 = (-1 : Int32) → wp_X4_factLine_L107 Q n F15 A15 L15 x1 (x3 + (1 : Int32))))))))))))) ∧ (r7 = 0 → wp_X4_factLine_L107 Q n F7 A7 L7 x1 (x3 + (1 : Int32)))))))
set_option maxHeartbeats 4000000 in
theorem snd_X4_factLine_L107 {p : Program} {l : Launch} {e : Env} {s : State} {m : MethodId} {args : Array Value} {below : List Frame} {meth : Method} {c : Code} {G : GG} {h0 : HH} {ad : Nat → Nat} (hE : hv_E p s m args meth c cX4_factLine 4 (some FieldType.int) RX4 G h0) (Q : Int32 → (Nat → Int32) → (Nat → Nat → Int32) → (Nat → UInt32) → Prop) : ∀ (n : Nat) (F : Nat → Int32) (A : Nat → Nat → Int32) (L : Nat → UInt32) (x1 : Int32) (x3 : Int32), wp_X4_factLine_L107 Q n F A L x1 x3 → ∀ (H : Heap) (locs : List Loc) (ls : Array Slot), ml_I G h0 s.heap ad F A L H locs → lv_has ls 4 [(0, .ref (ad 0)), (1, .int x1), (3, .int x3)] → W p l e (headSpec (ws_ yX4_factLine cX4_factLine 4 (some FieldType.int)) rm_X4_factLine).room s m args below meth c H locs 0 0 (MQ below (hv_Qi G h0 s.heap.size (fun r => ml_Q G h0 ad (Q r))) args s 0 0 (hv_A h0 s.heap.size)) (F0 m 107 ls []) := by
  obtain ⟨⟨hx, hb, hml, hown, hts⟩, hr, hlocks, -⟩ := id hE
  intro n
  induction n with
  | zero => intro F A L x1 x3 hw; exact hw.elim
  | succ n ih =>
    intro F A L x1 x3 hw H locs ls hI hl
    unfold wp_X4_factLine_L107 at hw
    refine lv_iload_n hx hb dX4_factLine_107 rfl (lv_at hl 2 rfl) ?_
    refine lv_aload_n hx hb dX4_factLine_108 rfl (lv_at hl 0 rfl) ?_
    refine ml_get hE hI 1 (by decide) q1986 rfl rfl dX4_factLine_109 ?_
    refine lv_bipush (v := 6) hx hb dX4_factLine_112 (by decide) ?_
    have hin : vp_in (6 : Int32) 13675 := by unfold vp_in; decide +kernel
    refine ml_iald hE hI 1 rfl rfl (show Int32.toNatClampNeg (6 : Int32) = 6 from by decide +kernel) hin dX4_factLine_114 ?_
    refine lv_icmp_ge (tgt := 206) hx hb dX4_factLine_115 (by decide) (fun c_115 => ?_) (fun c_115 => ?_)
    · have hw := hw.1 c_115
      refine lv_aload_n hx hb dX4_factLine_206 rfl (lv_at hl 0 rfl) ?_
      refine ml_get hE hI 24 (by decide) q2009 rfl rfl dX4_factLine_207 ?_
      exact ml_iret hE hI hw dX4_factLine_210
    · have hw := hw.2 c_115
      refine lv_aload_n hx hb dX4_factLine_118 rfl (lv_at hl 0 rfl) ?_
      refine lv_iload_n hx hb dX4_factLine_119 rfl (lv_at hl 2 rfl) ?_
      refine lv_iload_n hx hb dX4_factLine_120 rfl (lv_at hl 1 rfl) ?_
      refine ml_calli (As := [.int x3, .int x1]) (rest := []) (cells := 0) (slots := 0) hE hI (fun h hS => snd_X4_isReasonOf l G _ h ad F A L x3 x1 _ hS hw) (cwV 2 hts (lw_V q2244 q2246 qs63 q108 q2247) rfl rfl rfl (by decide +kernel) ⟨Nat.le_of_ble_eq_true rfl, Nat.le_of_ble_eq_true rfl⟩) rfl hl.1 (Nat.le_of_ble_eq_true rfl) dX4_factLine_121 ⟨Nat.le_of_ble_eq_true rfl, Nat.le_of_ble_eq_true rfl⟩ (fun r7 F7 A7 L7 H locs hw hI => ?_)
      refine lv_if_ne (tgt := 130) hx hb dX4_factLine_124 (by decide) (fun c_124 => ?_) (fun c_124 => ?_)
      · have hw := hw.1 c_124
        refine lv_aload_n hx hb dX4_factLine_130 rfl (lv_at hl 0 rfl) ?_
        refine lv_bipush (v := 32) hx hb dX4_factLine_131 (by decide) ?_
        refine ml_callv (As := [.int (32 : Int32)]) (rest := []) (cells := 0) (slots := 0) hE hI (fun h hS => snd_X4_writes l G _ h ad F7 A7 L7 (32 : Int32) _ hS hw) (cwV 1 hts (lw_V q2403 q2405 qs85 q108 q2406) rfl rfl rfl (by decide +kernel) ⟨Nat.le_of_ble_eq_true rfl, Nat.le_of_ble_eq_true rfl⟩) rfl hl.1 (Nat.le_of_ble_eq_true rfl) dX4_factLine_133 ⟨Nat.le_of_ble_eq_true rfl, Nat.le_of_ble_eq_true rfl⟩ (fun F8 A8 L8 H locs hw hI => ?_)
        refine lv_aload_n hx hb dX4_factLine_136 rfl (lv_at hl 0 rfl) ?_
        refine lv_bipush (v := 114) hx hb dX4_factLine_137 (by decide) ?_
        refine ml_callv (As := [.int (114 : Int32)]) (rest := []) (cells := 0) (slots := 0) hE hI (fun h hS => snd_X4_writes l G _ h ad F8 A8 L8 (114 : Int32) _ hS hw) (cwV 1 hts (lw_V q2403 q2405 qs85 q108 q2406) rfl rfl rfl (by decide +kernel) ⟨Nat.le_of_ble_eq_true rfl, Nat.le_of_ble_eq_true rfl⟩) rfl hl.1 (Nat.le_of_ble_eq_true rfl) dX4_factLine_139 ⟨Nat.le_of_ble_eq_true rfl, Nat.le_of_ble_eq_true rfl⟩ (fun F9 A9 L9 H locs hw hI => ?_)
        refine lv_aload_n hx hb dX4_factLine_142 rfl (lv_at hl 0 rfl) ?_
        refine lv_bipush (v := 48) hx hb dX4_factLine_143 (by decide) ?_
        refine lv_aload_n hx hb dX4_factLine_145 rfl (lv_at hl 0 rfl) ?_
        refine lv_iload_n hx hb dX4_factLine_146 rfl (lv_at hl 2 rfl) ?_
        refine lv_iconst (v := 0) hx hb dX4_factLine_147 (by decide) ?_
        refine ml_calli (As := [.int x3, .int (0 : Int32)]) (rest := [.int (48 : Int32), .ref (ad 0)]) (cells := 0) (slots := 0) hE hI (fun h hS => snd_X4_firing l G _ h ad F9 A9 L9 x3 (0 : Int32) _ hS hw) (cwV 2 hts (lw_V q2182 q2184 qs50 q108 q2185) rfl rfl rfl (by decide +kernel) ⟨Nat.le_of_ble_eq_true rfl, Nat.le_of_ble_eq_true rfl⟩) rfl hl.1 (Nat.le_of_ble_eq_true rfl) dX4_factLine_148 ⟨Nat.le_of_ble_eq_true rfl, Nat.le_of_ble_eq_true rfl⟩ (fun r10 F10 A10 L10 H locs hw hI => ?_)
        refine lv_iadd hx hb dX4_factLine_151 ?_
        refine ml_callv (As := [.int ((48 : Int32) + r10)]) (rest := []) (cells := 0) (slots := 0) hE hI (fun h hS => snd_X4_writes l G _ h ad F10 A10 L10 ((48 : Int32) + r10) _ hS hw) (cwV 1 hts (lw_V q2403 q2405 qs85 q108 q2406) rfl rfl rfl (by decide +kernel) ⟨Nat.le_of_ble_eq_true rfl, Nat.le_of_ble_eq_true rfl⟩) rfl hl.1 (Nat.le_of_ble_eq_true rfl) dX4_factLine_152 ⟨Nat.le_of_ble_eq_true rfl, Nat.le_of_ble_eq_true rfl⟩ (fun F11 A11 L11 H locs hw hI => ?_)
        refine lv_aload_n hx hb dX4_factLine_155 rfl (lv_at hl 0 rfl) ?_
        refine lv_bipush (v := 44) hx hb dX4_factLine_156 (by decide) ?_
        refine ml_callv (As := [.int (44 : Int32)]) (rest := []) (cells := 0) (slots := 0) hE hI (fun h hS => snd_X4_writes l G _ h ad F11 A11 L11 (44 : Int32) _ hS hw) (cwV 1 hts (lw_V q2403 q2405 qs85 q108 q2406) rfl rfl rfl (by decide +kernel) ⟨Nat.le_of_ble_eq_true rfl, Nat.le_of_ble_eq_true rfl⟩) rfl hl.1 (Nat.le_of_ble_eq_true rfl) dX4_factLine_158 ⟨Nat.le_of_ble_eq_true rfl, Nat.le_of_ble_eq_true rfl⟩ (fun F12 A12 L12 H locs hw hI => ?_)
        refine lv_aload_n hx hb dX4_factLine_161 rfl (lv_at hl 0 rfl) ?_
        refine lv_aload_n hx hb dX4_factLine_162 rfl (lv_at hl 0 rfl) ?_
        refine lv_iload_n hx hb dX4_factLine_163 rfl (lv_at hl 2 rfl) ?_
        refine lv_iconst (v := 1) hx hb dX4_factLine_164 (by decide) ?_
        refine ml_calli (As := [.int x3, .int (1 : Int32)]) (rest := [.ref (ad 0)]) (cells := 0) (slots := 0) hE hI (fun h hS => snd_X4_firing l G _ h ad F12 A12 L12 x3 (1 : Int32) _ hS hw) (cwV 2 hts (lw_V q2182 q2184 qs50 q108 q2185) rfl rfl rfl (by decide +kernel) ⟨Nat.le_of_ble_eq_true rfl, Nat.le_of_ble_eq_true rfl⟩) rfl hl.1 (Nat.le_of_ble_eq_true rfl) dX4_factLine_165 ⟨Nat.le_of_ble_eq_true rfl, Nat.le_of_ble_eq_true rfl⟩ (fun r13 F13 A13 L13 H locs hw hI => ?_)
        refine ml_callv (As := [.int r13]) (rest := []) (cells := 0) (slots := 0) hE hI (fun h hS => snd_X4_writesNumber l G _ h ad F13 A13 L13 r13 _ hS hw) (cwV 1 hts (lw_V q2415 q2417 qs87 q108 q2418) rfl rfl rfl (by decide +kernel) ⟨Nat.le_of_ble_eq_true rfl, Nat.le_of_ble_eq_true rfl⟩) rfl hl.1 (Nat.le_of_ble_eq_true rfl) dX4_factLine_168 ⟨Nat.le_of_ble_eq_true rfl, Nat.le_of_ble_eq_true rfl⟩ (fun F14 A14 L14 H locs hw hI => ?_)
        refine lv_aload_n hx hb dX4_factLine_171 rfl (lv_at hl 0 rfl) ?_
        refine lv_iload_n hx hb dX4_factLine_172 rfl (lv_at hl 2 rfl) ?_
        refine lv_iconst (v := 2) hx hb dX4_factLine_173 (by decide) ?_
        refine ml_calli (As := [.int x3, .int (2 : Int32)]) (rest := []) (cells := 0) (slots := 0) hE hI (fun h hS => snd_X4_firing l G _ h ad F14 A14 L14 x3 (2 : Int32) _ hS hw) (cwV 2 hts (lw_V q2182 q2184 qs50 q108 q2185) rfl rfl rfl (by decide +kernel) ⟨Nat.le_of_ble_eq_true rfl, Nat.le_of_ble_eq_true rfl⟩) rfl hl.1 (Nat.le_of_ble_eq_true rfl) dX4_factLine_174 ⟨Nat.le_of_ble_eq_true rfl, Nat.le_of_ble_eq_true rfl⟩ (fun r15 F15 A15 L15 H locs hw hI => ?_)
        refine lv_iconst (v := -1) hx hb dX4_factLine_177 (by decide) ?_
        refine lv_icmp_ne (tgt := 184) hx hb dX4_factLine_178 (by decide) (fun c_178 => ?_) (fun c_178 => ?_)
        · have hw := hw.1 c_178
          refine lv_aload_n hx hb dX4_factLine_184 rfl (lv_at hl 0 rfl) ?_
          refine lv_bipush (v := 44) hx hb dX4_factLine_185 (by decide) ?_
          refine ml_callv (As := [.int (44 : Int32)]) (rest := []) (cells := 0) (slots := 0) hE hI (fun h hS => snd_X4_writes l G _ h ad F15 A15 L15 (44 : Int32) _ hS hw) (cwV 1 hts (lw_V q2403 q2405 qs85 q108 q2406) rfl rfl rfl (by decide +kernel) ⟨Nat.le_of_ble_eq_true rfl, Nat.le_of_ble_eq_true rfl⟩) rfl hl.1 (Nat.le_of_ble_eq_true rfl) dX4_factLine_187 ⟨Nat.le_of_ble_eq_true rfl, Nat.le_of_ble_eq_true rfl⟩ (fun F16 A16 L16 H locs hw hI => ?_)
          refine lv_aload_n hx hb dX4_factLine_190 rfl (lv_at hl 0 rfl) ?_
          refine lv_aload_n hx hb dX4_factLine_191 rfl (lv_at hl 0 rfl) ?_
          refine lv_iload_n hx hb dX4_factLine_192 rfl (lv_at hl 2 rfl) ?_
          refine lv_iconst (v := 2) hx hb dX4_factLine_193 (by decide) ?_
          refine ml_calli (As := [.int x3, .int (2 : Int32)]) (rest := [.ref (ad 0)]) (cells := 0) (slots := 0) hE hI (fun h hS => snd_X4_firing l G _ h ad F16 A16 L16 x3 (2 : Int32) _ hS hw) (cwV 2 hts (lw_V q2182 q2184 qs50 q108 q2185) rfl rfl rfl (by decide +kernel) ⟨Nat.le_of_ble_eq_true rfl, Nat.le_of_ble_eq_true rfl⟩) rfl hl.1 (Nat.le_of_ble_eq_true rfl) dX4_factLine_194 ⟨Nat.le_of_ble_eq_true rfl, Nat.le_of_ble_eq_true rfl⟩ (fun r17 F17 A17 L17 H locs hw hI => ?_)
          refine ml_callv (As := [.int r17]) (rest := []) (cells := 0) (slots := 0) hE hI (fun h hS => snd_X4_writesNumber l G _ h ad F17 A17 L17 r17 _ hS hw) (cwV 1 hts (lw_V q2415 q2417 qs87 q108 q2418) rfl rfl rfl (by decide +kernel) ⟨Nat.le_of_ble_eq_true rfl, Nat.le_of_ble_eq_true rfl⟩) rfl hl.1 (Nat.le_of_ble_eq_true rfl) dX4_factLine_197 ⟨Nat.le_of_ble_eq_true rfl, Nat.le_of_ble_eq_true rfl⟩ (fun F18 A18 L18 H locs hw hI => ?_)
          refine lv_iinc (v := (x3 + (1 : Int32))) (lv' := [(3, .int (x3 + (1 : Int32))), (0, .ref (ad 0)), (1, .int x1)]) hx hb dX4_factLine_200 hl (k := 2) rfl rfl (by decide) rfl (fun ls hl => ?_)
          refine lv_goto (tgt := 107) hx hb dX4_factLine_203 (by decide) ?_
          exact ih F18 A18 L18 x1 (x3 + (1 : Int32)) hw _ _ _ hI (lv_sub hl [1, 2, 0] rfl)
        · have hw := hw.2 c_178
          refine lv_goto (tgt := 200) hx hb dX4_factLine_181 (by decide) ?_
          refine lv_iinc (v := (x3 + (1 : Int32))) (lv' := [(3, .int (x3 + (1 : Int32))), (0, .ref (ad 0)), (1, .int x1)]) hx hb dX4_factLine_200 hl (k := 2) rfl rfl (by decide) rfl (fun ls hl => ?_)
          refine lv_goto (tgt := 107) hx hb dX4_factLine_203 (by decide) ?_
          exact ih F15 A15 L15 x1 (x3 + (1 : Int32)) hw _ _ _ hI (lv_sub hl [1, 2, 0] rfl)
      · have hw := hw.2 c_124
        refine lv_goto (tgt := 200) hx hb dX4_factLine_127 (by decide) ?_
        refine lv_iinc (v := (x3 + (1 : Int32))) (lv' := [(3, .int (x3 + (1 : Int32))), (0, .ref (ad 0)), (1, .int x1)]) hx hb dX4_factLine_200 hl (k := 2) rfl rfl (by decide) rfl (fun ls hl => ?_)
        refine lv_goto (tgt := 107) hx hb dX4_factLine_203 (by decide) ?_
        exact ih F7 A7 L7 x1 (x3 + (1 : Int32)) hw _ _ _ hI (lv_sub hl [1, 2, 0] rfl)
def wp_X4_factLine (F : Nat → Int32) (A : Nat → Nat → Int32) (L : Nat → UInt32) (x1 : Int32) (Q : Int32 → (Nat → Int32) → (Nat → Nat → Int32) → (Nat → UInt32) → Prop) : Prop := wp_X4_slotOf (upd F 0 (0 : Int32)) A L x1 (fun r1 F1 A1 L1 => ((¬ r1 = (-1 : Int32) → wp_X4_writesNumber (upd F1 24 (0 : Int32)) A1 L1 x1 (fun F2 A2 L2 => wp_X4_writes F2 A2 L2 (58 : Int32) (fun F3 A3 L3 => (vp_in ((115 : Int32) + r1) 13675 ∧ wp_X4_writes F3 A3 L3 (A3 1 (Int32.toNatClampNeg ((115 : Int32) + r1))) (fun F4 A4 L4 => (vp_in ((135 : Int32) + r1) 13675 ∧ wp_X4_writes F4 A4 L4 ((48 : Int32) + (A4 1 (Int32.toNatClampNeg ((135 : Int32) + r1)))) (fun F5 A5 L5 => (vp_in ((155 : Int32) + r1) 13675 ∧ wp_X4_writes F5 A5 L5 ((48 : Int32) + (A5 1 (Int32.toNatClampNeg ((155 : Int32) + r1)))) (fun F6 A6 L6 => (vp_in ((175 : Int32) + r1) 13675 ∧ ((¬ (A6 1 (Int32.toNatClampNeg ((175 : Int32) + r1))) = (1 : Int32) → (∃ n107, wp_X4_factLine_L107 Q n107 F6 A6 L6 x1 (0 : Int32))) ∧ ((A6 1 (Int32.toNatClampNeg ((175 : Int32) + r1))) = (1 : Int32) → wp_X4_writes F6 A6 L6 (33 : Int32) (fun F19 A19 L19 => (∃ n107, wp_X4_factLine_L107 Q n107 F19 A19 L19 x1 (0 : Int32))))))))))))))) ∧ (r1 = (-1 : Int32) → wp_X4_fails F1 A1 L1 (1 : Int32) (fun r20 F20 A20 L20 => Q r20 F20 A20 L20))))
set_option maxHeartbeats 4000000 in
theorem snd_X4_factLine (l : Launch) (G : GG) (sz : Nat) (h : HH) (ad : Nat → Nat) (F : Nat → Int32) (A : Nat → Nat → Int32) (L : Nat → UInt32) (x1 : Int32) (Q : Int32 → (Nat → Int32) → (Nat → Nat → Int32) → (Nat → UInt32) → Prop) (hS : ml_S G h ad F A L) (hw : wp_X4_factLine F A L x1 Q) : Met l yX4_factLine (ws_ yX4_factLine cX4_factLine 4 (some FieldType.int)) rm_X4_factLine (hv_Pc G h sz [.ref (ad 0), .int x1]) (hv_Qi G h sz (fun r => ml_Q G h ad (Q r))) 0 0 (hv_A h sz) := by
  refine Met.ofW (cc := cX4_factLine) (maxL := 4) (ret := (some FieldType.int)) (by decide) rfl ?_
  intro p e s m args below meth c s₁ B hml hv
  obtain ⟨rfl, rfl, hE, hI⟩ := hv_open B hml hv
  have hE : hv_E p s m ([.ref (ad 0), .int x1] : List Value).toArray meth c cX4_factLine 4 (some FieldType.int) RX4 G h := hE
  have hI := ml_I.start hI hS
  obtain ⟨⟨hx, hb, hml, hown, hts⟩, hr, hlocks, -⟩ := id hE
  have hl := lv_entry ([.ref (ad 0), .int x1] : List Value) (n := 4) (Nat.le_of_ble_eq_true rfl)
  rw [lg_entry_eq]
  generalize (lg_sl ([.ref (ad 0), .int x1] : List Value) ++ List.replicate (4 - (lg_sl ([.ref (ad 0), .int x1] : List Value)).length) Slot.unset).toArray = ls at hl ⊢
  have hl : lv_has ls 4 [(0, .ref (ad 0)), (1, .int x1)] := hl
  unfold wp_X4_factLine at hw
  refine lv_aload_n hx hb dX4_factLine_0 rfl (lv_at hl 0 rfl) ?_
  refine lv_iconst (v := 0) hx hb dX4_factLine_1 (by decide) ?_
  refine ml_put hE hI 0 (by decide) q1985 rfl rfl (ty := .int) rfl rfl rfl (fun _ => rfl) dX4_factLine_2 (fun H locs hI => ?_)
  refine lv_aload_n hx hb dX4_factLine_5 rfl (lv_at hl 0 rfl) ?_
  refine lv_iload_n hx hb dX4_factLine_6 rfl (lv_at hl 1 rfl) ?_
  refine ml_calli (As := [.int x1]) (rest := []) (cells := 0) (slots := 0) hE hI (fun h hS => snd_X4_slotOf l G _ h ad (upd F 0 (0 : Int32)) A L x1 _ hS hw) (cwV 1 hts (lw_V q2198 q2200 qs54 q108 q2201) rfl rfl rfl (by decide +kernel) ⟨Nat.le_of_ble_eq_true rfl, Nat.le_of_ble_eq_true rfl⟩) rfl hl.1 (Nat.le_of_ble_eq_true rfl) dX4_factLine_7 ⟨Nat.le_of_ble_eq_true rfl, Nat.le_of_ble_eq_true rfl⟩ (fun r1 F1 A1 L1 H locs hw hI => ?_)
  refine lv_istore_n (lv' := [(2, .int r1), (0, .ref (ad 0)), (1, .int x1)]) hx hb dX4_factLine_10 rfl hl (by decide) rfl (fun ls hl => ?_)
  refine lv_iload_n hx hb dX4_factLine_11 rfl (lv_at hl 0 rfl) ?_
  refine lv_iconst (v := -1) hx hb dX4_factLine_12 (by decide) ?_
  refine lv_icmp_ne (tgt := 22) hx hb dX4_factLine_13 (by decide) (fun c_13 => ?_) (fun c_13 => ?_)
  · have hw := hw.1 c_13
    refine lv_aload_n hx hb dX4_factLine_22 rfl (lv_at hl 1 rfl) ?_
    refine lv_iconst (v := 0) hx hb dX4_factLine_23 (by decide) ?_
    refine ml_put hE hI 24 (by decide) q2009 rfl rfl (ty := .int) rfl rfl rfl (fun _ => rfl) dX4_factLine_24 (fun H locs hI => ?_)
    refine lv_aload_n hx hb dX4_factLine_27 rfl (lv_at hl 1 rfl) ?_
    refine lv_iload_n hx hb dX4_factLine_28 rfl (lv_at hl 2 rfl) ?_
    refine ml_callv (As := [.int x1]) (rest := []) (cells := 0) (slots := 0) hE hI (fun h hS => snd_X4_writesNumber l G _ h ad (upd F1 24 (0 : Int32)) A1 L1 x1 _ hS hw) (cwV 1 hts (lw_V q2415 q2417 qs87 q108 q2418) rfl rfl rfl (by decide +kernel) ⟨Nat.le_of_ble_eq_true rfl, Nat.le_of_ble_eq_true rfl⟩) rfl hl.1 (Nat.le_of_ble_eq_true rfl) dX4_factLine_29 ⟨Nat.le_of_ble_eq_true rfl, Nat.le_of_ble_eq_true rfl⟩ (fun F2 A2 L2 H locs hw hI => ?_)
    refine lv_aload_n hx hb dX4_factLine_32 rfl (lv_at hl 1 rfl) ?_
    refine lv_bipush (v := 58) hx hb dX4_factLine_33 (by decide) ?_
    refine ml_callv (As := [.int (58 : Int32)]) (rest := []) (cells := 0) (slots := 0) hE hI (fun h hS => snd_X4_writes l G _ h ad F2 A2 L2 (58 : Int32) _ hS hw) (cwV 1 hts (lw_V q2403 q2405 qs85 q108 q2406) rfl rfl rfl (by decide +kernel) ⟨Nat.le_of_ble_eq_true rfl, Nat.le_of_ble_eq_true rfl⟩) rfl hl.1 (Nat.le_of_ble_eq_true rfl) dX4_factLine_35 ⟨Nat.le_of_ble_eq_true rfl, Nat.le_of_ble_eq_true rfl⟩ (fun F3 A3 L3 H locs hw hI => ?_)
    refine lv_aload_n hx hb dX4_factLine_38 rfl (lv_at hl 1 rfl) ?_
    refine lv_aload_n hx hb dX4_factLine_39 rfl (lv_at hl 1 rfl) ?_
    refine ml_get hE hI 1 (by decide) q1986 rfl rfl dX4_factLine_40 ?_
    refine lv_bipush (v := 115) hx hb dX4_factLine_43 (by decide) ?_
    refine lv_iload_n hx hb dX4_factLine_45 rfl (lv_at hl 0 rfl) ?_
    refine lv_iadd hx hb dX4_factLine_46 ?_
    obtain ⟨hin, hw⟩ := hw
    refine ml_iald hE hI 1 rfl rfl rfl hin dX4_factLine_47 ?_
    refine ml_callv (As := [.int (A3 1 (Int32.toNatClampNeg ((115 : Int32) + r1)))]) (rest := []) (cells := 0) (slots := 0) hE hI (fun h hS => snd_X4_writes l G _ h ad F3 A3 L3 (A3 1 (Int32.toNatClampNeg ((115 : Int32) + r1))) _ hS hw) (cwV 1 hts (lw_V q2403 q2405 qs85 q108 q2406) rfl rfl rfl (by decide +kernel) ⟨Nat.le_of_ble_eq_true rfl, Nat.le_of_ble_eq_true rfl⟩) rfl hl.1 (Nat.le_of_ble_eq_true rfl) dX4_factLine_48 ⟨Nat.le_of_ble_eq_true rfl, Nat.le_of_ble_eq_true rfl⟩ (fun F4 A4 L4 H locs hw hI => ?_)
    refine lv_aload_n hx hb dX4_factLine_51 rfl (lv_at hl 1 rfl) ?_
    refine lv_bipush (v := 48) hx hb dX4_factLine_52 (by decide) ?_
    refine lv_aload_n hx hb dX4_factLine_54 rfl (lv_at hl 1 rfl) ?_
    refine ml_get hE hI 1 (by decide) q1986 rfl rfl dX4_factLine_55 ?_
    refine lv_sipush (v := 135) hx hb dX4_factLine_58 (by decide) ?_
    refine lv_iload_n hx hb dX4_factLine_61 rfl (lv_at hl 0 rfl) ?_
    refine lv_iadd hx hb dX4_factLine_62 ?_
    obtain ⟨hin, hw⟩ := hw
    refine ml_iald hE hI 1 rfl rfl rfl hin dX4_factLine_63 ?_
    refine lv_iadd hx hb dX4_factLine_64 ?_
    refine ml_callv (As := [.int ((48 : Int32) + (A4 1 (Int32.toNatClampNeg ((135 : Int32) + r1))))]) (rest := []) (cells := 0) (slots := 0) hE hI (fun h hS => snd_X4_writes l G _ h ad F4 A4 L4 ((48 : Int32) + (A4 1 (Int32.toNatClampNeg ((135 : Int32) + r1)))) _ hS hw) (cwV 1 hts (lw_V q2403 q2405 qs85 q108 q2406) rfl rfl rfl (by decide +kernel) ⟨Nat.le_of_ble_eq_true rfl, Nat.le_of_ble_eq_true rfl⟩) rfl hl.1 (Nat.le_of_ble_eq_true rfl) dX4_factLine_65 ⟨Nat.le_of_ble_eq_true rfl, Nat.le_of_ble_eq_true rfl⟩ (fun F5 A5 L5 H locs hw hI => ?_)
    refine lv_aload_n hx hb dX4_factLine_68 rfl (lv_at hl 1 rfl) ?_
    refine lv_bipush (v := 48) hx hb dX4_factLine_69 (by decide) ?_
    refine lv_aload_n hx hb dX4_factLine_71 rfl (lv_at hl 1 rfl) ?_
    refine ml_get hE hI 1 (by decide) q1986 rfl rfl dX4_factLine_72 ?_
    refine lv_sipush (v := 155) hx hb dX4_factLine_75 (by decide) ?_
    refine lv_iload_n hx hb dX4_factLine_78 rfl (lv_at hl 0 rfl) ?_
    refine lv_iadd hx hb dX4_factLine_79 ?_
    obtain ⟨hin, hw⟩ := hw
    refine ml_iald hE hI 1 rfl rfl rfl hin dX4_factLine_80 ?_
    refine lv_iadd hx hb dX4_factLine_81 ?_
    refine ml_callv (As := [.int ((48 : Int32) + (A5 1 (Int32.toNatClampNeg ((155 : Int32) + r1))))]) (rest := []) (cells := 0) (slots := 0) hE hI (fun h hS => snd_X4_writes l G _ h ad F5 A5 L5 ((48 : Int32) + (A5 1 (Int32.toNatClampNeg ((155 : Int32) + r1)))) _ hS hw) (cwV 1 hts (lw_V q2403 q2405 qs85 q108 q2406) rfl rfl rfl (by decide +kernel) ⟨Nat.le_of_ble_eq_true rfl, Nat.le_of_ble_eq_true rfl⟩) rfl hl.1 (Nat.le_of_ble_eq_true rfl) dX4_factLine_82 ⟨Nat.le_of_ble_eq_true rfl, Nat.le_of_ble_eq_true rfl⟩ (fun F6 A6 L6 H locs hw hI => ?_)
    refine lv_aload_n hx hb dX4_factLine_85 rfl (lv_at hl 1 rfl) ?_
    refine ml_get hE hI 1 (by decide) q1986 rfl rfl dX4_factLine_86 ?_
    refine lv_sipush (v := 175) hx hb dX4_factLine_89 (by decide) ?_
    refine lv_iload_n hx hb dX4_factLine_92 rfl (lv_at hl 0 rfl) ?_
    refine lv_iadd hx hb dX4_factLine_93 ?_
    obtain ⟨hin, hw⟩ := hw
    refine ml_iald hE hI 1 rfl rfl rfl hin dX4_factLine_94 ?_
    refine lv_iconst (v := 1) hx hb dX4_factLine_95 (by decide) ?_
    refine lv_icmp_ne (tgt := 105) hx hb dX4_factLine_96 (by decide) (fun c_96 => ?_) (fun c_96 => ?_)
    · have hw := hw.1 c_96
      refine lv_iconst (v := 0) hx hb dX4_factLine_105 (by decide) ?_
      refine lv_istore_n (lv' := [(3, .int (0 : Int32)), (2, .int r1), (0, .ref (ad 0)), (1, .int x1)]) hx hb dX4_factLine_106 rfl hl (by decide) rfl (fun ls hl => ?_)
      obtain ⟨n107, hw⟩ := hw
      exact snd_X4_factLine_L107 hE Q n107 F6 A6 L6 x1 (0 : Int32) hw _ _ _ hI (lv_sub hl [2, 3, 0] rfl)
    · have hw := hw.2 c_96
      refine lv_aload_n hx hb dX4_factLine_99 rfl (lv_at hl 1 rfl) ?_
      refine lv_bipush (v := 33) hx hb dX4_factLine_100 (by decide) ?_
      refine ml_callv (As := [.int (33 : Int32)]) (rest := []) (cells := 0) (slots := 0) hE hI (fun h hS => snd_X4_writes l G _ h ad F6 A6 L6 (33 : Int32) _ hS hw) (cwV 1 hts (lw_V q2403 q2405 qs85 q108 q2406) rfl rfl rfl (by decide +kernel) ⟨Nat.le_of_ble_eq_true rfl, Nat.le_of_ble_eq_true rfl⟩) rfl hl.1 (Nat.le_of_ble_eq_true rfl) dX4_factLine_102 ⟨Nat.le_of_ble_eq_true rfl, Nat.le_of_ble_eq_true rfl⟩ (fun F19 A19 L19 H locs hw hI => ?_)
      refine lv_iconst (v := 0) hx hb dX4_factLine_105 (by decide) ?_
      refine lv_istore_n (lv' := [(3, .int (0 : Int32)), (2, .int r1), (0, .ref (ad 0)), (1, .int x1)]) hx hb dX4_factLine_106 rfl hl (by decide) rfl (fun ls hl => ?_)
      obtain ⟨n107, hw⟩ := hw
      exact snd_X4_factLine_L107 hE Q n107 F19 A19 L19 x1 (0 : Int32) hw _ _ _ hI (lv_sub hl [2, 3, 0] rfl)
  · have hw := hw.2 c_13
    refine lv_aload_n hx hb dX4_factLine_16 rfl (lv_at hl 1 rfl) ?_
    refine lv_iconst (v := 1) hx hb dX4_factLine_17 (by decide) ?_
    refine ml_calli (As := [.int (1 : Int32)]) (rest := []) (cells := 0) (slots := 0) hE hI (fun h hS => snd_X4_fails l G _ h ad F1 A1 L1 (1 : Int32) _ hS hw) (cwV 1 hts (lw_V q2149 q2151 qs43 q108 q2152) rfl rfl rfl (by decide +kernel) ⟨Nat.le_of_ble_eq_true rfl, Nat.le_of_ble_eq_true rfl⟩) rfl hl.1 (Nat.le_of_ble_eq_true rfl) dX4_factLine_18 ⟨Nat.le_of_ble_eq_true rfl, Nat.le_of_ble_eq_true rfl⟩ (fun r20 F20 A20 L20 H locs hw hI => ?_)
    exact ml_iret hE hI hw dX4_factLine_21
