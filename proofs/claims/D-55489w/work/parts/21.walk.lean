/-! the reference's methods, walked (by gen/model.py) -/
set_option maxRecDepth 100000
/-- MatchmakerRulesModel.readsRule()V -/
abbrev rm_X4_readsRule : Room := { frames := 5, cells := 0, slots := 0, locals := 95 }
def wp_X4_readsRule_L118 (Q : (Nat → Int32) → (Nat → Nat → Int32) → (Nat → UInt32) → Prop) (F : Nat → Int32) (A : Nat → Nat → Int32) (L : Nat → UInt32) : Prop := wp_X4_must F A L (62 : Int32) (fun F2 A2 L2 => wp_X4_pattern F2 A2 L2 (7 : Int32) (0 : Int32) (fun F3 A3 L3 => wp_X4_must F3 A3 L3 (42 : Int32) (fun F4 A4 L4 => wp_X4_number F4 A4 L4 (1 : Int32) (fun r5 F5 A5 L5 => Q F5 (ml_up A5 12 10 r5) L5))))
set_option maxHeartbeats 4000000 in
theorem snd_X4_readsRule_L118 {p : Program} {l : Launch} {e : Env} {s : State} {m : MethodId} {args : Array Value} {below : List Frame} {meth : Method} {c : Code} {G : GG} {h0 : HH} {ad : Nat → Nat} (hE : hv_E p s m args meth c cX4_readsRule 2 (none : Option FieldType) RX4 G h0) (Q : (Nat → Int32) → (Nat → Nat → Int32) → (Nat → UInt32) → Prop) : ∀ (F : Nat → Int32) (A : Nat → Nat → Int32) (L : Nat → UInt32), wp_X4_readsRule_L118 Q F A L → ∀ (H : Heap) (locs : List Loc) (ls : Array Slot), ml_I G h0 s.heap ad F A L H locs → lv_has ls 2 [(0, .ref (ad 0))] → W p l e (headSpec (ws_ yX4_readsRule cX4_readsRule 2 (none : Option FieldType)) rm_X4_readsRule).room s m args below meth c H locs 0 0 (MQ below (hv_Qv G h0 s.heap.size (ml_Q G h0 ad Q)) args s 0 0 (hv_A h0 s.heap.size)) (F0 m 118 ls []) := by
  obtain ⟨⟨hx, hb, hml, hown, hts⟩, hr, hlocks, -⟩ := id hE
  intro F A L hw H locs ls hI hl
  unfold wp_X4_readsRule_L118 at hw
  refine lv_aload_n hx hb dX4_readsRule_118 rfl (lv_at hl 0 rfl) ?_
  refine lv_bipush (v := 62) hx hb dX4_readsRule_119 (by decide) ?_
  refine ml_callv (As := [.int (62 : Int32)]) (rest := []) (cells := 0) (slots := 0) hE hI (fun h hS => snd_X4_must l G _ h ad F A L (62 : Int32) _ hS hw) (cwV 1 hts (lw_V q2141 q2143 qs41 q108 q2144) rfl rfl rfl (by decide +kernel) ⟨Nat.le_of_ble_eq_true rfl, Nat.le_of_ble_eq_true rfl⟩) rfl hl.1 (Nat.le_of_ble_eq_true rfl) dX4_readsRule_121 ⟨Nat.le_of_ble_eq_true rfl, Nat.le_of_ble_eq_true rfl⟩ (fun F2 A2 L2 H locs hw hI => ?_)
  refine lv_aload_n hx hb dX4_readsRule_124 rfl (lv_at hl 0 rfl) ?_
  refine lv_bipush (v := 7) hx hb dX4_readsRule_125 (by decide) ?_
  refine lv_iconst (v := 0) hx hb dX4_readsRule_127 (by decide) ?_
  refine ml_callv (As := [.int (7 : Int32), .int (0 : Int32)]) (rest := []) (cells := 0) (slots := 0) hE hI (fun h hS => snd_X4_pattern l G _ h ad F2 A2 L2 (7 : Int32) (0 : Int32) _ hS hw) (cwV 2 hts (lw_V q2118 q2120 qs36 q108 q2121) rfl rfl rfl (by decide +kernel) ⟨Nat.le_of_ble_eq_true rfl, Nat.le_of_ble_eq_true rfl⟩) rfl hl.1 (Nat.le_of_ble_eq_true rfl) dX4_readsRule_128 ⟨Nat.le_of_ble_eq_true rfl, Nat.le_of_ble_eq_true rfl⟩ (fun F3 A3 L3 H locs hw hI => ?_)
  refine lv_aload_n hx hb dX4_readsRule_131 rfl (lv_at hl 0 rfl) ?_
  refine lv_bipush (v := 42) hx hb dX4_readsRule_132 (by decide) ?_
  refine ml_callv (As := [.int (42 : Int32)]) (rest := []) (cells := 0) (slots := 0) hE hI (fun h hS => snd_X4_must l G _ h ad F3 A3 L3 (42 : Int32) _ hS hw) (cwV 1 hts (lw_V q2141 q2143 qs41 q108 q2144) rfl rfl rfl (by decide +kernel) ⟨Nat.le_of_ble_eq_true rfl, Nat.le_of_ble_eq_true rfl⟩) rfl hl.1 (Nat.le_of_ble_eq_true rfl) dX4_readsRule_134 ⟨Nat.le_of_ble_eq_true rfl, Nat.le_of_ble_eq_true rfl⟩ (fun F4 A4 L4 H locs hw hI => ?_)
  refine lv_aload_n hx hb dX4_readsRule_137 rfl (lv_at hl 0 rfl) ?_
  refine ml_get hE hI 12 (by decide) q1997 rfl rfl dX4_readsRule_138 ?_
  refine lv_bipush (v := 10) hx hb dX4_readsRule_141 (by decide) ?_
  refine lv_aload_n hx hb dX4_readsRule_143 rfl (lv_at hl 0 rfl) ?_
  refine lv_iconst (v := 1) hx hb dX4_readsRule_144 (by decide) ?_
  refine ml_calli (As := [.int (1 : Int32)]) (rest := [.int (10 : Int32), .ref (ad 12)]) (cells := 0) (slots := 0) hE hI (fun h hS => snd_X4_number l G _ h ad F4 A4 L4 (1 : Int32) _ hS hw) (cwV 1 hts (lw_V q2145 q2147 qs42 q108 q2148) rfl rfl rfl (by decide +kernel) ⟨Nat.le_of_ble_eq_true rfl, Nat.le_of_ble_eq_true rfl⟩) rfl hl.1 (Nat.le_of_ble_eq_true rfl) dX4_readsRule_145 ⟨Nat.le_of_ble_eq_true rfl, Nat.le_of_ble_eq_true rfl⟩ (fun r5 F5 A5 L5 H locs hw hI => ?_)
  have hin : vp_in (10 : Int32) 11 := by unfold vp_in; decide +kernel
  refine ml_iast hE hI 12 rfl rfl (show Int32.toNatClampNeg (10 : Int32) = 10 from by decide +kernel) hin dX4_readsRule_148 (fun H locs hI => ?_)
  exact ml_vret hE hI hw dX4_readsRule_149
def wp_X4_readsRule_L89 (Q : (Nat → Int32) → (Nat → Nat → Int32) → (Nat → UInt32) → Prop) (F : Nat → Int32) (A : Nat → Nat → Int32) (L : Nat → UInt32) : Prop := ((¬ (F 35) = 0 → wp_X4_readsRule_L118 Q F A L) ∧ ((F 35) = 0 → wp_X4_here F A L (fun r6 F6 A6 L6 => ((r6 = (62 : Int32) → wp_X4_readsRule_L118 Q F6 A6 L6) ∧ (¬ r6 = (62 : Int32) → wp_X4_pattern F6 (ml_up A6 12 3 (1 : Int32)) L6 (4 : Int32) (1 : Int32) (fun F7 A7 L7 => wp_X4_readsRule_L118 Q F7 A7 L7))))))
set_option maxHeartbeats 4000000 in
theorem snd_X4_readsRule_L89 {p : Program} {l : Launch} {e : Env} {s : State} {m : MethodId} {args : Array Value} {below : List Frame} {meth : Method} {c : Code} {G : GG} {h0 : HH} {ad : Nat → Nat} (hE : hv_E p s m args meth c cX4_readsRule 2 (none : Option FieldType) RX4 G h0) (Q : (Nat → Int32) → (Nat → Nat → Int32) → (Nat → UInt32) → Prop) : ∀ (F : Nat → Int32) (A : Nat → Nat → Int32) (L : Nat → UInt32), wp_X4_readsRule_L89 Q F A L → ∀ (H : Heap) (locs : List Loc) (ls : Array Slot), ml_I G h0 s.heap ad F A L H locs → lv_has ls 2 [(0, .ref (ad 0))] → W p l e (headSpec (ws_ yX4_readsRule cX4_readsRule 2 (none : Option FieldType)) rm_X4_readsRule).room s m args below meth c H locs 0 0 (MQ below (hv_Qv G h0 s.heap.size (ml_Q G h0 ad Q)) args s 0 0 (hv_A h0 s.heap.size)) (F0 m 89 ls []) := by
  obtain ⟨⟨hx, hb, hml, hown, hts⟩, hr, hlocks, -⟩ := id hE
  intro F A L hw H locs ls hI hl
  unfold wp_X4_readsRule_L89 at hw
  refine lv_aload_n hx hb dX4_readsRule_89 rfl (lv_at hl 0 rfl) ?_
  refine ml_get hE hI 35 (by decide) q2020 rfl rfl dX4_readsRule_90 ?_
  refine lv_if_ne (tgt := 118) hx hb dX4_readsRule_93 (by decide) (fun c_93 => ?_) (fun c_93 => ?_)
  · have hw := hw.1 c_93
    exact snd_X4_readsRule_L118 hE Q F A L hw _ _ _ hI (lv_sub hl [0] rfl)
  · have hw := hw.2 c_93
    refine lv_aload_n hx hb dX4_readsRule_96 rfl (lv_at hl 0 rfl) ?_
    refine ml_calli (As := []) (rest := []) (cells := 0) (slots := 0) hE hI (fun h hS => snd_X4_here l G _ h ad F A L _ hS hw) (cwV 0 hts (lw_V q2126 q2128 qs38 q108 q2129) rfl rfl rfl (by decide +kernel) ⟨Nat.le_of_ble_eq_true rfl, Nat.le_of_ble_eq_true rfl⟩) rfl hl.1 (Nat.le_of_ble_eq_true rfl) dX4_readsRule_97 ⟨Nat.le_of_ble_eq_true rfl, Nat.le_of_ble_eq_true rfl⟩ (fun r6 F6 A6 L6 H locs hw hI => ?_)
    refine lv_bipush (v := 62) hx hb dX4_readsRule_100 (by decide) ?_
    refine lv_icmp_eq (tgt := 118) hx hb dX4_readsRule_102 (by decide) (fun c_102 => ?_) (fun c_102 => ?_)
    · have hw := hw.1 c_102
      exact snd_X4_readsRule_L118 hE Q F6 A6 L6 hw _ _ _ hI (lv_sub hl [0] rfl)
    · have hw := hw.2 c_102
      refine lv_aload_n hx hb dX4_readsRule_105 rfl (lv_at hl 0 rfl) ?_
      refine ml_get hE hI 12 (by decide) q1997 rfl rfl dX4_readsRule_106 ?_
      refine lv_iconst (v := 3) hx hb dX4_readsRule_109 (by decide) ?_
      refine lv_iconst (v := 1) hx hb dX4_readsRule_110 (by decide) ?_
      have hin : vp_in (3 : Int32) 11 := by unfold vp_in; decide +kernel
      refine ml_iast hE hI 12 rfl rfl (show Int32.toNatClampNeg (3 : Int32) = 3 from by decide +kernel) hin dX4_readsRule_111 (fun H locs hI => ?_)
      refine lv_aload_n hx hb dX4_readsRule_112 rfl (lv_at hl 0 rfl) ?_
      refine lv_iconst (v := 4) hx hb dX4_readsRule_113 (by decide) ?_
      refine lv_iconst (v := 1) hx hb dX4_readsRule_114 (by decide) ?_
      refine ml_callv (As := [.int (4 : Int32), .int (1 : Int32)]) (rest := []) (cells := 0) (slots := 0) hE hI (fun h hS => snd_X4_pattern l G _ h ad F6 (ml_up A6 12 3 (1 : Int32)) L6 (4 : Int32) (1 : Int32) _ hS hw) (cwV 2 hts (lw_V q2118 q2120 qs36 q108 q2121) rfl rfl rfl (by decide +kernel) ⟨Nat.le_of_ble_eq_true rfl, Nat.le_of_ble_eq_true rfl⟩) rfl hl.1 (Nat.le_of_ble_eq_true rfl) dX4_readsRule_115 ⟨Nat.le_of_ble_eq_true rfl, Nat.le_of_ble_eq_true rfl⟩ (fun F7 A7 L7 H locs hw hI => ?_)
      exact snd_X4_readsRule_L118 hE Q F7 A7 L7 hw _ _ _ hI (lv_sub hl [0] rfl)
def wp_X4_readsRule_L22 (Q : (Nat → Int32) → (Nat → Nat → Int32) → (Nat → UInt32) → Prop) : Nat → (Nat → Int32) → (Nat → Nat → Int32) → (Nat → UInt32) → (Int32) → Prop
  | 0, _, _, _, _ => False
  | n + 1, F, A, L, x1 => (((11 : Int32) ≤ x1 → wp_X4_pattern F A L (0 : Int32) (1 : Int32) (fun F1 A1 L1 => ((¬ (F1 35) = 0 → wp_X4_readsRule_L89 Q F1 A1 L1) ∧ ((F1 35) = 0 → wp_X4_here F1 A1 L1 (fun r8 F8 A8 L8 => ((¬ r8 = (33 : Int32) → wp_X4_readsRule_L89 Q F8 A8 L8) ∧ (r8 = (33 : Int32) → wp_X4_pattern (upd F8 32 ((F8 32) + (1 : Int32))) (ml_up A8 12 3 (2 : Int32)) L8 (4 : Int32) (0 : Int32) (fun F9 A9 L9 => wp_X4_readsRule_L118 Q F9 A9 L9)))))))) ∧ (¬ (11 : Int32) ≤ x1 → (vp_in x1 11 ∧ wp_X4_readsRule_L22 Q n F (ml_up A 12 (Int32.toNatClampNeg x1) (0 : Int32)) L (x1 + (1 : Int32)))))
set_option maxHeartbeats 4000000 in
theorem snd_X4_readsRule_L22 {p : Program} {l : Launch} {e : Env} {s : State} {m : MethodId} {args : Array Value} {below : List Frame} {meth : Method} {c : Code} {G : GG} {h0 : HH} {ad : Nat → Nat} (hE : hv_E p s m args meth c cX4_readsRule 2 (none : Option FieldType) RX4 G h0) (Q : (Nat → Int32) → (Nat → Nat → Int32) → (Nat → UInt32) → Prop) : ∀ (n : Nat) (F : Nat → Int32) (A : Nat → Nat → Int32) (L : Nat → UInt32) (x1 : Int32), wp_X4_readsRule_L22 Q n F A L x1 → ∀ (H : Heap) (locs : List Loc) (ls : Array Slot), ml_I G h0 s.heap ad F A L H locs → lv_has ls 2 [(0, .ref (ad 0)), (1, .int x1)] → W p l e (headSpec (ws_ yX4_readsRule cX4_readsRule 2 (none : Option FieldType)) rm_X4_readsRule).room s m args below meth c H locs 0 0 (MQ below (hv_Qv G h0 s.heap.size (ml_Q G h0 ad Q)) args s 0 0 (hv_A h0 s.heap.size)) (F0 m 22 ls []) := by
  obtain ⟨⟨hx, hb, hml, hown, hts⟩, hr, hlocks, -⟩ := id hE
  intro n
  induction n with
  | zero => intro F A L x1 hw; exact hw.elim
  | succ n ih =>
    intro F A L x1 hw H locs ls hI hl
    unfold wp_X4_readsRule_L22 at hw
    refine lv_iload_n hx hb dX4_readsRule_22 rfl (lv_at hl 1 rfl) ?_
    refine lv_bipush (v := 11) hx hb dX4_readsRule_23 (by decide) ?_
    refine lv_icmp_ge (tgt := 41) hx hb dX4_readsRule_25 (by decide) (fun c_25 => ?_) (fun c_25 => ?_)
    · have hw := hw.1 c_25
      refine lv_aload_n hx hb dX4_readsRule_41 rfl (lv_at hl 0 rfl) ?_
      refine lv_iconst (v := 0) hx hb dX4_readsRule_42 (by decide) ?_
      refine lv_iconst (v := 1) hx hb dX4_readsRule_43 (by decide) ?_
      refine ml_callv (As := [.int (0 : Int32), .int (1 : Int32)]) (rest := []) (cells := 0) (slots := 0) hE hI (fun h hS => snd_X4_pattern l G _ h ad F A L (0 : Int32) (1 : Int32) _ hS hw) (cwV 2 hts (lw_V q2118 q2120 qs36 q108 q2121) rfl rfl rfl (by decide +kernel) ⟨Nat.le_of_ble_eq_true rfl, Nat.le_of_ble_eq_true rfl⟩) rfl hl.1 (Nat.le_of_ble_eq_true rfl) dX4_readsRule_44 ⟨Nat.le_of_ble_eq_true rfl, Nat.le_of_ble_eq_true rfl⟩ (fun F1 A1 L1 H locs hw hI => ?_)
      refine lv_aload_n hx hb dX4_readsRule_47 rfl (lv_at hl 0 rfl) ?_
      refine ml_get hE hI 35 (by decide) q2020 rfl rfl dX4_readsRule_48 ?_
      refine lv_if_ne (tgt := 89) hx hb dX4_readsRule_51 (by decide) (fun c_51 => ?_) (fun c_51 => ?_)
      · have hw := hw.1 c_51
        exact snd_X4_readsRule_L89 hE Q F1 A1 L1 hw _ _ _ hI (lv_sub hl [0] rfl)
      · have hw := hw.2 c_51
        refine lv_aload_n hx hb dX4_readsRule_54 rfl (lv_at hl 0 rfl) ?_
        refine ml_calli (As := []) (rest := []) (cells := 0) (slots := 0) hE hI (fun h hS => snd_X4_here l G _ h ad F1 A1 L1 _ hS hw) (cwV 0 hts (lw_V q2126 q2128 qs38 q108 q2129) rfl rfl rfl (by decide +kernel) ⟨Nat.le_of_ble_eq_true rfl, Nat.le_of_ble_eq_true rfl⟩) rfl hl.1 (Nat.le_of_ble_eq_true rfl) dX4_readsRule_55 ⟨Nat.le_of_ble_eq_true rfl, Nat.le_of_ble_eq_true rfl⟩ (fun r8 F8 A8 L8 H locs hw hI => ?_)
        refine lv_bipush (v := 33) hx hb dX4_readsRule_58 (by decide) ?_
        refine lv_icmp_ne (tgt := 89) hx hb dX4_readsRule_60 (by decide) (fun c_60 => ?_) (fun c_60 => ?_)
        · have hw := hw.1 c_60
          exact snd_X4_readsRule_L89 hE Q F8 A8 L8 hw _ _ _ hI (lv_sub hl [0] rfl)
        · have hw := hw.2 c_60
          refine lv_aload_n hx hb dX4_readsRule_63 rfl (lv_at hl 0 rfl) ?_
          refine lv_dup hx hb dX4_readsRule_64 rfl ?_
          refine ml_get hE hI 32 (by decide) q2017 rfl rfl dX4_readsRule_65 ?_
          refine lv_iconst (v := 1) hx hb dX4_readsRule_68 (by decide) ?_
          refine lv_iadd hx hb dX4_readsRule_69 ?_
          refine ml_put hE hI 32 (by decide) q2017 rfl rfl (ty := .int) rfl rfl rfl (fun _ => rfl) dX4_readsRule_70 (fun H locs hI => ?_)
          refine lv_aload_n hx hb dX4_readsRule_73 rfl (lv_at hl 0 rfl) ?_
          refine ml_get hE hI 12 (by decide) q1997 rfl rfl dX4_readsRule_74 ?_
          refine lv_iconst (v := 3) hx hb dX4_readsRule_77 (by decide) ?_
          refine lv_iconst (v := 2) hx hb dX4_readsRule_78 (by decide) ?_
          have hin : vp_in (3 : Int32) 11 := by unfold vp_in; decide +kernel
          refine ml_iast hE hI 12 rfl rfl (show Int32.toNatClampNeg (3 : Int32) = 3 from by decide +kernel) hin dX4_readsRule_79 (fun H locs hI => ?_)
          refine lv_aload_n hx hb dX4_readsRule_80 rfl (lv_at hl 0 rfl) ?_
          refine lv_iconst (v := 4) hx hb dX4_readsRule_81 (by decide) ?_
          refine lv_iconst (v := 0) hx hb dX4_readsRule_82 (by decide) ?_
          refine ml_callv (As := [.int (4 : Int32), .int (0 : Int32)]) (rest := []) (cells := 0) (slots := 0) hE hI (fun h hS => snd_X4_pattern l G _ h ad (upd F8 32 ((F8 32) + (1 : Int32))) (ml_up A8 12 3 (2 : Int32)) L8 (4 : Int32) (0 : Int32) _ hS hw) (cwV 2 hts (lw_V q2118 q2120 qs36 q108 q2121) rfl rfl rfl (by decide +kernel) ⟨Nat.le_of_ble_eq_true rfl, Nat.le_of_ble_eq_true rfl⟩) rfl hl.1 (Nat.le_of_ble_eq_true rfl) dX4_readsRule_83 ⟨Nat.le_of_ble_eq_true rfl, Nat.le_of_ble_eq_true rfl⟩ (fun F9 A9 L9 H locs hw hI => ?_)
          refine lv_goto (tgt := 118) hx hb dX4_readsRule_86 (by decide) ?_
          exact snd_X4_readsRule_L118 hE Q F9 A9 L9 hw _ _ _ hI (lv_sub hl [0] rfl)
    · have hw := hw.2 c_25
      refine lv_aload_n hx hb dX4_readsRule_28 rfl (lv_at hl 0 rfl) ?_
      refine ml_get hE hI 12 (by decide) q1997 rfl rfl dX4_readsRule_29 ?_
      refine lv_iload_n hx hb dX4_readsRule_32 rfl (lv_at hl 1 rfl) ?_
      refine lv_iconst (v := 0) hx hb dX4_readsRule_33 (by decide) ?_
      obtain ⟨hin, hw⟩ := hw
      refine ml_iast hE hI 12 rfl rfl rfl hin dX4_readsRule_34 (fun H locs hI => ?_)
      refine lv_iinc (v := (x1 + (1 : Int32))) (lv' := [(1, .int (x1 + (1 : Int32))), (0, .ref (ad 0))]) hx hb dX4_readsRule_35 hl (k := 1) rfl rfl (by decide) rfl (fun ls hl => ?_)
      refine lv_goto (tgt := 22) hx hb dX4_readsRule_38 (by decide) ?_
      exact ih F (ml_up A 12 (Int32.toNatClampNeg x1) (0 : Int32)) L (x1 + (1 : Int32)) hw _ _ _ hI (lv_sub hl [1, 0] rfl)
def wp_X4_readsRule_L2 (Q : (Nat → Int32) → (Nat → Nat → Int32) → (Nat → UInt32) → Prop) : Nat → (Nat → Int32) → (Nat → Nat → Int32) → (Nat → UInt32) → (Int32) → Prop
  | 0, _, _, _, _ => False
  | n + 1, F, A, L, x1 => (((3 : Int32) ≤ x1 → (∃ n22, wp_X4_readsRule_L22 Q n22 F A L (0 : Int32))) ∧ (¬ (3 : Int32) ≤ x1 → (vp_in x1 3 ∧ wp_X4_readsRule_L2 Q n F (ml_up A 36 (Int32.toNatClampNeg x1) (vp_nar .boolean (0 : Int32))) L (x1 + (1 : Int32)))))
set_option maxHeartbeats 4000000 in
theorem snd_X4_readsRule_L2 {p : Program} {l : Launch} {e : Env} {s : State} {m : MethodId} {args : Array Value} {below : List Frame} {meth : Method} {c : Code} {G : GG} {h0 : HH} {ad : Nat → Nat} (hE : hv_E p s m args meth c cX4_readsRule 2 (none : Option FieldType) RX4 G h0) (Q : (Nat → Int32) → (Nat → Nat → Int32) → (Nat → UInt32) → Prop) : ∀ (n : Nat) (F : Nat → Int32) (A : Nat → Nat → Int32) (L : Nat → UInt32) (x1 : Int32), wp_X4_readsRule_L2 Q n F A L x1 → ∀ (H : Heap) (locs : List Loc) (ls : Array Slot), ml_I G h0 s.heap ad F A L H locs → lv_has ls 2 [(0, .ref (ad 0)), (1, .int x1)] → W p l e (headSpec (ws_ yX4_readsRule cX4_readsRule 2 (none : Option FieldType)) rm_X4_readsRule).room s m args below meth c H locs 0 0 (MQ below (hv_Qv G h0 s.heap.size (ml_Q G h0 ad Q)) args s 0 0 (hv_A h0 s.heap.size)) (F0 m 2 ls []) := by
  obtain ⟨⟨hx, hb, hml, hown, hts⟩, hr, hlocks, -⟩ := id hE
  intro n
  induction n with
  | zero => intro F A L x1 hw; exact hw.elim
  | succ n ih =>
    intro F A L x1 hw H locs ls hI hl
    unfold wp_X4_readsRule_L2 at hw
    refine lv_iload_n hx hb dX4_readsRule_2 rfl (lv_at hl 1 rfl) ?_
    refine lv_iconst (v := 3) hx hb dX4_readsRule_3 (by decide) ?_
    refine lv_icmp_ge (tgt := 20) hx hb dX4_readsRule_4 (by decide) (fun c_4 => ?_) (fun c_4 => ?_)
    · have hw := hw.1 c_4
      refine lv_iconst (v := 0) hx hb dX4_readsRule_20 (by decide) ?_
      refine lv_istore_n (lv' := [(1, .int (0 : Int32)), (0, .ref (ad 0))]) hx hb dX4_readsRule_21 rfl hl (by decide) rfl (fun ls hl => ?_)
      obtain ⟨n22, hw⟩ := hw
      exact snd_X4_readsRule_L22 hE Q n22 F A L (0 : Int32) hw _ _ _ hI (lv_sub hl [1, 0] rfl)
    · have hw := hw.2 c_4
      refine lv_aload_n hx hb dX4_readsRule_7 rfl (lv_at hl 0 rfl) ?_
      refine ml_get hE hI 36 (by decide) q2021 rfl rfl dX4_readsRule_8 ?_
      refine lv_iload_n hx hb dX4_readsRule_11 rfl (lv_at hl 1 rfl) ?_
      refine lv_iconst (v := 0) hx hb dX4_readsRule_12 (by decide) ?_
      obtain ⟨hin, hw⟩ := hw
      refine ml_zast hE hI 36 rfl rfl rfl hin dX4_readsRule_13 (fun H locs hI => ?_)
      refine lv_iinc (v := (x1 + (1 : Int32))) (lv' := [(1, .int (x1 + (1 : Int32))), (0, .ref (ad 0))]) hx hb dX4_readsRule_14 hl (k := 1) rfl rfl (by decide) rfl (fun ls hl => ?_)
      refine lv_goto (tgt := 2) hx hb dX4_readsRule_17 (by decide) ?_
      exact ih F (ml_up A 36 (Int32.toNatClampNeg x1) (vp_nar .boolean (0 : Int32))) L (x1 + (1 : Int32)) hw _ _ _ hI (lv_sub hl [1, 0] rfl)
def wp_X4_readsRule (F : Nat → Int32) (A : Nat → Nat → Int32) (L : Nat → UInt32) (Q : (Nat → Int32) → (Nat → Nat → Int32) → (Nat → UInt32) → Prop) : Prop := (∃ n2, wp_X4_readsRule_L2 Q n2 F A L (0 : Int32))
set_option maxHeartbeats 4000000 in
theorem snd_X4_readsRule (l : Launch) (G : GG) (sz : Nat) (h : HH) (ad : Nat → Nat) (F : Nat → Int32) (A : Nat → Nat → Int32) (L : Nat → UInt32) (Q : (Nat → Int32) → (Nat → Nat → Int32) → (Nat → UInt32) → Prop) (hS : ml_S G h ad F A L) (hw : wp_X4_readsRule F A L Q) : Met l yX4_readsRule (ws_ yX4_readsRule cX4_readsRule 2 (none : Option FieldType)) rm_X4_readsRule (hv_Pc G h sz [.ref (ad 0)]) (hv_Qv G h sz (ml_Q G h ad Q)) 0 0 (hv_A h sz) := by
  refine Met.ofW (cc := cX4_readsRule) (maxL := 2) (ret := (none : Option FieldType)) (by decide) rfl ?_
  intro p e s m args below meth c s₁ B hml hv
  obtain ⟨rfl, rfl, hE, hI⟩ := hv_open B hml hv
  have hE : hv_E p s m ([.ref (ad 0)] : List Value).toArray meth c cX4_readsRule 2 (none : Option FieldType) RX4 G h := hE
  have hI := ml_I.start hI hS
  obtain ⟨⟨hx, hb, hml, hown, hts⟩, hr, hlocks, -⟩ := id hE
  have hl := lv_entry ([.ref (ad 0)] : List Value) (n := 2) (Nat.le_of_ble_eq_true rfl)
  rw [lg_entry_eq]
  generalize (lg_sl ([.ref (ad 0)] : List Value) ++ List.replicate (2 - (lg_sl ([.ref (ad 0)] : List Value)).length) Slot.unset).toArray = ls at hl ⊢
  have hl : lv_has ls 2 [(0, .ref (ad 0))] := hl
  unfold wp_X4_readsRule at hw
  refine lv_iconst (v := 0) hx hb dX4_readsRule_0 (by decide) ?_
  refine lv_istore_n (lv' := [(1, .int (0 : Int32)), (0, .ref (ad 0))]) hx hb dX4_readsRule_1 rfl hl (by decide) rfl (fun ls hl => ?_)
  obtain ⟨n2, hw⟩ := hw
  exact snd_X4_readsRule_L2 hE Q n2 F A L (0 : Int32) hw _ _ _ hI (lv_sub hl [1, 0] rfl)

/-- MatchmakerRulesModel.fails(I)I -/
abbrev rm_X4_fails : Room := { frames := 1, cells := 0, slots := 0, locals := 12 }
def wp_X4_fails (F : Nat → Int32) (A : Nat → Nat → Int32) (L : Nat → UInt32) (x1 : Int32) (Q : Int32 → (Nat → Int32) → (Nat → Nat → Int32) → (Nat → UInt32) → Prop) : Prop := Q (0 : Int32) (upd F 0 x1) A L
set_option maxHeartbeats 4000000 in
theorem snd_X4_fails (l : Launch) (G : GG) (sz : Nat) (h : HH) (ad : Nat → Nat) (F : Nat → Int32) (A : Nat → Nat → Int32) (L : Nat → UInt32) (x1 : Int32) (Q : Int32 → (Nat → Int32) → (Nat → Nat → Int32) → (Nat → UInt32) → Prop) (hS : ml_S G h ad F A L) (hw : wp_X4_fails F A L x1 Q) : Met l yX4_fails (ws_ yX4_fails cX4_fails 2 (some FieldType.int)) rm_X4_fails (hv_Pc G h sz [.ref (ad 0), .int x1]) (hv_Qi G h sz (fun r => ml_Q G h ad (Q r))) 0 0 (hv_A h sz) := by
  refine Met.ofW (cc := cX4_fails) (maxL := 2) (ret := (some FieldType.int)) (by decide) rfl ?_
  intro p e s m args below meth c s₁ B hml hv
  obtain ⟨rfl, rfl, hE, hI⟩ := hv_open B hml hv
  have hE : hv_E p s m ([.ref (ad 0), .int x1] : List Value).toArray meth c cX4_fails 2 (some FieldType.int) RX4 G h := hE
  have hI := ml_I.start hI hS
  obtain ⟨⟨hx, hb, hml, hown, hts⟩, hr, hlocks, -⟩ := id hE
  have hl := lv_entry ([.ref (ad 0), .int x1] : List Value) (n := 2) (Nat.le_of_ble_eq_true rfl)
  rw [lg_entry_eq]
  generalize (lg_sl ([.ref (ad 0), .int x1] : List Value) ++ List.replicate (2 - (lg_sl ([.ref (ad 0), .int x1] : List Value)).length) Slot.unset).toArray = ls at hl ⊢
  have hl : lv_has ls 2 [(0, .ref (ad 0)), (1, .int x1)] := hl
  unfold wp_X4_fails at hw
  refine lv_aload_n hx hb dX4_fails_0 rfl (lv_at hl 0 rfl) ?_
  refine lv_iload_n hx hb dX4_fails_1 rfl (lv_at hl 1 rfl) ?_
  refine ml_put hE hI 0 (by decide) q1985 rfl rfl (ty := .int) rfl rfl rfl (fun _ => rfl) dX4_fails_2 (fun H locs hI => ?_)
  refine lv_iconst (v := 0) hx hb dX4_fails_5 (by decide) ?_
  exact ml_iret hE hI hw dX4_fails_6

/-- MatchmakerRulesModel.refused(II)I -/
abbrev rm_X4_refused : Room := { frames := 1, cells := 0, slots := 0, locals := 12 }
def wp_X4_refused (F : Nat → Int32) (A : Nat → Nat → Int32) (L : Nat → UInt32) (x1 : Int32) (x2 : Int32) (Q : Int32 → (Nat → Int32) → (Nat → Nat → Int32) → (Nat → UInt32) → Prop) : Prop := Q x1 (upd F 29 x2) A L
set_option maxHeartbeats 4000000 in
theorem snd_X4_refused (l : Launch) (G : GG) (sz : Nat) (h : HH) (ad : Nat → Nat) (F : Nat → Int32) (A : Nat → Nat → Int32) (L : Nat → UInt32) (x1 : Int32) (x2 : Int32) (Q : Int32 → (Nat → Int32) → (Nat → Nat → Int32) → (Nat → UInt32) → Prop) (hS : ml_S G h ad F A L) (hw : wp_X4_refused F A L x1 x2 Q) : Met l yX4_refused (ws_ yX4_refused cX4_refused 3 (some FieldType.int)) rm_X4_refused (hv_Pc G h sz [.ref (ad 0), .int x1, .int x2]) (hv_Qi G h sz (fun r => ml_Q G h ad (Q r))) 0 0 (hv_A h sz) := by
  refine Met.ofW (cc := cX4_refused) (maxL := 3) (ret := (some FieldType.int)) (by decide) rfl ?_
  intro p e s m args below meth c s₁ B hml hv
  obtain ⟨rfl, rfl, hE, hI⟩ := hv_open B hml hv
  have hE : hv_E p s m ([.ref (ad 0), .int x1, .int x2] : List Value).toArray meth c cX4_refused 3 (some FieldType.int) RX4 G h := hE
  have hI := ml_I.start hI hS
  obtain ⟨⟨hx, hb, hml, hown, hts⟩, hr, hlocks, -⟩ := id hE
  have hl := lv_entry ([.ref (ad 0), .int x1, .int x2] : List Value) (n := 3) (Nat.le_of_ble_eq_true rfl)
  rw [lg_entry_eq]
  generalize (lg_sl ([.ref (ad 0), .int x1, .int x2] : List Value) ++ List.replicate (3 - (lg_sl ([.ref (ad 0), .int x1, .int x2] : List Value)).length) Slot.unset).toArray = ls at hl ⊢
  have hl : lv_has ls 3 [(0, .ref (ad 0)), (1, .int x1), (2, .int x2)] := hl
  unfold wp_X4_refused at hw
  refine lv_aload_n hx hb dX4_refused_0 rfl (lv_at hl 0 rfl) ?_
  refine lv_iload_n hx hb dX4_refused_1 rfl (lv_at hl 2 rfl) ?_
  refine ml_put hE hI 29 (by decide) q2014 rfl rfl (ty := .int) rfl rfl rfl (fun _ => rfl) dX4_refused_2 (fun H locs hI => ?_)
  refine lv_iload_n hx hb dX4_refused_5 rfl (lv_at hl 1 rfl) ?_
  exact ml_iret hE hI hw dX4_refused_6

/-- MatchmakerRulesModel.done(I)I -/
abbrev rm_X4_done : Room := { frames := 1, cells := 0, slots := 0, locals := 12 }
def wp_X4_done (F : Nat → Int32) (A : Nat → Nat → Int32) (L : Nat → UInt32) (x1 : Int32) (Q : Int32 → (Nat → Int32) → (Nat → Nat → Int32) → (Nat → UInt32) → Prop) : Prop := Q (0 : Int32) (upd F 30 x1) A L
set_option maxHeartbeats 4000000 in
theorem snd_X4_done (l : Launch) (G : GG) (sz : Nat) (h : HH) (ad : Nat → Nat) (F : Nat → Int32) (A : Nat → Nat → Int32) (L : Nat → UInt32) (x1 : Int32) (Q : Int32 → (Nat → Int32) → (Nat → Nat → Int32) → (Nat → UInt32) → Prop) (hS : ml_S G h ad F A L) (hw : wp_X4_done F A L x1 Q) : Met l yX4_done (ws_ yX4_done cX4_done 2 (some FieldType.int)) rm_X4_done (hv_Pc G h sz [.ref (ad 0), .int x1]) (hv_Qi G h sz (fun r => ml_Q G h ad (Q r))) 0 0 (hv_A h sz) := by
  refine Met.ofW (cc := cX4_done) (maxL := 2) (ret := (some FieldType.int)) (by decide) rfl ?_
  intro p e s m args below meth c s₁ B hml hv
  obtain ⟨rfl, rfl, hE, hI⟩ := hv_open B hml hv
  have hE : hv_E p s m ([.ref (ad 0), .int x1] : List Value).toArray meth c cX4_done 2 (some FieldType.int) RX4 G h := hE
  have hI := ml_I.start hI hS
  obtain ⟨⟨hx, hb, hml, hown, hts⟩, hr, hlocks, -⟩ := id hE
  have hl := lv_entry ([.ref (ad 0), .int x1] : List Value) (n := 2) (Nat.le_of_ble_eq_true rfl)
  rw [lg_entry_eq]
  generalize (lg_sl ([.ref (ad 0), .int x1] : List Value) ++ List.replicate (2 - (lg_sl ([.ref (ad 0), .int x1] : List Value)).length) Slot.unset).toArray = ls at hl ⊢
  have hl : lv_has ls 2 [(0, .ref (ad 0)), (1, .int x1)] := hl
  unfold wp_X4_done at hw
  refine lv_aload_n hx hb dX4_done_0 rfl (lv_at hl 0 rfl) ?_
  refine lv_iload_n hx hb dX4_done_1 rfl (lv_at hl 1 rfl) ?_
  refine ml_put hE hI 30 (by decide) q2015 rfl rfl (ty := .int) rfl rfl rfl (fun _ => rfl) dX4_done_2 (fun H locs hI => ?_)
  refine lv_iconst (v := 0) hx hb dX4_done_5 (by decide) ?_
  exact ml_iret hE hI hw dX4_done_6

/-- MatchmakerRulesModel.addsRule()I -/
abbrev rm_X4_addsRule : Room := { frames := 2, cells := 0, slots := 0, locals := 34 }
def wp_X4_addsRule_L23 (Q : Int32 → (Nat → Int32) → (Nat → Nat → Int32) → (Nat → UInt32) → Prop) : Nat → (Nat → Int32) → (Nat → Nat → Int32) → (Nat → UInt32) → (Int32) → (Int32) → Prop
  | 0, _, _, _, _, _ => False
  | n + 1, F, A, L, x1, x2 => (((11 : Int32) ≤ x2 → wp_X4_done F (ml_up A 1 0 (x1 + (1 : Int32))) L x1 (fun r1 F1 A1 L1 => Q r1 F1 A1 L1)) ∧ (¬ (11 : Int32) ≤ x2 → (vp_in x2 11 ∧ (vp_in (((7 : Int32) + ((11 : Int32) * x1)) + x2) 13675 ∧ wp_X4_addsRule_L23 Q n F (ml_up A 1 (Int32.toNatClampNeg (((7 : Int32) + ((11 : Int32) * x1)) + x2)) (A 12 (Int32.toNatClampNeg x2))) L x1 (x2 + (1 : Int32))))))
set_option maxHeartbeats 4000000 in
theorem snd_X4_addsRule_L23 {p : Program} {l : Launch} {e : Env} {s : State} {m : MethodId} {args : Array Value} {below : List Frame} {meth : Method} {c : Code} {G : GG} {h0 : HH} {ad : Nat → Nat} (hE : hv_E p s m args meth c cX4_addsRule 3 (some FieldType.int) RX4 G h0) (Q : Int32 → (Nat → Int32) → (Nat → Nat → Int32) → (Nat → UInt32) → Prop) : ∀ (n : Nat) (F : Nat → Int32) (A : Nat → Nat → Int32) (L : Nat → UInt32) (x1 : Int32) (x2 : Int32), wp_X4_addsRule_L23 Q n F A L x1 x2 → ∀ (H : Heap) (locs : List Loc) (ls : Array Slot), ml_I G h0 s.heap ad F A L H locs → lv_has ls 3 [(0, .ref (ad 0)), (1, .int x1), (2, .int x2)] → W p l e (headSpec (ws_ yX4_addsRule cX4_addsRule 3 (some FieldType.int)) rm_X4_addsRule).room s m args below meth c H locs 0 0 (MQ below (hv_Qi G h0 s.heap.size (fun r => ml_Q G h0 ad (Q r))) args s 0 0 (hv_A h0 s.heap.size)) (F0 m 23 ls []) := by
  obtain ⟨⟨hx, hb, hml, hown, hts⟩, hr, hlocks, -⟩ := id hE
  intro n
  induction n with
  | zero => intro F A L x1 x2 hw; exact hw.elim
  | succ n ih =>
    intro F A L x1 x2 hw H locs ls hI hl
    unfold wp_X4_addsRule_L23 at hw
    refine lv_iload_n hx hb dX4_addsRule_23 rfl (lv_at hl 2 rfl) ?_
    refine lv_bipush (v := 11) hx hb dX4_addsRule_24 (by decide) ?_
    refine lv_icmp_ge (tgt := 55) hx hb dX4_addsRule_26 (by decide) (fun c_26 => ?_) (fun c_26 => ?_)
    · have hw := hw.1 c_26
      refine lv_aload_n hx hb dX4_addsRule_55 rfl (lv_at hl 0 rfl) ?_
      refine ml_get hE hI 1 (by decide) q1986 rfl rfl dX4_addsRule_56 ?_
      refine lv_iconst (v := 0) hx hb dX4_addsRule_59 (by decide) ?_
      refine lv_iload_n hx hb dX4_addsRule_60 rfl (lv_at hl 1 rfl) ?_
      refine lv_iconst (v := 1) hx hb dX4_addsRule_61 (by decide) ?_
      refine lv_iadd hx hb dX4_addsRule_62 ?_
      have hin : vp_in (0 : Int32) 13675 := by unfold vp_in; decide +kernel
      refine ml_iast hE hI 1 rfl rfl (show Int32.toNatClampNeg (0 : Int32) = 0 from by decide +kernel) hin dX4_addsRule_63 (fun H locs hI => ?_)
      refine lv_aload_n hx hb dX4_addsRule_64 rfl (lv_at hl 0 rfl) ?_
      refine lv_iload_n hx hb dX4_addsRule_65 rfl (lv_at hl 1 rfl) ?_
      refine ml_calli (As := [.int x1]) (rest := []) (cells := 0) (slots := 0) hE hI (fun h hS => snd_X4_done l G _ h ad F (ml_up A 1 0 (x1 + (1 : Int32))) L x1 _ hS hw) (cwV 1 hts (lw_V q2161 q2163 qs46 q108 q2164) rfl rfl rfl (by decide +kernel) ⟨Nat.le_of_ble_eq_true rfl, Nat.le_of_ble_eq_true rfl⟩) rfl hl.1 (Nat.le_of_ble_eq_true rfl) dX4_addsRule_66 ⟨Nat.le_of_ble_eq_true rfl, Nat.le_of_ble_eq_true rfl⟩ (fun r1 F1 A1 L1 H locs hw hI => ?_)
      exact ml_iret hE hI hw dX4_addsRule_69
    · have hw := hw.2 c_26
      refine lv_aload_n hx hb dX4_addsRule_29 rfl (lv_at hl 0 rfl) ?_
      refine ml_get hE hI 1 (by decide) q1986 rfl rfl dX4_addsRule_30 ?_
      refine lv_bipush (v := 7) hx hb dX4_addsRule_33 (by decide) ?_
      refine lv_bipush (v := 11) hx hb dX4_addsRule_35 (by decide) ?_
      refine lv_iload_n hx hb dX4_addsRule_37 rfl (lv_at hl 1 rfl) ?_
      refine lv_imul hx hb dX4_addsRule_38 ?_
      refine lv_iadd hx hb dX4_addsRule_39 ?_
      refine lv_iload_n hx hb dX4_addsRule_40 rfl (lv_at hl 2 rfl) ?_
      refine lv_iadd hx hb dX4_addsRule_41 ?_
      refine lv_aload_n hx hb dX4_addsRule_42 rfl (lv_at hl 0 rfl) ?_
      refine ml_get hE hI 12 (by decide) q1997 rfl rfl dX4_addsRule_43 ?_
      refine lv_iload_n hx hb dX4_addsRule_46 rfl (lv_at hl 2 rfl) ?_
      obtain ⟨hin, hw⟩ := hw
      refine ml_iald hE hI 12 rfl rfl rfl hin dX4_addsRule_47 ?_
      obtain ⟨hin, hw⟩ := hw
      refine ml_iast hE hI 1 rfl rfl rfl hin dX4_addsRule_48 (fun H locs hI => ?_)
      refine lv_iinc (v := (x2 + (1 : Int32))) (lv' := [(2, .int (x2 + (1 : Int32))), (0, .ref (ad 0)), (1, .int x1)]) hx hb dX4_addsRule_49 hl (k := 2) rfl rfl (by decide) rfl (fun ls hl => ?_)
      refine lv_goto (tgt := 23) hx hb dX4_addsRule_52 (by decide) ?_
      exact ih F (ml_up A 1 (Int32.toNatClampNeg (((7 : Int32) + ((11 : Int32) * x1)) + x2)) (A 12 (Int32.toNatClampNeg x2))) L x1 (x2 + (1 : Int32)) hw _ _ _ hI (lv_sub hl [1, 2, 0] rfl)
def wp_X4_addsRule (F : Nat → Int32) (A : Nat → Nat → Int32) (L : Nat → UInt32) (Q : Int32 → (Nat → Int32) → (Nat → Nat → Int32) → (Nat → UInt32) → Prop) : Prop := ((¬ (A 1 0) = (8 : Int32) → (∃ n23, wp_X4_addsRule_L23 Q n23 F A L (A 1 0) (0 : Int32))) ∧ ((A 1 0) = (8 : Int32) → wp_X4_refused F A L (1 : Int32) (8 : Int32) (fun r2 F2 A2 L2 => Q r2 F2 A2 L2)))
set_option maxHeartbeats 4000000 in
theorem snd_X4_addsRule (l : Launch) (G : GG) (sz : Nat) (h : HH) (ad : Nat → Nat) (F : Nat → Int32) (A : Nat → Nat → Int32) (L : Nat → UInt32) (Q : Int32 → (Nat → Int32) → (Nat → Nat → Int32) → (Nat → UInt32) → Prop) (hS : ml_S G h ad F A L) (hw : wp_X4_addsRule F A L Q) : Met l yX4_addsRule (ws_ yX4_addsRule cX4_addsRule 3 (some FieldType.int)) rm_X4_addsRule (hv_Pc G h sz [.ref (ad 0)]) (hv_Qi G h sz (fun r => ml_Q G h ad (Q r))) 0 0 (hv_A h sz) := by
  refine Met.ofW (cc := cX4_addsRule) (maxL := 3) (ret := (some FieldType.int)) (by decide) rfl ?_
  intro p e s m args below meth c s₁ B hml hv
  obtain ⟨rfl, rfl, hE, hI⟩ := hv_open B hml hv
  have hE : hv_E p s m ([.ref (ad 0)] : List Value).toArray meth c cX4_addsRule 3 (some FieldType.int) RX4 G h := hE
  have hI := ml_I.start hI hS
  obtain ⟨⟨hx, hb, hml, hown, hts⟩, hr, hlocks, -⟩ := id hE
  have hl := lv_entry ([.ref (ad 0)] : List Value) (n := 3) (Nat.le_of_ble_eq_true rfl)
  rw [lg_entry_eq]
  generalize (lg_sl ([.ref (ad 0)] : List Value) ++ List.replicate (3 - (lg_sl ([.ref (ad 0)] : List Value)).length) Slot.unset).toArray = ls at hl ⊢
  have hl : lv_has ls 3 [(0, .ref (ad 0))] := hl
  unfold wp_X4_addsRule at hw
  refine lv_aload_n hx hb dX4_addsRule_0 rfl (lv_at hl 0 rfl) ?_
  refine ml_get hE hI 1 (by decide) q1986 rfl rfl dX4_addsRule_1 ?_
  refine lv_iconst (v := 0) hx hb dX4_addsRule_4 (by decide) ?_
  have hin : vp_in (0 : Int32) 13675 := by unfold vp_in; decide +kernel
  refine ml_iald hE hI 1 rfl rfl (show Int32.toNatClampNeg (0 : Int32) = 0 from by decide +kernel) hin dX4_addsRule_5 ?_
  refine lv_istore_n (lv' := [(1, .int (A 1 0)), (0, .ref (ad 0))]) hx hb dX4_addsRule_6 rfl hl (by decide) rfl (fun ls hl => ?_)
  refine lv_iload_n hx hb dX4_addsRule_7 rfl (lv_at hl 0 rfl) ?_
  refine lv_bipush (v := 8) hx hb dX4_addsRule_8 (by decide) ?_
  refine lv_icmp_ne (tgt := 21) hx hb dX4_addsRule_10 (by decide) (fun c_10 => ?_) (fun c_10 => ?_)
  · have hw := hw.1 c_10
    refine lv_iconst (v := 0) hx hb dX4_addsRule_21 (by decide) ?_
    refine lv_istore_n (lv' := [(2, .int (0 : Int32)), (1, .int (A 1 0)), (0, .ref (ad 0))]) hx hb dX4_addsRule_22 rfl hl (by decide) rfl (fun ls hl => ?_)
    obtain ⟨n23, hw⟩ := hw
    exact snd_X4_addsRule_L23 hE Q n23 F A L (A 1 0) (0 : Int32) hw _ _ _ hI (lv_sub hl [2, 1, 0] rfl)
  · have hw := hw.2 c_10
    refine lv_aload_n hx hb dX4_addsRule_13 rfl (lv_at hl 1 rfl) ?_
    refine lv_iconst (v := 1) hx hb dX4_addsRule_14 (by decide) ?_
    refine lv_bipush (v := 8) hx hb dX4_addsRule_15 (by decide) ?_
    refine ml_calli (As := [.int (1 : Int32), .int (8 : Int32)]) (rest := []) (cells := 0) (slots := 0) hE hI (fun h hS => snd_X4_refused l G _ h ad F A L (1 : Int32) (8 : Int32) _ hS hw) (cwV 2 hts (lw_V q2157 q2159 qs45 q108 q2160) rfl rfl rfl (by decide +kernel) ⟨Nat.le_of_ble_eq_true rfl, Nat.le_of_ble_eq_true rfl⟩) rfl hl.1 (Nat.le_of_ble_eq_true rfl) dX4_addsRule_17 ⟨Nat.le_of_ble_eq_true rfl, Nat.le_of_ble_eq_true rfl⟩ (fun r2 F2 A2 L2 H locs hw hI => ?_)
    exact ml_iret hE hI hw dX4_addsRule_20

/-- MatchmakerRulesModel.changed(I)I -/
abbrev rm_X4_changed : Room := { frames := 1, cells := 0, slots := 0, locals := 12 }
def wp_X4_changed_L54 (Q : Int32 → (Nat → Int32) → (Nat → Nat → Int32) → (Nat → UInt32) → Prop) : Nat → (Nat → Int32) → (Nat → Nat → Int32) → (Nat → UInt32) → (Int32) → (Int32) → Prop
  | 0, _, _, _, _, _ => False
  | n + 1, F, A, L, x1, x2 => (((13675 : Int32) ≤ x2 → Q x1 F A L) ∧ (¬ (13675 : Int32) ≤ x2 → (vp_in x2 13675 ∧ (vp_in (((13675 : Int32) * ((F 6) - (1 : Int32))) + x2) 109400 ∧ wp_X4_changed_L54 Q n F (ml_up A 5 (Int32.toNatClampNeg (((13675 : Int32) * ((F 6) - (1 : Int32))) + x2)) (A 2 (Int32.toNatClampNeg x2))) L x1 (x2 + (1 : Int32))))))
set_option maxHeartbeats 4000000 in
theorem snd_X4_changed_L54 {p : Program} {l : Launch} {e : Env} {s : State} {m : MethodId} {args : Array Value} {below : List Frame} {meth : Method} {c : Code} {G : GG} {h0 : HH} {ad : Nat → Nat} (hE : hv_E p s m args meth c cX4_changed 3 (some FieldType.int) RX4 G h0) (Q : Int32 → (Nat → Int32) → (Nat → Nat → Int32) → (Nat → UInt32) → Prop) : ∀ (n : Nat) (F : Nat → Int32) (A : Nat → Nat → Int32) (L : Nat → UInt32) (x1 : Int32) (x2 : Int32), wp_X4_changed_L54 Q n F A L x1 x2 → ∀ (H : Heap) (locs : List Loc) (ls : Array Slot), ml_I G h0 s.heap ad F A L H locs → lv_has ls 3 [(0, .ref (ad 0)), (1, .int x1), (2, .int x2)] → W p l e (headSpec (ws_ yX4_changed cX4_changed 3 (some FieldType.int)) rm_X4_changed).room s m args below meth c H locs 0 0 (MQ below (hv_Qi G h0 s.heap.size (fun r => ml_Q G h0 ad (Q r))) args s 0 0 (hv_A h0 s.heap.size)) (F0 m 54 ls []) := by
  obtain ⟨⟨hx, hb, hml, hown, hts⟩, hr, hlocks, -⟩ := id hE
  intro n
  induction n with
  | zero => intro F A L x1 x2 hw; exact hw.elim
  | succ n ih =>
    intro F A L x1 x2 hw H locs ls hI hl
    unfold wp_X4_changed_L54 at hw
    refine lv_iload_n hx hb dX4_changed_54 rfl (lv_at hl 2 rfl) ?_
    refine lv_sipush (v := 13675) hx hb dX4_changed_55 (by decide) ?_
    refine lv_icmp_ge (tgt := 90) hx hb dX4_changed_58 (by decide) (fun c_58 => ?_) (fun c_58 => ?_)
    · have hw := hw.1 c_58
      refine lv_iload_n hx hb dX4_changed_90 rfl (lv_at hl 1 rfl) ?_
      exact ml_iret hE hI hw dX4_changed_91
    · have hw := hw.2 c_58
      refine lv_aload_n hx hb dX4_changed_61 rfl (lv_at hl 0 rfl) ?_
      refine ml_get hE hI 5 (by decide) q1990 rfl rfl dX4_changed_62 ?_
      refine lv_sipush (v := 13675) hx hb dX4_changed_65 (by decide) ?_
      refine lv_aload_n hx hb dX4_changed_68 rfl (lv_at hl 0 rfl) ?_
      refine ml_get hE hI 6 (by decide) q1991 rfl rfl dX4_changed_69 ?_
      refine lv_iconst (v := 1) hx hb dX4_changed_72 (by decide) ?_
      refine lv_isub hx hb dX4_changed_73 ?_
      refine lv_imul hx hb dX4_changed_74 ?_
      refine lv_iload_n hx hb dX4_changed_75 rfl (lv_at hl 2 rfl) ?_
      refine lv_iadd hx hb dX4_changed_76 ?_
      refine lv_aload_n hx hb dX4_changed_77 rfl (lv_at hl 0 rfl) ?_
      refine ml_get hE hI 2 (by decide) q1987 rfl rfl dX4_changed_78 ?_
      refine lv_iload_n hx hb dX4_changed_81 rfl (lv_at hl 2 rfl) ?_
      obtain ⟨hin, hw⟩ := hw
      refine ml_iald hE hI 2 rfl rfl rfl hin dX4_changed_82 ?_
      obtain ⟨hin, hw⟩ := hw
      refine ml_iast hE hI 5 rfl rfl rfl hin dX4_changed_83 (fun H locs hI => ?_)
      refine lv_iinc (v := (x2 + (1 : Int32))) (lv' := [(2, .int (x2 + (1 : Int32))), (0, .ref (ad 0)), (1, .int x1)]) hx hb dX4_changed_84 hl (k := 2) rfl rfl (by decide) rfl (fun ls hl => ?_)
      refine lv_goto (tgt := 54) hx hb dX4_changed_87 (by decide) ?_
      exact ih F (ml_up A 5 (Int32.toNatClampNeg (((13675 : Int32) * ((F 6) - (1 : Int32))) + x2)) (A 2 (Int32.toNatClampNeg x2))) L x1 (x2 + (1 : Int32)) hw _ _ _ hI (lv_sub hl [1, 2, 0] rfl)
def wp_X4_changed_L11 (Q : Int32 → (Nat → Int32) → (Nat → Nat → Int32) → (Nat → UInt32) → Prop) : Nat → (Nat → Int32) → (Nat → Nat → Int32) → (Nat → UInt32) → (Int32) → (Int32) → Prop
  | 0, _, _, _, _, _ => False
  | n + 1, F, A, L, x1, x2 => (((95725 : Int32) ≤ x2 → (∃ n54, wp_X4_changed_L54 Q n54 F A L x1 (0 : Int32))) ∧ (¬ (95725 : Int32) ≤ x2 → (vp_in (x2 + (13675 : Int32)) 109400 ∧ (vp_in x2 109400 ∧ wp_X4_changed_L11 Q n F (ml_up A 5 (Int32.toNatClampNeg x2) (A 5 (Int32.toNatClampNeg (x2 + (13675 : Int32))))) L x1 (x2 + (1 : Int32))))))
set_option maxHeartbeats 4000000 in
theorem snd_X4_changed_L11 {p : Program} {l : Launch} {e : Env} {s : State} {m : MethodId} {args : Array Value} {below : List Frame} {meth : Method} {c : Code} {G : GG} {h0 : HH} {ad : Nat → Nat} (hE : hv_E p s m args meth c cX4_changed 3 (some FieldType.int) RX4 G h0) (Q : Int32 → (Nat → Int32) → (Nat → Nat → Int32) → (Nat → UInt32) → Prop) : ∀ (n : Nat) (F : Nat → Int32) (A : Nat → Nat → Int32) (L : Nat → UInt32) (x1 : Int32) (x2 : Int32), wp_X4_changed_L11 Q n F A L x1 x2 → ∀ (H : Heap) (locs : List Loc) (ls : Array Slot), ml_I G h0 s.heap ad F A L H locs → lv_has ls 3 [(0, .ref (ad 0)), (1, .int x1), (2, .int x2)] → W p l e (headSpec (ws_ yX4_changed cX4_changed 3 (some FieldType.int)) rm_X4_changed).room s m args below meth c H locs 0 0 (MQ below (hv_Qi G h0 s.heap.size (fun r => ml_Q G h0 ad (Q r))) args s 0 0 (hv_A h0 s.heap.size)) (F0 m 11 ls []) := by
  obtain ⟨⟨hx, hb, hml, hown, hts⟩, hr, hlocks, -⟩ := id hE
  intro n
  induction n with
  | zero => intro F A L x1 x2 hw; exact hw.elim
  | succ n ih =>
    intro F A L x1 x2 hw H locs ls hI hl
    unfold wp_X4_changed_L11 at hw
    refine lv_iload_n hx hb dX4_changed_11 rfl (lv_at hl 2 rfl) ?_
    refine lv_ldc (v := 95725) hx hb hown (hts _ q2173) dX4_changed_12 ?_
    refine lv_icmp_ge (tgt := 39) hx hb dX4_changed_14 (by decide) (fun c_14 => ?_) (fun c_14 => ?_)
    · have hw := hw.1 c_14
      refine lv_goto (tgt := 52) hx hb dX4_changed_39 (by decide) ?_
      refine lv_iconst (v := 0) hx hb dX4_changed_52 (by decide) ?_
      refine lv_istore_n (lv' := [(2, .int (0 : Int32)), (0, .ref (ad 0)), (1, .int x1)]) hx hb dX4_changed_53 rfl hl (by decide) rfl (fun ls hl => ?_)
      obtain ⟨n54, hw⟩ := hw
      exact snd_X4_changed_L54 hE Q n54 F A L x1 (0 : Int32) hw _ _ _ hI (lv_sub hl [1, 2, 0] rfl)
    · have hw := hw.2 c_14
      refine lv_aload_n hx hb dX4_changed_17 rfl (lv_at hl 0 rfl) ?_
      refine ml_get hE hI 5 (by decide) q1990 rfl rfl dX4_changed_18 ?_
      refine lv_iload_n hx hb dX4_changed_21 rfl (lv_at hl 2 rfl) ?_
      refine lv_aload_n hx hb dX4_changed_22 rfl (lv_at hl 0 rfl) ?_
      refine ml_get hE hI 5 (by decide) q1990 rfl rfl dX4_changed_23 ?_
      refine lv_iload_n hx hb dX4_changed_26 rfl (lv_at hl 2 rfl) ?_
      refine lv_sipush (v := 13675) hx hb dX4_changed_27 (by decide) ?_
      refine lv_iadd hx hb dX4_changed_30 ?_
      obtain ⟨hin, hw⟩ := hw
      refine ml_iald hE hI 5 rfl rfl rfl hin dX4_changed_31 ?_
      obtain ⟨hin, hw⟩ := hw
      refine ml_iast hE hI 5 rfl rfl rfl hin dX4_changed_32 (fun H locs hI => ?_)
      refine lv_iinc (v := (x2 + (1 : Int32))) (lv' := [(2, .int (x2 + (1 : Int32))), (0, .ref (ad 0)), (1, .int x1)]) hx hb dX4_changed_33 hl (k := 2) rfl rfl (by decide) rfl (fun ls hl => ?_)
      refine lv_goto (tgt := 11) hx hb dX4_changed_36 (by decide) ?_
      exact ih F (ml_up A 5 (Int32.toNatClampNeg x2) (A 5 (Int32.toNatClampNeg (x2 + (13675 : Int32))))) L x1 (x2 + (1 : Int32)) hw _ _ _ hI (lv_sub hl [1, 2, 0] rfl)
def wp_X4_changed (F : Nat → Int32) (A : Nat → Nat → Int32) (L : Nat → UInt32) (x1 : Int32) (Q : Int32 → (Nat → Int32) → (Nat → Nat → Int32) → (Nat → UInt32) → Prop) : Prop := ((¬ (F 6) = (8 : Int32) → (∃ n54, wp_X4_changed_L54 Q n54 (upd F 6 ((F 6) + (1 : Int32))) A L x1 (0 : Int32))) ∧ ((F 6) = (8 : Int32) → (∃ n11, wp_X4_changed_L11 Q n11 F A L x1 (0 : Int32))))
set_option maxHeartbeats 4000000 in
theorem snd_X4_changed (l : Launch) (G : GG) (sz : Nat) (h : HH) (ad : Nat → Nat) (F : Nat → Int32) (A : Nat → Nat → Int32) (L : Nat → UInt32) (x1 : Int32) (Q : Int32 → (Nat → Int32) → (Nat → Nat → Int32) → (Nat → UInt32) → Prop) (hS : ml_S G h ad F A L) (hw : wp_X4_changed F A L x1 Q) : Met l yX4_changed (ws_ yX4_changed cX4_changed 3 (some FieldType.int)) rm_X4_changed (hv_Pc G h sz [.ref (ad 0), .int x1]) (hv_Qi G h sz (fun r => ml_Q G h ad (Q r))) 0 0 (hv_A h sz) := by
  refine Met.ofW (cc := cX4_changed) (maxL := 3) (ret := (some FieldType.int)) (by decide) rfl ?_
  intro p e s m args below meth c s₁ B hml hv
  obtain ⟨rfl, rfl, hE, hI⟩ := hv_open B hml hv
  have hE : hv_E p s m ([.ref (ad 0), .int x1] : List Value).toArray meth c cX4_changed 3 (some FieldType.int) RX4 G h := hE
  have hI := ml_I.start hI hS
  obtain ⟨⟨hx, hb, hml, hown, hts⟩, hr, hlocks, -⟩ := id hE
  have hl := lv_entry ([.ref (ad 0), .int x1] : List Value) (n := 3) (Nat.le_of_ble_eq_true rfl)
  rw [lg_entry_eq]
  generalize (lg_sl ([.ref (ad 0), .int x1] : List Value) ++ List.replicate (3 - (lg_sl ([.ref (ad 0), .int x1] : List Value)).length) Slot.unset).toArray = ls at hl ⊢
  have hl : lv_has ls 3 [(0, .ref (ad 0)), (1, .int x1)] := hl
  unfold wp_X4_changed at hw
  refine lv_aload_n hx hb dX4_changed_0 rfl (lv_at hl 0 rfl) ?_
  refine ml_get hE hI 6 (by decide) q1991 rfl rfl dX4_changed_1 ?_
  refine lv_bipush (v := 8) hx hb dX4_changed_4 (by decide) ?_
  refine lv_icmp_ne (tgt := 42) hx hb dX4_changed_6 (by decide) (fun c_6 => ?_) (fun c_6 => ?_)
  · have hw := hw.1 c_6
    refine lv_aload_n hx hb dX4_changed_42 rfl (lv_at hl 0 rfl) ?_
    refine lv_dup hx hb dX4_changed_43 rfl ?_
    refine ml_get hE hI 6 (by decide) q1991 rfl rfl dX4_changed_44 ?_
    refine lv_iconst (v := 1) hx hb dX4_changed_47 (by decide) ?_
    refine lv_iadd hx hb dX4_changed_48 ?_
    refine ml_put hE hI 6 (by decide) q1991 rfl rfl (ty := .int) rfl rfl rfl (fun _ => rfl) dX4_changed_49 (fun H locs hI => ?_)
    refine lv_iconst (v := 0) hx hb dX4_changed_52 (by decide) ?_
    refine lv_istore_n (lv' := [(2, .int (0 : Int32)), (0, .ref (ad 0)), (1, .int x1)]) hx hb dX4_changed_53 rfl hl (by decide) rfl (fun ls hl => ?_)
    obtain ⟨n54, hw⟩ := hw
    exact snd_X4_changed_L54 hE Q n54 (upd F 6 ((F 6) + (1 : Int32))) A L x1 (0 : Int32) hw _ _ _ hI (lv_sub hl [1, 2, 0] rfl)
  · have hw := hw.2 c_6
    refine lv_iconst (v := 0) hx hb dX4_changed_9 (by decide) ?_
    refine lv_istore_n (lv' := [(2, .int (0 : Int32)), (0, .ref (ad 0)), (1, .int x1)]) hx hb dX4_changed_10 rfl hl (by decide) rfl (fun ls hl => ?_)
    obtain ⟨n11, hw⟩ := hw
    exact snd_X4_changed_L11 hE Q n11 F A L x1 (0 : Int32) hw _ _ _ hI (lv_sub hl [1, 2, 0] rfl)

/-- MatchmakerRulesModel.ends(II)I -/
abbrev rm_X4_ends : Room := { frames := 2, cells := 0, slots := 0, locals := 34 }
def wp_X4_ends (F : Nat → Int32) (A : Nat → Nat → Int32) (L : Nat → UInt32) (x1 : Int32) (x2 : Int32) (Q : Int32 → (Nat → Int32) → (Nat → Nat → Int32) → (Nat → UInt32) → Prop) : Prop := ((¬ x1 = 0 → ((0 ≤ x1 → wp_X4_fails (upd (upd F 27 x1) 28 ((upd F 27 x1) 29)) A L x2 (fun r1 F1 A1 L1 => Q r1 F1 A1 L1)) ∧ (¬ 0 ≤ x1 → wp_X4_fails F A L (-x1) (fun r2 F2 A2 L2 => Q r2 F2 A2 L2)))) ∧ (x1 = 0 → wp_X4_changed F A L (F 30) (fun r3 F3 A3 L3 => Q r3 F3 A3 L3)))
set_option maxHeartbeats 4000000 in
theorem snd_X4_ends (l : Launch) (G : GG) (sz : Nat) (h : HH) (ad : Nat → Nat) (F : Nat → Int32) (A : Nat → Nat → Int32) (L : Nat → UInt32) (x1 : Int32) (x2 : Int32) (Q : Int32 → (Nat → Int32) → (Nat → Nat → Int32) → (Nat → UInt32) → Prop) (hS : ml_S G h ad F A L) (hw : wp_X4_ends F A L x1 x2 Q) : Met l yX4_ends (ws_ yX4_ends cX4_ends 3 (some FieldType.int)) rm_X4_ends (hv_Pc G h sz [.ref (ad 0), .int x1, .int x2]) (hv_Qi G h sz (fun r => ml_Q G h ad (Q r))) 0 0 (hv_A h sz) := by
  refine Met.ofW (cc := cX4_ends) (maxL := 3) (ret := (some FieldType.int)) (by decide) rfl ?_
  intro p e s m args below meth c s₁ B hml hv
  obtain ⟨rfl, rfl, hE, hI⟩ := hv_open B hml hv
  have hE : hv_E p s m ([.ref (ad 0), .int x1, .int x2] : List Value).toArray meth c cX4_ends 3 (some FieldType.int) RX4 G h := hE
  have hI := ml_I.start hI hS
  obtain ⟨⟨hx, hb, hml, hown, hts⟩, hr, hlocks, -⟩ := id hE
  have hl := lv_entry ([.ref (ad 0), .int x1, .int x2] : List Value) (n := 3) (Nat.le_of_ble_eq_true rfl)
  rw [lg_entry_eq]
  generalize (lg_sl ([.ref (ad 0), .int x1, .int x2] : List Value) ++ List.replicate (3 - (lg_sl ([.ref (ad 0), .int x1, .int x2] : List Value)).length) Slot.unset).toArray = ls at hl ⊢
  have hl : lv_has ls 3 [(0, .ref (ad 0)), (1, .int x1), (2, .int x2)] := hl
  unfold wp_X4_ends at hw
  refine lv_iload_n hx hb dX4_ends_0 rfl (lv_at hl 1 rfl) ?_
  refine lv_if_ne (tgt := 13) hx hb dX4_ends_1 (by decide) (fun c_1 => ?_) (fun c_1 => ?_)
  · have hw := hw.1 c_1
    refine lv_iload_n hx hb dX4_ends_13 rfl (lv_at hl 1 rfl) ?_
    refine lv_if_ge (tgt := 24) hx hb dX4_ends_14 (by decide) (fun c_14 => ?_) (fun c_14 => ?_)
    · have hw := hw.1 c_14
      refine lv_aload_n hx hb dX4_ends_24 rfl (lv_at hl 0 rfl) ?_
      refine lv_iload_n hx hb dX4_ends_25 rfl (lv_at hl 1 rfl) ?_
      refine ml_put hE hI 27 (by decide) q2012 rfl rfl (ty := .int) rfl rfl rfl (fun _ => rfl) dX4_ends_26 (fun H locs hI => ?_)
      refine lv_aload_n hx hb dX4_ends_29 rfl (lv_at hl 0 rfl) ?_
      refine lv_aload_n hx hb dX4_ends_30 rfl (lv_at hl 0 rfl) ?_
      refine ml_get hE hI 29 (by decide) q2014 rfl rfl dX4_ends_31 ?_
      refine ml_put hE hI 28 (by decide) q2013 rfl rfl (ty := .int) rfl rfl rfl (fun _ => rfl) dX4_ends_34 (fun H locs hI => ?_)
      refine lv_aload_n hx hb dX4_ends_37 rfl (lv_at hl 0 rfl) ?_
      refine lv_iload_n hx hb dX4_ends_38 rfl (lv_at hl 2 rfl) ?_
      refine ml_calli (As := [.int x2]) (rest := []) (cells := 0) (slots := 0) hE hI (fun h hS => snd_X4_fails l G _ h ad (upd (upd F 27 x1) 28 ((upd F 27 x1) 29)) A L x2 _ hS hw) (cwV 1 hts (lw_V q2149 q2151 qs43 q108 q2152) rfl rfl rfl (by decide +kernel) ⟨Nat.le_of_ble_eq_true rfl, Nat.le_of_ble_eq_true rfl⟩) rfl hl.1 (Nat.le_of_ble_eq_true rfl) dX4_ends_39 ⟨Nat.le_of_ble_eq_true rfl, Nat.le_of_ble_eq_true rfl⟩ (fun r1 F1 A1 L1 H locs hw hI => ?_)
      exact ml_iret hE hI hw dX4_ends_42
    · have hw := hw.2 c_14
      refine lv_aload_n hx hb dX4_ends_17 rfl (lv_at hl 0 rfl) ?_
      refine lv_iload_n hx hb dX4_ends_18 rfl (lv_at hl 1 rfl) ?_
      refine lv_ineg hx hb dX4_ends_19 ?_
      refine ml_calli (As := [.int (-x1)]) (rest := []) (cells := 0) (slots := 0) hE hI (fun h hS => snd_X4_fails l G _ h ad F A L (-x1) _ hS hw) (cwV 1 hts (lw_V q2149 q2151 qs43 q108 q2152) rfl rfl rfl (by decide +kernel) ⟨Nat.le_of_ble_eq_true rfl, Nat.le_of_ble_eq_true rfl⟩) rfl hl.1 (Nat.le_of_ble_eq_true rfl) dX4_ends_20 ⟨Nat.le_of_ble_eq_true rfl, Nat.le_of_ble_eq_true rfl⟩ (fun r2 F2 A2 L2 H locs hw hI => ?_)
      exact ml_iret hE hI hw dX4_ends_23
  · have hw := hw.2 c_1
    refine lv_aload_n hx hb dX4_ends_4 rfl (lv_at hl 0 rfl) ?_
    refine lv_aload_n hx hb dX4_ends_5 rfl (lv_at hl 0 rfl) ?_
    refine ml_get hE hI 30 (by decide) q2015 rfl rfl dX4_ends_6 ?_
    refine ml_calli (As := [.int (F 30)]) (rest := []) (cells := 0) (slots := 0) hE hI (fun h hS => snd_X4_changed l G _ h ad F A L (F 30) _ hS hw) (cwV 1 hts (lw_V q2169 q2171 qs48 q108 q2172) rfl rfl rfl (by decide +kernel) ⟨Nat.le_of_ble_eq_true rfl, Nat.le_of_ble_eq_true rfl⟩) rfl hl.1 (Nat.le_of_ble_eq_true rfl) dX4_ends_9 ⟨Nat.le_of_ble_eq_true rfl, Nat.le_of_ble_eq_true rfl⟩ (fun r3 F3 A3 L3 H locs hw hI => ?_)
    exact ml_iret hE hI hw dX4_ends_12

/-- MatchmakerRulesModel.rule()I -/
abbrev rm_X4_rule : Room := { frames := 6, cells := 0, slots := 0, locals := 116 }
def wp_X4_rule_L49 (Q : Int32 → (Nat → Int32) → (Nat → Nat → Int32) → (Nat → UInt32) → Prop) (F : Nat → Int32) (A : Nat → Nat → Int32) (L : Nat → UInt32) : Prop := wp_X4_fails (upd F 25 (F 32)) A L (1 : Int32) (fun r3 F3 A3 L3 => Q r3 F3 A3 L3)
set_option maxHeartbeats 4000000 in
theorem snd_X4_rule_L49 {p : Program} {l : Launch} {e : Env} {s : State} {m : MethodId} {args : Array Value} {below : List Frame} {meth : Method} {c : Code} {G : GG} {h0 : HH} {ad : Nat → Nat} (hE : hv_E p s m args meth c cX4_rule 1 (some FieldType.int) RX4 G h0) (Q : Int32 → (Nat → Int32) → (Nat → Nat → Int32) → (Nat → UInt32) → Prop) : ∀ (F : Nat → Int32) (A : Nat → Nat → Int32) (L : Nat → UInt32), wp_X4_rule_L49 Q F A L → ∀ (H : Heap) (locs : List Loc) (ls : Array Slot), ml_I G h0 s.heap ad F A L H locs → lv_has ls 1 [(0, .ref (ad 0))] → W p l e (headSpec (ws_ yX4_rule cX4_rule 1 (some FieldType.int)) rm_X4_rule).room s m args below meth c H locs 0 0 (MQ below (hv_Qi G h0 s.heap.size (fun r => ml_Q G h0 ad (Q r))) args s 0 0 (hv_A h0 s.heap.size)) (F0 m 49 ls []) := by
  obtain ⟨⟨hx, hb, hml, hown, hts⟩, hr, hlocks, -⟩ := id hE
  intro F A L hw H locs ls hI hl
  unfold wp_X4_rule_L49 at hw
  refine lv_aload_n hx hb dX4_rule_49 rfl (lv_at hl 0 rfl) ?_
  refine lv_aload_n hx hb dX4_rule_50 rfl (lv_at hl 0 rfl) ?_
  refine ml_get hE hI 32 (by decide) q2017 rfl rfl dX4_rule_51 ?_
  refine ml_put hE hI 25 (by decide) q2010 rfl rfl (ty := .int) rfl rfl rfl (fun _ => rfl) dX4_rule_54 (fun H locs hI => ?_)
  refine lv_aload_n hx hb dX4_rule_57 rfl (lv_at hl 0 rfl) ?_
  refine lv_iconst (v := 1) hx hb dX4_rule_58 (by decide) ?_
  refine ml_calli (As := [.int (1 : Int32)]) (rest := []) (cells := 0) (slots := 0) hE hI (fun h hS => snd_X4_fails l G _ h ad (upd F 25 (F 32)) A L (1 : Int32) _ hS hw) (cwV 1 hts (lw_V q2149 q2151 qs43 q108 q2152) rfl rfl rfl (by decide +kernel) ⟨Nat.le_of_ble_eq_true rfl, Nat.le_of_ble_eq_true rfl⟩) rfl hl.1 (Nat.le_of_ble_eq_true rfl) dX4_rule_59 ⟨Nat.le_of_ble_eq_true rfl, Nat.le_of_ble_eq_true rfl⟩ (fun r3 F3 A3 L3 H locs hw hI => ?_)
  exact ml_iret hE hI hw dX4_rule_62
def wp_X4_rule (F : Nat → Int32) (A : Nat → Nat → Int32) (L : Nat → UInt32) (Q : Int32 → (Nat → Int32) → (Nat → Nat → Int32) → (Nat → UInt32) → Prop) : Prop := wp_X4_remembers F A L (fun F1 A1 L1 => wp_X4_readsRule (upd (upd (upd (upd F1 32 (0 : Int32)) 33 ((upd F1 32 (0 : Int32)) 23)) 23 (0 : Int32)) 35 (0 : Int32)) A1 L1 (fun F2 A2 L2 => ((¬ (F2 35) = 0 → wp_X4_rule_L49 Q F2 A2 L2) ∧ ((F2 35) = 0 → (((F2 33) ≤ (F2 32) → wp_X4_addsRule F2 A2 L2 (fun r4 F4 A4 L4 => wp_X4_ends F4 A4 L4 r4 (2 : Int32) (fun r5 F5 A5 L5 => Q r5 F5 A5 L5))) ∧ (¬ (F2 33) ≤ (F2 32) → wp_X4_rule_L49 Q F2 A2 L2))))))
set_option maxHeartbeats 4000000 in
theorem snd_X4_rule (l : Launch) (G : GG) (sz : Nat) (h : HH) (ad : Nat → Nat) (F : Nat → Int32) (A : Nat → Nat → Int32) (L : Nat → UInt32) (Q : Int32 → (Nat → Int32) → (Nat → Nat → Int32) → (Nat → UInt32) → Prop) (hS : ml_S G h ad F A L) (hw : wp_X4_rule F A L Q) : Met l yX4_rule (ws_ yX4_rule cX4_rule 1 (some FieldType.int)) rm_X4_rule (hv_Pc G h sz [.ref (ad 0)]) (hv_Qi G h sz (fun r => ml_Q G h ad (Q r))) 0 0 (hv_A h sz) := by
  refine Met.ofW (cc := cX4_rule) (maxL := 1) (ret := (some FieldType.int)) (by decide) rfl ?_
  intro p e s m args below meth c s₁ B hml hv
  obtain ⟨rfl, rfl, hE, hI⟩ := hv_open B hml hv
  have hE : hv_E p s m ([.ref (ad 0)] : List Value).toArray meth c cX4_rule 1 (some FieldType.int) RX4 G h := hE
  have hI := ml_I.start hI hS
  obtain ⟨⟨hx, hb, hml, hown, hts⟩, hr, hlocks, -⟩ := id hE
  have hl := lv_entry ([.ref (ad 0)] : List Value) (n := 1) (Nat.le_of_ble_eq_true rfl)
  rw [lg_entry_eq]
  generalize (lg_sl ([.ref (ad 0)] : List Value) ++ List.replicate (1 - (lg_sl ([.ref (ad 0)] : List Value)).length) Slot.unset).toArray = ls at hl ⊢
  have hl : lv_has ls 1 [(0, .ref (ad 0))] := hl
  unfold wp_X4_rule at hw
  refine lv_aload_n hx hb dX4_rule_0 rfl (lv_at hl 0 rfl) ?_
  refine ml_callv (As := []) (rest := []) (cells := 0) (slots := 0) hE hI (fun h hS => snd_X4_remembers l G _ h ad F A L _ hS hw) (cwV 0 hts (lw_V q2110 q2112 qs34 q108 q2113) rfl rfl rfl (by decide +kernel) ⟨Nat.le_of_ble_eq_true rfl, Nat.le_of_ble_eq_true rfl⟩) rfl hl.1 (Nat.le_of_ble_eq_true rfl) dX4_rule_1 ⟨Nat.le_of_ble_eq_true rfl, Nat.le_of_ble_eq_true rfl⟩ (fun F1 A1 L1 H locs hw hI => ?_)
  refine lv_aload_n hx hb dX4_rule_4 rfl (lv_at hl 0 rfl) ?_
  refine lv_iconst (v := 0) hx hb dX4_rule_5 (by decide) ?_
  refine ml_put hE hI 32 (by decide) q2017 rfl rfl (ty := .int) rfl rfl rfl (fun _ => rfl) dX4_rule_6 (fun H locs hI => ?_)
  refine lv_aload_n hx hb dX4_rule_9 rfl (lv_at hl 0 rfl) ?_
  refine lv_aload_n hx hb dX4_rule_10 rfl (lv_at hl 0 rfl) ?_
  refine ml_get hE hI 23 (by decide) q2008 rfl rfl dX4_rule_11 ?_
  refine ml_put hE hI 33 (by decide) q2018 rfl rfl (ty := .int) rfl rfl rfl (fun _ => rfl) dX4_rule_14 (fun H locs hI => ?_)
  refine lv_aload_n hx hb dX4_rule_17 rfl (lv_at hl 0 rfl) ?_
  refine lv_iconst (v := 0) hx hb dX4_rule_18 (by decide) ?_
  refine ml_put hE hI 23 (by decide) q2008 rfl rfl (ty := .int) rfl rfl rfl (fun _ => rfl) dX4_rule_19 (fun H locs hI => ?_)
  refine lv_aload_n hx hb dX4_rule_22 rfl (lv_at hl 0 rfl) ?_
  refine lv_iconst (v := 0) hx hb dX4_rule_23 (by decide) ?_
  refine ml_put hE hI 35 (by decide) q2020 rfl rfl (ty := .boolean) rfl rfl rfl (fun _ => rfl) dX4_rule_24 (fun H locs hI => ?_)
  refine lv_aload_n hx hb dX4_rule_27 rfl (lv_at hl 0 rfl) ?_
  refine ml_callv (As := []) (rest := []) (cells := 0) (slots := 0) hE hI (fun h hS => snd_X4_readsRule l G _ h ad (upd (upd (upd (upd F1 32 (0 : Int32)) 33 ((upd F1 32 (0 : Int32)) 23)) 23 (0 : Int32)) 35 (0 : Int32)) A1 L1 _ hS hw) (cwV 0 hts (lw_V q2114 q2116 qs35 q108 q2117) rfl rfl rfl (by decide +kernel) ⟨Nat.le_of_ble_eq_true rfl, Nat.le_of_ble_eq_true rfl⟩) rfl hl.1 (Nat.le_of_ble_eq_true rfl) dX4_rule_28 ⟨Nat.le_of_ble_eq_true rfl, Nat.le_of_ble_eq_true rfl⟩ (fun F2 A2 L2 H locs hw hI => ?_)
  refine lv_aload_n hx hb dX4_rule_31 rfl (lv_at hl 0 rfl) ?_
  refine ml_get hE hI 35 (by decide) q2020 rfl rfl dX4_rule_32 ?_
  refine lv_if_ne (tgt := 49) hx hb dX4_rule_35 (by decide) (fun c_35 => ?_) (fun c_35 => ?_)
  · have hw := hw.1 c_35
    exact snd_X4_rule_L49 hE Q F2 A2 L2 hw _ _ _ hI (lv_sub hl [0] rfl)
  · have hw := hw.2 c_35
    refine lv_aload_n hx hb dX4_rule_38 rfl (lv_at hl 0 rfl) ?_
    refine ml_get hE hI 32 (by decide) q2017 rfl rfl dX4_rule_39 ?_
    refine lv_aload_n hx hb dX4_rule_42 rfl (lv_at hl 0 rfl) ?_
    refine ml_get hE hI 33 (by decide) q2018 rfl rfl dX4_rule_43 ?_
    refine lv_icmp_ge (tgt := 63) hx hb dX4_rule_46 (by decide) (fun c_46 => ?_) (fun c_46 => ?_)
    · have hw := hw.1 c_46
      refine lv_aload_n hx hb dX4_rule_63 rfl (lv_at hl 0 rfl) ?_
      refine lv_aload_n hx hb dX4_rule_64 rfl (lv_at hl 0 rfl) ?_
      refine ml_calli (As := []) (rest := [.ref (ad 0)]) (cells := 0) (slots := 0) hE hI (fun h hS => snd_X4_addsRule l G _ h ad F2 A2 L2 _ hS hw) (cwV 0 hts (lw_V q2153 q2155 qs44 q108 q2156) rfl rfl rfl (by decide +kernel) ⟨Nat.le_of_ble_eq_true rfl, Nat.le_of_ble_eq_true rfl⟩) rfl hl.1 (Nat.le_of_ble_eq_true rfl) dX4_rule_65 ⟨Nat.le_of_ble_eq_true rfl, Nat.le_of_ble_eq_true rfl⟩ (fun r4 F4 A4 L4 H locs hw hI => ?_)
      refine lv_iconst (v := 2) hx hb dX4_rule_68 (by decide) ?_
      refine ml_calli (As := [.int r4, .int (2 : Int32)]) (rest := []) (cells := 0) (slots := 0) hE hI (fun h hS => snd_X4_ends l G _ h ad F4 A4 L4 r4 (2 : Int32) _ hS hw) (cwV 2 hts (lw_V q2165 q2167 qs47 q108 q2168) rfl rfl rfl (by decide +kernel) ⟨Nat.le_of_ble_eq_true rfl, Nat.le_of_ble_eq_true rfl⟩) rfl hl.1 (Nat.le_of_ble_eq_true rfl) dX4_rule_69 ⟨Nat.le_of_ble_eq_true rfl, Nat.le_of_ble_eq_true rfl⟩ (fun r5 F5 A5 L5 H locs hw hI => ?_)
      exact ml_iret hE hI hw dX4_rule_72
    · have hw := hw.2 c_46
      exact snd_X4_rule_L49 hE Q F2 A2 L2 hw _ _ _ hI (lv_sub hl [0] rfl)

/-- MatchmakerRulesModel.firing(II)I -/
abbrev rm_X4_firing : Room := { frames := 1, cells := 0, slots := 0, locals := 12 }
def wp_X4_firing (F : Nat → Int32) (A : Nat → Nat → Int32) (L : Nat → UInt32) (x1 : Int32) (x2 : Int32) (Q : Int32 → (Nat → Int32) → (Nat → Nat → Int32) → (Nat → UInt32) → Prop) : Prop := (vp_in (((235 : Int32) + ((4 : Int32) * x1)) + x2) 13675 ∧ Q (A 1 (Int32.toNatClampNeg (((235 : Int32) + ((4 : Int32) * x1)) + x2))) F A L)
set_option maxHeartbeats 4000000 in
theorem snd_X4_firing (l : Launch) (G : GG) (sz : Nat) (h : HH) (ad : Nat → Nat) (F : Nat → Int32) (A : Nat → Nat → Int32) (L : Nat → UInt32) (x1 : Int32) (x2 : Int32) (Q : Int32 → (Nat → Int32) → (Nat → Nat → Int32) → (Nat → UInt32) → Prop) (hS : ml_S G h ad F A L) (hw : wp_X4_firing F A L x1 x2 Q) : Met l yX4_firing (ws_ yX4_firing cX4_firing 3 (some FieldType.int)) rm_X4_firing (hv_Pc G h sz [.ref (ad 0), .int x1, .int x2]) (hv_Qi G h sz (fun r => ml_Q G h ad (Q r))) 0 0 (hv_A h sz) := by
  refine Met.ofW (cc := cX4_firing) (maxL := 3) (ret := (some FieldType.int)) (by decide) rfl ?_
  intro p e s m args below meth c s₁ B hml hv
  obtain ⟨rfl, rfl, hE, hI⟩ := hv_open B hml hv
  have hE : hv_E p s m ([.ref (ad 0), .int x1, .int x2] : List Value).toArray meth c cX4_firing 3 (some FieldType.int) RX4 G h := hE
  have hI := ml_I.start hI hS
  obtain ⟨⟨hx, hb, hml, hown, hts⟩, hr, hlocks, -⟩ := id hE
  have hl := lv_entry ([.ref (ad 0), .int x1, .int x2] : List Value) (n := 3) (Nat.le_of_ble_eq_true rfl)
  rw [lg_entry_eq]
  generalize (lg_sl ([.ref (ad 0), .int x1, .int x2] : List Value) ++ List.replicate (3 - (lg_sl ([.ref (ad 0), .int x1, .int x2] : List Value)).length) Slot.unset).toArray = ls at hl ⊢
  have hl : lv_has ls 3 [(0, .ref (ad 0)), (1, .int x1), (2, .int x2)] := hl
  unfold wp_X4_firing at hw
  refine lv_aload_n hx hb dX4_firing_0 rfl (lv_at hl 0 rfl) ?_
  refine ml_get hE hI 1 (by decide) q1986 rfl rfl dX4_firing_1 ?_
  refine lv_sipush (v := 235) hx hb dX4_firing_4 (by decide) ?_
  refine lv_iconst (v := 4) hx hb dX4_firing_7 (by decide) ?_
  refine lv_iload_n hx hb dX4_firing_8 rfl (lv_at hl 1 rfl) ?_
  refine lv_imul hx hb dX4_firing_9 ?_
  refine lv_iadd hx hb dX4_firing_10 ?_
  refine lv_iload_n hx hb dX4_firing_11 rfl (lv_at hl 2 rfl) ?_
  refine lv_iadd hx hb dX4_firing_12 ?_
  obtain ⟨hin, hw⟩ := hw
  refine ml_iald hE hI 1 rfl rfl rfl hin dX4_firing_13 ?_
  exact ml_iret hE hI hw dX4_firing_14

/-- MatchmakerRulesModel.movesFiring(II)V -/
abbrev rm_X4_movesFiring : Room := { frames := 1, cells := 0, slots := 0, locals := 12 }
def wp_X4_movesFiring_L2 (Q : (Nat → Int32) → (Nat → Nat → Int32) → (Nat → UInt32) → Prop) : Nat → (Nat → Int32) → (Nat → Nat → Int32) → (Nat → UInt32) → (Int32) → (Int32) → (Int32) → Prop
  | 0, _, _, _, _, _, _ => False
  | n + 1, F, A, L, x1, x2, x3 => (((4 : Int32) ≤ x3 → Q F A L) ∧ (¬ (4 : Int32) ≤ x3 → (vp_in (((235 : Int32) + ((4 : Int32) * x1)) + x3) 13675 ∧ (vp_in (((235 : Int32) + ((4 : Int32) * x2)) + x3) 13675 ∧ wp_X4_movesFiring_L2 Q n F (ml_up A 1 (Int32.toNatClampNeg (((235 : Int32) + ((4 : Int32) * x2)) + x3)) (A 1 (Int32.toNatClampNeg (((235 : Int32) + ((4 : Int32) * x1)) + x3)))) L x1 x2 (x3 + (1 : Int32))))))
set_option maxHeartbeats 4000000 in
theorem snd_X4_movesFiring_L2 {p : Program} {l : Launch} {e : Env} {s : State} {m : MethodId} {args : Array Value} {below : List Frame} {meth : Method} {c : Code} {G : GG} {h0 : HH} {ad : Nat → Nat} (hE : hv_E p s m args meth c cX4_movesFiring 4 (none : Option FieldType) RX4 G h0) (Q : (Nat → Int32) → (Nat → Nat → Int32) → (Nat → UInt32) → Prop) : ∀ (n : Nat) (F : Nat → Int32) (A : Nat → Nat → Int32) (L : Nat → UInt32) (x1 : Int32) (x2 : Int32) (x3 : Int32), wp_X4_movesFiring_L2 Q n F A L x1 x2 x3 → ∀ (H : Heap) (locs : List Loc) (ls : Array Slot), ml_I G h0 s.heap ad F A L H locs → lv_has ls 4 [(0, .ref (ad 0)), (1, .int x1), (2, .int x2), (3, .int x3)] → W p l e (headSpec (ws_ yX4_movesFiring cX4_movesFiring 4 (none : Option FieldType)) rm_X4_movesFiring).room s m args below meth c H locs 0 0 (MQ below (hv_Qv G h0 s.heap.size (ml_Q G h0 ad Q)) args s 0 0 (hv_A h0 s.heap.size)) (F0 m 2 ls []) := by
  obtain ⟨⟨hx, hb, hml, hown, hts⟩, hr, hlocks, -⟩ := id hE
  intro n
  induction n with
  | zero => intro F A L x1 x2 x3 hw; exact hw.elim
  | succ n ih =>
    intro F A L x1 x2 x3 hw H locs ls hI hl
    unfold wp_X4_movesFiring_L2 at hw
    refine lv_iload_n hx hb dX4_movesFiring_2 rfl (lv_at hl 3 rfl) ?_
    refine lv_iconst (v := 4) hx hb dX4_movesFiring_3 (by decide) ?_
    refine lv_icmp_ge (tgt := 41) hx hb dX4_movesFiring_4 (by decide) (fun c_4 => ?_) (fun c_4 => ?_)
    · have hw := hw.1 c_4
      exact ml_vret hE hI hw dX4_movesFiring_41
    · have hw := hw.2 c_4
      refine lv_aload_n hx hb dX4_movesFiring_7 rfl (lv_at hl 0 rfl) ?_
      refine ml_get hE hI 1 (by decide) q1986 rfl rfl dX4_movesFiring_8 ?_
      refine lv_sipush (v := 235) hx hb dX4_movesFiring_11 (by decide) ?_
      refine lv_iconst (v := 4) hx hb dX4_movesFiring_14 (by decide) ?_
      refine lv_iload_n hx hb dX4_movesFiring_15 rfl (lv_at hl 2 rfl) ?_
      refine lv_imul hx hb dX4_movesFiring_16 ?_
      refine lv_iadd hx hb dX4_movesFiring_17 ?_
      refine lv_iload_n hx hb dX4_movesFiring_18 rfl (lv_at hl 3 rfl) ?_
      refine lv_iadd hx hb dX4_movesFiring_19 ?_
      refine lv_aload_n hx hb dX4_movesFiring_20 rfl (lv_at hl 0 rfl) ?_
      refine ml_get hE hI 1 (by decide) q1986 rfl rfl dX4_movesFiring_21 ?_
      refine lv_sipush (v := 235) hx hb dX4_movesFiring_24 (by decide) ?_
      refine lv_iconst (v := 4) hx hb dX4_movesFiring_27 (by decide) ?_
      refine lv_iload_n hx hb dX4_movesFiring_28 rfl (lv_at hl 1 rfl) ?_
      refine lv_imul hx hb dX4_movesFiring_29 ?_
      refine lv_iadd hx hb dX4_movesFiring_30 ?_
      refine lv_iload_n hx hb dX4_movesFiring_31 rfl (lv_at hl 3 rfl) ?_
      refine lv_iadd hx hb dX4_movesFiring_32 ?_
      obtain ⟨hin, hw⟩ := hw
      refine ml_iald hE hI 1 rfl rfl rfl hin dX4_movesFiring_33 ?_
      obtain ⟨hin, hw⟩ := hw
      refine ml_iast hE hI 1 rfl rfl rfl hin dX4_movesFiring_34 (fun H locs hI => ?_)
      refine lv_iinc (v := (x3 + (1 : Int32))) (lv' := [(3, .int (x3 + (1 : Int32))), (0, .ref (ad 0)), (1, .int x1), (2, .int x2)]) hx hb dX4_movesFiring_35 hl (k := 3) rfl rfl (by decide) rfl (fun ls hl => ?_)
      refine lv_goto (tgt := 2) hx hb dX4_movesFiring_38 (by decide) ?_
      exact ih F (ml_up A 1 (Int32.toNatClampNeg (((235 : Int32) + ((4 : Int32) * x2)) + x3)) (A 1 (Int32.toNatClampNeg (((235 : Int32) + ((4 : Int32) * x1)) + x3)))) L x1 x2 (x3 + (1 : Int32)) hw _ _ _ hI (lv_sub hl [1, 2, 3, 0] rfl)
def wp_X4_movesFiring (F : Nat → Int32) (A : Nat → Nat → Int32) (L : Nat → UInt32) (x1 : Int32) (x2 : Int32) (Q : (Nat → Int32) → (Nat → Nat → Int32) → (Nat → UInt32) → Prop) : Prop := (∃ n2, wp_X4_movesFiring_L2 Q n2 F A L x1 x2 (0 : Int32))
set_option maxHeartbeats 4000000 in
theorem snd_X4_movesFiring (l : Launch) (G : GG) (sz : Nat) (h : HH) (ad : Nat → Nat) (F : Nat → Int32) (A : Nat → Nat → Int32) (L : Nat → UInt32) (x1 : Int32) (x2 : Int32) (Q : (Nat → Int32) → (Nat → Nat → Int32) → (Nat → UInt32) → Prop) (hS : ml_S G h ad F A L) (hw : wp_X4_movesFiring F A L x1 x2 Q) : Met l yX4_movesFiring (ws_ yX4_movesFiring cX4_movesFiring 4 (none : Option FieldType)) rm_X4_movesFiring (hv_Pc G h sz [.ref (ad 0), .int x1, .int x2]) (hv_Qv G h sz (ml_Q G h ad Q)) 0 0 (hv_A h sz) := by
  refine Met.ofW (cc := cX4_movesFiring) (maxL := 4) (ret := (none : Option FieldType)) (by decide) rfl ?_
  intro p e s m args below meth c s₁ B hml hv
  obtain ⟨rfl, rfl, hE, hI⟩ := hv_open B hml hv
  have hE : hv_E p s m ([.ref (ad 0), .int x1, .int x2] : List Value).toArray meth c cX4_movesFiring 4 (none : Option FieldType) RX4 G h := hE
  have hI := ml_I.start hI hS
  obtain ⟨⟨hx, hb, hml, hown, hts⟩, hr, hlocks, -⟩ := id hE
  have hl := lv_entry ([.ref (ad 0), .int x1, .int x2] : List Value) (n := 4) (Nat.le_of_ble_eq_true rfl)
  rw [lg_entry_eq]
  generalize (lg_sl ([.ref (ad 0), .int x1, .int x2] : List Value) ++ List.replicate (4 - (lg_sl ([.ref (ad 0), .int x1, .int x2] : List Value)).length) Slot.unset).toArray = ls at hl ⊢
  have hl : lv_has ls 4 [(0, .ref (ad 0)), (1, .int x1), (2, .int x2)] := hl
  unfold wp_X4_movesFiring at hw
  refine lv_iconst (v := 0) hx hb dX4_movesFiring_0 (by decide) ?_
  refine lv_istore_n (lv' := [(3, .int (0 : Int32)), (0, .ref (ad 0)), (1, .int x1), (2, .int x2)]) hx hb dX4_movesFiring_1 rfl hl (by decide) rfl (fun ls hl => ?_)
  obtain ⟨n2, hw⟩ := hw
  exact snd_X4_movesFiring_L2 hE Q n2 F A L x1 x2 (0 : Int32) hw _ _ _ hI (lv_sub hl [1, 2, 3, 0] rfl)
