/-! the reference's methods, walked (by gen/model.py) -/
set_option maxRecDepth 100000
/-- MatchmakerRulesModel.drops(I)I -/
abbrev rm_X4_drops : Room := { frames := 5, cells := 0, slots := 0, locals := 103 }
def wp_X4_drops_L122 (Q : Int32 → (Nat → Int32) → (Nat → Nat → Int32) → (Nat → UInt32) → Prop) (k107 : (Nat → Int32) → (Nat → Nat → Int32) → (Nat → UInt32) → (Int32) → Prop) : Nat → (Nat → Int32) → (Nat → Nat → Int32) → (Nat → UInt32) → (Int32) → (Int32) → Prop
  | 0, _, _, _, _, _ => False
  | n + 1, F, A, L, x3, x4 => (((11 : Int32) ≤ x4 → k107 F A L (x3 + (1 : Int32))) ∧ (¬ (11 : Int32) ≤ x4 → (vp_in (((7 : Int32) + ((11 : Int32) * (x3 + (1 : Int32)))) + x4) 13675 ∧ (vp_in (((7 : Int32) + ((11 : Int32) * x3)) + x4) 13675 ∧ wp_X4_drops_L122 Q k107 n F (ml_up A 1 (Int32.toNatClampNeg (((7 : Int32) + ((11 : Int32) * x3)) + x4)) (A 1 (Int32.toNatClampNeg (((7 : Int32) + ((11 : Int32) * (x3 + (1 : Int32)))) + x4)))) L x3 (x4 + (1 : Int32))))))
set_option maxHeartbeats 4000000 in
theorem snd_X4_drops_L122 {p : Program} {l : Launch} {e : Env} {s : State} {m : MethodId} {args : Array Value} {below : List Frame} {meth : Method} {c : Code} {G : GG} {h0 : HH} {ad : Nat → Nat} (hE : hv_E p s m args meth c cX4_drops 5 (some FieldType.int) RX4 G h0) (Q : Int32 → (Nat → Int32) → (Nat → Nat → Int32) → (Nat → UInt32) → Prop) (k107 : (Nat → Int32) → (Nat → Nat → Int32) → (Nat → UInt32) → (Int32) → Prop) (hk107 : ∀ (F : Nat → Int32) (A : Nat → Nat → Int32) (L : Nat → UInt32) (x3 : Int32) (H : Heap) (locs : List Loc) (ls : Array Slot), ml_I G h0 s.heap ad F A L H locs → lv_has ls 5 [(0, .ref (ad 0)), (3, .int x3)] → k107 F A L x3 → W p l e (headSpec (ws_ yX4_drops cX4_drops 5 (some FieldType.int)) rm_X4_drops).room s m args below meth c H locs 0 0 (MQ below (hv_Qi G h0 s.heap.size (fun r => ml_Q G h0 ad (Q r))) args s 0 0 (hv_A h0 s.heap.size)) (F0 m 107 ls [])) : ∀ (n : Nat) (F : Nat → Int32) (A : Nat → Nat → Int32) (L : Nat → UInt32) (x3 : Int32) (x4 : Int32), wp_X4_drops_L122 Q k107 n F A L x3 x4 → ∀ (H : Heap) (locs : List Loc) (ls : Array Slot), ml_I G h0 s.heap ad F A L H locs → lv_has ls 5 [(0, .ref (ad 0)), (3, .int x3), (4, .int x4)] → W p l e (headSpec (ws_ yX4_drops cX4_drops 5 (some FieldType.int)) rm_X4_drops).room s m args below meth c H locs 0 0 (MQ below (hv_Qi G h0 s.heap.size (fun r => ml_Q G h0 ad (Q r))) args s 0 0 (hv_A h0 s.heap.size)) (F0 m 122 ls []) := by
  obtain ⟨⟨hx, hb, hml, hown, hts⟩, hr, hlocks, -⟩ := id hE
  intro n
  induction n with
  | zero => intro F A L x3 x4 hw; exact hw.elim
  | succ n ih =>
    intro F A L x3 x4 hw H locs ls hI hl
    unfold wp_X4_drops_L122 at hw
    refine lv_iload hx hb dX4_drops_122 (lv_at hl 2 rfl) ?_
    refine lv_bipush (v := 11) hx hb dX4_drops_124 (by decide) ?_
    refine lv_icmp_ge (tgt := 167) hx hb dX4_drops_126 (by decide) (fun c_126 => ?_) (fun c_126 => ?_)
    · have hw := hw.1 c_126
      refine lv_iinc (v := (x3 + (1 : Int32))) (lv' := [(3, .int (x3 + (1 : Int32))), (0, .ref (ad 0)), (4, .int x4)]) hx hb dX4_drops_167 hl (k := 1) rfl rfl (by decide) rfl (fun ls hl => ?_)
      refine lv_goto (tgt := 107) hx hb dX4_drops_170 (by decide) ?_
      exact hk107 F A L (x3 + (1 : Int32)) _ _ _ hI (lv_sub hl [1, 0] rfl) hw
    · have hw := hw.2 c_126
      refine lv_aload_n hx hb dX4_drops_129 rfl (lv_at hl 0 rfl) ?_
      refine ml_get hE hI 1 (by decide) q1986 rfl rfl dX4_drops_130 ?_
      refine lv_bipush (v := 7) hx hb dX4_drops_133 (by decide) ?_
      refine lv_bipush (v := 11) hx hb dX4_drops_135 (by decide) ?_
      refine lv_iload_n hx hb dX4_drops_137 rfl (lv_at hl 1 rfl) ?_
      refine lv_imul hx hb dX4_drops_138 ?_
      refine lv_iadd hx hb dX4_drops_139 ?_
      refine lv_iload hx hb dX4_drops_140 (lv_at hl 2 rfl) ?_
      refine lv_iadd hx hb dX4_drops_142 ?_
      refine lv_aload_n hx hb dX4_drops_143 rfl (lv_at hl 0 rfl) ?_
      refine ml_get hE hI 1 (by decide) q1986 rfl rfl dX4_drops_144 ?_
      refine lv_bipush (v := 7) hx hb dX4_drops_147 (by decide) ?_
      refine lv_bipush (v := 11) hx hb dX4_drops_149 (by decide) ?_
      refine lv_iload_n hx hb dX4_drops_151 rfl (lv_at hl 1 rfl) ?_
      refine lv_iconst (v := 1) hx hb dX4_drops_152 (by decide) ?_
      refine lv_iadd hx hb dX4_drops_153 ?_
      refine lv_imul hx hb dX4_drops_154 ?_
      refine lv_iadd hx hb dX4_drops_155 ?_
      refine lv_iload hx hb dX4_drops_156 (lv_at hl 2 rfl) ?_
      refine lv_iadd hx hb dX4_drops_158 ?_
      obtain ⟨hin, hw⟩ := hw
      refine ml_iald hE hI 1 rfl rfl rfl hin dX4_drops_159 ?_
      obtain ⟨hin, hw⟩ := hw
      refine ml_iast hE hI 1 rfl rfl rfl hin dX4_drops_160 (fun H locs hI => ?_)
      refine lv_iinc (v := (x4 + (1 : Int32))) (lv' := [(4, .int (x4 + (1 : Int32))), (0, .ref (ad 0)), (3, .int x3)]) hx hb dX4_drops_161 hl (k := 2) rfl rfl (by decide) rfl (fun ls hl => ?_)
      refine lv_goto (tgt := 122) hx hb dX4_drops_164 (by decide) ?_
      exact ih F (ml_up A 1 (Int32.toNatClampNeg (((7 : Int32) + ((11 : Int32) * x3)) + x4)) (A 1 (Int32.toNatClampNeg (((7 : Int32) + ((11 : Int32) * (x3 + (1 : Int32)))) + x4)))) L x3 (x4 + (1 : Int32)) hw _ _ _ hI (lv_sub hl [1, 2, 0] rfl)
def wp_X4_drops_L107 (Q : Int32 → (Nat → Int32) → (Nat → Nat → Int32) → (Nat → UInt32) → Prop) : Nat → (Nat → Int32) → (Nat → Nat → Int32) → (Nat → UInt32) → (Int32) → Prop
  | 0, _, _, _, _ => False
  | n + 1, F, A, L, x3 => (((A 1 0) ≤ (x3 + (1 : Int32)) → wp_X4_cleans F (ml_up A 1 0 ((A 1 0) - (1 : Int32))) L (fun r2 F2 A2 L2 => wp_X4_done F2 A2 L2 r2 (fun r3 F3 A3 L3 => Q r3 F3 A3 L3))) ∧ (¬ (A 1 0) ≤ (x3 + (1 : Int32)) → (∃ n122, wp_X4_drops_L122 Q (fun F A L x3 => wp_X4_drops_L107 Q n F A L x3) n122 F A L x3 (0 : Int32))))
set_option maxHeartbeats 4000000 in
theorem snd_X4_drops_L107 {p : Program} {l : Launch} {e : Env} {s : State} {m : MethodId} {args : Array Value} {below : List Frame} {meth : Method} {c : Code} {G : GG} {h0 : HH} {ad : Nat → Nat} (hE : hv_E p s m args meth c cX4_drops 5 (some FieldType.int) RX4 G h0) (Q : Int32 → (Nat → Int32) → (Nat → Nat → Int32) → (Nat → UInt32) → Prop) : ∀ (n : Nat) (F : Nat → Int32) (A : Nat → Nat → Int32) (L : Nat → UInt32) (x3 : Int32), wp_X4_drops_L107 Q n F A L x3 → ∀ (H : Heap) (locs : List Loc) (ls : Array Slot), ml_I G h0 s.heap ad F A L H locs → lv_has ls 5 [(0, .ref (ad 0)), (3, .int x3)] → W p l e (headSpec (ws_ yX4_drops cX4_drops 5 (some FieldType.int)) rm_X4_drops).room s m args below meth c H locs 0 0 (MQ below (hv_Qi G h0 s.heap.size (fun r => ml_Q G h0 ad (Q r))) args s 0 0 (hv_A h0 s.heap.size)) (F0 m 107 ls []) := by
  obtain ⟨⟨hx, hb, hml, hown, hts⟩, hr, hlocks, -⟩ := id hE
  intro n
  induction n with
  | zero => intro F A L x3 hw; exact hw.elim
  | succ n ih =>
    intro F A L x3 hw H locs ls hI hl
    unfold wp_X4_drops_L107 at hw
    refine lv_iload_n hx hb dX4_drops_107 rfl (lv_at hl 1 rfl) ?_
    refine lv_iconst (v := 1) hx hb dX4_drops_108 (by decide) ?_
    refine lv_iadd hx hb dX4_drops_109 ?_
    refine lv_aload_n hx hb dX4_drops_110 rfl (lv_at hl 0 rfl) ?_
    refine ml_get hE hI 1 (by decide) q1986 rfl rfl dX4_drops_111 ?_
    refine lv_iconst (v := 0) hx hb dX4_drops_114 (by decide) ?_
    have hin : vp_in (0 : Int32) 13675 := by unfold vp_in; decide +kernel
    refine ml_iald hE hI 1 rfl rfl (show Int32.toNatClampNeg (0 : Int32) = 0 from by decide +kernel) hin dX4_drops_115 ?_
    refine lv_icmp_ge (tgt := 173) hx hb dX4_drops_116 (by decide) (fun c_116 => ?_) (fun c_116 => ?_)
    · have hw := hw.1 c_116
      refine lv_aload_n hx hb dX4_drops_173 rfl (lv_at hl 0 rfl) ?_
      refine ml_get hE hI 1 (by decide) q1986 rfl rfl dX4_drops_174 ?_
      refine lv_iconst (v := 0) hx hb dX4_drops_177 (by decide) ?_
      refine lv_dup2_11 hx hb dX4_drops_178 rfl rfl ?_
      have hin : vp_in (0 : Int32) 13675 := by unfold vp_in; decide +kernel
      refine ml_iald hE hI 1 rfl rfl (show Int32.toNatClampNeg (0 : Int32) = 0 from by decide +kernel) hin dX4_drops_179 ?_
      refine lv_iconst (v := 1) hx hb dX4_drops_180 (by decide) ?_
      refine lv_isub hx hb dX4_drops_181 ?_
      have hin : vp_in (0 : Int32) 13675 := by unfold vp_in; decide +kernel
      refine ml_iast hE hI 1 rfl rfl (show Int32.toNatClampNeg (0 : Int32) = 0 from by decide +kernel) hin dX4_drops_182 (fun H locs hI => ?_)
      refine lv_aload_n hx hb dX4_drops_183 rfl (lv_at hl 0 rfl) ?_
      refine lv_aload_n hx hb dX4_drops_184 rfl (lv_at hl 0 rfl) ?_
      refine ml_calli (As := []) (rest := [.ref (ad 0)]) (cells := 0) (slots := 0) hE hI (fun h hS => snd_X4_cleans l G _ h ad F (ml_up A 1 0 ((A 1 0) - (1 : Int32))) L _ hS hw) (cwV 0 hts (lw_V q2190 q2192 qs52 q108 q2193) rfl rfl rfl (by decide +kernel) ⟨Nat.le_of_ble_eq_true rfl, Nat.le_of_ble_eq_true rfl⟩) rfl hl.1 (Nat.le_of_ble_eq_true rfl) dX4_drops_185 ⟨Nat.le_of_ble_eq_true rfl, Nat.le_of_ble_eq_true rfl⟩ (fun r2 F2 A2 L2 H locs hw hI => ?_)
      refine ml_calli (As := [.int r2]) (rest := []) (cells := 0) (slots := 0) hE hI (fun h hS => snd_X4_done l G _ h ad F2 A2 L2 r2 _ hS hw) (cwV 1 hts (lw_V q2161 q2163 qs46 q108 q2164) rfl rfl rfl (by decide +kernel) ⟨Nat.le_of_ble_eq_true rfl, Nat.le_of_ble_eq_true rfl⟩) rfl hl.1 (Nat.le_of_ble_eq_true rfl) dX4_drops_188 ⟨Nat.le_of_ble_eq_true rfl, Nat.le_of_ble_eq_true rfl⟩ (fun r3 F3 A3 L3 H locs hw hI => ?_)
      exact ml_iret hE hI hw dX4_drops_191
    · have hw := hw.2 c_116
      refine lv_iconst (v := 0) hx hb dX4_drops_119 (by decide) ?_
      refine lv_istore (lv' := [(4, .int (0 : Int32)), (0, .ref (ad 0)), (3, .int x3)]) hx hb dX4_drops_120 hl (by decide) rfl (fun ls hl => ?_)
      obtain ⟨n122, hw⟩ := hw
      exact snd_X4_drops_L122 hE Q (fun F A L x3 => wp_X4_drops_L107 Q n F A L x3) (fun F A L x3 H locs ls hI hl hw => ih F A L x3 hw H locs ls hI hl) n122 F A L x3 (0 : Int32) hw _ _ _ hI (lv_sub hl [1, 2, 0] rfl)
def wp_X4_drops_L27 (Q : Int32 → (Nat → Int32) → (Nat → Nat → Int32) → (Nat → UInt32) → Prop) : Nat → (Nat → Int32) → (Nat → Nat → Int32) → (Nat → UInt32) → (Int32) → (Int32) → (Int32) → Prop
  | 0, _, _, _, _, _, _ => False
  | n + 1, F, A, L, x1, x2, x3 => (((A 1 6) ≤ x3 → (∃ n107, wp_X4_drops_L107 Q n107 F (ml_up A 1 6 x2) L x1)) ∧ (¬ (A 1 6) ≤ x3 → wp_X4_firing F A L x3 (0 : Int32) (fun r4 F4 A4 L4 => ((¬ r4 = x1 → wp_X4_movesFiring F4 A4 L4 x3 x2 (fun F5 A5 L5 => ((r4 ≤ x1 → (vp_in ((235 : Int32) + ((4 : Int32) * x2)) 13675 ∧ wp_X4_drops_L27 Q n F5 (ml_up A5 1 (Int32.toNatClampNeg ((235 : Int32) + ((4 : Int32) * x2))) r4) L5 x1 (x2 + (1 : Int32)) (x3 + (1 : Int32)))) ∧ (¬ r4 ≤ x1 → (vp_in ((235 : Int32) + ((4 : Int32) * x2)) 13675 ∧ wp_X4_drops_L27 Q n F5 (ml_up A5 1 (Int32.toNatClampNeg ((235 : Int32) + ((4 : Int32) * x2))) (r4 - (1 : Int32))) L5 x1 (x2 + (1 : Int32)) (x3 + (1 : Int32))))))) ∧ (r4 = x1 → wp_X4_drops_L27 Q n F4 A4 L4 x1 x2 (x3 + (1 : Int32)))))))
set_option maxHeartbeats 4000000 in
theorem snd_X4_drops_L27 {p : Program} {l : Launch} {e : Env} {s : State} {m : MethodId} {args : Array Value} {below : List Frame} {meth : Method} {c : Code} {G : GG} {h0 : HH} {ad : Nat → Nat} (hE : hv_E p s m args meth c cX4_drops 5 (some FieldType.int) RX4 G h0) (Q : Int32 → (Nat → Int32) → (Nat → Nat → Int32) → (Nat → UInt32) → Prop) : ∀ (n : Nat) (F : Nat → Int32) (A : Nat → Nat → Int32) (L : Nat → UInt32) (x1 : Int32) (x2 : Int32) (x3 : Int32), wp_X4_drops_L27 Q n F A L x1 x2 x3 → ∀ (H : Heap) (locs : List Loc) (ls : Array Slot), ml_I G h0 s.heap ad F A L H locs → lv_has ls 5 [(0, .ref (ad 0)), (1, .int x1), (2, .int x2), (3, .int x3)] → W p l e (headSpec (ws_ yX4_drops cX4_drops 5 (some FieldType.int)) rm_X4_drops).room s m args below meth c H locs 0 0 (MQ below (hv_Qi G h0 s.heap.size (fun r => ml_Q G h0 ad (Q r))) args s 0 0 (hv_A h0 s.heap.size)) (F0 m 27 ls []) := by
  obtain ⟨⟨hx, hb, hml, hown, hts⟩, hr, hlocks, -⟩ := id hE
  intro n
  induction n with
  | zero => intro F A L x1 x2 x3 hw; exact hw.elim
  | succ n ih =>
    intro F A L x1 x2 x3 hw H locs ls hI hl
    unfold wp_X4_drops_L27 at hw
    refine lv_iload_n hx hb dX4_drops_27 rfl (lv_at hl 3 rfl) ?_
    refine lv_aload_n hx hb dX4_drops_28 rfl (lv_at hl 0 rfl) ?_
    refine ml_get hE hI 1 (by decide) q1986 rfl rfl dX4_drops_29 ?_
    refine lv_bipush (v := 6) hx hb dX4_drops_32 (by decide) ?_
    have hin : vp_in (6 : Int32) 13675 := by unfold vp_in; decide +kernel
    refine ml_iald hE hI 1 rfl rfl (show Int32.toNatClampNeg (6 : Int32) = 6 from by decide +kernel) hin dX4_drops_34 ?_
    refine lv_icmp_ge (tgt := 97) hx hb dX4_drops_35 (by decide) (fun c_35 => ?_) (fun c_35 => ?_)
    · have hw := hw.1 c_35
      refine lv_aload_n hx hb dX4_drops_97 rfl (lv_at hl 0 rfl) ?_
      refine ml_get hE hI 1 (by decide) q1986 rfl rfl dX4_drops_98 ?_
      refine lv_bipush (v := 6) hx hb dX4_drops_101 (by decide) ?_
      refine lv_iload_n hx hb dX4_drops_103 rfl (lv_at hl 2 rfl) ?_
      have hin : vp_in (6 : Int32) 13675 := by unfold vp_in; decide +kernel
      refine ml_iast hE hI 1 rfl rfl (show Int32.toNatClampNeg (6 : Int32) = 6 from by decide +kernel) hin dX4_drops_104 (fun H locs hI => ?_)
      refine lv_iload_n hx hb dX4_drops_105 rfl (lv_at hl 1 rfl) ?_
      refine lv_istore_n (lv' := [(3, .int x1), (0, .ref (ad 0)), (1, .int x1), (2, .int x2)]) hx hb dX4_drops_106 rfl hl (by decide) rfl (fun ls hl => ?_)
      obtain ⟨n107, hw⟩ := hw
      exact snd_X4_drops_L107 hE Q n107 F (ml_up A 1 6 x2) L x1 hw _ _ _ hI (lv_sub hl [1, 0] rfl)
    · have hw := hw.2 c_35
      refine lv_aload_n hx hb dX4_drops_38 rfl (lv_at hl 0 rfl) ?_
      refine lv_iload_n hx hb dX4_drops_39 rfl (lv_at hl 3 rfl) ?_
      refine lv_iconst (v := 0) hx hb dX4_drops_40 (by decide) ?_
      refine ml_calli (As := [.int x3, .int (0 : Int32)]) (rest := []) (cells := 0) (slots := 0) hE hI (fun h hS => snd_X4_firing l G _ h ad F A L x3 (0 : Int32) _ hS hw) (cwV 2 hts (lw_V q2182 q2184 qs50 q108 q2185) rfl rfl rfl (by decide +kernel) ⟨Nat.le_of_ble_eq_true rfl, Nat.le_of_ble_eq_true rfl⟩) rfl hl.1 (Nat.le_of_ble_eq_true rfl) dX4_drops_41 ⟨Nat.le_of_ble_eq_true rfl, Nat.le_of_ble_eq_true rfl⟩ (fun r4 F4 A4 L4 H locs hw hI => ?_)
      refine lv_istore (lv' := [(4, .int r4), (0, .ref (ad 0)), (1, .int x1), (2, .int x2), (3, .int x3)]) hx hb dX4_drops_44 hl (by decide) rfl (fun ls hl => ?_)
      refine lv_iload hx hb dX4_drops_46 (lv_at hl 0 rfl) ?_
      refine lv_iload_n hx hb dX4_drops_48 rfl (lv_at hl 2 rfl) ?_
      refine lv_icmp_ne (tgt := 55) hx hb dX4_drops_49 (by decide) (fun c_49 => ?_) (fun c_49 => ?_)
      · have hw := hw.1 c_49
        refine lv_aload_n hx hb dX4_drops_55 rfl (lv_at hl 1 rfl) ?_
        refine lv_iload_n hx hb dX4_drops_56 rfl (lv_at hl 4 rfl) ?_
        refine lv_iload_n hx hb dX4_drops_57 rfl (lv_at hl 3 rfl) ?_
        refine ml_callv (As := [.int x3, .int x2]) (rest := []) (cells := 0) (slots := 0) hE hI (fun h hS => snd_X4_movesFiring l G _ h ad F4 A4 L4 x3 x2 _ hS hw) (cwV 2 hts (lw_V q2186 q2188 qs51 q108 q2189) rfl rfl rfl (by decide +kernel) ⟨Nat.le_of_ble_eq_true rfl, Nat.le_of_ble_eq_true rfl⟩) rfl hl.1 (Nat.le_of_ble_eq_true rfl) dX4_drops_58 ⟨Nat.le_of_ble_eq_true rfl, Nat.le_of_ble_eq_true rfl⟩ (fun F5 A5 L5 H locs hw hI => ?_)
        refine lv_aload_n hx hb dX4_drops_61 rfl (lv_at hl 1 rfl) ?_
        refine ml_get hE hI 1 (by decide) q1986 rfl rfl dX4_drops_62 ?_
        refine lv_sipush (v := 235) hx hb dX4_drops_65 (by decide) ?_
        refine lv_iconst (v := 4) hx hb dX4_drops_68 (by decide) ?_
        refine lv_iload_n hx hb dX4_drops_69 rfl (lv_at hl 3 rfl) ?_
        refine lv_imul hx hb dX4_drops_70 ?_
        refine lv_iadd hx hb dX4_drops_71 ?_
        refine lv_iload hx hb dX4_drops_72 (lv_at hl 0 rfl) ?_
        refine lv_iload_n hx hb dX4_drops_74 rfl (lv_at hl 2 rfl) ?_
        refine lv_icmp_le (tgt := 85) hx hb dX4_drops_75 (by decide) (fun c_75 => ?_) (fun c_75 => ?_)
        · have hw := hw.1 c_75
          refine lv_iload hx hb dX4_drops_85 (lv_at hl 0 rfl) ?_
          obtain ⟨hin, hw⟩ := hw
          refine ml_iast hE hI 1 rfl rfl rfl hin dX4_drops_87 (fun H locs hI => ?_)
          refine lv_iinc (v := (x2 + (1 : Int32))) (lv' := [(2, .int (x2 + (1 : Int32))), (4, .int r4), (0, .ref (ad 0)), (1, .int x1), (3, .int x3)]) hx hb dX4_drops_88 hl (k := 3) rfl rfl (by decide) rfl (fun ls hl => ?_)
          refine lv_iinc (v := (x3 + (1 : Int32))) (lv' := [(3, .int (x3 + (1 : Int32))), (2, .int (x2 + (1 : Int32))), (4, .int r4), (0, .ref (ad 0)), (1, .int x1)]) hx hb dX4_drops_91 hl (k := 4) rfl rfl (by decide) rfl (fun ls hl => ?_)
          refine lv_goto (tgt := 27) hx hb dX4_drops_94 (by decide) ?_
          exact ih F5 (ml_up A5 1 (Int32.toNatClampNeg ((235 : Int32) + ((4 : Int32) * x2))) r4) L5 x1 (x2 + (1 : Int32)) (x3 + (1 : Int32)) hw _ _ _ hI (lv_sub hl [3, 4, 1, 0] rfl)
        · have hw := hw.2 c_75
          refine lv_iload hx hb dX4_drops_78 (lv_at hl 0 rfl) ?_
          refine lv_iconst (v := 1) hx hb dX4_drops_80 (by decide) ?_
          refine lv_isub hx hb dX4_drops_81 ?_
          refine lv_goto (tgt := 87) hx hb dX4_drops_82 (by decide) ?_
          obtain ⟨hin, hw⟩ := hw
          refine ml_iast hE hI 1 rfl rfl rfl hin dX4_drops_87 (fun H locs hI => ?_)
          refine lv_iinc (v := (x2 + (1 : Int32))) (lv' := [(2, .int (x2 + (1 : Int32))), (4, .int r4), (0, .ref (ad 0)), (1, .int x1), (3, .int x3)]) hx hb dX4_drops_88 hl (k := 3) rfl rfl (by decide) rfl (fun ls hl => ?_)
          refine lv_iinc (v := (x3 + (1 : Int32))) (lv' := [(3, .int (x3 + (1 : Int32))), (2, .int (x2 + (1 : Int32))), (4, .int r4), (0, .ref (ad 0)), (1, .int x1)]) hx hb dX4_drops_91 hl (k := 4) rfl rfl (by decide) rfl (fun ls hl => ?_)
          refine lv_goto (tgt := 27) hx hb dX4_drops_94 (by decide) ?_
          exact ih F5 (ml_up A5 1 (Int32.toNatClampNeg ((235 : Int32) + ((4 : Int32) * x2))) (r4 - (1 : Int32))) L5 x1 (x2 + (1 : Int32)) (x3 + (1 : Int32)) hw _ _ _ hI (lv_sub hl [3, 4, 1, 0] rfl)
      · have hw := hw.2 c_49
        refine lv_goto (tgt := 91) hx hb dX4_drops_52 (by decide) ?_
        refine lv_iinc (v := (x3 + (1 : Int32))) (lv' := [(3, .int (x3 + (1 : Int32))), (4, .int r4), (0, .ref (ad 0)), (1, .int x1), (2, .int x2)]) hx hb dX4_drops_91 hl (k := 4) rfl rfl (by decide) rfl (fun ls hl => ?_)
        refine lv_goto (tgt := 27) hx hb dX4_drops_94 (by decide) ?_
        exact ih F4 A4 L4 x1 x2 (x3 + (1 : Int32)) hw _ _ _ hI (lv_sub hl [2, 3, 4, 0] rfl)
def wp_X4_drops (F : Nat → Int32) (A : Nat → Nat → Int32) (L : Nat → UInt32) (x1 : Int32) (Q : Int32 → (Nat → Int32) → (Nat → Nat → Int32) → (Nat → UInt32) → Prop) : Prop := wp_X4_in x1 (0 : Int32) ((A 1 0) - (1 : Int32)) (fun r1 => ((¬ r1 = 0 → (∃ n27, wp_X4_drops_L27 Q n27 F A L x1 (0 : Int32) (0 : Int32))) ∧ (r1 = 0 → wp_X4_refused F A L (3 : Int32) x1 (fun r6 F6 A6 L6 => Q r6 F6 A6 L6))))
set_option maxHeartbeats 4000000 in
theorem snd_X4_drops (l : Launch) (G : GG) (sz : Nat) (h : HH) (ad : Nat → Nat) (F : Nat → Int32) (A : Nat → Nat → Int32) (L : Nat → UInt32) (x1 : Int32) (Q : Int32 → (Nat → Int32) → (Nat → Nat → Int32) → (Nat → UInt32) → Prop) (hS : ml_S G h ad F A L) (hw : wp_X4_drops F A L x1 Q) : Met l yX4_drops (ws_ yX4_drops cX4_drops 5 (some FieldType.int)) rm_X4_drops (hv_Pc G h sz [.ref (ad 0), .int x1]) (hv_Qi G h sz (fun r => ml_Q G h ad (Q r))) 0 0 (hv_A h sz) := by
  refine Met.ofW (cc := cX4_drops) (maxL := 5) (ret := (some FieldType.int)) (by decide) rfl ?_
  intro p e s m args below meth c s₁ B hml hv
  obtain ⟨rfl, rfl, hE, hI⟩ := hv_open B hml hv
  have hE : hv_E p s m ([.ref (ad 0), .int x1] : List Value).toArray meth c cX4_drops 5 (some FieldType.int) RX4 G h := hE
  have hI := ml_I.start hI hS
  obtain ⟨⟨hx, hb, hml, hown, hts⟩, hr, hlocks, -⟩ := id hE
  have hl := lv_entry ([.ref (ad 0), .int x1] : List Value) (n := 5) (Nat.le_of_ble_eq_true rfl)
  rw [lg_entry_eq]
  generalize (lg_sl ([.ref (ad 0), .int x1] : List Value) ++ List.replicate (5 - (lg_sl ([.ref (ad 0), .int x1] : List Value)).length) Slot.unset).toArray = ls at hl ⊢
  have hl : lv_has ls 5 [(0, .ref (ad 0)), (1, .int x1)] := hl
  unfold wp_X4_drops at hw
  refine lv_iload_n hx hb dX4_drops_0 rfl (lv_at hl 1 rfl) ?_
  refine lv_iconst (v := 0) hx hb dX4_drops_1 (by decide) ?_
  refine lv_aload_n hx hb dX4_drops_2 rfl (lv_at hl 0 rfl) ?_
  refine ml_get hE hI 1 (by decide) q1986 rfl rfl dX4_drops_3 ?_
  refine lv_iconst (v := 0) hx hb dX4_drops_6 (by decide) ?_
  have hin : vp_in (0 : Int32) 13675 := by unfold vp_in; decide +kernel
  refine ml_iald hE hI 1 rfl rfl (show Int32.toNatClampNeg (0 : Int32) = 0 from by decide +kernel) hin dX4_drops_7 ?_
  refine lv_iconst (v := 1) hx hb dX4_drops_8 (by decide) ?_
  refine lv_isub hx hb dX4_drops_9 ?_
  refine ml_calls (As := [.int x1, .int (0 : Int32), .int ((A 1 0) - (1 : Int32))]) (rest := []) (cells := 0) (slots := 0) hE hI (fun h => snd_X4_in l G _ h x1 (0 : Int32) ((A 1 0) - (1 : Int32)) _ hw) (va_cwS 3 hts (lw_S q2130 q2131 q108 q2132) rfl rfl rfl (by decide +kernel) ⟨Nat.le_of_ble_eq_true rfl, Nat.le_of_ble_eq_true rfl⟩) rfl hl.1 (Nat.le_of_ble_eq_true rfl) dX4_drops_10 ⟨Nat.le_of_ble_eq_true rfl, Nat.le_of_ble_eq_true rfl⟩ (fun r1 H locs hw hI => ?_)
  refine lv_if_ne (tgt := 23) hx hb dX4_drops_13 (by decide) (fun c_13 => ?_) (fun c_13 => ?_)
  · have hw := hw.1 c_13
    refine lv_iconst (v := 0) hx hb dX4_drops_23 (by decide) ?_
    refine lv_istore_n (lv' := [(2, .int (0 : Int32)), (0, .ref (ad 0)), (1, .int x1)]) hx hb dX4_drops_24 rfl hl (by decide) rfl (fun ls hl => ?_)
    refine lv_iconst (v := 0) hx hb dX4_drops_25 (by decide) ?_
    refine lv_istore_n (lv' := [(3, .int (0 : Int32)), (2, .int (0 : Int32)), (0, .ref (ad 0)), (1, .int x1)]) hx hb dX4_drops_26 rfl hl (by decide) rfl (fun ls hl => ?_)
    obtain ⟨n27, hw⟩ := hw
    exact snd_X4_drops_L27 hE Q n27 F A L x1 (0 : Int32) (0 : Int32) hw _ _ _ hI (lv_sub hl [2, 3, 1, 0] rfl)
  · have hw := hw.2 c_13
    refine lv_aload_n hx hb dX4_drops_16 rfl (lv_at hl 0 rfl) ?_
    refine lv_iconst (v := 3) hx hb dX4_drops_17 (by decide) ?_
    refine lv_iload_n hx hb dX4_drops_18 rfl (lv_at hl 1 rfl) ?_
    refine ml_calli (As := [.int (3 : Int32), .int x1]) (rest := []) (cells := 0) (slots := 0) hE hI (fun h hS => snd_X4_refused l G _ h ad F A L (3 : Int32) x1 _ hS hw) (cwV 2 hts (lw_V q2157 q2159 qs45 q108 q2160) rfl rfl rfl (by decide +kernel) ⟨Nat.le_of_ble_eq_true rfl, Nat.le_of_ble_eq_true rfl⟩) rfl hl.1 (Nat.le_of_ble_eq_true rfl) dX4_drops_19 ⟨Nat.le_of_ble_eq_true rfl, Nat.le_of_ble_eq_true rfl⟩ (fun r6 F6 A6 L6 H locs hw hI => ?_)
    exact ml_iret hE hI hw dX4_drops_22

/-- MatchmakerRulesModel.drop(I)I -/
abbrev rm_X4_drop : Room := { frames := 6, cells := 0, slots := 0, locals := 127 }
def wp_X4_drop (F : Nat → Int32) (A : Nat → Nat → Int32) (L : Nat → UInt32) (x1 : Int32) (Q : Int32 → (Nat → Int32) → (Nat → Nat → Int32) → (Nat → UInt32) → Prop) : Prop := wp_X4_remembers F A L (fun F1 A1 L1 => wp_X4_drops F1 A1 L1 x1 (fun r2 F2 A2 L2 => wp_X4_ends F2 A2 L2 r2 (1 : Int32) (fun r3 F3 A3 L3 => Q r3 F3 A3 L3)))
set_option maxHeartbeats 4000000 in
theorem snd_X4_drop (l : Launch) (G : GG) (sz : Nat) (h : HH) (ad : Nat → Nat) (F : Nat → Int32) (A : Nat → Nat → Int32) (L : Nat → UInt32) (x1 : Int32) (Q : Int32 → (Nat → Int32) → (Nat → Nat → Int32) → (Nat → UInt32) → Prop) (hS : ml_S G h ad F A L) (hw : wp_X4_drop F A L x1 Q) : Met l yX4_drop (ws_ yX4_drop cX4_drop 2 (some FieldType.int)) rm_X4_drop (hv_Pc G h sz [.ref (ad 0), .int x1]) (hv_Qi G h sz (fun r => ml_Q G h ad (Q r))) 0 0 (hv_A h sz) := by
  refine Met.ofW (cc := cX4_drop) (maxL := 2) (ret := (some FieldType.int)) (by decide) rfl ?_
  intro p e s m args below meth c s₁ B hml hv
  obtain ⟨rfl, rfl, hE, hI⟩ := hv_open B hml hv
  have hE : hv_E p s m ([.ref (ad 0), .int x1] : List Value).toArray meth c cX4_drop 2 (some FieldType.int) RX4 G h := hE
  have hI := ml_I.start hI hS
  obtain ⟨⟨hx, hb, hml, hown, hts⟩, hr, hlocks, -⟩ := id hE
  have hl := lv_entry ([.ref (ad 0), .int x1] : List Value) (n := 2) (Nat.le_of_ble_eq_true rfl)
  rw [lg_entry_eq]
  generalize (lg_sl ([.ref (ad 0), .int x1] : List Value) ++ List.replicate (2 - (lg_sl ([.ref (ad 0), .int x1] : List Value)).length) Slot.unset).toArray = ls at hl ⊢
  have hl : lv_has ls 2 [(0, .ref (ad 0)), (1, .int x1)] := hl
  unfold wp_X4_drop at hw
  refine lv_aload_n hx hb dX4_drop_0 rfl (lv_at hl 0 rfl) ?_
  refine ml_callv (As := []) (rest := []) (cells := 0) (slots := 0) hE hI (fun h hS => snd_X4_remembers l G _ h ad F A L _ hS hw) (cwV 0 hts (lw_V q2110 q2112 qs34 q108 q2113) rfl rfl rfl (by decide +kernel) ⟨Nat.le_of_ble_eq_true rfl, Nat.le_of_ble_eq_true rfl⟩) rfl hl.1 (Nat.le_of_ble_eq_true rfl) dX4_drop_1 ⟨Nat.le_of_ble_eq_true rfl, Nat.le_of_ble_eq_true rfl⟩ (fun F1 A1 L1 H locs hw hI => ?_)
  refine lv_aload_n hx hb dX4_drop_4 rfl (lv_at hl 0 rfl) ?_
  refine lv_aload_n hx hb dX4_drop_5 rfl (lv_at hl 0 rfl) ?_
  refine lv_iload_n hx hb dX4_drop_6 rfl (lv_at hl 1 rfl) ?_
  refine ml_calli (As := [.int x1]) (rest := [.ref (ad 0)]) (cells := 0) (slots := 0) hE hI (fun h hS => snd_X4_drops l G _ h ad F1 A1 L1 x1 _ hS hw) (cwV 1 hts (lw_V q2178 q2180 qs49 q108 q2181) rfl rfl rfl (by decide +kernel) ⟨Nat.le_of_ble_eq_true rfl, Nat.le_of_ble_eq_true rfl⟩) rfl hl.1 (Nat.le_of_ble_eq_true rfl) dX4_drop_7 ⟨Nat.le_of_ble_eq_true rfl, Nat.le_of_ble_eq_true rfl⟩ (fun r2 F2 A2 L2 H locs hw hI => ?_)
  refine lv_iconst (v := 1) hx hb dX4_drop_10 (by decide) ?_
  refine ml_calli (As := [.int r2, .int (1 : Int32)]) (rest := []) (cells := 0) (slots := 0) hE hI (fun h hS => snd_X4_ends l G _ h ad F2 A2 L2 r2 (1 : Int32) _ hS hw) (cwV 2 hts (lw_V q2165 q2167 qs47 q108 q2168) rfl rfl rfl (by decide +kernel) ⟨Nat.le_of_ble_eq_true rfl, Nat.le_of_ble_eq_true rfl⟩) rfl hl.1 (Nat.le_of_ble_eq_true rfl) dX4_drop_11 ⟨Nat.le_of_ble_eq_true rfl, Nat.le_of_ble_eq_true rfl⟩ (fun r3 F3 A3 L3 H locs hw hI => ?_)
  exact ml_iret hE hI hw dX4_drop_14

/-- MatchmakerRulesModel.slotOf3(III)I -/
abbrev rm_X4_slotOf3 : Room := { frames := 1, cells := 0, slots := 0, locals := 12 }
def wp_X4_slotOf3_L3 (Q : Int32 → (Nat → Int32) → (Nat → Nat → Int32) → (Nat → UInt32) → Prop) : Nat → (Nat → Int32) → (Nat → Nat → Int32) → (Nat → UInt32) → (Int32) → (Int32) → (Int32) → (Int32) → Prop
  | 0, _, _, _, _, _, _, _ => False
  | n + 1, F, A, L, x1, x2, x3, x4 => (((A 1 1) ≤ x4 → Q (-1 : Int32) F A L) ∧ (¬ (A 1 1) ≤ x4 → (vp_in ((115 : Int32) + x4) 13675 ∧ ((¬ (A 1 (Int32.toNatClampNeg ((115 : Int32) + x4))) = x1 → wp_X4_slotOf3_L3 Q n F A L x1 x2 x3 (x4 + (1 : Int32))) ∧ ((A 1 (Int32.toNatClampNeg ((115 : Int32) + x4))) = x1 → (vp_in ((135 : Int32) + x4) 13675 ∧ ((¬ (A 1 (Int32.toNatClampNeg ((135 : Int32) + x4))) = x2 → wp_X4_slotOf3_L3 Q n F A L x1 x2 x3 (x4 + (1 : Int32))) ∧ ((A 1 (Int32.toNatClampNeg ((135 : Int32) + x4))) = x2 → (vp_in ((155 : Int32) + x4) 13675 ∧ ((¬ (A 1 (Int32.toNatClampNeg ((155 : Int32) + x4))) = x3 → wp_X4_slotOf3_L3 Q n F A L x1 x2 x3 (x4 + (1 : Int32))) ∧ ((A 1 (Int32.toNatClampNeg ((155 : Int32) + x4))) = x3 → Q x4 F A L)))))))))))
set_option maxHeartbeats 4000000 in
theorem snd_X4_slotOf3_L3 {p : Program} {l : Launch} {e : Env} {s : State} {m : MethodId} {args : Array Value} {below : List Frame} {meth : Method} {c : Code} {G : GG} {h0 : HH} {ad : Nat → Nat} (hE : hv_E p s m args meth c cX4_slotOf3 5 (some FieldType.int) RX4 G h0) (Q : Int32 → (Nat → Int32) → (Nat → Nat → Int32) → (Nat → UInt32) → Prop) : ∀ (n : Nat) (F : Nat → Int32) (A : Nat → Nat → Int32) (L : Nat → UInt32) (x1 : Int32) (x2 : Int32) (x3 : Int32) (x4 : Int32), wp_X4_slotOf3_L3 Q n F A L x1 x2 x3 x4 → ∀ (H : Heap) (locs : List Loc) (ls : Array Slot), ml_I G h0 s.heap ad F A L H locs → lv_has ls 5 [(0, .ref (ad 0)), (1, .int x1), (2, .int x2), (3, .int x3), (4, .int x4)] → W p l e (headSpec (ws_ yX4_slotOf3 cX4_slotOf3 5 (some FieldType.int)) rm_X4_slotOf3).room s m args below meth c H locs 0 0 (MQ below (hv_Qi G h0 s.heap.size (fun r => ml_Q G h0 ad (Q r))) args s 0 0 (hv_A h0 s.heap.size)) (F0 m 3 ls []) := by
  obtain ⟨⟨hx, hb, hml, hown, hts⟩, hr, hlocks, -⟩ := id hE
  intro n
  induction n with
  | zero => intro F A L x1 x2 x3 x4 hw; exact hw.elim
  | succ n ih =>
    intro F A L x1 x2 x3 x4 hw H locs ls hI hl
    unfold wp_X4_slotOf3_L3 at hw
    refine lv_iload hx hb dX4_slotOf3_3 (lv_at hl 4 rfl) ?_
    refine lv_aload_n hx hb dX4_slotOf3_5 rfl (lv_at hl 0 rfl) ?_
    refine ml_get hE hI 1 (by decide) q1986 rfl rfl dX4_slotOf3_6 ?_
    refine lv_iconst (v := 1) hx hb dX4_slotOf3_9 (by decide) ?_
    have hin : vp_in (1 : Int32) 13675 := by unfold vp_in; decide +kernel
    refine ml_iald hE hI 1 rfl rfl (show Int32.toNatClampNeg (1 : Int32) = 1 from by decide +kernel) hin dX4_slotOf3_10 ?_
    refine lv_icmp_ge (tgt := 67) hx hb dX4_slotOf3_11 (by decide) (fun c_11 => ?_) (fun c_11 => ?_)
    · have hw := hw.1 c_11
      refine lv_iconst (v := -1) hx hb dX4_slotOf3_67 (by decide) ?_
      exact ml_iret hE hI hw dX4_slotOf3_68
    · have hw := hw.2 c_11
      refine lv_aload_n hx hb dX4_slotOf3_14 rfl (lv_at hl 0 rfl) ?_
      refine ml_get hE hI 1 (by decide) q1986 rfl rfl dX4_slotOf3_15 ?_
      refine lv_bipush (v := 115) hx hb dX4_slotOf3_18 (by decide) ?_
      refine lv_iload hx hb dX4_slotOf3_20 (lv_at hl 4 rfl) ?_
      refine lv_iadd hx hb dX4_slotOf3_22 ?_
      obtain ⟨hin, hw⟩ := hw
      refine ml_iald hE hI 1 rfl rfl rfl hin dX4_slotOf3_23 ?_
      refine lv_iload_n hx hb dX4_slotOf3_24 rfl (lv_at hl 1 rfl) ?_
      refine lv_icmp_ne (tgt := 61) hx hb dX4_slotOf3_25 (by decide) (fun c_25 => ?_) (fun c_25 => ?_)
      · have hw := hw.1 c_25
        refine lv_iinc (v := (x4 + (1 : Int32))) (lv' := [(4, .int (x4 + (1 : Int32))), (0, .ref (ad 0)), (1, .int x1), (2, .int x2), (3, .int x3)]) hx hb dX4_slotOf3_61 hl (k := 4) rfl rfl (by decide) rfl (fun ls hl => ?_)
        refine lv_goto (tgt := 3) hx hb dX4_slotOf3_64 (by decide) ?_
        exact ih F A L x1 x2 x3 (x4 + (1 : Int32)) hw _ _ _ hI (lv_sub hl [1, 2, 3, 4, 0] rfl)
      · have hw := hw.2 c_25
        refine lv_aload_n hx hb dX4_slotOf3_28 rfl (lv_at hl 0 rfl) ?_
        refine ml_get hE hI 1 (by decide) q1986 rfl rfl dX4_slotOf3_29 ?_
        refine lv_sipush (v := 135) hx hb dX4_slotOf3_32 (by decide) ?_
        refine lv_iload hx hb dX4_slotOf3_35 (lv_at hl 4 rfl) ?_
        refine lv_iadd hx hb dX4_slotOf3_37 ?_
        obtain ⟨hin, hw⟩ := hw
        refine ml_iald hE hI 1 rfl rfl rfl hin dX4_slotOf3_38 ?_
        refine lv_iload_n hx hb dX4_slotOf3_39 rfl (lv_at hl 2 rfl) ?_
        refine lv_icmp_ne (tgt := 61) hx hb dX4_slotOf3_40 (by decide) (fun c_40 => ?_) (fun c_40 => ?_)
        · have hw := hw.1 c_40
          refine lv_iinc (v := (x4 + (1 : Int32))) (lv' := [(4, .int (x4 + (1 : Int32))), (0, .ref (ad 0)), (1, .int x1), (2, .int x2), (3, .int x3)]) hx hb dX4_slotOf3_61 hl (k := 4) rfl rfl (by decide) rfl (fun ls hl => ?_)
          refine lv_goto (tgt := 3) hx hb dX4_slotOf3_64 (by decide) ?_
          exact ih F A L x1 x2 x3 (x4 + (1 : Int32)) hw _ _ _ hI (lv_sub hl [1, 2, 3, 4, 0] rfl)
        · have hw := hw.2 c_40
          refine lv_aload_n hx hb dX4_slotOf3_43 rfl (lv_at hl 0 rfl) ?_
          refine ml_get hE hI 1 (by decide) q1986 rfl rfl dX4_slotOf3_44 ?_
          refine lv_sipush (v := 155) hx hb dX4_slotOf3_47 (by decide) ?_
          refine lv_iload hx hb dX4_slotOf3_50 (lv_at hl 4 rfl) ?_
          refine lv_iadd hx hb dX4_slotOf3_52 ?_
          obtain ⟨hin, hw⟩ := hw
          refine ml_iald hE hI 1 rfl rfl rfl hin dX4_slotOf3_53 ?_
          refine lv_iload_n hx hb dX4_slotOf3_54 rfl (lv_at hl 3 rfl) ?_
          refine lv_icmp_ne (tgt := 61) hx hb dX4_slotOf3_55 (by decide) (fun c_55 => ?_) (fun c_55 => ?_)
          · have hw := hw.1 c_55
            refine lv_iinc (v := (x4 + (1 : Int32))) (lv' := [(4, .int (x4 + (1 : Int32))), (0, .ref (ad 0)), (1, .int x1), (2, .int x2), (3, .int x3)]) hx hb dX4_slotOf3_61 hl (k := 4) rfl rfl (by decide) rfl (fun ls hl => ?_)
            refine lv_goto (tgt := 3) hx hb dX4_slotOf3_64 (by decide) ?_
            exact ih F A L x1 x2 x3 (x4 + (1 : Int32)) hw _ _ _ hI (lv_sub hl [1, 2, 3, 4, 0] rfl)
          · have hw := hw.2 c_55
            refine lv_iload hx hb dX4_slotOf3_58 (lv_at hl 4 rfl) ?_
            exact ml_iret hE hI hw dX4_slotOf3_60
def wp_X4_slotOf3 (F : Nat → Int32) (A : Nat → Nat → Int32) (L : Nat → UInt32) (x1 : Int32) (x2 : Int32) (x3 : Int32) (Q : Int32 → (Nat → Int32) → (Nat → Nat → Int32) → (Nat → UInt32) → Prop) : Prop := (∃ n3, wp_X4_slotOf3_L3 Q n3 F A L x1 x2 x3 (0 : Int32))
set_option maxHeartbeats 4000000 in
theorem snd_X4_slotOf3 (l : Launch) (G : GG) (sz : Nat) (h : HH) (ad : Nat → Nat) (F : Nat → Int32) (A : Nat → Nat → Int32) (L : Nat → UInt32) (x1 : Int32) (x2 : Int32) (x3 : Int32) (Q : Int32 → (Nat → Int32) → (Nat → Nat → Int32) → (Nat → UInt32) → Prop) (hS : ml_S G h ad F A L) (hw : wp_X4_slotOf3 F A L x1 x2 x3 Q) : Met l yX4_slotOf3 (ws_ yX4_slotOf3 cX4_slotOf3 5 (some FieldType.int)) rm_X4_slotOf3 (hv_Pc G h sz [.ref (ad 0), .int x1, .int x2, .int x3]) (hv_Qi G h sz (fun r => ml_Q G h ad (Q r))) 0 0 (hv_A h sz) := by
  refine Met.ofW (cc := cX4_slotOf3) (maxL := 5) (ret := (some FieldType.int)) (by decide) rfl ?_
  intro p e s m args below meth c s₁ B hml hv
  obtain ⟨rfl, rfl, hE, hI⟩ := hv_open B hml hv
  have hE : hv_E p s m ([.ref (ad 0), .int x1, .int x2, .int x3] : List Value).toArray meth c cX4_slotOf3 5 (some FieldType.int) RX4 G h := hE
  have hI := ml_I.start hI hS
  obtain ⟨⟨hx, hb, hml, hown, hts⟩, hr, hlocks, -⟩ := id hE
  have hl := lv_entry ([.ref (ad 0), .int x1, .int x2, .int x3] : List Value) (n := 5) (Nat.le_of_ble_eq_true rfl)
  rw [lg_entry_eq]
  generalize (lg_sl ([.ref (ad 0), .int x1, .int x2, .int x3] : List Value) ++ List.replicate (5 - (lg_sl ([.ref (ad 0), .int x1, .int x2, .int x3] : List Value)).length) Slot.unset).toArray = ls at hl ⊢
  have hl : lv_has ls 5 [(0, .ref (ad 0)), (1, .int x1), (2, .int x2), (3, .int x3)] := hl
  unfold wp_X4_slotOf3 at hw
  refine lv_iconst (v := 0) hx hb dX4_slotOf3_0 (by decide) ?_
  refine lv_istore (lv' := [(4, .int (0 : Int32)), (0, .ref (ad 0)), (1, .int x1), (2, .int x2), (3, .int x3)]) hx hb dX4_slotOf3_1 hl (by decide) rfl (fun ls hl => ?_)
  obtain ⟨n3, hw⟩ := hw
  exact snd_X4_slotOf3_L3 hE Q n3 F A L x1 x2 x3 (0 : Int32) hw _ _ _ hI (lv_sub hl [1, 2, 3, 4, 0] rfl)

/-- java/lang/Float.isNaN(F)Z -/
abbrev rm_J23_isNaN : Room := { frames := 1, cells := 0, slots := 0, locals := 12 }
def wp_J23_isNaN (x0 : UInt32) (Q : Int32 → Prop) : Prop := (((Op.cmpValue (FP.fcmp x0 x0) .l) = 0 → Q (0 : Int32)) ∧ (¬ (Op.cmpValue (FP.fcmp x0 x0) .l) = 0 → Q (1 : Int32)))
set_option maxHeartbeats 4000000 in
theorem snd_J23_isNaN (l : Launch) (G : GG) (sz : Nat) (h : HH) (x0 : UInt32) (Q : Int32 → Prop) (hw : wp_J23_isNaN x0 Q) : Met l yJ23_isNaN (ws_ yJ23_isNaN cJ23_isNaN 1 (some FieldType.boolean)) rm_J23_isNaN (hv_Pc G h sz [.float x0]) (hv_Qi G h sz (fun r h' => h' = h ∧ Q r)) 0 0 (hv_A h sz) := by
  refine hv_ofW (cc := cJ23_isNaN) (maxL := 1) (ret := (some FieldType.boolean)) (by decide +kernel) rfl ?_
  intro p e s m args below meth c s₁ B hml hv
  obtain ⟨rfl, rfl, hE, hI⟩ := hv_open B hml hv
  have hE : hv_E p s m ([.float x0] : List Value).toArray meth c cJ23_isNaN 1 (some FieldType.boolean) RJ23 G h := hE
  obtain ⟨⟨hx, hb, hml, hown, hts⟩, hr, hlocks, -⟩ := id hE
  have hl := lv_entry ([.float x0] : List Value) (n := 1) (Nat.le_of_ble_eq_true rfl)
  rw [lg_entry_eq]
  generalize (lg_sl ([.float x0] : List Value) ++ List.replicate (1 - (lg_sl ([.float x0] : List Value)).length) Slot.unset).toArray = ls at hl ⊢
  have hl : lv_has ls 1 [(0, .float x0)] := hl
  unfold wp_J23_isNaN at hw
  refine lv_fload_n hx hb dJ23_isNaN_0 rfl (lv_at hl 0 rfl) ?_
  refine lv_fload_n hx hb dJ23_isNaN_1 rfl (lv_at hl 0 rfl) ?_
  refine lv_fcmp hx hb dJ23_isNaN_2 ?_
  refine lv_if_eq (tgt := 10) hx hb dJ23_isNaN_3 (by decide) (fun c_3 => ?_) (fun c_3 => ?_)
  · have hw := hw.1 c_3
    refine lv_iconst (v := 0) hx hb dJ23_isNaN_10 (by decide) ?_
    exact hv_zret hE hI (Nat.le_refl _) (Nat.le_refl _) rfl ⟨rfl, hw⟩ dJ23_isNaN_11
  · have hw := hw.2 c_3
    refine lv_iconst (v := 1) hx hb dJ23_isNaN_6 (by decide) ?_
    refine lv_goto (tgt := 11) hx hb dJ23_isNaN_7 (by decide) ?_
    exact hv_zret hE hI (Nat.le_refl _) (Nat.le_refl _) rfl ⟨rfl, hw⟩ dJ23_isNaN_11

/-- java/lang/Float.floatToIntBits(F)I -/
abbrev rm_J23_floatToIntBits : Room := { frames := 2, cells := 0, slots := 0, locals := 32 }
def wp_J23_floatToIntBits (x0 : UInt32) (Q : Int32 → Prop) : Prop := wp_J23_isNaN x0 (fun r1 => ((¬ r1 = 0 → Q (2143289344 : Int32)) ∧ (r1 = 0 → Q (UInt32.toInt32 x0))))
set_option maxHeartbeats 4000000 in
theorem snd_J23_floatToIntBits (l : Launch) (G : GG) (sz : Nat) (h : HH) (x0 : UInt32) (Q : Int32 → Prop) (hw : wp_J23_floatToIntBits x0 Q) : Met l yJ23_floatToIntBits (ws_ yJ23_floatToIntBits cJ23_floatToIntBits 1 (some FieldType.int)) rm_J23_floatToIntBits (hv_Pc G h sz [.float x0]) (hv_Qi G h sz (fun r h' => h' = h ∧ Q r)) 0 0 (hv_A h sz) := by
  refine hv_ofW (cc := cJ23_floatToIntBits) (maxL := 1) (ret := (some FieldType.int)) (by decide +kernel) rfl ?_
  intro p e s m args below meth c s₁ B hml hv
  obtain ⟨rfl, rfl, hE, hI⟩ := hv_open B hml hv
  have hE : hv_E p s m ([.float x0] : List Value).toArray meth c cJ23_floatToIntBits 1 (some FieldType.int) RJ23 G h := hE
  obtain ⟨⟨hx, hb, hml, hown, hts⟩, hr, hlocks, -⟩ := id hE
  have hl := lv_entry ([.float x0] : List Value) (n := 1) (Nat.le_of_ble_eq_true rfl)
  rw [lg_entry_eq]
  generalize (lg_sl ([.float x0] : List Value) ++ List.replicate (1 - (lg_sl ([.float x0] : List Value)).length) Slot.unset).toArray = ls at hl ⊢
  have hl : lv_has ls 1 [(0, .float x0)] := hl
  unfold wp_J23_floatToIntBits at hw
  refine lv_fload_n hx hb dJ23_floatToIntBits_0 rfl (lv_at hl 0 rfl) ?_
  refine pu_calls (As := [.float x0]) (rest := []) (cells := 0) (slots := 0) hE hI (snd_J23_isNaN l G _ _ x0 _ hw) (va_cwS 1 hts (lw_S q1400 q1401 q134 q1402) rfl rfl rfl (by decide +kernel) ⟨Nat.le_of_ble_eq_true rfl, Nat.le_of_ble_eq_true rfl⟩) rfl hl.1 (Nat.le_of_ble_eq_true rfl) dJ23_floatToIntBits_1 ⟨Nat.le_of_ble_eq_true rfl, Nat.le_of_ble_eq_true rfl⟩ (fun r1 H locs hw hI => ?_)
  refine lv_if_ne (tgt := 12) hx hb dJ23_floatToIntBits_4 (by decide) (fun c_4 => ?_) (fun c_4 => ?_)
  · have hw := hw.1 c_4
    refine lv_ldc (v := 2143289344) hx hb hown (hts _ q1406) dJ23_floatToIntBits_12 ?_
    exact hv_iret hE hI (Nat.le_refl _) (Nat.le_refl _) ⟨rfl, hw⟩ dJ23_floatToIntBits_14
  · have hw := hw.2 c_4
    refine lv_fload_n hx hb dJ23_floatToIntBits_7 rfl (lv_at hl 0 rfl) ?_
    refine vn_f2i hx hb (hml.trans hl.1.symm) hown (hts _ q1403) (hts _ q1405) (hts _ q1404) (hts _ q134) (Nat.le_of_ble_eq_true rfl) (Nat.le_of_ble_eq_true rfl) dJ23_floatToIntBits_8 ?_
    exact hv_iret hE hI (Nat.le_refl _) (Nat.le_refl _) ⟨rfl, hw⟩ dJ23_floatToIntBits_11

/-- MatchmakerRulesModel.comes(IIIIF)I -/
abbrev rm_X4_comes : Room := { frames := 3, cells := 0, slots := 0, locals := 52 }
def wp_X4_comes (F : Nat → Int32) (A : Nat → Nat → Int32) (L : Nat → UInt32) (x1 : Int32) (x2 : Int32) (x3 : Int32) (x4 : Int32) (x5 : UInt32) (Q : Int32 → (Nat → Int32) → (Nat → Nat → Int32) → (Nat → UInt32) → Prop) : Prop := (vp_in ((95 : Int32) + (A 1 1)) 13675 ∧ (vp_in ((115 : Int32) + (A 1 1)) 13675 ∧ (vp_in ((135 : Int32) + (A 1 1)) 13675 ∧ (vp_in ((155 : Int32) + (A 1 1)) 13675 ∧ (vp_in ((175 : Int32) + (A 1 1)) 13675 ∧ wp_J23_floatToIntBits x5 (fun r1 => (vp_in ((195 : Int32) + (A 1 1)) 13675 ∧ (vp_in ((215 : Int32) + (A 1 1)) 13675 ∧ (vp_in ((95 : Int32) + (A 1 1)) 13675 ∧ Q ((ml_up (ml_up (ml_up (ml_up (ml_up (ml_up (ml_up (ml_up (ml_up A 1 (Int32.toNatClampNeg ((95 : Int32) + (A 1 1))) (A 1 2)) 1 (Int32.toNatClampNeg ((115 : Int32) + (A 1 1))) x1) 1 (Int32.toNatClampNeg ((135 : Int32) + (A 1 1))) x2) 1 (Int32.toNatClampNeg ((155 : Int32) + (A 1 1))) x3) 1 (Int32.toNatClampNeg ((175 : Int32) + (A 1 1))) x4) 1 (Int32.toNatClampNeg ((195 : Int32) + (A 1 1))) r1) 1 (Int32.toNatClampNeg ((215 : Int32) + (A 1 1))) ((ml_up (ml_up (ml_up (ml_up (ml_up (ml_up A 1 (Int32.toNatClampNeg ((95 : Int32) + (A 1 1))) (A 1 2)) 1 (Int32.toNatClampNeg ((115 : Int32) + (A 1 1))) x1) 1 (Int32.toNatClampNeg ((135 : Int32) + (A 1 1))) x2) 1 (Int32.toNatClampNeg ((155 : Int32) + (A 1 1))) x3) 1 (Int32.toNatClampNeg ((175 : Int32) + (A 1 1))) x4) 1 (Int32.toNatClampNeg ((195 : Int32) + (A 1 1))) r1) 1 3)) 1 1 ((A 1 1) + (1 : Int32))) 1 2 (((ml_up (ml_up (ml_up (ml_up (ml_up (ml_up (ml_up (ml_up A 1 (Int32.toNatClampNeg ((95 : Int32) + (A 1 1))) (A 1 2)) 1 (Int32.toNatClampNeg ((115 : Int32) + (A 1 1))) x1) 1 (Int32.toNatClampNeg ((135 : Int32) + (A 1 1))) x2) 1 (Int32.toNatClampNeg ((155 : Int32) + (A 1 1))) x3) 1 (Int32.toNatClampNeg ((175 : Int32) + (A 1 1))) x4) 1 (Int32.toNatClampNeg ((195 : Int32) + (A 1 1))) r1) 1 (Int32.toNatClampNeg ((215 : Int32) + (A 1 1))) ((ml_up (ml_up (ml_up (ml_up (ml_up (ml_up A 1 (Int32.toNatClampNeg ((95 : Int32) + (A 1 1))) (A 1 2)) 1 (Int32.toNatClampNeg ((115 : Int32) + (A 1 1))) x1) 1 (Int32.toNatClampNeg ((135 : Int32) + (A 1 1))) x2) 1 (Int32.toNatClampNeg ((155 : Int32) + (A 1 1))) x3) 1 (Int32.toNatClampNeg ((175 : Int32) + (A 1 1))) x4) 1 (Int32.toNatClampNeg ((195 : Int32) + (A 1 1))) r1) 1 3)) 1 1 ((A 1 1) + (1 : Int32))) 1 2) + (1 : Int32))) 1 (Int32.toNatClampNeg ((95 : Int32) + (A 1 1)))) F (ml_up (ml_up (ml_up (ml_up (ml_up (ml_up (ml_up (ml_up (ml_up A 1 (Int32.toNatClampNeg ((95 : Int32) + (A 1 1))) (A 1 2)) 1 (Int32.toNatClampNeg ((115 : Int32) + (A 1 1))) x1) 1 (Int32.toNatClampNeg ((135 : Int32) + (A 1 1))) x2) 1 (Int32.toNatClampNeg ((155 : Int32) + (A 1 1))) x3) 1 (Int32.toNatClampNeg ((175 : Int32) + (A 1 1))) x4) 1 (Int32.toNatClampNeg ((195 : Int32) + (A 1 1))) r1) 1 (Int32.toNatClampNeg ((215 : Int32) + (A 1 1))) ((ml_up (ml_up (ml_up (ml_up (ml_up (ml_up A 1 (Int32.toNatClampNeg ((95 : Int32) + (A 1 1))) (A 1 2)) 1 (Int32.toNatClampNeg ((115 : Int32) + (A 1 1))) x1) 1 (Int32.toNatClampNeg ((135 : Int32) + (A 1 1))) x2) 1 (Int32.toNatClampNeg ((155 : Int32) + (A 1 1))) x3) 1 (Int32.toNatClampNeg ((175 : Int32) + (A 1 1))) x4) 1 (Int32.toNatClampNeg ((195 : Int32) + (A 1 1))) r1) 1 3)) 1 1 ((A 1 1) + (1 : Int32))) 1 2 (((ml_up (ml_up (ml_up (ml_up (ml_up (ml_up (ml_up (ml_up A 1 (Int32.toNatClampNeg ((95 : Int32) + (A 1 1))) (A 1 2)) 1 (Int32.toNatClampNeg ((115 : Int32) + (A 1 1))) x1) 1 (Int32.toNatClampNeg ((135 : Int32) + (A 1 1))) x2) 1 (Int32.toNatClampNeg ((155 : Int32) + (A 1 1))) x3) 1 (Int32.toNatClampNeg ((175 : Int32) + (A 1 1))) x4) 1 (Int32.toNatClampNeg ((195 : Int32) + (A 1 1))) r1) 1 (Int32.toNatClampNeg ((215 : Int32) + (A 1 1))) ((ml_up (ml_up (ml_up (ml_up (ml_up (ml_up A 1 (Int32.toNatClampNeg ((95 : Int32) + (A 1 1))) (A 1 2)) 1 (Int32.toNatClampNeg ((115 : Int32) + (A 1 1))) x1) 1 (Int32.toNatClampNeg ((135 : Int32) + (A 1 1))) x2) 1 (Int32.toNatClampNeg ((155 : Int32) + (A 1 1))) x3) 1 (Int32.toNatClampNeg ((175 : Int32) + (A 1 1))) x4) 1 (Int32.toNatClampNeg ((195 : Int32) + (A 1 1))) r1) 1 3)) 1 1 ((A 1 1) + (1 : Int32))) 1 2) + (1 : Int32))) L)))))))))
set_option maxHeartbeats 4000000 in
theorem snd_X4_comes (l : Launch) (G : GG) (sz : Nat) (h : HH) (ad : Nat → Nat) (F : Nat → Int32) (A : Nat → Nat → Int32) (L : Nat → UInt32) (x1 : Int32) (x2 : Int32) (x3 : Int32) (x4 : Int32) (x5 : UInt32) (Q : Int32 → (Nat → Int32) → (Nat → Nat → Int32) → (Nat → UInt32) → Prop) (hS : ml_S G h ad F A L) (hw : wp_X4_comes F A L x1 x2 x3 x4 x5 Q) : Met l yX4_comes (ws_ yX4_comes cX4_comes 7 (some FieldType.int)) rm_X4_comes (hv_Pc G h sz [.ref (ad 0), .int x1, .int x2, .int x3, .int x4, .float x5]) (hv_Qi G h sz (fun r => ml_Q G h ad (Q r))) 0 0 (hv_A h sz) := by
  refine Met.ofW (cc := cX4_comes) (maxL := 7) (ret := (some FieldType.int)) (by decide) rfl ?_
  intro p e s m args below meth c s₁ B hml hv
  obtain ⟨rfl, rfl, hE, hI⟩ := hv_open B hml hv
  have hE : hv_E p s m ([.ref (ad 0), .int x1, .int x2, .int x3, .int x4, .float x5] : List Value).toArray meth c cX4_comes 7 (some FieldType.int) RX4 G h := hE
  have hI := ml_I.start hI hS
  obtain ⟨⟨hx, hb, hml, hown, hts⟩, hr, hlocks, -⟩ := id hE
  have hl := lv_entry ([.ref (ad 0), .int x1, .int x2, .int x3, .int x4, .float x5] : List Value) (n := 7) (Nat.le_of_ble_eq_true rfl)
  rw [lg_entry_eq]
  generalize (lg_sl ([.ref (ad 0), .int x1, .int x2, .int x3, .int x4, .float x5] : List Value) ++ List.replicate (7 - (lg_sl ([.ref (ad 0), .int x1, .int x2, .int x3, .int x4, .float x5] : List Value)).length) Slot.unset).toArray = ls at hl ⊢
  have hl : lv_has ls 7 [(0, .ref (ad 0)), (1, .int x1), (2, .int x2), (3, .int x3), (4, .int x4), (5, .float x5)] := hl
  unfold wp_X4_comes at hw
  refine lv_aload_n hx hb dX4_comes_0 rfl (lv_at hl 0 rfl) ?_
  refine ml_get hE hI 1 (by decide) q1986 rfl rfl dX4_comes_1 ?_
  refine lv_iconst (v := 1) hx hb dX4_comes_4 (by decide) ?_
  have hin : vp_in (1 : Int32) 13675 := by unfold vp_in; decide +kernel
  refine ml_iald hE hI 1 rfl rfl (show Int32.toNatClampNeg (1 : Int32) = 1 from by decide +kernel) hin dX4_comes_5 ?_
  refine lv_istore (lv' := [(6, .int (A 1 1)), (0, .ref (ad 0)), (1, .int x1), (2, .int x2), (3, .int x3), (4, .int x4), (5, .float x5)]) hx hb dX4_comes_6 hl (by decide) rfl (fun ls hl => ?_)
  refine lv_aload_n hx hb dX4_comes_8 rfl (lv_at hl 1 rfl) ?_
  refine ml_get hE hI 1 (by decide) q1986 rfl rfl dX4_comes_9 ?_
  refine lv_bipush (v := 95) hx hb dX4_comes_12 (by decide) ?_
  refine lv_iload hx hb dX4_comes_14 (lv_at hl 0 rfl) ?_
  refine lv_iadd hx hb dX4_comes_16 ?_
  refine lv_aload_n hx hb dX4_comes_17 rfl (lv_at hl 1 rfl) ?_
  refine ml_get hE hI 1 (by decide) q1986 rfl rfl dX4_comes_18 ?_
  refine lv_iconst (v := 2) hx hb dX4_comes_21 (by decide) ?_
  have hin : vp_in (2 : Int32) 13675 := by unfold vp_in; decide +kernel
  refine ml_iald hE hI 1 rfl rfl (show Int32.toNatClampNeg (2 : Int32) = 2 from by decide +kernel) hin dX4_comes_22 ?_
  obtain ⟨hin, hw⟩ := hw
  refine ml_iast hE hI 1 rfl rfl rfl hin dX4_comes_23 (fun H locs hI => ?_)
  refine lv_aload_n hx hb dX4_comes_24 rfl (lv_at hl 1 rfl) ?_
  refine ml_get hE hI 1 (by decide) q1986 rfl rfl dX4_comes_25 ?_
  refine lv_bipush (v := 115) hx hb dX4_comes_28 (by decide) ?_
  refine lv_iload hx hb dX4_comes_30 (lv_at hl 0 rfl) ?_
  refine lv_iadd hx hb dX4_comes_32 ?_
  refine lv_iload_n hx hb dX4_comes_33 rfl (lv_at hl 2 rfl) ?_
  obtain ⟨hin, hw⟩ := hw
  refine ml_iast hE hI 1 rfl rfl rfl hin dX4_comes_34 (fun H locs hI => ?_)
  refine lv_aload_n hx hb dX4_comes_35 rfl (lv_at hl 1 rfl) ?_
  refine ml_get hE hI 1 (by decide) q1986 rfl rfl dX4_comes_36 ?_
  refine lv_sipush (v := 135) hx hb dX4_comes_39 (by decide) ?_
  refine lv_iload hx hb dX4_comes_42 (lv_at hl 0 rfl) ?_
  refine lv_iadd hx hb dX4_comes_44 ?_
  refine lv_iload_n hx hb dX4_comes_45 rfl (lv_at hl 3 rfl) ?_
  obtain ⟨hin, hw⟩ := hw
  refine ml_iast hE hI 1 rfl rfl rfl hin dX4_comes_46 (fun H locs hI => ?_)
  refine lv_aload_n hx hb dX4_comes_47 rfl (lv_at hl 1 rfl) ?_
  refine ml_get hE hI 1 (by decide) q1986 rfl rfl dX4_comes_48 ?_
  refine lv_sipush (v := 155) hx hb dX4_comes_51 (by decide) ?_
  refine lv_iload hx hb dX4_comes_54 (lv_at hl 0 rfl) ?_
  refine lv_iadd hx hb dX4_comes_56 ?_
  refine lv_iload_n hx hb dX4_comes_57 rfl (lv_at hl 4 rfl) ?_
  obtain ⟨hin, hw⟩ := hw
  refine ml_iast hE hI 1 rfl rfl rfl hin dX4_comes_58 (fun H locs hI => ?_)
  refine lv_aload_n hx hb dX4_comes_59 rfl (lv_at hl 1 rfl) ?_
  refine ml_get hE hI 1 (by decide) q1986 rfl rfl dX4_comes_60 ?_
  refine lv_sipush (v := 175) hx hb dX4_comes_63 (by decide) ?_
  refine lv_iload hx hb dX4_comes_66 (lv_at hl 0 rfl) ?_
  refine lv_iadd hx hb dX4_comes_68 ?_
  refine lv_iload hx hb dX4_comes_69 (lv_at hl 5 rfl) ?_
  obtain ⟨hin, hw⟩ := hw
  refine ml_iast hE hI 1 rfl rfl rfl hin dX4_comes_71 (fun H locs hI => ?_)
  refine lv_aload_n hx hb dX4_comes_72 rfl (lv_at hl 1 rfl) ?_
  refine ml_get hE hI 1 (by decide) q1986 rfl rfl dX4_comes_73 ?_
  refine lv_sipush (v := 195) hx hb dX4_comes_76 (by decide) ?_
  refine lv_iload hx hb dX4_comes_79 (lv_at hl 0 rfl) ?_
  refine lv_iadd hx hb dX4_comes_81 ?_
  refine lv_fload hx hb dX4_comes_82 (lv_at hl 6 rfl) ?_
  refine ml_calls (As := [.float x5]) (rest := [.int ((195 : Int32) + (A 1 1)), .ref (ad 1)]) (cells := 0) (slots := 0) hE hI (fun h => snd_J23_floatToIntBits l G _ h x5 _ hw) (va_cwS 1 hts (lw_S q2231 q1398 q134 q1399) rfl rfl rfl (by decide +kernel) ⟨Nat.le_of_ble_eq_true rfl, Nat.le_of_ble_eq_true rfl⟩) rfl hl.1 (Nat.le_of_ble_eq_true rfl) dX4_comes_84 ⟨Nat.le_of_ble_eq_true rfl, Nat.le_of_ble_eq_true rfl⟩ (fun r1 H locs hw hI => ?_)
  obtain ⟨hin, hw⟩ := hw
  refine ml_iast hE hI 1 rfl rfl rfl hin dX4_comes_87 (fun H locs hI => ?_)
  refine lv_aload_n hx hb dX4_comes_88 rfl (lv_at hl 1 rfl) ?_
  refine ml_get hE hI 1 (by decide) q1986 rfl rfl dX4_comes_89 ?_
  refine lv_sipush (v := 215) hx hb dX4_comes_92 (by decide) ?_
  refine lv_iload hx hb dX4_comes_95 (lv_at hl 0 rfl) ?_
  refine lv_iadd hx hb dX4_comes_97 ?_
  refine lv_aload_n hx hb dX4_comes_98 rfl (lv_at hl 1 rfl) ?_
  refine ml_get hE hI 1 (by decide) q1986 rfl rfl dX4_comes_99 ?_
  refine lv_iconst (v := 3) hx hb dX4_comes_102 (by decide) ?_
  have hin : vp_in (3 : Int32) 13675 := by unfold vp_in; decide +kernel
  refine ml_iald hE hI 1 rfl rfl (show Int32.toNatClampNeg (3 : Int32) = 3 from by decide +kernel) hin dX4_comes_103 ?_
  obtain ⟨hin, hw⟩ := hw
  refine ml_iast hE hI 1 rfl rfl rfl hin dX4_comes_104 (fun H locs hI => ?_)
  refine lv_aload_n hx hb dX4_comes_105 rfl (lv_at hl 1 rfl) ?_
  refine ml_get hE hI 1 (by decide) q1986 rfl rfl dX4_comes_106 ?_
  refine lv_iconst (v := 1) hx hb dX4_comes_109 (by decide) ?_
  refine lv_iload hx hb dX4_comes_110 (lv_at hl 0 rfl) ?_
  refine lv_iconst (v := 1) hx hb dX4_comes_112 (by decide) ?_
  refine lv_iadd hx hb dX4_comes_113 ?_
  have hin : vp_in (1 : Int32) 13675 := by unfold vp_in; decide +kernel
  refine ml_iast hE hI 1 rfl rfl (show Int32.toNatClampNeg (1 : Int32) = 1 from by decide +kernel) hin dX4_comes_114 (fun H locs hI => ?_)
  refine lv_aload_n hx hb dX4_comes_115 rfl (lv_at hl 1 rfl) ?_
  refine ml_get hE hI 1 (by decide) q1986 rfl rfl dX4_comes_116 ?_
  refine lv_iconst (v := 2) hx hb dX4_comes_119 (by decide) ?_
  refine lv_dup2_11 hx hb dX4_comes_120 rfl rfl ?_
  have hin : vp_in (2 : Int32) 13675 := by unfold vp_in; decide +kernel
  refine ml_iald hE hI 1 rfl rfl (show Int32.toNatClampNeg (2 : Int32) = 2 from by decide +kernel) hin dX4_comes_121 ?_
  refine lv_iconst (v := 1) hx hb dX4_comes_122 (by decide) ?_
  refine lv_iadd hx hb dX4_comes_123 ?_
  have hin : vp_in (2 : Int32) 13675 := by unfold vp_in; decide +kernel
  refine ml_iast hE hI 1 rfl rfl (show Int32.toNatClampNeg (2 : Int32) = 2 from by decide +kernel) hin dX4_comes_124 (fun H locs hI => ?_)
  refine lv_aload_n hx hb dX4_comes_125 rfl (lv_at hl 1 rfl) ?_
  refine ml_get hE hI 1 (by decide) q1986 rfl rfl dX4_comes_126 ?_
  refine lv_bipush (v := 95) hx hb dX4_comes_129 (by decide) ?_
  refine lv_iload hx hb dX4_comes_131 (lv_at hl 0 rfl) ?_
  refine lv_iadd hx hb dX4_comes_133 ?_
  obtain ⟨hin, hw⟩ := hw
  refine ml_iald hE hI 1 rfl rfl rfl hin dX4_comes_134 ?_
  exact ml_iret hE hI hw dX4_comes_135

/-- MatchmakerRulesModel.tells(IIII)I -/
abbrev rm_X4_tells : Room := { frames := 4, cells := 0, slots := 0, locals := 78 }
def wp_X4_tells_L115 (Q : Int32 → (Nat → Int32) → (Nat → Nat → Int32) → (Nat → UInt32) → Prop) (F : Nat → Int32) (A : Nat → Nat → Int32) (L : Nat → UInt32) (x1 : Int32) (x2 : Int32) (x3 : Int32) (x4 : Int32) (x5 : Int32) : Prop := ((¬ x5 = (-1 : Int32) → (vp_in ((175 : Int32) + x5) 13675 ∧ (vp_in ((95 : Int32) + x5) 13675 ∧ wp_X4_done F (ml_up A 1 (Int32.toNatClampNeg ((175 : Int32) + x5)) (1 : Int32)) L ((ml_up A 1 (Int32.toNatClampNeg ((175 : Int32) + x5)) (1 : Int32)) 1 (Int32.toNatClampNeg ((95 : Int32) + x5))) (fun r6 F6 A6 L6 => Q r6 F6 A6 L6)))) ∧ (x5 = (-1 : Int32) → (vf_n32 (FP.fdiv (FP.i2f x4) (1120403456 : UInt32)) ∧ wp_X4_comes F A L x1 x2 x3 (1 : Int32) (FP.fdiv (FP.i2f x4) (1120403456 : UInt32)) (fun r7 F7 A7 L7 => wp_X4_done F7 A7 L7 r7 (fun r8 F8 A8 L8 => Q r8 F8 A8 L8)))))
set_option maxHeartbeats 4000000 in
theorem snd_X4_tells_L115 {p : Program} {l : Launch} {e : Env} {s : State} {m : MethodId} {args : Array Value} {below : List Frame} {meth : Method} {c : Code} {G : GG} {h0 : HH} {ad : Nat → Nat} (hE : hv_E p s m args meth c cX4_tells 6 (some FieldType.int) RX4 G h0) (Q : Int32 → (Nat → Int32) → (Nat → Nat → Int32) → (Nat → UInt32) → Prop) : ∀ (F : Nat → Int32) (A : Nat → Nat → Int32) (L : Nat → UInt32) (x1 : Int32) (x2 : Int32) (x3 : Int32) (x4 : Int32) (x5 : Int32), wp_X4_tells_L115 Q F A L x1 x2 x3 x4 x5 → ∀ (H : Heap) (locs : List Loc) (ls : Array Slot), ml_I G h0 s.heap ad F A L H locs → lv_has ls 6 [(0, .ref (ad 0)), (1, .int x1), (2, .int x2), (3, .int x3), (4, .int x4), (5, .int x5)] → W p l e (headSpec (ws_ yX4_tells cX4_tells 6 (some FieldType.int)) rm_X4_tells).room s m args below meth c H locs 0 0 (MQ below (hv_Qi G h0 s.heap.size (fun r => ml_Q G h0 ad (Q r))) args s 0 0 (hv_A h0 s.heap.size)) (F0 m 115 ls []) := by
  obtain ⟨⟨hx, hb, hml, hown, hts⟩, hr, hlocks, -⟩ := id hE
  intro F A L x1 x2 x3 x4 x5 hw H locs ls hI hl
  unfold wp_X4_tells_L115 at hw
  refine lv_iload hx hb dX4_tells_115 (lv_at hl 5 rfl) ?_
  refine lv_iconst (v := -1) hx hb dX4_tells_117 (by decide) ?_
  refine lv_icmp_ne (tgt := 140) hx hb dX4_tells_118 (by decide) (fun c_118 => ?_) (fun c_118 => ?_)
  · have hw := hw.1 c_118
    refine lv_aload_n hx hb dX4_tells_140 rfl (lv_at hl 0 rfl) ?_
    refine ml_get hE hI 1 (by decide) q1986 rfl rfl dX4_tells_141 ?_
    refine lv_sipush (v := 175) hx hb dX4_tells_144 (by decide) ?_
    refine lv_iload hx hb dX4_tells_147 (lv_at hl 5 rfl) ?_
    refine lv_iadd hx hb dX4_tells_149 ?_
    refine lv_iconst (v := 1) hx hb dX4_tells_150 (by decide) ?_
    obtain ⟨hin, hw⟩ := hw
    refine ml_iast hE hI 1 rfl rfl rfl hin dX4_tells_151 (fun H locs hI => ?_)
    refine lv_aload_n hx hb dX4_tells_152 rfl (lv_at hl 0 rfl) ?_
    refine lv_aload_n hx hb dX4_tells_153 rfl (lv_at hl 0 rfl) ?_
    refine ml_get hE hI 1 (by decide) q1986 rfl rfl dX4_tells_154 ?_
    refine lv_bipush (v := 95) hx hb dX4_tells_157 (by decide) ?_
    refine lv_iload hx hb dX4_tells_159 (lv_at hl 5 rfl) ?_
    refine lv_iadd hx hb dX4_tells_161 ?_
    obtain ⟨hin, hw⟩ := hw
    refine ml_iald hE hI 1 rfl rfl rfl hin dX4_tells_162 ?_
    refine ml_calli (As := [.int ((ml_up A 1 (Int32.toNatClampNeg ((175 : Int32) + x5)) (1 : Int32)) 1 (Int32.toNatClampNeg ((95 : Int32) + x5)))]) (rest := []) (cells := 0) (slots := 0) hE hI (fun h hS => snd_X4_done l G _ h ad F (ml_up A 1 (Int32.toNatClampNeg ((175 : Int32) + x5)) (1 : Int32)) L ((ml_up A 1 (Int32.toNatClampNeg ((175 : Int32) + x5)) (1 : Int32)) 1 (Int32.toNatClampNeg ((95 : Int32) + x5))) _ hS hw) (cwV 1 hts (lw_V q2161 q2163 qs46 q108 q2164) rfl rfl rfl (by decide +kernel) ⟨Nat.le_of_ble_eq_true rfl, Nat.le_of_ble_eq_true rfl⟩) rfl hl.1 (Nat.le_of_ble_eq_true rfl) dX4_tells_163 ⟨Nat.le_of_ble_eq_true rfl, Nat.le_of_ble_eq_true rfl⟩ (fun r6 F6 A6 L6 H locs hw hI => ?_)
    exact ml_iret hE hI hw dX4_tells_166
  · have hw := hw.2 c_118
    refine lv_aload_n hx hb dX4_tells_121 rfl (lv_at hl 0 rfl) ?_
    refine lv_aload_n hx hb dX4_tells_122 rfl (lv_at hl 0 rfl) ?_
    refine lv_iload_n hx hb dX4_tells_123 rfl (lv_at hl 1 rfl) ?_
    refine lv_iload_n hx hb dX4_tells_124 rfl (lv_at hl 2 rfl) ?_
    refine lv_iload_n hx hb dX4_tells_125 rfl (lv_at hl 3 rfl) ?_
    refine lv_iconst (v := 1) hx hb dX4_tells_126 (by decide) ?_
    refine lv_iload hx hb dX4_tells_127 (lv_at hl 4 rfl) ?_
    refine lv_i2f hx hb dX4_tells_129 ?_
    refine lv_ldcf (v := 1120403456) hx hb hown (hts _ q2226) dX4_tells_130 ?_
    obtain ⟨hne, hw⟩ := hw
    refine lv_fdiv hx hb dX4_tells_132 hne ?_
    refine ml_calli (As := [.int x1, .int x2, .int x3, .int (1 : Int32), .float (FP.fdiv (FP.i2f x4) (1120403456 : UInt32))]) (rest := [.ref (ad 0)]) (cells := 0) (slots := 0) hE hI (fun h hS => snd_X4_comes l G _ h ad F A L x1 x2 x3 (1 : Int32) (FP.fdiv (FP.i2f x4) (1120403456 : UInt32)) _ hS hw) (cwV 5 hts (lw_V q2227 q2229 qs60 q108 q2230) rfl rfl rfl (by decide +kernel) ⟨Nat.le_of_ble_eq_true rfl, Nat.le_of_ble_eq_true rfl⟩) rfl hl.1 (Nat.le_of_ble_eq_true rfl) dX4_tells_133 ⟨Nat.le_of_ble_eq_true rfl, Nat.le_of_ble_eq_true rfl⟩ (fun r7 F7 A7 L7 H locs hw hI => ?_)
    refine ml_calli (As := [.int r7]) (rest := []) (cells := 0) (slots := 0) hE hI (fun h hS => snd_X4_done l G _ h ad F7 A7 L7 r7 _ hS hw) (cwV 1 hts (lw_V q2161 q2163 qs46 q108 q2164) rfl rfl rfl (by decide +kernel) ⟨Nat.le_of_ble_eq_true rfl, Nat.le_of_ble_eq_true rfl⟩) rfl hl.1 (Nat.le_of_ble_eq_true rfl) dX4_tells_136 ⟨Nat.le_of_ble_eq_true rfl, Nat.le_of_ble_eq_true rfl⟩ (fun r8 F8 A8 L8 H locs hw hI => ?_)
    exact ml_iret hE hI hw dX4_tells_139
def wp_X4_tells_L90 (Q : Int32 → (Nat → Int32) → (Nat → Nat → Int32) → (Nat → UInt32) → Prop) (F : Nat → Int32) (A : Nat → Nat → Int32) (L : Nat → UInt32) (x1 : Int32) (x2 : Int32) (x3 : Int32) (x4 : Int32) (x5 : Int32) : Prop := ((¬ x5 = (-1 : Int32) → wp_X4_tells_L115 Q F A L x1 x2 x3 x4 x5) ∧ (x5 = (-1 : Int32) → ((¬ (A 1 1) = (20 : Int32) → wp_X4_tells_L115 Q F A L x1 x2 x3 x4 x5) ∧ ((A 1 1) = (20 : Int32) → wp_X4_refused F A L (1 : Int32) (20 : Int32) (fun r9 F9 A9 L9 => Q r9 F9 A9 L9)))))
set_option maxHeartbeats 4000000 in
theorem snd_X4_tells_L90 {p : Program} {l : Launch} {e : Env} {s : State} {m : MethodId} {args : Array Value} {below : List Frame} {meth : Method} {c : Code} {G : GG} {h0 : HH} {ad : Nat → Nat} (hE : hv_E p s m args meth c cX4_tells 6 (some FieldType.int) RX4 G h0) (Q : Int32 → (Nat → Int32) → (Nat → Nat → Int32) → (Nat → UInt32) → Prop) : ∀ (F : Nat → Int32) (A : Nat → Nat → Int32) (L : Nat → UInt32) (x1 : Int32) (x2 : Int32) (x3 : Int32) (x4 : Int32) (x5 : Int32), wp_X4_tells_L90 Q F A L x1 x2 x3 x4 x5 → ∀ (H : Heap) (locs : List Loc) (ls : Array Slot), ml_I G h0 s.heap ad F A L H locs → lv_has ls 6 [(0, .ref (ad 0)), (1, .int x1), (2, .int x2), (3, .int x3), (4, .int x4), (5, .int x5)] → W p l e (headSpec (ws_ yX4_tells cX4_tells 6 (some FieldType.int)) rm_X4_tells).room s m args below meth c H locs 0 0 (MQ below (hv_Qi G h0 s.heap.size (fun r => ml_Q G h0 ad (Q r))) args s 0 0 (hv_A h0 s.heap.size)) (F0 m 90 ls []) := by
  obtain ⟨⟨hx, hb, hml, hown, hts⟩, hr, hlocks, -⟩ := id hE
  intro F A L x1 x2 x3 x4 x5 hw H locs ls hI hl
  unfold wp_X4_tells_L90 at hw
  refine lv_iload hx hb dX4_tells_90 (lv_at hl 5 rfl) ?_
  refine lv_iconst (v := -1) hx hb dX4_tells_92 (by decide) ?_
  refine lv_icmp_ne (tgt := 115) hx hb dX4_tells_93 (by decide) (fun c_93 => ?_) (fun c_93 => ?_)
  · have hw := hw.1 c_93
    exact snd_X4_tells_L115 hE Q F A L x1 x2 x3 x4 x5 hw _ _ _ hI (lv_sub hl [0, 1, 2, 3, 4, 5] rfl)
  · have hw := hw.2 c_93
    refine lv_aload_n hx hb dX4_tells_96 rfl (lv_at hl 0 rfl) ?_
    refine ml_get hE hI 1 (by decide) q1986 rfl rfl dX4_tells_97 ?_
    refine lv_iconst (v := 1) hx hb dX4_tells_100 (by decide) ?_
    have hin : vp_in (1 : Int32) 13675 := by unfold vp_in; decide +kernel
    refine ml_iald hE hI 1 rfl rfl (show Int32.toNatClampNeg (1 : Int32) = 1 from by decide +kernel) hin dX4_tells_101 ?_
    refine lv_bipush (v := 20) hx hb dX4_tells_102 (by decide) ?_
    refine lv_icmp_ne (tgt := 115) hx hb dX4_tells_104 (by decide) (fun c_104 => ?_) (fun c_104 => ?_)
    · have hw := hw.1 c_104
      exact snd_X4_tells_L115 hE Q F A L x1 x2 x3 x4 x5 hw _ _ _ hI (lv_sub hl [0, 1, 2, 3, 4, 5] rfl)
    · have hw := hw.2 c_104
      refine lv_aload_n hx hb dX4_tells_107 rfl (lv_at hl 0 rfl) ?_
      refine lv_iconst (v := 1) hx hb dX4_tells_108 (by decide) ?_
      refine lv_bipush (v := 20) hx hb dX4_tells_109 (by decide) ?_
      refine ml_calli (As := [.int (1 : Int32), .int (20 : Int32)]) (rest := []) (cells := 0) (slots := 0) hE hI (fun h hS => snd_X4_refused l G _ h ad F A L (1 : Int32) (20 : Int32) _ hS hw) (cwV 2 hts (lw_V q2157 q2159 qs45 q108 q2160) rfl rfl rfl (by decide +kernel) ⟨Nat.le_of_ble_eq_true rfl, Nat.le_of_ble_eq_true rfl⟩) rfl hl.1 (Nat.le_of_ble_eq_true rfl) dX4_tells_111 ⟨Nat.le_of_ble_eq_true rfl, Nat.le_of_ble_eq_true rfl⟩ (fun r9 F9 A9 L9 H locs hw hI => ?_)
      exact ml_iret hE hI hw dX4_tells_114
def wp_X4_tells (F : Nat → Int32) (A : Nat → Nat → Int32) (L : Nat → UInt32) (x1 : Int32) (x2 : Int32) (x3 : Int32) (x4 : Int32) (Q : Int32 → (Nat → Int32) → (Nat → Nat → Int32) → (Nat → UInt32) → Prop) : Prop := wp_X4_in x1 (97 : Int32) (102 : Int32) (fun r1 => ((r1 = 0 → Q (-1 : Int32) F A L) ∧ (¬ r1 = 0 → wp_X4_in x2 (0 : Int32) (9 : Int32) (fun r2 => ((r2 = 0 → Q (-1 : Int32) F A L) ∧ (¬ r2 = 0 → wp_X4_in x3 (0 : Int32) (9 : Int32) (fun r3 => ((r3 = 0 → Q (-1 : Int32) F A L) ∧ (¬ r3 = 0 → wp_X4_in x4 (1 : Int32) (100 : Int32) (fun r4 => ((¬ r4 = 0 → wp_X4_slotOf3 F A L x1 x2 x3 (fun r5 F5 A5 L5 => ((r5 = (-1 : Int32) → wp_X4_tells_L90 Q F5 A5 L5 x1 x2 x3 x4 r5) ∧ (¬ r5 = (-1 : Int32) → (vp_in ((175 : Int32) + r5) 13675 ∧ ((¬ (A5 1 (Int32.toNatClampNeg ((175 : Int32) + r5))) = (1 : Int32) → wp_X4_tells_L90 Q F5 A5 L5 x1 x2 x3 x4 r5) ∧ ((A5 1 (Int32.toNatClampNeg ((175 : Int32) + r5))) = (1 : Int32) → (vp_in ((95 : Int32) + r5) 13675 ∧ wp_X4_refused F5 A5 L5 (2 : Int32) (A5 1 (Int32.toNatClampNeg ((95 : Int32) + r5))) (fun r10 F10 A10 L10 => Q r10 F10 A10 L10))))))))) ∧ (r4 = 0 → Q (-1 : Int32) F A L))))))))))))
set_option maxHeartbeats 4000000 in
theorem snd_X4_tells (l : Launch) (G : GG) (sz : Nat) (h : HH) (ad : Nat → Nat) (F : Nat → Int32) (A : Nat → Nat → Int32) (L : Nat → UInt32) (x1 : Int32) (x2 : Int32) (x3 : Int32) (x4 : Int32) (Q : Int32 → (Nat → Int32) → (Nat → Nat → Int32) → (Nat → UInt32) → Prop) (hS : ml_S G h ad F A L) (hw : wp_X4_tells F A L x1 x2 x3 x4 Q) : Met l yX4_tells (ws_ yX4_tells cX4_tells 6 (some FieldType.int)) rm_X4_tells (hv_Pc G h sz [.ref (ad 0), .int x1, .int x2, .int x3, .int x4]) (hv_Qi G h sz (fun r => ml_Q G h ad (Q r))) 0 0 (hv_A h sz) := by
  refine Met.ofW (cc := cX4_tells) (maxL := 6) (ret := (some FieldType.int)) (by decide) rfl ?_
  intro p e s m args below meth c s₁ B hml hv
  obtain ⟨rfl, rfl, hE, hI⟩ := hv_open B hml hv
  have hE : hv_E p s m ([.ref (ad 0), .int x1, .int x2, .int x3, .int x4] : List Value).toArray meth c cX4_tells 6 (some FieldType.int) RX4 G h := hE
  have hI := ml_I.start hI hS
  obtain ⟨⟨hx, hb, hml, hown, hts⟩, hr, hlocks, -⟩ := id hE
  have hl := lv_entry ([.ref (ad 0), .int x1, .int x2, .int x3, .int x4] : List Value) (n := 6) (Nat.le_of_ble_eq_true rfl)
  rw [lg_entry_eq]
  generalize (lg_sl ([.ref (ad 0), .int x1, .int x2, .int x3, .int x4] : List Value) ++ List.replicate (6 - (lg_sl ([.ref (ad 0), .int x1, .int x2, .int x3, .int x4] : List Value)).length) Slot.unset).toArray = ls at hl ⊢
  have hl : lv_has ls 6 [(0, .ref (ad 0)), (1, .int x1), (2, .int x2), (3, .int x3), (4, .int x4)] := hl
  unfold wp_X4_tells at hw
  refine lv_iload_n hx hb dX4_tells_0 rfl (lv_at hl 1 rfl) ?_
  refine lv_bipush (v := 97) hx hb dX4_tells_1 (by decide) ?_
  refine lv_bipush (v := 102) hx hb dX4_tells_3 (by decide) ?_
  refine ml_calls (As := [.int x1, .int (97 : Int32), .int (102 : Int32)]) (rest := []) (cells := 0) (slots := 0) hE hI (fun h => snd_X4_in l G _ h x1 (97 : Int32) (102 : Int32) _ hw) (va_cwS 3 hts (lw_S q2130 q2131 q108 q2132) rfl rfl rfl (by decide +kernel) ⟨Nat.le_of_ble_eq_true rfl, Nat.le_of_ble_eq_true rfl⟩) rfl hl.1 (Nat.le_of_ble_eq_true rfl) dX4_tells_5 ⟨Nat.le_of_ble_eq_true rfl, Nat.le_of_ble_eq_true rfl⟩ (fun r1 H locs hw hI => ?_)
  refine lv_if_eq (tgt := 42) hx hb dX4_tells_8 (by decide) (fun c_8 => ?_) (fun c_8 => ?_)
  · have hw := hw.1 c_8
    refine lv_iconst (v := -1) hx hb dX4_tells_42 (by decide) ?_
    exact ml_iret hE hI hw dX4_tells_43
  · have hw := hw.2 c_8
    refine lv_iload_n hx hb dX4_tells_11 rfl (lv_at hl 2 rfl) ?_
    refine lv_iconst (v := 0) hx hb dX4_tells_12 (by decide) ?_
    refine lv_bipush (v := 9) hx hb dX4_tells_13 (by decide) ?_
    refine ml_calls (As := [.int x2, .int (0 : Int32), .int (9 : Int32)]) (rest := []) (cells := 0) (slots := 0) hE hI (fun h => snd_X4_in l G _ h x2 (0 : Int32) (9 : Int32) _ hw) (va_cwS 3 hts (lw_S q2130 q2131 q108 q2132) rfl rfl rfl (by decide +kernel) ⟨Nat.le_of_ble_eq_true rfl, Nat.le_of_ble_eq_true rfl⟩) rfl hl.1 (Nat.le_of_ble_eq_true rfl) dX4_tells_15 ⟨Nat.le_of_ble_eq_true rfl, Nat.le_of_ble_eq_true rfl⟩ (fun r2 H locs hw hI => ?_)
    refine lv_if_eq (tgt := 42) hx hb dX4_tells_18 (by decide) (fun c_18 => ?_) (fun c_18 => ?_)
    · have hw := hw.1 c_18
      refine lv_iconst (v := -1) hx hb dX4_tells_42 (by decide) ?_
      exact ml_iret hE hI hw dX4_tells_43
    · have hw := hw.2 c_18
      refine lv_iload_n hx hb dX4_tells_21 rfl (lv_at hl 3 rfl) ?_
      refine lv_iconst (v := 0) hx hb dX4_tells_22 (by decide) ?_
      refine lv_bipush (v := 9) hx hb dX4_tells_23 (by decide) ?_
      refine ml_calls (As := [.int x3, .int (0 : Int32), .int (9 : Int32)]) (rest := []) (cells := 0) (slots := 0) hE hI (fun h => snd_X4_in l G _ h x3 (0 : Int32) (9 : Int32) _ hw) (va_cwS 3 hts (lw_S q2130 q2131 q108 q2132) rfl rfl rfl (by decide +kernel) ⟨Nat.le_of_ble_eq_true rfl, Nat.le_of_ble_eq_true rfl⟩) rfl hl.1 (Nat.le_of_ble_eq_true rfl) dX4_tells_25 ⟨Nat.le_of_ble_eq_true rfl, Nat.le_of_ble_eq_true rfl⟩ (fun r3 H locs hw hI => ?_)
      refine lv_if_eq (tgt := 42) hx hb dX4_tells_28 (by decide) (fun c_28 => ?_) (fun c_28 => ?_)
      · have hw := hw.1 c_28
        refine lv_iconst (v := -1) hx hb dX4_tells_42 (by decide) ?_
        exact ml_iret hE hI hw dX4_tells_43
      · have hw := hw.2 c_28
        refine lv_iload hx hb dX4_tells_31 (lv_at hl 4 rfl) ?_
        refine lv_iconst (v := 1) hx hb dX4_tells_33 (by decide) ?_
        refine lv_bipush (v := 100) hx hb dX4_tells_34 (by decide) ?_
        refine ml_calls (As := [.int x4, .int (1 : Int32), .int (100 : Int32)]) (rest := []) (cells := 0) (slots := 0) hE hI (fun h => snd_X4_in l G _ h x4 (1 : Int32) (100 : Int32) _ hw) (va_cwS 3 hts (lw_S q2130 q2131 q108 q2132) rfl rfl rfl (by decide +kernel) ⟨Nat.le_of_ble_eq_true rfl, Nat.le_of_ble_eq_true rfl⟩) rfl hl.1 (Nat.le_of_ble_eq_true rfl) dX4_tells_36 ⟨Nat.le_of_ble_eq_true rfl, Nat.le_of_ble_eq_true rfl⟩ (fun r4 H locs hw hI => ?_)
        refine lv_if_ne (tgt := 44) hx hb dX4_tells_39 (by decide) (fun c_39 => ?_) (fun c_39 => ?_)
        · have hw := hw.1 c_39
          refine lv_aload_n hx hb dX4_tells_44 rfl (lv_at hl 0 rfl) ?_
          refine lv_iload_n hx hb dX4_tells_45 rfl (lv_at hl 1 rfl) ?_
          refine lv_iload_n hx hb dX4_tells_46 rfl (lv_at hl 2 rfl) ?_
          refine lv_iload_n hx hb dX4_tells_47 rfl (lv_at hl 3 rfl) ?_
          refine ml_calli (As := [.int x1, .int x2, .int x3]) (rest := []) (cells := 0) (slots := 0) hE hI (fun h hS => snd_X4_slotOf3 l G _ h ad F A L x1 x2 x3 _ hS hw) (cwV 3 hts (lw_V q2222 q2224 qs59 q108 q2225) rfl rfl rfl (by decide +kernel) ⟨Nat.le_of_ble_eq_true rfl, Nat.le_of_ble_eq_true rfl⟩) rfl hl.1 (Nat.le_of_ble_eq_true rfl) dX4_tells_48 ⟨Nat.le_of_ble_eq_true rfl, Nat.le_of_ble_eq_true rfl⟩ (fun r5 F5 A5 L5 H locs hw hI => ?_)
          refine lv_istore (lv' := [(5, .int r5), (0, .ref (ad 0)), (1, .int x1), (2, .int x2), (3, .int x3), (4, .int x4)]) hx hb dX4_tells_51 hl (by decide) rfl (fun ls hl => ?_)
          refine lv_iload hx hb dX4_tells_53 (lv_at hl 0 rfl) ?_
          refine lv_iconst (v := -1) hx hb dX4_tells_55 (by decide) ?_
          refine lv_icmp_eq (tgt := 90) hx hb dX4_tells_56 (by decide) (fun c_56 => ?_) (fun c_56 => ?_)
          · have hw := hw.1 c_56
            exact snd_X4_tells_L90 hE Q F5 A5 L5 x1 x2 x3 x4 r5 hw _ _ _ hI (lv_sub hl [1, 2, 3, 4, 5, 0] rfl)
          · have hw := hw.2 c_56
            refine lv_aload_n hx hb dX4_tells_59 rfl (lv_at hl 1 rfl) ?_
            refine ml_get hE hI 1 (by decide) q1986 rfl rfl dX4_tells_60 ?_
            refine lv_sipush (v := 175) hx hb dX4_tells_63 (by decide) ?_
            refine lv_iload hx hb dX4_tells_66 (lv_at hl 0 rfl) ?_
            refine lv_iadd hx hb dX4_tells_68 ?_
            obtain ⟨hin, hw⟩ := hw
            refine ml_iald hE hI 1 rfl rfl rfl hin dX4_tells_69 ?_
            refine lv_iconst (v := 1) hx hb dX4_tells_70 (by decide) ?_
            refine lv_icmp_ne (tgt := 90) hx hb dX4_tells_71 (by decide) (fun c_71 => ?_) (fun c_71 => ?_)
            · have hw := hw.1 c_71
              exact snd_X4_tells_L90 hE Q F5 A5 L5 x1 x2 x3 x4 r5 hw _ _ _ hI (lv_sub hl [1, 2, 3, 4, 5, 0] rfl)
            · have hw := hw.2 c_71
              refine lv_aload_n hx hb dX4_tells_74 rfl (lv_at hl 1 rfl) ?_
              refine lv_iconst (v := 2) hx hb dX4_tells_75 (by decide) ?_
              refine lv_aload_n hx hb dX4_tells_76 rfl (lv_at hl 1 rfl) ?_
              refine ml_get hE hI 1 (by decide) q1986 rfl rfl dX4_tells_77 ?_
              refine lv_bipush (v := 95) hx hb dX4_tells_80 (by decide) ?_
              refine lv_iload hx hb dX4_tells_82 (lv_at hl 0 rfl) ?_
              refine lv_iadd hx hb dX4_tells_84 ?_
              obtain ⟨hin, hw⟩ := hw
              refine ml_iald hE hI 1 rfl rfl rfl hin dX4_tells_85 ?_
              refine ml_calli (As := [.int (2 : Int32), .int (A5 1 (Int32.toNatClampNeg ((95 : Int32) + r5)))]) (rest := []) (cells := 0) (slots := 0) hE hI (fun h hS => snd_X4_refused l G _ h ad F5 A5 L5 (2 : Int32) (A5 1 (Int32.toNatClampNeg ((95 : Int32) + r5))) _ hS hw) (cwV 2 hts (lw_V q2157 q2159 qs45 q108 q2160) rfl rfl rfl (by decide +kernel) ⟨Nat.le_of_ble_eq_true rfl, Nat.le_of_ble_eq_true rfl⟩) rfl hl.1 (Nat.le_of_ble_eq_true rfl) dX4_tells_86 ⟨Nat.le_of_ble_eq_true rfl, Nat.le_of_ble_eq_true rfl⟩ (fun r10 F10 A10 L10 H locs hw hI => ?_)
              exact ml_iret hE hI hw dX4_tells_89
        · have hw := hw.2 c_39
          refine lv_iconst (v := -1) hx hb dX4_tells_42 (by decide) ?_
          exact ml_iret hE hI hw dX4_tells_43
