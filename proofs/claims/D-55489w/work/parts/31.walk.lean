/-! the reference's methods, walked (by gen/model.py) -/
set_option maxRecDepth 100000
/-- MatchmakerRulesModel.bitsAt(II)I -/
abbrev rm_X4_bitsAt : Room := { frames := 3, cells := 0, slots := 0, locals := 52 }
def wp_X4_bitsAt (F : Nat → Int32) (A : Nat → Nat → Int32) (L : Nat → UInt32) (x1 : Int32) (x2 : Int32) (Q : Int32 → (Nat → Int32) → (Nat → Nat → Int32) → (Nat → UInt32) → Prop) : Prop := (vp_in x1 2 ∧ ((¬ (A 21 (Int32.toNatClampNeg x1)) = (1 : Int32) → (vp_in (((20 : Int32) * x1) + x2) 40 ∧ wp_J23_floatToIntBits (L (Int32.toNatClampNeg (((20 : Int32) * x1) + x2))) (fun r1 => Q r1 F A L))) ∧ ((A 21 (Int32.toNatClampNeg x1)) = (1 : Int32) → (vp_in (((20 : Int32) * x1) + x2) 40 ∧ Q (A 19 (Int32.toNatClampNeg (((20 : Int32) * x1) + x2))) F A L))))
set_option maxHeartbeats 4000000 in
theorem snd_X4_bitsAt (l : Launch) (G : GG) (sz : Nat) (h : HH) (ad : Nat → Nat) (F : Nat → Int32) (A : Nat → Nat → Int32) (L : Nat → UInt32) (x1 : Int32) (x2 : Int32) (Q : Int32 → (Nat → Int32) → (Nat → Nat → Int32) → (Nat → UInt32) → Prop) (hS : ml_S G h ad F A L) (hw : wp_X4_bitsAt F A L x1 x2 Q) : Met l yX4_bitsAt (ws_ yX4_bitsAt cX4_bitsAt 3 (some FieldType.int)) rm_X4_bitsAt (hv_Pc G h sz [.ref (ad 0), .int x1, .int x2]) (hv_Qi G h sz (fun r => ml_Q G h ad (Q r))) 0 0 (hv_A h sz) := by
  refine Met.ofW (cc := cX4_bitsAt) (maxL := 3) (ret := (some FieldType.int)) (by decide) rfl ?_
  intro p e s m args below meth c s₁ B hml hv
  obtain ⟨rfl, rfl, hE, hI⟩ := hv_open B hml hv
  have hE : hv_E p s m ([.ref (ad 0), .int x1, .int x2] : List Value).toArray meth c cX4_bitsAt 3 (some FieldType.int) RX4 G h := hE
  have hI := ml_I.start hI hS
  obtain ⟨⟨hx, hb, hml, hown, hts⟩, hr, hlocks, -⟩ := id hE
  have hl := lv_entry ([.ref (ad 0), .int x1, .int x2] : List Value) (n := 3) (Nat.le_of_ble_eq_true rfl)
  rw [lg_entry_eq]
  generalize (lg_sl ([.ref (ad 0), .int x1, .int x2] : List Value) ++ List.replicate (3 - (lg_sl ([.ref (ad 0), .int x1, .int x2] : List Value)).length) Slot.unset).toArray = ls at hl ⊢
  have hl : lv_has ls 3 [(0, .ref (ad 0)), (1, .int x1), (2, .int x2)] := hl
  unfold wp_X4_bitsAt at hw
  refine lv_aload_n hx hb dX4_bitsAt_0 rfl (lv_at hl 0 rfl) ?_
  refine ml_get hE hI 21 (by decide) q2006 rfl rfl dX4_bitsAt_1 ?_
  refine lv_iload_n hx hb dX4_bitsAt_4 rfl (lv_at hl 1 rfl) ?_
  obtain ⟨hin, hw⟩ := hw
  refine ml_iald hE hI 21 rfl rfl rfl hin dX4_bitsAt_5 ?_
  refine lv_iconst (v := 1) hx hb dX4_bitsAt_6 (by decide) ?_
  refine lv_icmp_ne (tgt := 24) hx hb dX4_bitsAt_7 (by decide) (fun c_7 => ?_) (fun c_7 => ?_)
  · have hw := hw.1 c_7
    refine lv_aload_n hx hb dX4_bitsAt_24 rfl (lv_at hl 0 rfl) ?_
    refine ml_get hE hI 22 (by decide) q2007 rfl rfl dX4_bitsAt_25 ?_
    refine lv_bipush (v := 20) hx hb dX4_bitsAt_28 (by decide) ?_
    refine lv_iload_n hx hb dX4_bitsAt_30 rfl (lv_at hl 1 rfl) ?_
    refine lv_imul hx hb dX4_bitsAt_31 ?_
    refine lv_iload_n hx hb dX4_bitsAt_32 rfl (lv_at hl 2 rfl) ?_
    refine lv_iadd hx hb dX4_bitsAt_33 ?_
    obtain ⟨hin, hw⟩ := hw
    refine ml_fald hE hI hin dX4_bitsAt_34 ?_
    refine ml_calls (As := [.float (L (Int32.toNatClampNeg (((20 : Int32) * x1) + x2)))]) (rest := []) (cells := 0) (slots := 0) hE hI (fun h => snd_J23_floatToIntBits l G _ h (L (Int32.toNatClampNeg (((20 : Int32) * x1) + x2))) _ hw) (va_cwS 1 hts (lw_S q2231 q1398 q134 q1399) rfl rfl rfl (by decide +kernel) ⟨Nat.le_of_ble_eq_true rfl, Nat.le_of_ble_eq_true rfl⟩) rfl hl.1 (Nat.le_of_ble_eq_true rfl) dX4_bitsAt_35 ⟨Nat.le_of_ble_eq_true rfl, Nat.le_of_ble_eq_true rfl⟩ (fun r1 H locs hw hI => ?_)
    exact ml_iret hE hI hw dX4_bitsAt_38
  · have hw := hw.2 c_7
    refine lv_aload_n hx hb dX4_bitsAt_10 rfl (lv_at hl 0 rfl) ?_
    refine ml_get hE hI 19 (by decide) q2004 rfl rfl dX4_bitsAt_11 ?_
    refine lv_bipush (v := 20) hx hb dX4_bitsAt_14 (by decide) ?_
    refine lv_iload_n hx hb dX4_bitsAt_16 rfl (lv_at hl 1 rfl) ?_
    refine lv_imul hx hb dX4_bitsAt_17 ?_
    refine lv_iload_n hx hb dX4_bitsAt_18 rfl (lv_at hl 2 rfl) ?_
    refine lv_iadd hx hb dX4_bitsAt_19 ?_
    obtain ⟨hin, hw⟩ := hw
    refine ml_iald hE hI 19 rfl rfl rfl hin dX4_bitsAt_20 ?_
    refine lv_goto (tgt := 38) hx hb dX4_bitsAt_21 (by decide) ?_
    exact ml_iret hE hI hw dX4_bitsAt_38

/-- MatchmakerRulesModel.copyRow(II)I -/
abbrev rm_X4_copyRow : Room := { frames := 4, cells := 0, slots := 0, locals := 74 }
def wp_X4_copyRow_L135 (Q : Int32 → (Nat → Int32) → (Nat → Nat → Int32) → (Nat → UInt32) → Prop) (k105 : (Nat → Int32) → (Nat → Nat → Int32) → (Nat → UInt32) → (Int32) → (Int32) → (Int32) → (Int32) → (Int32) → Prop) (F : Nat → Int32) (A : Nat → Nat → Int32) (L : Nat → UInt32) (x1 : Int32) (x2 : Int32) (x3 : Int32) (x5 : Int32) (t0 : Int32) (t1 : Int32) : Prop := (vp_in (((20 : Int32) * x1) + x5) 40 ∧ (vp_in (((20 : Int32) * x3) + x5) 40 ∧ (vp_in (((20 : Int32) * x1) + x5) 40 ∧ (vp_in (((20 : Int32) * x3) + x5) 40 ∧ k105 F (ml_up A 19 (Int32.toNatClampNeg (((20 : Int32) * x3) + x5)) (A 19 (Int32.toNatClampNeg (((20 : Int32) * x1) + x5)))) (vf_upd L (Int32.toNatClampNeg (((20 : Int32) * x3) + x5)) (L (Int32.toNatClampNeg (((20 : Int32) * x1) + x5)))) x1 x2 x3 (t0 + t1) (x5 + (1 : Int32))))))
set_option maxHeartbeats 4000000 in
theorem snd_X4_copyRow_L135 {p : Program} {l : Launch} {e : Env} {s : State} {m : MethodId} {args : Array Value} {below : List Frame} {meth : Method} {c : Code} {G : GG} {h0 : HH} {ad : Nat → Nat} (hE : hv_E p s m args meth c cX4_copyRow 6 (some FieldType.int) RX4 G h0) (Q : Int32 → (Nat → Int32) → (Nat → Nat → Int32) → (Nat → UInt32) → Prop) (k105 : (Nat → Int32) → (Nat → Nat → Int32) → (Nat → UInt32) → (Int32) → (Int32) → (Int32) → (Int32) → (Int32) → Prop) (hk105 : ∀ (F : Nat → Int32) (A : Nat → Nat → Int32) (L : Nat → UInt32) (x1 : Int32) (x2 : Int32) (x3 : Int32) (x4 : Int32) (x5 : Int32) (H : Heap) (locs : List Loc) (ls : Array Slot), ml_I G h0 s.heap ad F A L H locs → lv_has ls 6 [(0, .ref (ad 0)), (1, .int x1), (2, .int x2), (3, .int x3), (4, .int x4), (5, .int x5)] → k105 F A L x1 x2 x3 x4 x5 → W p l e (headSpec (ws_ yX4_copyRow cX4_copyRow 6 (some FieldType.int)) rm_X4_copyRow).room s m args below meth c H locs 0 0 (MQ below (hv_Qi G h0 s.heap.size (fun r => ml_Q G h0 ad (Q r))) args s 0 0 (hv_A h0 s.heap.size)) (F0 m 105 ls [])) : ∀ (F : Nat → Int32) (A : Nat → Nat → Int32) (L : Nat → UInt32) (x1 : Int32) (x2 : Int32) (x3 : Int32) (x5 : Int32) (t0 : Int32) (t1 : Int32), wp_X4_copyRow_L135 Q k105 F A L x1 x2 x3 x5 t0 t1 → ∀ (H : Heap) (locs : List Loc) (ls : Array Slot), ml_I G h0 s.heap ad F A L H locs → lv_has ls 6 [(0, .ref (ad 0)), (1, .int x1), (2, .int x2), (3, .int x3), (5, .int x5)] → W p l e (headSpec (ws_ yX4_copyRow cX4_copyRow 6 (some FieldType.int)) rm_X4_copyRow).room s m args below meth c H locs 0 0 (MQ below (hv_Qi G h0 s.heap.size (fun r => ml_Q G h0 ad (Q r))) args s 0 0 (hv_A h0 s.heap.size)) (F0 m 135 ls [.int t1, .int t0]) := by
  obtain ⟨⟨hx, hb, hml, hown, hts⟩, hr, hlocks, -⟩ := id hE
  intro F A L x1 x2 x3 x5 t0 t1 hw H locs ls hI hl
  unfold wp_X4_copyRow_L135 at hw
  refine lv_iadd hx hb dX4_copyRow_135 ?_
  refine lv_istore (lv' := [(4, .int (t0 + t1)), (0, .ref (ad 0)), (1, .int x1), (2, .int x2), (3, .int x3), (5, .int x5)]) hx hb dX4_copyRow_136 hl (by decide) rfl (fun ls hl => ?_)
  refine lv_aload_n hx hb dX4_copyRow_138 rfl (lv_at hl 1 rfl) ?_
  refine ml_get hE hI 19 (by decide) q2004 rfl rfl dX4_copyRow_139 ?_
  refine lv_bipush (v := 20) hx hb dX4_copyRow_142 (by decide) ?_
  refine lv_iload_n hx hb dX4_copyRow_144 rfl (lv_at hl 4 rfl) ?_
  refine lv_imul hx hb dX4_copyRow_145 ?_
  refine lv_iload hx hb dX4_copyRow_146 (lv_at hl 5 rfl) ?_
  refine lv_iadd hx hb dX4_copyRow_148 ?_
  refine lv_aload_n hx hb dX4_copyRow_149 rfl (lv_at hl 1 rfl) ?_
  refine ml_get hE hI 19 (by decide) q2004 rfl rfl dX4_copyRow_150 ?_
  refine lv_bipush (v := 20) hx hb dX4_copyRow_153 (by decide) ?_
  refine lv_iload_n hx hb dX4_copyRow_155 rfl (lv_at hl 2 rfl) ?_
  refine lv_imul hx hb dX4_copyRow_156 ?_
  refine lv_iload hx hb dX4_copyRow_157 (lv_at hl 5 rfl) ?_
  refine lv_iadd hx hb dX4_copyRow_159 ?_
  obtain ⟨hin, hw⟩ := hw
  refine ml_iald hE hI 19 rfl rfl rfl hin dX4_copyRow_160 ?_
  obtain ⟨hin, hw⟩ := hw
  refine ml_iast hE hI 19 rfl rfl rfl hin dX4_copyRow_161 (fun H locs hI => ?_)
  refine lv_aload_n hx hb dX4_copyRow_162 rfl (lv_at hl 1 rfl) ?_
  refine ml_get hE hI 22 (by decide) q2007 rfl rfl dX4_copyRow_163 ?_
  refine lv_bipush (v := 20) hx hb dX4_copyRow_166 (by decide) ?_
  refine lv_iload_n hx hb dX4_copyRow_168 rfl (lv_at hl 4 rfl) ?_
  refine lv_imul hx hb dX4_copyRow_169 ?_
  refine lv_iload hx hb dX4_copyRow_170 (lv_at hl 5 rfl) ?_
  refine lv_iadd hx hb dX4_copyRow_172 ?_
  refine lv_aload_n hx hb dX4_copyRow_173 rfl (lv_at hl 1 rfl) ?_
  refine ml_get hE hI 22 (by decide) q2007 rfl rfl dX4_copyRow_174 ?_
  refine lv_bipush (v := 20) hx hb dX4_copyRow_177 (by decide) ?_
  refine lv_iload_n hx hb dX4_copyRow_179 rfl (lv_at hl 2 rfl) ?_
  refine lv_imul hx hb dX4_copyRow_180 ?_
  refine lv_iload hx hb dX4_copyRow_181 (lv_at hl 5 rfl) ?_
  refine lv_iadd hx hb dX4_copyRow_183 ?_
  obtain ⟨hin, hw⟩ := hw
  refine ml_fald hE hI hin dX4_copyRow_184 ?_
  obtain ⟨hin, hw⟩ := hw
  refine ml_fast hE hI hin dX4_copyRow_185 (fun H locs hI => ?_)
  refine lv_iinc (v := (x5 + (1 : Int32))) (lv' := [(5, .int (x5 + (1 : Int32))), (4, .int (t0 + t1)), (0, .ref (ad 0)), (1, .int x1), (2, .int x2), (3, .int x3)]) hx hb dX4_copyRow_186 hl (k := 5) rfl rfl (by decide) rfl (fun ls hl => ?_)
  refine lv_goto (tgt := 105) hx hb dX4_copyRow_189 (by decide) ?_
  exact hk105 F (ml_up A 19 (Int32.toNatClampNeg (((20 : Int32) * x3) + x5)) (A 19 (Int32.toNatClampNeg (((20 : Int32) * x1) + x5)))) (vf_upd L (Int32.toNatClampNeg (((20 : Int32) * x3) + x5)) (L (Int32.toNatClampNeg (((20 : Int32) * x1) + x5)))) x1 x2 x3 (t0 + t1) (x5 + (1 : Int32)) _ _ _ hI (lv_sub hl [2, 3, 4, 5, 1, 0] rfl) hw
def wp_X4_copyRow_L105 (Q : Int32 → (Nat → Int32) → (Nat → Nat → Int32) → (Nat → UInt32) → Prop) : Nat → (Nat → Int32) → (Nat → Nat → Int32) → (Nat → UInt32) → (Int32) → (Int32) → (Int32) → (Int32) → (Int32) → Prop
  | 0, _, _, _, _, _, _, _, _ => False
  | n + 1, F, A, L, x1, x2, x3, x4, x5 => ((x2 ≤ x5 → Q x4 F A L) ∧ (¬ x2 ≤ x5 → wp_X4_bitsAt F A L x1 x5 (fun r5 F5 A5 L5 => wp_X4_bitsAt F5 A5 L5 x3 x5 (fun r6 F6 A6 L6 => ((¬ r5 = r6 → wp_X4_copyRow_L135 Q (fun F A L x1 x2 x3 x4 x5 => wp_X4_copyRow_L105 Q n F A L x1 x2 x3 x4 x5) F6 A6 L6 x1 x2 x3 x5 x4 (1 : Int32)) ∧ (r5 = r6 → wp_X4_copyRow_L135 Q (fun F A L x1 x2 x3 x4 x5 => wp_X4_copyRow_L105 Q n F A L x1 x2 x3 x4 x5) F6 A6 L6 x1 x2 x3 x5 x4 (0 : Int32)))))))
set_option maxHeartbeats 4000000 in
theorem snd_X4_copyRow_L105 {p : Program} {l : Launch} {e : Env} {s : State} {m : MethodId} {args : Array Value} {below : List Frame} {meth : Method} {c : Code} {G : GG} {h0 : HH} {ad : Nat → Nat} (hE : hv_E p s m args meth c cX4_copyRow 6 (some FieldType.int) RX4 G h0) (Q : Int32 → (Nat → Int32) → (Nat → Nat → Int32) → (Nat → UInt32) → Prop) : ∀ (n : Nat) (F : Nat → Int32) (A : Nat → Nat → Int32) (L : Nat → UInt32) (x1 : Int32) (x2 : Int32) (x3 : Int32) (x4 : Int32) (x5 : Int32), wp_X4_copyRow_L105 Q n F A L x1 x2 x3 x4 x5 → ∀ (H : Heap) (locs : List Loc) (ls : Array Slot), ml_I G h0 s.heap ad F A L H locs → lv_has ls 6 [(0, .ref (ad 0)), (1, .int x1), (2, .int x2), (3, .int x3), (4, .int x4), (5, .int x5)] → W p l e (headSpec (ws_ yX4_copyRow cX4_copyRow 6 (some FieldType.int)) rm_X4_copyRow).room s m args below meth c H locs 0 0 (MQ below (hv_Qi G h0 s.heap.size (fun r => ml_Q G h0 ad (Q r))) args s 0 0 (hv_A h0 s.heap.size)) (F0 m 105 ls []) := by
  obtain ⟨⟨hx, hb, hml, hown, hts⟩, hr, hlocks, -⟩ := id hE
  intro n
  induction n with
  | zero => intro F A L x1 x2 x3 x4 x5 hw; exact hw.elim
  | succ n ih =>
    intro F A L x1 x2 x3 x4 x5 hw H locs ls hI hl
    unfold wp_X4_copyRow_L105 at hw
    refine lv_iload hx hb dX4_copyRow_105 (lv_at hl 5 rfl) ?_
    refine lv_iload_n hx hb dX4_copyRow_107 rfl (lv_at hl 2 rfl) ?_
    refine lv_icmp_ge (tgt := 192) hx hb dX4_copyRow_108 (by decide) (fun c_108 => ?_) (fun c_108 => ?_)
    · have hw := hw.1 c_108
      refine lv_iload hx hb dX4_copyRow_192 (lv_at hl 4 rfl) ?_
      exact ml_iret hE hI hw dX4_copyRow_194
    · have hw := hw.2 c_108
      refine lv_iload hx hb dX4_copyRow_111 (lv_at hl 4 rfl) ?_
      refine lv_aload_n hx hb dX4_copyRow_113 rfl (lv_at hl 0 rfl) ?_
      refine lv_iload_n hx hb dX4_copyRow_114 rfl (lv_at hl 1 rfl) ?_
      refine lv_iload hx hb dX4_copyRow_115 (lv_at hl 5 rfl) ?_
      refine ml_calli (As := [.int x1, .int x5]) (rest := [.int x4]) (cells := 0) (slots := 0) hE hI (fun h hS => snd_X4_bitsAt l G _ h ad F A L x1 x5 _ hS hw) (cwV 2 hts (lw_V q2459 q2461 qs92 q108 q2462) rfl rfl rfl (by decide +kernel) ⟨Nat.le_of_ble_eq_true rfl, Nat.le_of_ble_eq_true rfl⟩) rfl hl.1 (Nat.le_of_ble_eq_true rfl) dX4_copyRow_117 ⟨Nat.le_of_ble_eq_true rfl, Nat.le_of_ble_eq_true rfl⟩ (fun r5 F5 A5 L5 H locs hw hI => ?_)
      refine lv_aload_n hx hb dX4_copyRow_120 rfl (lv_at hl 0 rfl) ?_
      refine lv_iload_n hx hb dX4_copyRow_121 rfl (lv_at hl 3 rfl) ?_
      refine lv_iload hx hb dX4_copyRow_122 (lv_at hl 5 rfl) ?_
      refine ml_calli (As := [.int x3, .int x5]) (rest := [.int r5, .int x4]) (cells := 0) (slots := 0) hE hI (fun h hS => snd_X4_bitsAt l G _ h ad F5 A5 L5 x3 x5 _ hS hw) (cwV 2 hts (lw_V q2459 q2461 qs92 q108 q2462) rfl rfl rfl (by decide +kernel) ⟨Nat.le_of_ble_eq_true rfl, Nat.le_of_ble_eq_true rfl⟩) rfl hl.1 (Nat.le_of_ble_eq_true rfl) dX4_copyRow_124 ⟨Nat.le_of_ble_eq_true rfl, Nat.le_of_ble_eq_true rfl⟩ (fun r6 F6 A6 L6 H locs hw hI => ?_)
      refine lv_icmp_ne (tgt := 134) hx hb dX4_copyRow_127 (by decide) (fun c_127 => ?_) (fun c_127 => ?_)
      · have hw := hw.1 c_127
        refine lv_iconst (v := 1) hx hb dX4_copyRow_134 (by decide) ?_
        exact snd_X4_copyRow_L135 hE Q (fun F A L x1 x2 x3 x4 x5 => wp_X4_copyRow_L105 Q n F A L x1 x2 x3 x4 x5) (fun F A L x1 x2 x3 x4 x5 H locs ls hI hl hw => ih F A L x1 x2 x3 x4 x5 hw H locs ls hI hl) F6 A6 L6 x1 x2 x3 x5 x4 (1 : Int32) hw _ _ _ hI (lv_sub hl [0, 1, 2, 3, 5] rfl)
      · have hw := hw.2 c_127
        refine lv_iconst (v := 0) hx hb dX4_copyRow_130 (by decide) ?_
        refine lv_goto (tgt := 135) hx hb dX4_copyRow_131 (by decide) ?_
        exact snd_X4_copyRow_L135 hE Q (fun F A L x1 x2 x3 x4 x5 => wp_X4_copyRow_L105 Q n F A L x1 x2 x3 x4 x5) (fun F A L x1 x2 x3 x4 x5 H locs ls hI hl hw => ih F A L x1 x2 x3 x4 x5 hw H locs ls hI hl) F6 A6 L6 x1 x2 x3 x5 x4 (0 : Int32) hw _ _ _ hI (lv_sub hl [0, 1, 2, 3, 5] rfl)
def wp_X4_copyRow (F : Nat → Int32) (A : Nat → Nat → Int32) (L : Nat → UInt32) (x1 : Int32) (x2 : Int32) (Q : Int32 → (Nat → Int32) → (Nat → Nat → Int32) → (Nat → UInt32) → Prop) : Prop := wp_X4_in x1 (0 : Int32) (1 : Int32) (fun r1 => ((¬ r1 = 0 → (((A 21 0) = 0 → wp_X4_fails (upd F 0 (0 : Int32)) A L (2 : Int32) (fun r2 F2 A2 L2 => Q r2 F2 A2 L2)) ∧ (¬ (A 21 0) = 0 → ((¬ (A 21 1) = 0 → (((A 21 0) = (A 21 1) → ((x2 < 0 → wp_X4_fails (upd F 0 (0 : Int32)) A L (4 : Int32) (fun r3 F3 A3 L3 => Q r3 F3 A3 L3)) ∧ (¬ x2 < 0 → (((A 20 0) < x2 → wp_X4_fails (upd F 0 (0 : Int32)) A L (4 : Int32) (fun r4 F4 A4 L4 => Q r4 F4 A4 L4)) ∧ (¬ (A 20 0) < x2 → ((x2 ≤ (A 20 1) → (∃ n105, wp_X4_copyRow_L105 Q n105 (upd F 0 (0 : Int32)) A L x1 x2 ((1 : Int32) - x1) (0 : Int32) (0 : Int32))) ∧ (¬ x2 ≤ (A 20 1) → wp_X4_fails (upd F 0 (0 : Int32)) A L (4 : Int32) (fun r7 F7 A7 L7 => Q r7 F7 A7 L7)))))))) ∧ (¬ (A 21 0) = (A 21 1) → wp_X4_fails (upd F 0 (0 : Int32)) A L (3 : Int32) (fun r8 F8 A8 L8 => Q r8 F8 A8 L8)))) ∧ ((A 21 1) = 0 → wp_X4_fails (upd F 0 (0 : Int32)) A L (2 : Int32) (fun r9 F9 A9 L9 => Q r9 F9 A9 L9)))))) ∧ (r1 = 0 → wp_X4_fails (upd F 0 (0 : Int32)) A L (1 : Int32) (fun r10 F10 A10 L10 => Q r10 F10 A10 L10))))
set_option maxHeartbeats 4000000 in
theorem snd_X4_copyRow (l : Launch) (G : GG) (sz : Nat) (h : HH) (ad : Nat → Nat) (F : Nat → Int32) (A : Nat → Nat → Int32) (L : Nat → UInt32) (x1 : Int32) (x2 : Int32) (Q : Int32 → (Nat → Int32) → (Nat → Nat → Int32) → (Nat → UInt32) → Prop) (hS : ml_S G h ad F A L) (hw : wp_X4_copyRow F A L x1 x2 Q) : Met l yX4_copyRow (ws_ yX4_copyRow cX4_copyRow 6 (some FieldType.int)) rm_X4_copyRow (hv_Pc G h sz [.ref (ad 0), .int x1, .int x2]) (hv_Qi G h sz (fun r => ml_Q G h ad (Q r))) 0 0 (hv_A h sz) := by
  refine Met.ofW (cc := cX4_copyRow) (maxL := 6) (ret := (some FieldType.int)) (by decide) rfl ?_
  intro p e s m args below meth c s₁ B hml hv
  obtain ⟨rfl, rfl, hE, hI⟩ := hv_open B hml hv
  have hE : hv_E p s m ([.ref (ad 0), .int x1, .int x2] : List Value).toArray meth c cX4_copyRow 6 (some FieldType.int) RX4 G h := hE
  have hI := ml_I.start hI hS
  obtain ⟨⟨hx, hb, hml, hown, hts⟩, hr, hlocks, -⟩ := id hE
  have hl := lv_entry ([.ref (ad 0), .int x1, .int x2] : List Value) (n := 6) (Nat.le_of_ble_eq_true rfl)
  rw [lg_entry_eq]
  generalize (lg_sl ([.ref (ad 0), .int x1, .int x2] : List Value) ++ List.replicate (6 - (lg_sl ([.ref (ad 0), .int x1, .int x2] : List Value)).length) Slot.unset).toArray = ls at hl ⊢
  have hl : lv_has ls 6 [(0, .ref (ad 0)), (1, .int x1), (2, .int x2)] := hl
  unfold wp_X4_copyRow at hw
  refine lv_aload_n hx hb dX4_copyRow_0 rfl (lv_at hl 0 rfl) ?_
  refine lv_iconst (v := 0) hx hb dX4_copyRow_1 (by decide) ?_
  refine ml_put hE hI 0 (by decide) q1985 rfl rfl (ty := .int) rfl rfl rfl (fun _ => rfl) dX4_copyRow_2 (fun H locs hI => ?_)
  refine lv_iload_n hx hb dX4_copyRow_5 rfl (lv_at hl 1 rfl) ?_
  refine lv_iconst (v := 0) hx hb dX4_copyRow_6 (by decide) ?_
  refine lv_iconst (v := 1) hx hb dX4_copyRow_7 (by decide) ?_
  refine ml_calls (As := [.int x1, .int (0 : Int32), .int (1 : Int32)]) (rest := []) (cells := 0) (slots := 0) hE hI (fun h => snd_X4_in l G _ h x1 (0 : Int32) (1 : Int32) _ hw) (va_cwS 3 hts (lw_S q2130 q2131 q108 q2132) rfl rfl rfl (by decide +kernel) ⟨Nat.le_of_ble_eq_true rfl, Nat.le_of_ble_eq_true rfl⟩) rfl hl.1 (Nat.le_of_ble_eq_true rfl) dX4_copyRow_8 ⟨Nat.le_of_ble_eq_true rfl, Nat.le_of_ble_eq_true rfl⟩ (fun r1 H locs hw hI => ?_)
  refine lv_if_ne (tgt := 20) hx hb dX4_copyRow_11 (by decide) (fun c_11 => ?_) (fun c_11 => ?_)
  · have hw := hw.1 c_11
    refine lv_iconst (v := 1) hx hb dX4_copyRow_20 (by decide) ?_
    refine lv_iload_n hx hb dX4_copyRow_21 rfl (lv_at hl 1 rfl) ?_
    refine lv_isub hx hb dX4_copyRow_22 ?_
    refine lv_istore_n (lv' := [(3, .int ((1 : Int32) - x1)), (0, .ref (ad 0)), (1, .int x1), (2, .int x2)]) hx hb dX4_copyRow_23 rfl hl (by decide) rfl (fun ls hl => ?_)
    refine lv_aload_n hx hb dX4_copyRow_24 rfl (lv_at hl 1 rfl) ?_
    refine ml_get hE hI 21 (by decide) q2006 rfl rfl dX4_copyRow_25 ?_
    refine lv_iconst (v := 0) hx hb dX4_copyRow_28 (by decide) ?_
    have hin : vp_in (0 : Int32) 2 := by unfold vp_in; decide +kernel
    refine ml_iald hE hI 21 rfl rfl (show Int32.toNatClampNeg (0 : Int32) = 0 from by decide +kernel) hin dX4_copyRow_29 ?_
    refine lv_if_eq (tgt := 42) hx hb dX4_copyRow_30 (by decide) (fun c_30 => ?_) (fun c_30 => ?_)
    · have hw := hw.1 c_30
      refine lv_aload_n hx hb dX4_copyRow_42 rfl (lv_at hl 1 rfl) ?_
      refine lv_iconst (v := 2) hx hb dX4_copyRow_43 (by decide) ?_
      refine ml_calli (As := [.int (2 : Int32)]) (rest := []) (cells := 0) (slots := 0) hE hI (fun h hS => snd_X4_fails l G _ h ad (upd F 0 (0 : Int32)) A L (2 : Int32) _ hS hw) (cwV 1 hts (lw_V q2149 q2151 qs43 q108 q2152) rfl rfl rfl (by decide +kernel) ⟨Nat.le_of_ble_eq_true rfl, Nat.le_of_ble_eq_true rfl⟩) rfl hl.1 (Nat.le_of_ble_eq_true rfl) dX4_copyRow_44 ⟨Nat.le_of_ble_eq_true rfl, Nat.le_of_ble_eq_true rfl⟩ (fun r2 F2 A2 L2 H locs hw hI => ?_)
      exact ml_iret hE hI hw dX4_copyRow_47
    · have hw := hw.2 c_30
      refine lv_aload_n hx hb dX4_copyRow_33 rfl (lv_at hl 1 rfl) ?_
      refine ml_get hE hI 21 (by decide) q2006 rfl rfl dX4_copyRow_34 ?_
      refine lv_iconst (v := 1) hx hb dX4_copyRow_37 (by decide) ?_
      have hin : vp_in (1 : Int32) 2 := by unfold vp_in; decide +kernel
      refine ml_iald hE hI 21 rfl rfl (show Int32.toNatClampNeg (1 : Int32) = 1 from by decide +kernel) hin dX4_copyRow_38 ?_
      refine lv_if_ne (tgt := 48) hx hb dX4_copyRow_39 (by decide) (fun c_39 => ?_) (fun c_39 => ?_)
      · have hw := hw.1 c_39
        refine lv_aload_n hx hb dX4_copyRow_48 rfl (lv_at hl 1 rfl) ?_
        refine ml_get hE hI 21 (by decide) q2006 rfl rfl dX4_copyRow_49 ?_
        refine lv_iconst (v := 0) hx hb dX4_copyRow_52 (by decide) ?_
        have hin : vp_in (0 : Int32) 2 := by unfold vp_in; decide +kernel
        refine ml_iald hE hI 21 rfl rfl (show Int32.toNatClampNeg (0 : Int32) = 0 from by decide +kernel) hin dX4_copyRow_53 ?_
        refine lv_aload_n hx hb dX4_copyRow_54 rfl (lv_at hl 1 rfl) ?_
        refine ml_get hE hI 21 (by decide) q2006 rfl rfl dX4_copyRow_55 ?_
        refine lv_iconst (v := 1) hx hb dX4_copyRow_58 (by decide) ?_
        have hin : vp_in (1 : Int32) 2 := by unfold vp_in; decide +kernel
        refine ml_iald hE hI 21 rfl rfl (show Int32.toNatClampNeg (1 : Int32) = 1 from by decide +kernel) hin dX4_copyRow_59 ?_
        refine lv_icmp_eq (tgt := 69) hx hb dX4_copyRow_60 (by decide) (fun c_60 => ?_) (fun c_60 => ?_)
        · have hw := hw.1 c_60
          refine lv_iload_n hx hb dX4_copyRow_69 rfl (lv_at hl 3 rfl) ?_
          refine lv_if_lt (tgt := 93) hx hb dX4_copyRow_70 (by decide) (fun c_70 => ?_) (fun c_70 => ?_)
          · have hw := hw.1 c_70
            refine lv_aload_n hx hb dX4_copyRow_93 rfl (lv_at hl 1 rfl) ?_
            refine lv_iconst (v := 4) hx hb dX4_copyRow_94 (by decide) ?_
            refine ml_calli (As := [.int (4 : Int32)]) (rest := []) (cells := 0) (slots := 0) hE hI (fun h hS => snd_X4_fails l G _ h ad (upd F 0 (0 : Int32)) A L (4 : Int32) _ hS hw) (cwV 1 hts (lw_V q2149 q2151 qs43 q108 q2152) rfl rfl rfl (by decide +kernel) ⟨Nat.le_of_ble_eq_true rfl, Nat.le_of_ble_eq_true rfl⟩) rfl hl.1 (Nat.le_of_ble_eq_true rfl) dX4_copyRow_95 ⟨Nat.le_of_ble_eq_true rfl, Nat.le_of_ble_eq_true rfl⟩ (fun r3 F3 A3 L3 H locs hw hI => ?_)
            exact ml_iret hE hI hw dX4_copyRow_98
          · have hw := hw.2 c_70
            refine lv_iload_n hx hb dX4_copyRow_73 rfl (lv_at hl 3 rfl) ?_
            refine lv_aload_n hx hb dX4_copyRow_74 rfl (lv_at hl 1 rfl) ?_
            refine ml_get hE hI 20 (by decide) q2005 rfl rfl dX4_copyRow_75 ?_
            refine lv_iconst (v := 0) hx hb dX4_copyRow_78 (by decide) ?_
            have hin : vp_in (0 : Int32) 2 := by unfold vp_in; decide +kernel
            refine ml_iald hE hI 20 rfl rfl (show Int32.toNatClampNeg (0 : Int32) = 0 from by decide +kernel) hin dX4_copyRow_79 ?_
            refine lv_icmp_gt (tgt := 93) hx hb dX4_copyRow_80 (by decide) (fun c_80 => ?_) (fun c_80 => ?_)
            · have hw := hw.1 c_80
              refine lv_aload_n hx hb dX4_copyRow_93 rfl (lv_at hl 1 rfl) ?_
              refine lv_iconst (v := 4) hx hb dX4_copyRow_94 (by decide) ?_
              refine ml_calli (As := [.int (4 : Int32)]) (rest := []) (cells := 0) (slots := 0) hE hI (fun h hS => snd_X4_fails l G _ h ad (upd F 0 (0 : Int32)) A L (4 : Int32) _ hS hw) (cwV 1 hts (lw_V q2149 q2151 qs43 q108 q2152) rfl rfl rfl (by decide +kernel) ⟨Nat.le_of_ble_eq_true rfl, Nat.le_of_ble_eq_true rfl⟩) rfl hl.1 (Nat.le_of_ble_eq_true rfl) dX4_copyRow_95 ⟨Nat.le_of_ble_eq_true rfl, Nat.le_of_ble_eq_true rfl⟩ (fun r4 F4 A4 L4 H locs hw hI => ?_)
              exact ml_iret hE hI hw dX4_copyRow_98
            · have hw := hw.2 c_80
              refine lv_iload_n hx hb dX4_copyRow_83 rfl (lv_at hl 3 rfl) ?_
              refine lv_aload_n hx hb dX4_copyRow_84 rfl (lv_at hl 1 rfl) ?_
              refine ml_get hE hI 20 (by decide) q2005 rfl rfl dX4_copyRow_85 ?_
              refine lv_iconst (v := 1) hx hb dX4_copyRow_88 (by decide) ?_
              have hin : vp_in (1 : Int32) 2 := by unfold vp_in; decide +kernel
              refine ml_iald hE hI 20 rfl rfl (show Int32.toNatClampNeg (1 : Int32) = 1 from by decide +kernel) hin dX4_copyRow_89 ?_
              refine lv_icmp_le (tgt := 99) hx hb dX4_copyRow_90 (by decide) (fun c_90 => ?_) (fun c_90 => ?_)
              · have hw := hw.1 c_90
                refine lv_iconst (v := 0) hx hb dX4_copyRow_99 (by decide) ?_
                refine lv_istore (lv' := [(4, .int (0 : Int32)), (3, .int ((1 : Int32) - x1)), (0, .ref (ad 0)), (1, .int x1), (2, .int x2)]) hx hb dX4_copyRow_100 hl (by decide) rfl (fun ls hl => ?_)
                refine lv_iconst (v := 0) hx hb dX4_copyRow_102 (by decide) ?_
                refine lv_istore (lv' := [(5, .int (0 : Int32)), (4, .int (0 : Int32)), (3, .int ((1 : Int32) - x1)), (0, .ref (ad 0)), (1, .int x1), (2, .int x2)]) hx hb dX4_copyRow_103 hl (by decide) rfl (fun ls hl => ?_)
                obtain ⟨n105, hw⟩ := hw
                exact snd_X4_copyRow_L105 hE Q n105 (upd F 0 (0 : Int32)) A L x1 x2 ((1 : Int32) - x1) (0 : Int32) (0 : Int32) hw _ _ _ hI (lv_sub hl [3, 4, 5, 2, 1, 0] rfl)
              · have hw := hw.2 c_90
                refine lv_aload_n hx hb dX4_copyRow_93 rfl (lv_at hl 1 rfl) ?_
                refine lv_iconst (v := 4) hx hb dX4_copyRow_94 (by decide) ?_
                refine ml_calli (As := [.int (4 : Int32)]) (rest := []) (cells := 0) (slots := 0) hE hI (fun h hS => snd_X4_fails l G _ h ad (upd F 0 (0 : Int32)) A L (4 : Int32) _ hS hw) (cwV 1 hts (lw_V q2149 q2151 qs43 q108 q2152) rfl rfl rfl (by decide +kernel) ⟨Nat.le_of_ble_eq_true rfl, Nat.le_of_ble_eq_true rfl⟩) rfl hl.1 (Nat.le_of_ble_eq_true rfl) dX4_copyRow_95 ⟨Nat.le_of_ble_eq_true rfl, Nat.le_of_ble_eq_true rfl⟩ (fun r7 F7 A7 L7 H locs hw hI => ?_)
                exact ml_iret hE hI hw dX4_copyRow_98
        · have hw := hw.2 c_60
          refine lv_aload_n hx hb dX4_copyRow_63 rfl (lv_at hl 1 rfl) ?_
          refine lv_iconst (v := 3) hx hb dX4_copyRow_64 (by decide) ?_
          refine ml_calli (As := [.int (3 : Int32)]) (rest := []) (cells := 0) (slots := 0) hE hI (fun h hS => snd_X4_fails l G _ h ad (upd F 0 (0 : Int32)) A L (3 : Int32) _ hS hw) (cwV 1 hts (lw_V q2149 q2151 qs43 q108 q2152) rfl rfl rfl (by decide +kernel) ⟨Nat.le_of_ble_eq_true rfl, Nat.le_of_ble_eq_true rfl⟩) rfl hl.1 (Nat.le_of_ble_eq_true rfl) dX4_copyRow_65 ⟨Nat.le_of_ble_eq_true rfl, Nat.le_of_ble_eq_true rfl⟩ (fun r8 F8 A8 L8 H locs hw hI => ?_)
          exact ml_iret hE hI hw dX4_copyRow_68
      · have hw := hw.2 c_39
        refine lv_aload_n hx hb dX4_copyRow_42 rfl (lv_at hl 1 rfl) ?_
        refine lv_iconst (v := 2) hx hb dX4_copyRow_43 (by decide) ?_
        refine ml_calli (As := [.int (2 : Int32)]) (rest := []) (cells := 0) (slots := 0) hE hI (fun h hS => snd_X4_fails l G _ h ad (upd F 0 (0 : Int32)) A L (2 : Int32) _ hS hw) (cwV 1 hts (lw_V q2149 q2151 qs43 q108 q2152) rfl rfl rfl (by decide +kernel) ⟨Nat.le_of_ble_eq_true rfl, Nat.le_of_ble_eq_true rfl⟩) rfl hl.1 (Nat.le_of_ble_eq_true rfl) dX4_copyRow_44 ⟨Nat.le_of_ble_eq_true rfl, Nat.le_of_ble_eq_true rfl⟩ (fun r9 F9 A9 L9 H locs hw hI => ?_)
        exact ml_iret hE hI hw dX4_copyRow_47
  · have hw := hw.2 c_11
    refine lv_aload_n hx hb dX4_copyRow_14 rfl (lv_at hl 0 rfl) ?_
    refine lv_iconst (v := 1) hx hb dX4_copyRow_15 (by decide) ?_
    refine ml_calli (As := [.int (1 : Int32)]) (rest := []) (cells := 0) (slots := 0) hE hI (fun h hS => snd_X4_fails l G _ h ad (upd F 0 (0 : Int32)) A L (1 : Int32) _ hS hw) (cwV 1 hts (lw_V q2149 q2151 qs43 q108 q2152) rfl rfl rfl (by decide +kernel) ⟨Nat.le_of_ble_eq_true rfl, Nat.le_of_ble_eq_true rfl⟩) rfl hl.1 (Nat.le_of_ble_eq_true rfl) dX4_copyRow_16 ⟨Nat.le_of_ble_eq_true rfl, Nat.le_of_ble_eq_true rfl⟩ (fun r10 F10 A10 L10 H locs hw hI => ?_)
    exact ml_iret hE hI hw dX4_copyRow_19

/-- MatchmakerRulesModel.element(II)I -/
abbrev rm_X4_element : Room := { frames := 4, cells := 0, slots := 0, locals := 74 }
def wp_X4_element (F : Nat → Int32) (A : Nat → Nat → Int32) (L : Nat → UInt32) (x1 : Int32) (x2 : Int32) (Q : Int32 → (Nat → Int32) → (Nat → Nat → Int32) → (Nat → UInt32) → Prop) : Prop := wp_X4_in x1 (0 : Int32) (1 : Int32) (fun r1 => ((¬ r1 = 0 → (vp_in x1 2 ∧ (((A 21 (Int32.toNatClampNeg x1)) ≤ 0 → wp_X4_fails (upd F 0 (0 : Int32)) A L (2 : Int32) (fun r2 F2 A2 L2 => Q r2 F2 A2 L2)) ∧ (¬ (A 21 (Int32.toNatClampNeg x1)) ≤ 0 → (vp_in x1 2 ∧ wp_X4_in x2 (0 : Int32) ((A 20 (Int32.toNatClampNeg x1)) - (1 : Int32)) (fun r3 => ((r3 = 0 → wp_X4_fails (upd F 0 (0 : Int32)) A L (2 : Int32) (fun r4 F4 A4 L4 => Q r4 F4 A4 L4)) ∧ (¬ r3 = 0 → wp_X4_bitsAt (upd F 0 (0 : Int32)) A L x1 x2 (fun r5 F5 A5 L5 => Q r5 F5 A5 L5))))))))) ∧ (r1 = 0 → wp_X4_fails (upd F 0 (0 : Int32)) A L (1 : Int32) (fun r6 F6 A6 L6 => Q r6 F6 A6 L6))))
set_option maxHeartbeats 4000000 in
theorem snd_X4_element (l : Launch) (G : GG) (sz : Nat) (h : HH) (ad : Nat → Nat) (F : Nat → Int32) (A : Nat → Nat → Int32) (L : Nat → UInt32) (x1 : Int32) (x2 : Int32) (Q : Int32 → (Nat → Int32) → (Nat → Nat → Int32) → (Nat → UInt32) → Prop) (hS : ml_S G h ad F A L) (hw : wp_X4_element F A L x1 x2 Q) : Met l yX4_element (ws_ yX4_element cX4_element 3 (some FieldType.int)) rm_X4_element (hv_Pc G h sz [.ref (ad 0), .int x1, .int x2]) (hv_Qi G h sz (fun r => ml_Q G h ad (Q r))) 0 0 (hv_A h sz) := by
  refine Met.ofW (cc := cX4_element) (maxL := 3) (ret := (some FieldType.int)) (by decide) rfl ?_
  intro p e s m args below meth c s₁ B hml hv
  obtain ⟨rfl, rfl, hE, hI⟩ := hv_open B hml hv
  have hE : hv_E p s m ([.ref (ad 0), .int x1, .int x2] : List Value).toArray meth c cX4_element 3 (some FieldType.int) RX4 G h := hE
  have hI := ml_I.start hI hS
  obtain ⟨⟨hx, hb, hml, hown, hts⟩, hr, hlocks, -⟩ := id hE
  have hl := lv_entry ([.ref (ad 0), .int x1, .int x2] : List Value) (n := 3) (Nat.le_of_ble_eq_true rfl)
  rw [lg_entry_eq]
  generalize (lg_sl ([.ref (ad 0), .int x1, .int x2] : List Value) ++ List.replicate (3 - (lg_sl ([.ref (ad 0), .int x1, .int x2] : List Value)).length) Slot.unset).toArray = ls at hl ⊢
  have hl : lv_has ls 3 [(0, .ref (ad 0)), (1, .int x1), (2, .int x2)] := hl
  unfold wp_X4_element at hw
  refine lv_aload_n hx hb dX4_element_0 rfl (lv_at hl 0 rfl) ?_
  refine lv_iconst (v := 0) hx hb dX4_element_1 (by decide) ?_
  refine ml_put hE hI 0 (by decide) q1985 rfl rfl (ty := .int) rfl rfl rfl (fun _ => rfl) dX4_element_2 (fun H locs hI => ?_)
  refine lv_iload_n hx hb dX4_element_5 rfl (lv_at hl 1 rfl) ?_
  refine lv_iconst (v := 0) hx hb dX4_element_6 (by decide) ?_
  refine lv_iconst (v := 1) hx hb dX4_element_7 (by decide) ?_
  refine ml_calls (As := [.int x1, .int (0 : Int32), .int (1 : Int32)]) (rest := []) (cells := 0) (slots := 0) hE hI (fun h => snd_X4_in l G _ h x1 (0 : Int32) (1 : Int32) _ hw) (va_cwS 3 hts (lw_S q2130 q2131 q108 q2132) rfl rfl rfl (by decide +kernel) ⟨Nat.le_of_ble_eq_true rfl, Nat.le_of_ble_eq_true rfl⟩) rfl hl.1 (Nat.le_of_ble_eq_true rfl) dX4_element_8 ⟨Nat.le_of_ble_eq_true rfl, Nat.le_of_ble_eq_true rfl⟩ (fun r1 H locs hw hI => ?_)
  refine lv_if_ne (tgt := 20) hx hb dX4_element_11 (by decide) (fun c_11 => ?_) (fun c_11 => ?_)
  · have hw := hw.1 c_11
    refine lv_aload_n hx hb dX4_element_20 rfl (lv_at hl 0 rfl) ?_
    refine ml_get hE hI 21 (by decide) q2006 rfl rfl dX4_element_21 ?_
    refine lv_iload_n hx hb dX4_element_24 rfl (lv_at hl 1 rfl) ?_
    obtain ⟨hin, hw⟩ := hw
    refine ml_iald hE hI 21 rfl rfl rfl hin dX4_element_25 ?_
    refine lv_if_le (tgt := 54) hx hb dX4_element_26 (by decide) (fun c_26 => ?_) (fun c_26 => ?_)
    · have hw := hw.1 c_26
      refine lv_aload_n hx hb dX4_element_54 rfl (lv_at hl 0 rfl) ?_
      refine lv_iconst (v := 2) hx hb dX4_element_55 (by decide) ?_
      refine ml_calli (As := [.int (2 : Int32)]) (rest := []) (cells := 0) (slots := 0) hE hI (fun h hS => snd_X4_fails l G _ h ad (upd F 0 (0 : Int32)) A L (2 : Int32) _ hS hw) (cwV 1 hts (lw_V q2149 q2151 qs43 q108 q2152) rfl rfl rfl (by decide +kernel) ⟨Nat.le_of_ble_eq_true rfl, Nat.le_of_ble_eq_true rfl⟩) rfl hl.1 (Nat.le_of_ble_eq_true rfl) dX4_element_56 ⟨Nat.le_of_ble_eq_true rfl, Nat.le_of_ble_eq_true rfl⟩ (fun r2 F2 A2 L2 H locs hw hI => ?_)
      exact ml_iret hE hI hw dX4_element_59
    · have hw := hw.2 c_26
      refine lv_iload_n hx hb dX4_element_29 rfl (lv_at hl 2 rfl) ?_
      refine lv_iconst (v := 0) hx hb dX4_element_30 (by decide) ?_
      refine lv_aload_n hx hb dX4_element_31 rfl (lv_at hl 0 rfl) ?_
      refine ml_get hE hI 20 (by decide) q2005 rfl rfl dX4_element_32 ?_
      refine lv_iload_n hx hb dX4_element_35 rfl (lv_at hl 1 rfl) ?_
      obtain ⟨hin, hw⟩ := hw
      refine ml_iald hE hI 20 rfl rfl rfl hin dX4_element_36 ?_
      refine lv_iconst (v := 1) hx hb dX4_element_37 (by decide) ?_
      refine lv_isub hx hb dX4_element_38 ?_
      refine ml_calls (As := [.int x2, .int (0 : Int32), .int ((A 20 (Int32.toNatClampNeg x1)) - (1 : Int32))]) (rest := []) (cells := 0) (slots := 0) hE hI (fun h => snd_X4_in l G _ h x2 (0 : Int32) ((A 20 (Int32.toNatClampNeg x1)) - (1 : Int32)) _ hw) (va_cwS 3 hts (lw_S q2130 q2131 q108 q2132) rfl rfl rfl (by decide +kernel) ⟨Nat.le_of_ble_eq_true rfl, Nat.le_of_ble_eq_true rfl⟩) rfl hl.1 (Nat.le_of_ble_eq_true rfl) dX4_element_39 ⟨Nat.le_of_ble_eq_true rfl, Nat.le_of_ble_eq_true rfl⟩ (fun r3 H locs hw hI => ?_)
      refine lv_if_eq (tgt := 54) hx hb dX4_element_42 (by decide) (fun c_42 => ?_) (fun c_42 => ?_)
      · have hw := hw.1 c_42
        refine lv_aload_n hx hb dX4_element_54 rfl (lv_at hl 0 rfl) ?_
        refine lv_iconst (v := 2) hx hb dX4_element_55 (by decide) ?_
        refine ml_calli (As := [.int (2 : Int32)]) (rest := []) (cells := 0) (slots := 0) hE hI (fun h hS => snd_X4_fails l G _ h ad (upd F 0 (0 : Int32)) A L (2 : Int32) _ hS hw) (cwV 1 hts (lw_V q2149 q2151 qs43 q108 q2152) rfl rfl rfl (by decide +kernel) ⟨Nat.le_of_ble_eq_true rfl, Nat.le_of_ble_eq_true rfl⟩) rfl hl.1 (Nat.le_of_ble_eq_true rfl) dX4_element_56 ⟨Nat.le_of_ble_eq_true rfl, Nat.le_of_ble_eq_true rfl⟩ (fun r4 F4 A4 L4 H locs hw hI => ?_)
        exact ml_iret hE hI hw dX4_element_59
      · have hw := hw.2 c_42
        refine lv_aload_n hx hb dX4_element_45 rfl (lv_at hl 0 rfl) ?_
        refine lv_iload_n hx hb dX4_element_46 rfl (lv_at hl 1 rfl) ?_
        refine lv_iload_n hx hb dX4_element_47 rfl (lv_at hl 2 rfl) ?_
        refine ml_calli (As := [.int x1, .int x2]) (rest := []) (cells := 0) (slots := 0) hE hI (fun h hS => snd_X4_bitsAt l G _ h ad (upd F 0 (0 : Int32)) A L x1 x2 _ hS hw) (cwV 2 hts (lw_V q2459 q2461 qs92 q108 q2462) rfl rfl rfl (by decide +kernel) ⟨Nat.le_of_ble_eq_true rfl, Nat.le_of_ble_eq_true rfl⟩) rfl hl.1 (Nat.le_of_ble_eq_true rfl) dX4_element_48 ⟨Nat.le_of_ble_eq_true rfl, Nat.le_of_ble_eq_true rfl⟩ (fun r5 F5 A5 L5 H locs hw hI => ?_)
        refine lv_goto (tgt := 59) hx hb dX4_element_51 (by decide) ?_
        exact ml_iret hE hI hw dX4_element_59
  · have hw := hw.2 c_11
    refine lv_aload_n hx hb dX4_element_14 rfl (lv_at hl 0 rfl) ?_
    refine lv_iconst (v := 1) hx hb dX4_element_15 (by decide) ?_
    refine ml_calli (As := [.int (1 : Int32)]) (rest := []) (cells := 0) (slots := 0) hE hI (fun h hS => snd_X4_fails l G _ h ad (upd F 0 (0 : Int32)) A L (1 : Int32) _ hS hw) (cwV 1 hts (lw_V q2149 q2151 qs43 q108 q2152) rfl rfl rfl (by decide +kernel) ⟨Nat.le_of_ble_eq_true rfl, Nat.le_of_ble_eq_true rfl⟩) rfl hl.1 (Nat.le_of_ble_eq_true rfl) dX4_element_16 ⟨Nat.le_of_ble_eq_true rfl, Nat.le_of_ble_eq_true rfl⟩ (fun r6 F6 A6 L6 H locs hw hI => ?_)
    exact ml_iret hE hI hw dX4_element_19

/-- MatchmakerRulesModel.append(I)I -/
abbrev rm_X4_append : Room := { frames := 2, cells := 0, slots := 0, locals := 34 }
def wp_X4_append_L85 (Q : Int32 → (Nat → Int32) → (Nat → Nat → Int32) → (Nat → UInt32) → Prop) : Nat → (Nat → Int32) → (Nat → Nat → Int32) → (Nat → UInt32) → (Int32) → (Int32) → Prop
  | 0, _, _, _, _, _ => False
  | n + 1, F, A, L, x1, x3 => ((x3 < 0 → Q (F 23) F A L) ∧ (¬ x3 < 0 → ((¬ ((((Int32.toUInt32 x1) >>> ((Int32.toUInt32 x3) &&& Int32.toUInt32 31)).toInt32) &&& (255 : Int32)) = 0 → (vp_in (F 23) 60 ∧ wp_X4_append_L85 Q n (upd F 23 ((F 23) + (1 : Int32))) (ml_up A 8 (Int32.toNatClampNeg (F 23)) ((((Int32.toUInt32 x1) >>> ((Int32.toUInt32 x3) &&& Int32.toUInt32 31)).toInt32) &&& (255 : Int32))) L x1 (x3 + (-8 : Int32)))) ∧ (((((Int32.toUInt32 x1) >>> ((Int32.toUInt32 x3) &&& Int32.toUInt32 31)).toInt32) &&& (255 : Int32)) = 0 → wp_X4_append_L85 Q n F A L x1 (x3 + (-8 : Int32))))))
set_option maxHeartbeats 4000000 in
theorem snd_X4_append_L85 {p : Program} {l : Launch} {e : Env} {s : State} {m : MethodId} {args : Array Value} {below : List Frame} {meth : Method} {c : Code} {G : GG} {h0 : HH} {ad : Nat → Nat} (hE : hv_E p s m args meth c cX4_append 5 (some FieldType.int) RX4 G h0) (Q : Int32 → (Nat → Int32) → (Nat → Nat → Int32) → (Nat → UInt32) → Prop) : ∀ (n : Nat) (F : Nat → Int32) (A : Nat → Nat → Int32) (L : Nat → UInt32) (x1 : Int32) (x3 : Int32), wp_X4_append_L85 Q n F A L x1 x3 → ∀ (H : Heap) (locs : List Loc) (ls : Array Slot), ml_I G h0 s.heap ad F A L H locs → lv_has ls 5 [(0, .ref (ad 0)), (1, .int x1), (3, .int x3)] → W p l e (headSpec (ws_ yX4_append cX4_append 5 (some FieldType.int)) rm_X4_append).room s m args below meth c H locs 0 0 (MQ below (hv_Qi G h0 s.heap.size (fun r => ml_Q G h0 ad (Q r))) args s 0 0 (hv_A h0 s.heap.size)) (F0 m 85 ls []) := by
  obtain ⟨⟨hx, hb, hml, hown, hts⟩, hr, hlocks, -⟩ := id hE
  intro n
  induction n with
  | zero => intro F A L x1 x3 hw; exact hw.elim
  | succ n ih =>
    intro F A L x1 x3 hw H locs ls hI hl
    unfold wp_X4_append_L85 at hw
    refine lv_iload_n hx hb dX4_append_85 rfl (lv_at hl 2 rfl) ?_
    refine lv_if_lt (tgt := 133) hx hb dX4_append_86 (by decide) (fun c_86 => ?_) (fun c_86 => ?_)
    · have hw := hw.1 c_86
      refine lv_aload_n hx hb dX4_append_133 rfl (lv_at hl 0 rfl) ?_
      refine ml_get hE hI 23 (by decide) q2008 rfl rfl dX4_append_134 ?_
      exact ml_iret hE hI hw dX4_append_137
    · have hw := hw.2 c_86
      refine lv_iload_n hx hb dX4_append_89 rfl (lv_at hl 1 rfl) ?_
      refine lv_iload_n hx hb dX4_append_90 rfl (lv_at hl 2 rfl) ?_
      refine lv_iushr (v := ((Int32.toUInt32 x1) >>> ((Int32.toUInt32 x3) &&& Int32.toUInt32 31)).toInt32) hx hb dX4_append_91 rfl ?_
      refine lv_sipush (v := 255) hx hb dX4_append_92 (by decide) ?_
      refine lv_iand hx hb dX4_append_95 ?_
      refine lv_istore (lv' := [(4, .int ((((Int32.toUInt32 x1) >>> ((Int32.toUInt32 x3) &&& Int32.toUInt32 31)).toInt32) &&& (255 : Int32))), (0, .ref (ad 0)), (1, .int x1), (3, .int x3)]) hx hb dX4_append_96 hl (by decide) rfl (fun ls hl => ?_)
      refine lv_iload hx hb dX4_append_98 (lv_at hl 0 rfl) ?_
      refine lv_if_ne (tgt := 106) hx hb dX4_append_100 (by decide) (fun c_100 => ?_) (fun c_100 => ?_)
      · have hw := hw.1 c_100
        refine lv_aload_n hx hb dX4_append_106 rfl (lv_at hl 1 rfl) ?_
        refine ml_get hE hI 8 (by decide) q1993 rfl rfl dX4_append_107 ?_
        refine lv_aload_n hx hb dX4_append_110 rfl (lv_at hl 1 rfl) ?_
        refine ml_get hE hI 23 (by decide) q2008 rfl rfl dX4_append_111 ?_
        refine lv_iload hx hb dX4_append_114 (lv_at hl 0 rfl) ?_
        obtain ⟨hin, hw⟩ := hw
        refine ml_iast hE hI 8 rfl rfl rfl hin dX4_append_116 (fun H locs hI => ?_)
        refine lv_aload_n hx hb dX4_append_117 rfl (lv_at hl 1 rfl) ?_
        refine lv_dup hx hb dX4_append_118 rfl ?_
        refine ml_get hE hI 23 (by decide) q2008 rfl rfl dX4_append_119 ?_
        refine lv_iconst (v := 1) hx hb dX4_append_122 (by decide) ?_
        refine lv_iadd hx hb dX4_append_123 ?_
        refine ml_put hE hI 23 (by decide) q2008 rfl rfl (ty := .int) rfl rfl rfl (fun _ => rfl) dX4_append_124 (fun H locs hI => ?_)
        refine lv_iinc (v := (x3 + (-8 : Int32))) (lv' := [(3, .int (x3 + (-8 : Int32))), (4, .int ((((Int32.toUInt32 x1) >>> ((Int32.toUInt32 x3) &&& Int32.toUInt32 31)).toInt32) &&& (255 : Int32))), (0, .ref (ad 0)), (1, .int x1)]) hx hb dX4_append_127 hl (k := 3) rfl rfl (by decide) rfl (fun ls hl => ?_)
        refine lv_goto (tgt := 85) hx hb dX4_append_130 (by decide) ?_
        exact ih (upd F 23 ((F 23) + (1 : Int32))) (ml_up A 8 (Int32.toNatClampNeg (F 23)) ((((Int32.toUInt32 x1) >>> ((Int32.toUInt32 x3) &&& Int32.toUInt32 31)).toInt32) &&& (255 : Int32))) L x1 (x3 + (-8 : Int32)) hw _ _ _ hI (lv_sub hl [2, 3, 0] rfl)
      · have hw := hw.2 c_100
        refine lv_goto (tgt := 127) hx hb dX4_append_103 (by decide) ?_
        refine lv_iinc (v := (x3 + (-8 : Int32))) (lv' := [(3, .int (x3 + (-8 : Int32))), (4, .int ((((Int32.toUInt32 x1) >>> ((Int32.toUInt32 x3) &&& Int32.toUInt32 31)).toInt32) &&& (255 : Int32))), (0, .ref (ad 0)), (1, .int x1)]) hx hb dX4_append_127 hl (k := 3) rfl rfl (by decide) rfl (fun ls hl => ?_)
        refine lv_goto (tgt := 85) hx hb dX4_append_130 (by decide) ?_
        exact ih F A L x1 (x3 + (-8 : Int32)) hw _ _ _ hI (lv_sub hl [2, 3, 0] rfl)
def wp_X4_append_L46 (Q : Int32 → (Nat → Int32) → (Nat → Nat → Int32) → (Nat → UInt32) → Prop) (k10 : (Nat → Int32) → (Nat → Nat → Int32) → (Nat → UInt32) → (Int32) → (Int32) → (Int32) → Prop) (F : Nat → Int32) (A : Nat → Nat → Int32) (L : Nat → UInt32) (x1 : Int32) (x2 : Int32) (x3 : Int32) (x4 : Int32) : Prop := ((¬ x4 = 0 → k10 F A L x1 (x2 + (1 : Int32)) (x3 + (-8 : Int32))) ∧ (x4 = 0 → k10 F A L x1 (x2 + (0 : Int32)) (x3 + (-8 : Int32))))
set_option maxHeartbeats 4000000 in
theorem snd_X4_append_L46 {p : Program} {l : Launch} {e : Env} {s : State} {m : MethodId} {args : Array Value} {below : List Frame} {meth : Method} {c : Code} {G : GG} {h0 : HH} {ad : Nat → Nat} (hE : hv_E p s m args meth c cX4_append 5 (some FieldType.int) RX4 G h0) (Q : Int32 → (Nat → Int32) → (Nat → Nat → Int32) → (Nat → UInt32) → Prop) (k10 : (Nat → Int32) → (Nat → Nat → Int32) → (Nat → UInt32) → (Int32) → (Int32) → (Int32) → Prop) (hk10 : ∀ (F : Nat → Int32) (A : Nat → Nat → Int32) (L : Nat → UInt32) (x1 : Int32) (x2 : Int32) (x3 : Int32) (H : Heap) (locs : List Loc) (ls : Array Slot), ml_I G h0 s.heap ad F A L H locs → lv_has ls 5 [(0, .ref (ad 0)), (1, .int x1), (2, .int x2), (3, .int x3)] → k10 F A L x1 x2 x3 → W p l e (headSpec (ws_ yX4_append cX4_append 5 (some FieldType.int)) rm_X4_append).room s m args below meth c H locs 0 0 (MQ below (hv_Qi G h0 s.heap.size (fun r => ml_Q G h0 ad (Q r))) args s 0 0 (hv_A h0 s.heap.size)) (F0 m 10 ls [])) : ∀ (F : Nat → Int32) (A : Nat → Nat → Int32) (L : Nat → UInt32) (x1 : Int32) (x2 : Int32) (x3 : Int32) (x4 : Int32), wp_X4_append_L46 Q k10 F A L x1 x2 x3 x4 → ∀ (H : Heap) (locs : List Loc) (ls : Array Slot), ml_I G h0 s.heap ad F A L H locs → lv_has ls 5 [(0, .ref (ad 0)), (1, .int x1), (2, .int x2), (3, .int x3), (4, .int x4)] → W p l e (headSpec (ws_ yX4_append cX4_append 5 (some FieldType.int)) rm_X4_append).room s m args below meth c H locs 0 0 (MQ below (hv_Qi G h0 s.heap.size (fun r => ml_Q G h0 ad (Q r))) args s 0 0 (hv_A h0 s.heap.size)) (F0 m 46 ls []) := by
  obtain ⟨⟨hx, hb, hml, hown, hts⟩, hr, hlocks, -⟩ := id hE
  intro F A L x1 x2 x3 x4 hw H locs ls hI hl
  unfold wp_X4_append_L46 at hw
  refine lv_iload_n hx hb dX4_append_46 rfl (lv_at hl 2 rfl) ?_
  refine lv_iload hx hb dX4_append_47 (lv_at hl 4 rfl) ?_
  refine lv_if_ne (tgt := 56) hx hb dX4_append_49 (by decide) (fun c_49 => ?_) (fun c_49 => ?_)
  · have hw := hw.1 c_49
    refine lv_iconst (v := 1) hx hb dX4_append_56 (by decide) ?_
    refine lv_iadd hx hb dX4_append_57 ?_
    refine lv_istore_n (lv' := [(2, .int (x2 + (1 : Int32))), (0, .ref (ad 0)), (1, .int x1), (3, .int x3), (4, .int x4)]) hx hb dX4_append_58 rfl hl (by decide) rfl (fun ls hl => ?_)
    refine lv_iinc (v := (x3 + (-8 : Int32))) (lv' := [(3, .int (x3 + (-8 : Int32))), (2, .int (x2 + (1 : Int32))), (0, .ref (ad 0)), (1, .int x1), (4, .int x4)]) hx hb dX4_append_59 hl (k := 3) rfl rfl (by decide) rfl (fun ls hl => ?_)
    refine lv_goto (tgt := 10) hx hb dX4_append_62 (by decide) ?_
    exact hk10 F A L x1 (x2 + (1 : Int32)) (x3 + (-8 : Int32)) _ _ _ hI (lv_sub hl [2, 3, 1, 0] rfl) hw
  · have hw := hw.2 c_49
    refine lv_iconst (v := 0) hx hb dX4_append_52 (by decide) ?_
    refine lv_goto (tgt := 57) hx hb dX4_append_53 (by decide) ?_
    refine lv_iadd hx hb dX4_append_57 ?_
    refine lv_istore_n (lv' := [(2, .int (x2 + (0 : Int32))), (0, .ref (ad 0)), (1, .int x1), (3, .int x3), (4, .int x4)]) hx hb dX4_append_58 rfl hl (by decide) rfl (fun ls hl => ?_)
    refine lv_iinc (v := (x3 + (-8 : Int32))) (lv' := [(3, .int (x3 + (-8 : Int32))), (2, .int (x2 + (0 : Int32))), (0, .ref (ad 0)), (1, .int x1), (4, .int x4)]) hx hb dX4_append_59 hl (k := 3) rfl rfl (by decide) rfl (fun ls hl => ?_)
    refine lv_goto (tgt := 10) hx hb dX4_append_62 (by decide) ?_
    exact hk10 F A L x1 (x2 + (0 : Int32)) (x3 + (-8 : Int32)) _ _ _ hI (lv_sub hl [2, 3, 1, 0] rfl) hw
def wp_X4_append_L10 (Q : Int32 → (Nat → Int32) → (Nat → Nat → Int32) → (Nat → UInt32) → Prop) : Nat → (Nat → Int32) → (Nat → Nat → Int32) → (Nat → UInt32) → (Int32) → (Int32) → (Int32) → Prop
  | 0, _, _, _, _, _, _ => False
  | n + 1, F, A, L, x1, x2, x3 => ((x3 < 0 → ((((F 23) + x2) ≤ (60 : Int32) → (∃ n85, wp_X4_append_L85 Q n85 F A L x1 (24 : Int32))) ∧ (¬ ((F 23) + x2) ≤ (60 : Int32) → wp_X4_fails F A L (2 : Int32) (fun r1 F1 A1 L1 => Q r1 F1 A1 L1)))) ∧ (¬ x3 < 0 → ((((((Int32.toUInt32 x1) >>> ((Int32.toUInt32 x3) &&& Int32.toUInt32 31)).toInt32) &&& (255 : Int32)) = 0 → wp_X4_append_L46 Q (fun F A L x1 x2 x3 => wp_X4_append_L10 Q n F A L x1 x2 x3) F A L x1 x2 x3 ((((Int32.toUInt32 x1) >>> ((Int32.toUInt32 x3) &&& Int32.toUInt32 31)).toInt32) &&& (255 : Int32))) ∧ (¬ ((((Int32.toUInt32 x1) >>> ((Int32.toUInt32 x3) &&& Int32.toUInt32 31)).toInt32) &&& (255 : Int32)) = 0 → wp_X4_in ((((Int32.toUInt32 x1) >>> ((Int32.toUInt32 x3) &&& Int32.toUInt32 31)).toInt32) &&& (255 : Int32)) (32 : Int32) (126 : Int32) (fun r2 => ((¬ r2 = 0 → wp_X4_append_L46 Q (fun F A L x1 x2 x3 => wp_X4_append_L10 Q n F A L x1 x2 x3) F A L x1 x2 x3 ((((Int32.toUInt32 x1) >>> ((Int32.toUInt32 x3) &&& Int32.toUInt32 31)).toInt32) &&& (255 : Int32))) ∧ (r2 = 0 → wp_X4_fails F A L (1 : Int32) (fun r3 F3 A3 L3 => Q r3 F3 A3 L3))))))))
set_option maxHeartbeats 4000000 in
theorem snd_X4_append_L10 {p : Program} {l : Launch} {e : Env} {s : State} {m : MethodId} {args : Array Value} {below : List Frame} {meth : Method} {c : Code} {G : GG} {h0 : HH} {ad : Nat → Nat} (hE : hv_E p s m args meth c cX4_append 5 (some FieldType.int) RX4 G h0) (Q : Int32 → (Nat → Int32) → (Nat → Nat → Int32) → (Nat → UInt32) → Prop) : ∀ (n : Nat) (F : Nat → Int32) (A : Nat → Nat → Int32) (L : Nat → UInt32) (x1 : Int32) (x2 : Int32) (x3 : Int32), wp_X4_append_L10 Q n F A L x1 x2 x3 → ∀ (H : Heap) (locs : List Loc) (ls : Array Slot), ml_I G h0 s.heap ad F A L H locs → lv_has ls 5 [(0, .ref (ad 0)), (1, .int x1), (2, .int x2), (3, .int x3)] → W p l e (headSpec (ws_ yX4_append cX4_append 5 (some FieldType.int)) rm_X4_append).room s m args below meth c H locs 0 0 (MQ below (hv_Qi G h0 s.heap.size (fun r => ml_Q G h0 ad (Q r))) args s 0 0 (hv_A h0 s.heap.size)) (F0 m 10 ls []) := by
  obtain ⟨⟨hx, hb, hml, hown, hts⟩, hr, hlocks, -⟩ := id hE
  intro n
  induction n with
  | zero => intro F A L x1 x2 x3 hw; exact hw.elim
  | succ n ih =>
    intro F A L x1 x2 x3 hw H locs ls hI hl
    unfold wp_X4_append_L10 at hw
    refine lv_iload_n hx hb dX4_append_10 rfl (lv_at hl 3 rfl) ?_
    refine lv_if_lt (tgt := 65) hx hb dX4_append_11 (by decide) (fun c_11 => ?_) (fun c_11 => ?_)
    · have hw := hw.1 c_11
      refine lv_aload_n hx hb dX4_append_65 rfl (lv_at hl 0 rfl) ?_
      refine ml_get hE hI 23 (by decide) q2008 rfl rfl dX4_append_66 ?_
      refine lv_iload_n hx hb dX4_append_69 rfl (lv_at hl 2 rfl) ?_
      refine lv_iadd hx hb dX4_append_70 ?_
      refine lv_bipush (v := 60) hx hb dX4_append_71 (by decide) ?_
      refine lv_icmp_le (tgt := 82) hx hb dX4_append_73 (by decide) (fun c_73 => ?_) (fun c_73 => ?_)
      · have hw := hw.1 c_73
        refine lv_bipush (v := 24) hx hb dX4_append_82 (by decide) ?_
        refine lv_istore_n (lv' := [(3, .int (24 : Int32)), (0, .ref (ad 0)), (1, .int x1), (2, .int x2)]) hx hb dX4_append_84 rfl hl (by decide) rfl (fun ls hl => ?_)
        obtain ⟨n85, hw⟩ := hw
        exact snd_X4_append_L85 hE Q n85 F A L x1 (24 : Int32) hw _ _ _ hI (lv_sub hl [1, 2, 0] rfl)
      · have hw := hw.2 c_73
        refine lv_aload_n hx hb dX4_append_76 rfl (lv_at hl 0 rfl) ?_
        refine lv_iconst (v := 2) hx hb dX4_append_77 (by decide) ?_
        refine ml_calli (As := [.int (2 : Int32)]) (rest := []) (cells := 0) (slots := 0) hE hI (fun h hS => snd_X4_fails l G _ h ad F A L (2 : Int32) _ hS hw) (cwV 1 hts (lw_V q2149 q2151 qs43 q108 q2152) rfl rfl rfl (by decide +kernel) ⟨Nat.le_of_ble_eq_true rfl, Nat.le_of_ble_eq_true rfl⟩) rfl hl.1 (Nat.le_of_ble_eq_true rfl) dX4_append_78 ⟨Nat.le_of_ble_eq_true rfl, Nat.le_of_ble_eq_true rfl⟩ (fun r1 F1 A1 L1 H locs hw hI => ?_)
        exact ml_iret hE hI hw dX4_append_81
    · have hw := hw.2 c_11
      refine lv_iload_n hx hb dX4_append_14 rfl (lv_at hl 1 rfl) ?_
      refine lv_iload_n hx hb dX4_append_15 rfl (lv_at hl 3 rfl) ?_
      refine lv_iushr (v := ((Int32.toUInt32 x1) >>> ((Int32.toUInt32 x3) &&& Int32.toUInt32 31)).toInt32) hx hb dX4_append_16 rfl ?_
      refine lv_sipush (v := 255) hx hb dX4_append_17 (by decide) ?_
      refine lv_iand hx hb dX4_append_20 ?_
      refine lv_istore (lv' := [(4, .int ((((Int32.toUInt32 x1) >>> ((Int32.toUInt32 x3) &&& Int32.toUInt32 31)).toInt32) &&& (255 : Int32))), (0, .ref (ad 0)), (1, .int x1), (2, .int x2), (3, .int x3)]) hx hb dX4_append_21 hl (by decide) rfl (fun ls hl => ?_)
      refine lv_iload hx hb dX4_append_23 (lv_at hl 0 rfl) ?_
      refine lv_if_eq (tgt := 46) hx hb dX4_append_25 (by decide) (fun c_25 => ?_) (fun c_25 => ?_)
      · have hw := hw.1 c_25
        exact snd_X4_append_L46 hE Q (fun F A L x1 x2 x3 => wp_X4_append_L10 Q n F A L x1 x2 x3) (fun F A L x1 x2 x3 H locs ls hI hl hw => ih F A L x1 x2 x3 hw H locs ls hI hl) F A L x1 x2 x3 ((((Int32.toUInt32 x1) >>> ((Int32.toUInt32 x3) &&& Int32.toUInt32 31)).toInt32) &&& (255 : Int32)) hw _ _ _ hI (lv_sub hl [1, 2, 3, 4, 0] rfl)
      · have hw := hw.2 c_25
        refine lv_iload hx hb dX4_append_28 (lv_at hl 0 rfl) ?_
        refine lv_bipush (v := 32) hx hb dX4_append_30 (by decide) ?_
        refine lv_bipush (v := 126) hx hb dX4_append_32 (by decide) ?_
        refine ml_calls (As := [.int ((((Int32.toUInt32 x1) >>> ((Int32.toUInt32 x3) &&& Int32.toUInt32 31)).toInt32) &&& (255 : Int32)), .int (32 : Int32), .int (126 : Int32)]) (rest := []) (cells := 0) (slots := 0) hE hI (fun h => snd_X4_in l G _ h ((((Int32.toUInt32 x1) >>> ((Int32.toUInt32 x3) &&& Int32.toUInt32 31)).toInt32) &&& (255 : Int32)) (32 : Int32) (126 : Int32) _ hw) (va_cwS 3 hts (lw_S q2130 q2131 q108 q2132) rfl rfl rfl (by decide +kernel) ⟨Nat.le_of_ble_eq_true rfl, Nat.le_of_ble_eq_true rfl⟩) rfl hl.1 (Nat.le_of_ble_eq_true rfl) dX4_append_34 ⟨Nat.le_of_ble_eq_true rfl, Nat.le_of_ble_eq_true rfl⟩ (fun r2 H locs hw hI => ?_)
        refine lv_if_ne (tgt := 46) hx hb dX4_append_37 (by decide) (fun c_37 => ?_) (fun c_37 => ?_)
        · have hw := hw.1 c_37
          exact snd_X4_append_L46 hE Q (fun F A L x1 x2 x3 => wp_X4_append_L10 Q n F A L x1 x2 x3) (fun F A L x1 x2 x3 H locs ls hI hl hw => ih F A L x1 x2 x3 hw H locs ls hI hl) F A L x1 x2 x3 ((((Int32.toUInt32 x1) >>> ((Int32.toUInt32 x3) &&& Int32.toUInt32 31)).toInt32) &&& (255 : Int32)) hw _ _ _ hI (lv_sub hl [1, 2, 3, 4, 0] rfl)
        · have hw := hw.2 c_37
          refine lv_aload_n hx hb dX4_append_40 rfl (lv_at hl 1 rfl) ?_
          refine lv_iconst (v := 1) hx hb dX4_append_41 (by decide) ?_
          refine ml_calli (As := [.int (1 : Int32)]) (rest := []) (cells := 0) (slots := 0) hE hI (fun h hS => snd_X4_fails l G _ h ad F A L (1 : Int32) _ hS hw) (cwV 1 hts (lw_V q2149 q2151 qs43 q108 q2152) rfl rfl rfl (by decide +kernel) ⟨Nat.le_of_ble_eq_true rfl, Nat.le_of_ble_eq_true rfl⟩) rfl hl.1 (Nat.le_of_ble_eq_true rfl) dX4_append_42 ⟨Nat.le_of_ble_eq_true rfl, Nat.le_of_ble_eq_true rfl⟩ (fun r3 F3 A3 L3 H locs hw hI => ?_)
          exact ml_iret hE hI hw dX4_append_45
def wp_X4_append (F : Nat → Int32) (A : Nat → Nat → Int32) (L : Nat → UInt32) (x1 : Int32) (Q : Int32 → (Nat → Int32) → (Nat → Nat → Int32) → (Nat → UInt32) → Prop) : Prop := (∃ n10, wp_X4_append_L10 Q n10 (upd F 0 (0 : Int32)) A L x1 (0 : Int32) (24 : Int32))
set_option maxHeartbeats 4000000 in
theorem snd_X4_append (l : Launch) (G : GG) (sz : Nat) (h : HH) (ad : Nat → Nat) (F : Nat → Int32) (A : Nat → Nat → Int32) (L : Nat → UInt32) (x1 : Int32) (Q : Int32 → (Nat → Int32) → (Nat → Nat → Int32) → (Nat → UInt32) → Prop) (hS : ml_S G h ad F A L) (hw : wp_X4_append F A L x1 Q) : Met l yX4_append (ws_ yX4_append cX4_append 5 (some FieldType.int)) rm_X4_append (hv_Pc G h sz [.ref (ad 0), .int x1]) (hv_Qi G h sz (fun r => ml_Q G h ad (Q r))) 0 0 (hv_A h sz) := by
  refine Met.ofW (cc := cX4_append) (maxL := 5) (ret := (some FieldType.int)) (by decide) rfl ?_
  intro p e s m args below meth c s₁ B hml hv
  obtain ⟨rfl, rfl, hE, hI⟩ := hv_open B hml hv
  have hE : hv_E p s m ([.ref (ad 0), .int x1] : List Value).toArray meth c cX4_append 5 (some FieldType.int) RX4 G h := hE
  have hI := ml_I.start hI hS
  obtain ⟨⟨hx, hb, hml, hown, hts⟩, hr, hlocks, -⟩ := id hE
  have hl := lv_entry ([.ref (ad 0), .int x1] : List Value) (n := 5) (Nat.le_of_ble_eq_true rfl)
  rw [lg_entry_eq]
  generalize (lg_sl ([.ref (ad 0), .int x1] : List Value) ++ List.replicate (5 - (lg_sl ([.ref (ad 0), .int x1] : List Value)).length) Slot.unset).toArray = ls at hl ⊢
  have hl : lv_has ls 5 [(0, .ref (ad 0)), (1, .int x1)] := hl
  unfold wp_X4_append at hw
  refine lv_aload_n hx hb dX4_append_0 rfl (lv_at hl 0 rfl) ?_
  refine lv_iconst (v := 0) hx hb dX4_append_1 (by decide) ?_
  refine ml_put hE hI 0 (by decide) q1985 rfl rfl (ty := .int) rfl rfl rfl (fun _ => rfl) dX4_append_2 (fun H locs hI => ?_)
  refine lv_iconst (v := 0) hx hb dX4_append_5 (by decide) ?_
  refine lv_istore_n (lv' := [(2, .int (0 : Int32)), (0, .ref (ad 0)), (1, .int x1)]) hx hb dX4_append_6 rfl hl (by decide) rfl (fun ls hl => ?_)
  refine lv_bipush (v := 24) hx hb dX4_append_7 (by decide) ?_
  refine lv_istore_n (lv' := [(3, .int (24 : Int32)), (2, .int (0 : Int32)), (0, .ref (ad 0)), (1, .int x1)]) hx hb dX4_append_9 rfl hl (by decide) rfl (fun ls hl => ?_)
  obtain ⟨n10, hw⟩ := hw
  exact snd_X4_append_L10 hE Q n10 (upd F 0 (0 : Int32)) A L x1 (0 : Int32) (24 : Int32) hw _ _ _ hI (lv_sub hl [2, 3, 1, 0] rfl)

/-- MatchmakerRulesModel.readsOne()V -/
abbrev rm_X4_readsOne : Room := { frames := 6, cells := 0, slots := 0, locals := 116 }
def wp_X4_readsOne_L32 (Q : (Nat → Int32) → (Nat → Nat → Int32) → (Nat → UInt32) → Prop) (F : Nat → Int32) (A : Nat → Nat → Int32) (L : Nat → UInt32) (x1 : Int32) (t1 : Int32) (t2 : Int32) : Prop := ((x1 = (43 : Int32) → wp_X4_kind (upd F 32 (t1 + t2)) A L (fun r2 F2 A2 L2 => (vp_in (((4 : Int32) * ((upd F 32 (t1 + t2)) 34)) + (1 : Int32)) 240 ∧ wp_X4_number F2 (ml_up A2 9 (Int32.toNatClampNeg (((4 : Int32) * ((upd F 32 (t1 + t2)) 34)) + (1 : Int32))) r2) L2 (1 : Int32) (fun r3 F3 A3 L3 => wp_X4_number F3 A3 L3 (1 : Int32) (fun r4 F4 A4 L4 => (vp_in (((4 : Int32) * (F2 34)) + (2 : Int32)) 240 ∧ wp_X4_must F4 (ml_up A4 9 (Int32.toNatClampNeg (((4 : Int32) * (F2 34)) + (2 : Int32))) (((10 : Int32) * r3) + r4)) L4 (42 : Int32) (fun F5 A5 L5 => wp_X4_number F5 A5 L5 (3 : Int32) (fun r6 F6 A6 L6 => (vp_in (((4 : Int32) * (F5 34)) + (3 : Int32)) 240 ∧ Q (upd F6 34 ((F6 34) + (1 : Int32))) (ml_up A6 9 (Int32.toNatClampNeg (((4 : Int32) * (F5 34)) + (3 : Int32))) r6) L6))))))))) ∧ (¬ x1 = (43 : Int32) → ((x1 = (45 : Int32) → wp_X4_number (upd F 32 (t1 + t2)) A L (3 : Int32) (fun r7 F7 A7 L7 => (vp_in (((4 : Int32) * ((upd F 32 (t1 + t2)) 34)) + (1 : Int32)) 240 ∧ Q (upd F7 34 ((F7 34) + (1 : Int32))) (ml_up A7 9 (Int32.toNatClampNeg (((4 : Int32) * ((upd F 32 (t1 + t2)) 34)) + (1 : Int32))) r7) L7))) ∧ (¬ x1 = (45 : Int32) → ((x1 = (58 : Int32) → (vp_in (((4 : Int32) * ((upd F 32 (t1 + t2)) 34)) + (1 : Int32)) 240 ∧ wp_X4_readsRule (upd F 32 (t1 + t2)) (ml_up A 9 (Int32.toNatClampNeg (((4 : Int32) * ((upd F 32 (t1 + t2)) 34)) + (1 : Int32))) ((upd F 32 (t1 + t2)) 32)) L (fun F8 A8 L8 => Q (upd F8 34 ((F8 34) + (1 : Int32))) A8 L8))) ∧ (¬ x1 = (58 : Int32) → ((x1 = (102 : Int32) → wp_X4_number (upd F 32 (t1 + t2)) A L (3 : Int32) (fun r9 F9 A9 L9 => (vp_in (((4 : Int32) * ((upd F 32 (t1 + t2)) 34)) + (1 : Int32)) 240 ∧ Q (upd F9 34 ((F9 34) + (1 : Int32))) (ml_up A9 9 (Int32.toNatClampNeg (((4 : Int32) * ((upd F 32 (t1 + t2)) 34)) + (1 : Int32))) r9) L9))) ∧ (¬ x1 = (102 : Int32) → ((x1 = (120 : Int32) → wp_X4_number (upd F 32 (t1 + t2)) A L (1 : Int32) (fun r10 F10 A10 L10 => (vp_in (((4 : Int32) * ((upd F 32 (t1 + t2)) 34)) + (1 : Int32)) 240 ∧ Q (upd F10 34 ((F10 34) + (1 : Int32))) (ml_up A10 9 (Int32.toNatClampNeg (((4 : Int32) * ((upd F 32 (t1 + t2)) 34)) + (1 : Int32))) r10) L10))) ∧ (¬ x1 = (120 : Int32) → ((¬ x1 = (-1 : Int32) → Q (upd (upd (upd (upd F 32 (t1 + t2)) 35 (1 : Int32)) 32 (((upd (upd F 32 (t1 + t2)) 35 (1 : Int32)) 32) - (1 : Int32))) 34 (((upd (upd (upd F 32 (t1 + t2)) 35 (1 : Int32)) 32 (((upd (upd F 32 (t1 + t2)) 35 (1 : Int32)) 32) - (1 : Int32))) 34) + (1 : Int32))) A L) ∧ (x1 = (-1 : Int32) → Q (upd (upd (upd (upd F 32 (t1 + t2)) 35 (1 : Int32)) 32 (((upd (upd F 32 (t1 + t2)) 35 (1 : Int32)) 32) - (0 : Int32))) 34 (((upd (upd (upd F 32 (t1 + t2)) 35 (1 : Int32)) 32 (((upd (upd F 32 (t1 + t2)) 35 (1 : Int32)) 32) - (0 : Int32))) 34) + (1 : Int32))) A L))))))))))))
set_option maxHeartbeats 4000000 in
theorem snd_X4_readsOne_L32 {p : Program} {l : Launch} {e : Env} {s : State} {m : MethodId} {args : Array Value} {below : List Frame} {meth : Method} {c : Code} {G : GG} {h0 : HH} {ad : Nat → Nat} (hE : hv_E p s m args meth c cX4_readsOne 2 (none : Option FieldType) RX4 G h0) (Q : (Nat → Int32) → (Nat → Nat → Int32) → (Nat → UInt32) → Prop) : ∀ (F : Nat → Int32) (A : Nat → Nat → Int32) (L : Nat → UInt32) (x1 : Int32) (t1 : Int32) (t2 : Int32), wp_X4_readsOne_L32 Q F A L x1 t1 t2 → ∀ (H : Heap) (locs : List Loc) (ls : Array Slot), ml_I G h0 s.heap ad F A L H locs → lv_has ls 2 [(0, .ref (ad 0)), (1, .int x1)] → W p l e (headSpec (ws_ yX4_readsOne cX4_readsOne 2 (none : Option FieldType)) rm_X4_readsOne).room s m args below meth c H locs 0 0 (MQ below (hv_Qv G h0 s.heap.size (ml_Q G h0 ad Q)) args s 0 0 (hv_A h0 s.heap.size)) (F0 m 32 ls [.int t2, .int t1, .ref (ad 0)]) := by
  obtain ⟨⟨hx, hb, hml, hown, hts⟩, hr, hlocks, -⟩ := id hE
  intro F A L x1 t1 t2 hw H locs ls hI hl
  unfold wp_X4_readsOne_L32 at hw
  refine lv_iadd hx hb dX4_readsOne_32 ?_
  refine ml_put hE hI 32 (by decide) q2017 rfl rfl (ty := .int) rfl rfl rfl (fun _ => rfl) dX4_readsOne_33 (fun H locs hI => ?_)
  refine lv_iload_n hx hb dX4_readsOne_36 rfl (lv_at hl 1 rfl) ?_
  by_cases s37_43 : x1 = (43 : Int32)
  · have hw := hw.1 s37_43
    refine lv_lookup (tgt := 88) (off := 51) hx hb dX4_readsOne_37 (by decide) (by rw [s37_43]; decide) (by decide) ?_
    refine lv_aload_n hx hb dX4_readsOne_88 rfl (lv_at hl 0 rfl) ?_
    refine ml_get hE hI 9 (by decide) q1994 rfl rfl dX4_readsOne_89 ?_
    refine lv_iconst (v := 4) hx hb dX4_readsOne_92 (by decide) ?_
    refine lv_aload_n hx hb dX4_readsOne_93 rfl (lv_at hl 0 rfl) ?_
    refine ml_get hE hI 34 (by decide) q2019 rfl rfl dX4_readsOne_94 ?_
    refine lv_imul hx hb dX4_readsOne_97 ?_
    refine lv_iconst (v := 1) hx hb dX4_readsOne_98 (by decide) ?_
    refine lv_iadd hx hb dX4_readsOne_99 ?_
    refine lv_aload_n hx hb dX4_readsOne_100 rfl (lv_at hl 0 rfl) ?_
    refine ml_calli (As := []) (rest := [.int (((4 : Int32) * ((upd F 32 (t1 + t2)) 34)) + (1 : Int32)), .ref (ad 9)]) (cells := 0) (slots := 0) hE hI (fun h hS => snd_X4_kind l G _ h ad (upd F 32 (t1 + t2)) A L _ hS hw) (cwV 0 hts (lw_V q2122 q2124 qs37 q108 q2125) rfl rfl rfl (by decide +kernel) ⟨Nat.le_of_ble_eq_true rfl, Nat.le_of_ble_eq_true rfl⟩) rfl hl.1 (Nat.le_of_ble_eq_true rfl) dX4_readsOne_101 ⟨Nat.le_of_ble_eq_true rfl, Nat.le_of_ble_eq_true rfl⟩ (fun r2 F2 A2 L2 H locs hw hI => ?_)
    obtain ⟨hin, hw⟩ := hw
    refine ml_iast hE hI 9 rfl rfl rfl hin dX4_readsOne_104 (fun H locs hI => ?_)
    refine lv_aload_n hx hb dX4_readsOne_105 rfl (lv_at hl 0 rfl) ?_
    refine ml_get hE hI 9 (by decide) q1994 rfl rfl dX4_readsOne_106 ?_
    refine lv_iconst (v := 4) hx hb dX4_readsOne_109 (by decide) ?_
    refine lv_aload_n hx hb dX4_readsOne_110 rfl (lv_at hl 0 rfl) ?_
    refine ml_get hE hI 34 (by decide) q2019 rfl rfl dX4_readsOne_111 ?_
    refine lv_imul hx hb dX4_readsOne_114 ?_
    refine lv_iconst (v := 2) hx hb dX4_readsOne_115 (by decide) ?_
    refine lv_iadd hx hb dX4_readsOne_116 ?_
    refine lv_bipush (v := 10) hx hb dX4_readsOne_117 (by decide) ?_
    refine lv_aload_n hx hb dX4_readsOne_119 rfl (lv_at hl 0 rfl) ?_
    refine lv_iconst (v := 1) hx hb dX4_readsOne_120 (by decide) ?_
    refine ml_calli (As := [.int (1 : Int32)]) (rest := [.int (10 : Int32), .int (((4 : Int32) * (F2 34)) + (2 : Int32)), .ref (ad 9)]) (cells := 0) (slots := 0) hE hI (fun h hS => snd_X4_number l G _ h ad F2 (ml_up A2 9 (Int32.toNatClampNeg (((4 : Int32) * ((upd F 32 (t1 + t2)) 34)) + (1 : Int32))) r2) L2 (1 : Int32) _ hS hw) (cwV 1 hts (lw_V q2145 q2147 qs42 q108 q2148) rfl rfl rfl (by decide +kernel) ⟨Nat.le_of_ble_eq_true rfl, Nat.le_of_ble_eq_true rfl⟩) rfl hl.1 (Nat.le_of_ble_eq_true rfl) dX4_readsOne_121 ⟨Nat.le_of_ble_eq_true rfl, Nat.le_of_ble_eq_true rfl⟩ (fun r3 F3 A3 L3 H locs hw hI => ?_)
    refine lv_imul hx hb dX4_readsOne_124 ?_
    refine lv_aload_n hx hb dX4_readsOne_125 rfl (lv_at hl 0 rfl) ?_
    refine lv_iconst (v := 1) hx hb dX4_readsOne_126 (by decide) ?_
    refine ml_calli (As := [.int (1 : Int32)]) (rest := [.int ((10 : Int32) * r3), .int (((4 : Int32) * (F2 34)) + (2 : Int32)), .ref (ad 9)]) (cells := 0) (slots := 0) hE hI (fun h hS => snd_X4_number l G _ h ad F3 A3 L3 (1 : Int32) _ hS hw) (cwV 1 hts (lw_V q2145 q2147 qs42 q108 q2148) rfl rfl rfl (by decide +kernel) ⟨Nat.le_of_ble_eq_true rfl, Nat.le_of_ble_eq_true rfl⟩) rfl hl.1 (Nat.le_of_ble_eq_true rfl) dX4_readsOne_127 ⟨Nat.le_of_ble_eq_true rfl, Nat.le_of_ble_eq_true rfl⟩ (fun r4 F4 A4 L4 H locs hw hI => ?_)
    refine lv_iadd hx hb dX4_readsOne_130 ?_
    obtain ⟨hin, hw⟩ := hw
    refine ml_iast hE hI 9 rfl rfl rfl hin dX4_readsOne_131 (fun H locs hI => ?_)
    refine lv_aload_n hx hb dX4_readsOne_132 rfl (lv_at hl 0 rfl) ?_
    refine lv_bipush (v := 42) hx hb dX4_readsOne_133 (by decide) ?_
    refine ml_callv (As := [.int (42 : Int32)]) (rest := []) (cells := 0) (slots := 0) hE hI (fun h hS => snd_X4_must l G _ h ad F4 (ml_up A4 9 (Int32.toNatClampNeg (((4 : Int32) * (F2 34)) + (2 : Int32))) (((10 : Int32) * r3) + r4)) L4 (42 : Int32) _ hS hw) (cwV 1 hts (lw_V q2141 q2143 qs41 q108 q2144) rfl rfl rfl (by decide +kernel) ⟨Nat.le_of_ble_eq_true rfl, Nat.le_of_ble_eq_true rfl⟩) rfl hl.1 (Nat.le_of_ble_eq_true rfl) dX4_readsOne_135 ⟨Nat.le_of_ble_eq_true rfl, Nat.le_of_ble_eq_true rfl⟩ (fun F5 A5 L5 H locs hw hI => ?_)
    refine lv_aload_n hx hb dX4_readsOne_138 rfl (lv_at hl 0 rfl) ?_
    refine ml_get hE hI 9 (by decide) q1994 rfl rfl dX4_readsOne_139 ?_
    refine lv_iconst (v := 4) hx hb dX4_readsOne_142 (by decide) ?_
    refine lv_aload_n hx hb dX4_readsOne_143 rfl (lv_at hl 0 rfl) ?_
    refine ml_get hE hI 34 (by decide) q2019 rfl rfl dX4_readsOne_144 ?_
    refine lv_imul hx hb dX4_readsOne_147 ?_
    refine lv_iconst (v := 3) hx hb dX4_readsOne_148 (by decide) ?_
    refine lv_iadd hx hb dX4_readsOne_149 ?_
    refine lv_aload_n hx hb dX4_readsOne_150 rfl (lv_at hl 0 rfl) ?_
    refine lv_iconst (v := 3) hx hb dX4_readsOne_151 (by decide) ?_
    refine ml_calli (As := [.int (3 : Int32)]) (rest := [.int (((4 : Int32) * (F5 34)) + (3 : Int32)), .ref (ad 9)]) (cells := 0) (slots := 0) hE hI (fun h hS => snd_X4_number l G _ h ad F5 A5 L5 (3 : Int32) _ hS hw) (cwV 1 hts (lw_V q2145 q2147 qs42 q108 q2148) rfl rfl rfl (by decide +kernel) ⟨Nat.le_of_ble_eq_true rfl, Nat.le_of_ble_eq_true rfl⟩) rfl hl.1 (Nat.le_of_ble_eq_true rfl) dX4_readsOne_152 ⟨Nat.le_of_ble_eq_true rfl, Nat.le_of_ble_eq_true rfl⟩ (fun r6 F6 A6 L6 H locs hw hI => ?_)
    obtain ⟨hin, hw⟩ := hw
    refine ml_iast hE hI 9 rfl rfl rfl hin dX4_readsOne_155 (fun H locs hI => ?_)
    refine lv_goto (tgt := 249) hx hb dX4_readsOne_156 (by decide) ?_
    refine lv_aload_n hx hb dX4_readsOne_249 rfl (lv_at hl 0 rfl) ?_
    refine lv_dup hx hb dX4_readsOne_250 rfl ?_
    refine ml_get hE hI 34 (by decide) q2019 rfl rfl dX4_readsOne_251 ?_
    refine lv_iconst (v := 1) hx hb dX4_readsOne_254 (by decide) ?_
    refine lv_iadd hx hb dX4_readsOne_255 ?_
    refine ml_put hE hI 34 (by decide) q2019 rfl rfl (ty := .int) rfl rfl rfl (fun _ => rfl) dX4_readsOne_256 (fun H locs hI => ?_)
    exact ml_vret hE hI hw dX4_readsOne_259
  · have hw := hw.2 s37_43
    by_cases s37_45 : x1 = (45 : Int32)
    · have hw := hw.1 s37_45
      refine lv_lookup (tgt := 159) (off := 122) hx hb dX4_readsOne_37 (by decide) (by rw [s37_45]; decide) (by decide) ?_
      refine lv_aload_n hx hb dX4_readsOne_159 rfl (lv_at hl 0 rfl) ?_
      refine ml_get hE hI 9 (by decide) q1994 rfl rfl dX4_readsOne_160 ?_
      refine lv_iconst (v := 4) hx hb dX4_readsOne_163 (by decide) ?_
      refine lv_aload_n hx hb dX4_readsOne_164 rfl (lv_at hl 0 rfl) ?_
      refine ml_get hE hI 34 (by decide) q2019 rfl rfl dX4_readsOne_165 ?_
      refine lv_imul hx hb dX4_readsOne_168 ?_
      refine lv_iconst (v := 1) hx hb dX4_readsOne_169 (by decide) ?_
      refine lv_iadd hx hb dX4_readsOne_170 ?_
      refine lv_aload_n hx hb dX4_readsOne_171 rfl (lv_at hl 0 rfl) ?_
      refine lv_iconst (v := 3) hx hb dX4_readsOne_172 (by decide) ?_
      refine ml_calli (As := [.int (3 : Int32)]) (rest := [.int (((4 : Int32) * ((upd F 32 (t1 + t2)) 34)) + (1 : Int32)), .ref (ad 9)]) (cells := 0) (slots := 0) hE hI (fun h hS => snd_X4_number l G _ h ad (upd F 32 (t1 + t2)) A L (3 : Int32) _ hS hw) (cwV 1 hts (lw_V q2145 q2147 qs42 q108 q2148) rfl rfl rfl (by decide +kernel) ⟨Nat.le_of_ble_eq_true rfl, Nat.le_of_ble_eq_true rfl⟩) rfl hl.1 (Nat.le_of_ble_eq_true rfl) dX4_readsOne_173 ⟨Nat.le_of_ble_eq_true rfl, Nat.le_of_ble_eq_true rfl⟩ (fun r7 F7 A7 L7 H locs hw hI => ?_)
      obtain ⟨hin, hw⟩ := hw
      refine ml_iast hE hI 9 rfl rfl rfl hin dX4_readsOne_176 (fun H locs hI => ?_)
      refine lv_goto (tgt := 249) hx hb dX4_readsOne_177 (by decide) ?_
      refine lv_aload_n hx hb dX4_readsOne_249 rfl (lv_at hl 0 rfl) ?_
      refine lv_dup hx hb dX4_readsOne_250 rfl ?_
      refine ml_get hE hI 34 (by decide) q2019 rfl rfl dX4_readsOne_251 ?_
      refine lv_iconst (v := 1) hx hb dX4_readsOne_254 (by decide) ?_
      refine lv_iadd hx hb dX4_readsOne_255 ?_
      refine ml_put hE hI 34 (by decide) q2019 rfl rfl (ty := .int) rfl rfl rfl (fun _ => rfl) dX4_readsOne_256 (fun H locs hI => ?_)
      exact ml_vret hE hI hw dX4_readsOne_259
    · have hw := hw.2 s37_45
      by_cases s37_58 : x1 = (58 : Int32)
      · have hw := hw.1 s37_58
        refine lv_lookup (tgt := 201) (off := 164) hx hb dX4_readsOne_37 (by decide) (by rw [s37_58]; decide) (by decide) ?_
        refine lv_aload_n hx hb dX4_readsOne_201 rfl (lv_at hl 0 rfl) ?_
        refine ml_get hE hI 9 (by decide) q1994 rfl rfl dX4_readsOne_202 ?_
        refine lv_iconst (v := 4) hx hb dX4_readsOne_205 (by decide) ?_
        refine lv_aload_n hx hb dX4_readsOne_206 rfl (lv_at hl 0 rfl) ?_
        refine ml_get hE hI 34 (by decide) q2019 rfl rfl dX4_readsOne_207 ?_
        refine lv_imul hx hb dX4_readsOne_210 ?_
        refine lv_iconst (v := 1) hx hb dX4_readsOne_211 (by decide) ?_
        refine lv_iadd hx hb dX4_readsOne_212 ?_
        refine lv_aload_n hx hb dX4_readsOne_213 rfl (lv_at hl 0 rfl) ?_
        refine ml_get hE hI 32 (by decide) q2017 rfl rfl dX4_readsOne_214 ?_
        obtain ⟨hin, hw⟩ := hw
        refine ml_iast hE hI 9 rfl rfl rfl hin dX4_readsOne_217 (fun H locs hI => ?_)
        refine lv_aload_n hx hb dX4_readsOne_218 rfl (lv_at hl 0 rfl) ?_
        refine ml_callv (As := []) (rest := []) (cells := 0) (slots := 0) hE hI (fun h hS => snd_X4_readsRule l G _ h ad (upd F 32 (t1 + t2)) (ml_up A 9 (Int32.toNatClampNeg (((4 : Int32) * ((upd F 32 (t1 + t2)) 34)) + (1 : Int32))) ((upd F 32 (t1 + t2)) 32)) L _ hS hw) (cwV 0 hts (lw_V q2114 q2116 qs35 q108 q2117) rfl rfl rfl (by decide +kernel) ⟨Nat.le_of_ble_eq_true rfl, Nat.le_of_ble_eq_true rfl⟩) rfl hl.1 (Nat.le_of_ble_eq_true rfl) dX4_readsOne_219 ⟨Nat.le_of_ble_eq_true rfl, Nat.le_of_ble_eq_true rfl⟩ (fun F8 A8 L8 H locs hw hI => ?_)
        refine lv_goto (tgt := 249) hx hb dX4_readsOne_222 (by decide) ?_
        refine lv_aload_n hx hb dX4_readsOne_249 rfl (lv_at hl 0 rfl) ?_
        refine lv_dup hx hb dX4_readsOne_250 rfl ?_
        refine ml_get hE hI 34 (by decide) q2019 rfl rfl dX4_readsOne_251 ?_
        refine lv_iconst (v := 1) hx hb dX4_readsOne_254 (by decide) ?_
        refine lv_iadd hx hb dX4_readsOne_255 ?_
        refine ml_put hE hI 34 (by decide) q2019 rfl rfl (ty := .int) rfl rfl rfl (fun _ => rfl) dX4_readsOne_256 (fun H locs hI => ?_)
        exact ml_vret hE hI hw dX4_readsOne_259
      · have hw := hw.2 s37_58
        by_cases s37_102 : x1 = (102 : Int32)
        · have hw := hw.1 s37_102
          refine lv_lookup (tgt := 159) (off := 122) hx hb dX4_readsOne_37 (by decide) (by rw [s37_102]; decide) (by decide) ?_
          refine lv_aload_n hx hb dX4_readsOne_159 rfl (lv_at hl 0 rfl) ?_
          refine ml_get hE hI 9 (by decide) q1994 rfl rfl dX4_readsOne_160 ?_
          refine lv_iconst (v := 4) hx hb dX4_readsOne_163 (by decide) ?_
          refine lv_aload_n hx hb dX4_readsOne_164 rfl (lv_at hl 0 rfl) ?_
          refine ml_get hE hI 34 (by decide) q2019 rfl rfl dX4_readsOne_165 ?_
          refine lv_imul hx hb dX4_readsOne_168 ?_
          refine lv_iconst (v := 1) hx hb dX4_readsOne_169 (by decide) ?_
          refine lv_iadd hx hb dX4_readsOne_170 ?_
          refine lv_aload_n hx hb dX4_readsOne_171 rfl (lv_at hl 0 rfl) ?_
          refine lv_iconst (v := 3) hx hb dX4_readsOne_172 (by decide) ?_
          refine ml_calli (As := [.int (3 : Int32)]) (rest := [.int (((4 : Int32) * ((upd F 32 (t1 + t2)) 34)) + (1 : Int32)), .ref (ad 9)]) (cells := 0) (slots := 0) hE hI (fun h hS => snd_X4_number l G _ h ad (upd F 32 (t1 + t2)) A L (3 : Int32) _ hS hw) (cwV 1 hts (lw_V q2145 q2147 qs42 q108 q2148) rfl rfl rfl (by decide +kernel) ⟨Nat.le_of_ble_eq_true rfl, Nat.le_of_ble_eq_true rfl⟩) rfl hl.1 (Nat.le_of_ble_eq_true rfl) dX4_readsOne_173 ⟨Nat.le_of_ble_eq_true rfl, Nat.le_of_ble_eq_true rfl⟩ (fun r9 F9 A9 L9 H locs hw hI => ?_)
          obtain ⟨hin, hw⟩ := hw
          refine ml_iast hE hI 9 rfl rfl rfl hin dX4_readsOne_176 (fun H locs hI => ?_)
          refine lv_goto (tgt := 249) hx hb dX4_readsOne_177 (by decide) ?_
          refine lv_aload_n hx hb dX4_readsOne_249 rfl (lv_at hl 0 rfl) ?_
          refine lv_dup hx hb dX4_readsOne_250 rfl ?_
          refine ml_get hE hI 34 (by decide) q2019 rfl rfl dX4_readsOne_251 ?_
          refine lv_iconst (v := 1) hx hb dX4_readsOne_254 (by decide) ?_
          refine lv_iadd hx hb dX4_readsOne_255 ?_
          refine ml_put hE hI 34 (by decide) q2019 rfl rfl (ty := .int) rfl rfl rfl (fun _ => rfl) dX4_readsOne_256 (fun H locs hI => ?_)
          exact ml_vret hE hI hw dX4_readsOne_259
        · have hw := hw.2 s37_102
          by_cases s37_120 : x1 = (120 : Int32)
          · have hw := hw.1 s37_120
            refine lv_lookup (tgt := 180) (off := 143) hx hb dX4_readsOne_37 (by decide) (by rw [s37_120]; decide) (by decide) ?_
            refine lv_aload_n hx hb dX4_readsOne_180 rfl (lv_at hl 0 rfl) ?_
            refine ml_get hE hI 9 (by decide) q1994 rfl rfl dX4_readsOne_181 ?_
            refine lv_iconst (v := 4) hx hb dX4_readsOne_184 (by decide) ?_
            refine lv_aload_n hx hb dX4_readsOne_185 rfl (lv_at hl 0 rfl) ?_
            refine ml_get hE hI 34 (by decide) q2019 rfl rfl dX4_readsOne_186 ?_
            refine lv_imul hx hb dX4_readsOne_189 ?_
            refine lv_iconst (v := 1) hx hb dX4_readsOne_190 (by decide) ?_
            refine lv_iadd hx hb dX4_readsOne_191 ?_
            refine lv_aload_n hx hb dX4_readsOne_192 rfl (lv_at hl 0 rfl) ?_
            refine lv_iconst (v := 1) hx hb dX4_readsOne_193 (by decide) ?_
            refine ml_calli (As := [.int (1 : Int32)]) (rest := [.int (((4 : Int32) * ((upd F 32 (t1 + t2)) 34)) + (1 : Int32)), .ref (ad 9)]) (cells := 0) (slots := 0) hE hI (fun h hS => snd_X4_number l G _ h ad (upd F 32 (t1 + t2)) A L (1 : Int32) _ hS hw) (cwV 1 hts (lw_V q2145 q2147 qs42 q108 q2148) rfl rfl rfl (by decide +kernel) ⟨Nat.le_of_ble_eq_true rfl, Nat.le_of_ble_eq_true rfl⟩) rfl hl.1 (Nat.le_of_ble_eq_true rfl) dX4_readsOne_194 ⟨Nat.le_of_ble_eq_true rfl, Nat.le_of_ble_eq_true rfl⟩ (fun r10 F10 A10 L10 H locs hw hI => ?_)
            obtain ⟨hin, hw⟩ := hw
            refine ml_iast hE hI 9 rfl rfl rfl hin dX4_readsOne_197 (fun H locs hI => ?_)
            refine lv_goto (tgt := 249) hx hb dX4_readsOne_198 (by decide) ?_
            refine lv_aload_n hx hb dX4_readsOne_249 rfl (lv_at hl 0 rfl) ?_
            refine lv_dup hx hb dX4_readsOne_250 rfl ?_
            refine ml_get hE hI 34 (by decide) q2019 rfl rfl dX4_readsOne_251 ?_
            refine lv_iconst (v := 1) hx hb dX4_readsOne_254 (by decide) ?_
            refine lv_iadd hx hb dX4_readsOne_255 ?_
            refine ml_put hE hI 34 (by decide) q2019 rfl rfl (ty := .int) rfl rfl rfl (fun _ => rfl) dX4_readsOne_256 (fun H locs hI => ?_)
            exact ml_vret hE hI hw dX4_readsOne_259
          · have hw := hw.2 s37_120
            refine lv_lookup (tgt := 225) (off := 188) hx hb dX4_readsOne_37 (by decide) (by refine (lv_osw s37_43 (by decide)).trans ?_; refine (lv_osw s37_45 (by decide)).trans ?_; refine (lv_osw s37_58 (by decide)).trans ?_; refine (lv_osw s37_102 (by decide)).trans ?_; refine (lv_osw s37_120 (by decide)).trans ?_; rfl) (by decide) ?_
            refine lv_aload_n hx hb dX4_readsOne_225 rfl (lv_at hl 0 rfl) ?_
            refine lv_iconst (v := 1) hx hb dX4_readsOne_226 (by decide) ?_
            refine ml_put hE hI 35 (by decide) q2020 rfl rfl (ty := .boolean) rfl rfl rfl (fun _ => rfl) dX4_readsOne_227 (fun H locs hI => ?_)
            refine lv_aload_n hx hb dX4_readsOne_230 rfl (lv_at hl 0 rfl) ?_
            refine lv_dup hx hb dX4_readsOne_231 rfl ?_
            refine ml_get hE hI 32 (by decide) q2017 rfl rfl dX4_readsOne_232 ?_
            refine lv_iload_n hx hb dX4_readsOne_235 rfl (lv_at hl 1 rfl) ?_
            refine lv_iconst (v := -1) hx hb dX4_readsOne_236 (by decide) ?_
            refine lv_icmp_ne (tgt := 244) hx hb dX4_readsOne_237 (by decide) (fun c_237 => ?_) (fun c_237 => ?_)
            · have hw := hw.1 c_237
              refine lv_iconst (v := 1) hx hb dX4_readsOne_244 (by decide) ?_
              refine lv_isub hx hb dX4_readsOne_245 ?_
              refine ml_put hE hI 32 (by decide) q2017 rfl rfl (ty := .int) rfl rfl rfl (fun _ => rfl) dX4_readsOne_246 (fun H locs hI => ?_)
              refine lv_aload_n hx hb dX4_readsOne_249 rfl (lv_at hl 0 rfl) ?_
              refine lv_dup hx hb dX4_readsOne_250 rfl ?_
              refine ml_get hE hI 34 (by decide) q2019 rfl rfl dX4_readsOne_251 ?_
              refine lv_iconst (v := 1) hx hb dX4_readsOne_254 (by decide) ?_
              refine lv_iadd hx hb dX4_readsOne_255 ?_
              refine ml_put hE hI 34 (by decide) q2019 rfl rfl (ty := .int) rfl rfl rfl (fun _ => rfl) dX4_readsOne_256 (fun H locs hI => ?_)
              exact ml_vret hE hI hw dX4_readsOne_259
            · have hw := hw.2 c_237
              refine lv_iconst (v := 0) hx hb dX4_readsOne_240 (by decide) ?_
              refine lv_goto (tgt := 245) hx hb dX4_readsOne_241 (by decide) ?_
              refine lv_isub hx hb dX4_readsOne_245 ?_
              refine ml_put hE hI 32 (by decide) q2017 rfl rfl (ty := .int) rfl rfl rfl (fun _ => rfl) dX4_readsOne_246 (fun H locs hI => ?_)
              refine lv_aload_n hx hb dX4_readsOne_249 rfl (lv_at hl 0 rfl) ?_
              refine lv_dup hx hb dX4_readsOne_250 rfl ?_
              refine ml_get hE hI 34 (by decide) q2019 rfl rfl dX4_readsOne_251 ?_
              refine lv_iconst (v := 1) hx hb dX4_readsOne_254 (by decide) ?_
              refine lv_iadd hx hb dX4_readsOne_255 ?_
              refine ml_put hE hI 34 (by decide) q2019 rfl rfl (ty := .int) rfl rfl rfl (fun _ => rfl) dX4_readsOne_256 (fun H locs hI => ?_)
              exact ml_vret hE hI hw dX4_readsOne_259
def wp_X4_readsOne (F : Nat → Int32) (A : Nat → Nat → Int32) (L : Nat → UInt32) (Q : (Nat → Int32) → (Nat → Nat → Int32) → (Nat → UInt32) → Prop) : Prop := wp_X4_here F A L (fun r1 F1 A1 L1 => (vp_in ((4 : Int32) * (F1 34)) 240 ∧ ((¬ r1 = (-1 : Int32) → wp_X4_readsOne_L32 Q F1 (ml_up A1 9 (Int32.toNatClampNeg ((4 : Int32) * (F1 34))) r1) L1 r1 (F1 32) (1 : Int32)) ∧ (r1 = (-1 : Int32) → wp_X4_readsOne_L32 Q F1 (ml_up A1 9 (Int32.toNatClampNeg ((4 : Int32) * (F1 34))) r1) L1 r1 (F1 32) (0 : Int32)))))
set_option maxHeartbeats 4000000 in
theorem snd_X4_readsOne (l : Launch) (G : GG) (sz : Nat) (h : HH) (ad : Nat → Nat) (F : Nat → Int32) (A : Nat → Nat → Int32) (L : Nat → UInt32) (Q : (Nat → Int32) → (Nat → Nat → Int32) → (Nat → UInt32) → Prop) (hS : ml_S G h ad F A L) (hw : wp_X4_readsOne F A L Q) : Met l yX4_readsOne (ws_ yX4_readsOne cX4_readsOne 2 (none : Option FieldType)) rm_X4_readsOne (hv_Pc G h sz [.ref (ad 0)]) (hv_Qv G h sz (ml_Q G h ad Q)) 0 0 (hv_A h sz) := by
  refine Met.ofW (cc := cX4_readsOne) (maxL := 2) (ret := (none : Option FieldType)) (by decide) rfl ?_
  intro p e s m args below meth c s₁ B hml hv
  obtain ⟨rfl, rfl, hE, hI⟩ := hv_open B hml hv
  have hE : hv_E p s m ([.ref (ad 0)] : List Value).toArray meth c cX4_readsOne 2 (none : Option FieldType) RX4 G h := hE
  have hI := ml_I.start hI hS
  obtain ⟨⟨hx, hb, hml, hown, hts⟩, hr, hlocks, -⟩ := id hE
  have hl := lv_entry ([.ref (ad 0)] : List Value) (n := 2) (Nat.le_of_ble_eq_true rfl)
  rw [lg_entry_eq]
  generalize (lg_sl ([.ref (ad 0)] : List Value) ++ List.replicate (2 - (lg_sl ([.ref (ad 0)] : List Value)).length) Slot.unset).toArray = ls at hl ⊢
  have hl : lv_has ls 2 [(0, .ref (ad 0))] := hl
  unfold wp_X4_readsOne at hw
  refine lv_aload_n hx hb dX4_readsOne_0 rfl (lv_at hl 0 rfl) ?_
  refine ml_calli (As := []) (rest := []) (cells := 0) (slots := 0) hE hI (fun h hS => snd_X4_here l G _ h ad F A L _ hS hw) (cwV 0 hts (lw_V q2126 q2128 qs38 q108 q2129) rfl rfl rfl (by decide +kernel) ⟨Nat.le_of_ble_eq_true rfl, Nat.le_of_ble_eq_true rfl⟩) rfl hl.1 (Nat.le_of_ble_eq_true rfl) dX4_readsOne_1 ⟨Nat.le_of_ble_eq_true rfl, Nat.le_of_ble_eq_true rfl⟩ (fun r1 F1 A1 L1 H locs hw hI => ?_)
  refine lv_istore_n (lv' := [(1, .int r1), (0, .ref (ad 0))]) hx hb dX4_readsOne_4 rfl hl (by decide) rfl (fun ls hl => ?_)
  refine lv_aload_n hx hb dX4_readsOne_5 rfl (lv_at hl 1 rfl) ?_
  refine ml_get hE hI 9 (by decide) q1994 rfl rfl dX4_readsOne_6 ?_
  refine lv_iconst (v := 4) hx hb dX4_readsOne_9 (by decide) ?_
  refine lv_aload_n hx hb dX4_readsOne_10 rfl (lv_at hl 1 rfl) ?_
  refine ml_get hE hI 34 (by decide) q2019 rfl rfl dX4_readsOne_11 ?_
  refine lv_imul hx hb dX4_readsOne_14 ?_
  refine lv_iload_n hx hb dX4_readsOne_15 rfl (lv_at hl 0 rfl) ?_
  obtain ⟨hin, hw⟩ := hw
  refine ml_iast hE hI 9 rfl rfl rfl hin dX4_readsOne_16 (fun H locs hI => ?_)
  refine lv_aload_n hx hb dX4_readsOne_17 rfl (lv_at hl 1 rfl) ?_
  refine lv_dup hx hb dX4_readsOne_18 rfl ?_
  refine ml_get hE hI 32 (by decide) q2017 rfl rfl dX4_readsOne_19 ?_
  refine lv_iload_n hx hb dX4_readsOne_22 rfl (lv_at hl 0 rfl) ?_
  refine lv_iconst (v := -1) hx hb dX4_readsOne_23 (by decide) ?_
  refine lv_icmp_ne (tgt := 31) hx hb dX4_readsOne_24 (by decide) (fun c_24 => ?_) (fun c_24 => ?_)
  · have hw := hw.1 c_24
    refine lv_iconst (v := 1) hx hb dX4_readsOne_31 (by decide) ?_
    exact snd_X4_readsOne_L32 hE Q F1 (ml_up A1 9 (Int32.toNatClampNeg ((4 : Int32) * (F1 34))) r1) L1 r1 (F1 32) (1 : Int32) hw _ _ _ hI (lv_sub hl [1, 0] rfl)
  · have hw := hw.2 c_24
    refine lv_iconst (v := 0) hx hb dX4_readsOne_27 (by decide) ?_
    refine lv_goto (tgt := 32) hx hb dX4_readsOne_28 (by decide) ?_
    exact snd_X4_readsOne_L32 hE Q F1 (ml_up A1 9 (Int32.toNatClampNeg ((4 : Int32) * (F1 34))) r1) L1 r1 (F1 32) (0 : Int32) hw _ _ _ hI (lv_sub hl [1, 0] rfl)
