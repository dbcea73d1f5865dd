/-! the reference's methods, walked (by gen/model.py) -/
set_option maxRecDepth 100000
/-- MatchmakerRulesModel.of(II)I -/
abbrev rm_X4_of : Room := { frames := 1, cells := 0, slots := 0, locals := 12 }
def wp_X4_of (F : Nat → Int32) (A : Nat → Nat → Int32) (L : Nat → UInt32) (x1 : Int32) (x2 : Int32) (Q : Int32 → (Nat → Int32) → (Nat → Nat → Int32) → (Nat → UInt32) → Prop) : Prop := (vp_in (((7 : Int32) + ((11 : Int32) * x1)) + x2) 13675 ∧ Q (A 1 (Int32.toNatClampNeg (((7 : Int32) + ((11 : Int32) * x1)) + x2))) F A L)
set_option maxHeartbeats 4000000 in
theorem snd_X4_of (l : Launch) (G : GG) (sz : Nat) (h : HH) (ad : Nat → Nat) (F : Nat → Int32) (A : Nat → Nat → Int32) (L : Nat → UInt32) (x1 : Int32) (x2 : Int32) (Q : Int32 → (Nat → Int32) → (Nat → Nat → Int32) → (Nat → UInt32) → Prop) (hS : ml_S G h ad F A L) (hw : wp_X4_of F A L x1 x2 Q) : Met l yX4_of (ws_ yX4_of cX4_of 3 (some FieldType.int)) rm_X4_of (hv_Pc G h sz [.ref (ad 0), .int x1, .int x2]) (hv_Qi G h sz (fun r => ml_Q G h ad (Q r))) 0 0 (hv_A h sz) := by
  refine Met.ofW (cc := cX4_of) (maxL := 3) (ret := (some FieldType.int)) (by decide) rfl ?_
  intro p e s m args below meth c s₁ B hml hv
  obtain ⟨rfl, rfl, hE, hI⟩ := hv_open B hml hv
  have hE : hv_E p s m ([.ref (ad 0), .int x1, .int x2] : List Value).toArray meth c cX4_of 3 (some FieldType.int) RX4 G h := hE
  have hI := ml_I.start hI hS
  obtain ⟨⟨hx, hb, hml, hown, hts⟩, hr, hlocks, -⟩ := id hE
  have hl := lv_entry ([.ref (ad 0), .int x1, .int x2] : List Value) (n := 3) (Nat.le_of_ble_eq_true rfl)
  rw [lg_entry_eq]
  generalize (lg_sl ([.ref (ad 0), .int x1, .int x2] : List Value) ++ List.replicate (3 - (lg_sl ([.ref (ad 0), .int x1, .int x2] : List Value)).length) Slot.unset).toArray = ls at hl ⊢
  have hl : lv_has ls 3 [(0, .ref (ad 0)), (1, .int x1), (2, .int x2)] := hl
  unfold wp_X4_of at hw
  refine lv_aload_n hx hb dX4_of_0 rfl (lv_at hl 0 rfl) ?_
  refine ml_get hE hI 1 (by decide) q1986 rfl rfl dX4_of_1 ?_
  refine lv_bipush (v := 7) hx hb dX4_of_4 (by decide) ?_
  refine lv_bipush (v := 11) hx hb dX4_of_6 (by decide) ?_
  refine lv_iload_n hx hb dX4_of_8 rfl (lv_at hl 1 rfl) ?_
  refine lv_imul hx hb dX4_of_9 ?_
  refine lv_iadd hx hb dX4_of_10 ?_
  refine lv_iload_n hx hb dX4_of_11 rfl (lv_at hl 2 rfl) ?_
  refine lv_iadd hx hb dX4_of_12 ?_
  obtain ⟨hin, hw⟩ := hw
  refine ml_iald hE hI 1 rfl rfl rfl hin dX4_of_13 ?_
  exact ml_iret hE hI hw dX4_of_14

/-- MatchmakerRulesModel.fits(II)Z -/
abbrev rm_X4_fits : Room := { frames := 1, cells := 0, slots := 0, locals := 12 }
def wp_X4_fits_L39 (Q : Int32 → (Nat → Int32) → (Nat → Nat → Int32) → (Nat → UInt32) → Prop) (F : Nat → Int32) (A : Nat → Nat → Int32) (L : Nat → UInt32) (x2 : Int32) (x3 : Int32) : Prop := (vp_in x3 3 ∧ ((¬ (A 11 (Int32.toNatClampNeg x3)) = x2 → Q (0 : Int32) F A L) ∧ ((A 11 (Int32.toNatClampNeg x3)) = x2 → Q (1 : Int32) F A L)))
set_option maxHeartbeats 4000000 in
theorem snd_X4_fits_L39 {p : Program} {l : Launch} {e : Env} {s : State} {m : MethodId} {args : Array Value} {below : List Frame} {meth : Method} {c : Code} {G : GG} {h0 : HH} {ad : Nat → Nat} (hE : hv_E p s m args meth c cX4_fits 4 (some FieldType.boolean) RX4 G h0) (Q : Int32 → (Nat → Int32) → (Nat → Nat → Int32) → (Nat → UInt32) → Prop) : ∀ (F : Nat → Int32) (A : Nat → Nat → Int32) (L : Nat → UInt32) (x2 : Int32) (x3 : Int32), wp_X4_fits_L39 Q F A L x2 x3 → ∀ (H : Heap) (locs : List Loc) (ls : Array Slot), ml_I G h0 s.heap ad F A L H locs → lv_has ls 4 [(0, .ref (ad 0)), (2, .int x2), (3, .int x3)] → W p l e (headSpec (ws_ yX4_fits cX4_fits 4 (some FieldType.boolean)) rm_X4_fits).room s m args below meth c H locs 0 0 (MQ below (hv_Qi G h0 s.heap.size (fun r => ml_Q G h0 ad (Q r))) args s 0 0 (hv_A h0 s.heap.size)) (F0 m 39 ls []) := by
  obtain ⟨⟨hx, hb, hml, hown, hts⟩, hr, hlocks, -⟩ := id hE
  intro F A L x2 x3 hw H locs ls hI hl
  unfold wp_X4_fits_L39 at hw
  refine lv_aload_n hx hb dX4_fits_39 rfl (lv_at hl 0 rfl) ?_
  refine ml_get hE hI 11 (by decide) q1996 rfl rfl dX4_fits_40 ?_
  refine lv_iload_n hx hb dX4_fits_43 rfl (lv_at hl 2 rfl) ?_
  obtain ⟨hin, hw⟩ := hw
  refine ml_iald hE hI 11 rfl rfl rfl hin dX4_fits_44 ?_
  refine lv_iload_n hx hb dX4_fits_45 rfl (lv_at hl 1 rfl) ?_
  refine lv_icmp_ne (tgt := 53) hx hb dX4_fits_46 (by decide) (fun c_46 => ?_) (fun c_46 => ?_)
  · have hw := hw.1 c_46
    refine lv_iconst (v := 0) hx hb dX4_fits_53 (by decide) ?_
    exact ml_zret hE hI rfl hw dX4_fits_54
  · have hw := hw.2 c_46
    refine lv_iconst (v := 1) hx hb dX4_fits_49 (by decide) ?_
    refine lv_goto (tgt := 54) hx hb dX4_fits_50 (by decide) ?_
    exact ml_zret hE hI rfl hw dX4_fits_54
def wp_X4_fits (F : Nat → Int32) (A : Nat → Nat → Int32) (L : Nat → UInt32) (x1 : Int32) (x2 : Int32) (Q : Int32 → (Nat → Int32) → (Nat → Nat → Int32) → (Nat → UInt32) → Prop) : Prop := (((10 : Int32) ≤ x1 → (vp_in (x1 - (10 : Int32)) 3 ∧ ((¬ (A 11 (Int32.toNatClampNeg (x1 - (10 : Int32)))) = (-1 : Int32) → wp_X4_fits_L39 Q F A L x2 (x1 - (10 : Int32))) ∧ ((A 11 (Int32.toNatClampNeg (x1 - (10 : Int32)))) = (-1 : Int32) → (vp_in (x1 - (10 : Int32)) 3 ∧ wp_X4_fits_L39 Q F (ml_up A 11 (Int32.toNatClampNeg (x1 - (10 : Int32))) x2) L x2 (x1 - (10 : Int32))))))) ∧ (¬ (10 : Int32) ≤ x1 → ((¬ x1 = x2 → Q (0 : Int32) F A L) ∧ (x1 = x2 → Q (1 : Int32) F A L))))
set_option maxHeartbeats 4000000 in
theorem snd_X4_fits (l : Launch) (G : GG) (sz : Nat) (h : HH) (ad : Nat → Nat) (F : Nat → Int32) (A : Nat → Nat → Int32) (L : Nat → UInt32) (x1 : Int32) (x2 : Int32) (Q : Int32 → (Nat → Int32) → (Nat → Nat → Int32) → (Nat → UInt32) → Prop) (hS : ml_S G h ad F A L) (hw : wp_X4_fits F A L x1 x2 Q) : Met l yX4_fits (ws_ yX4_fits cX4_fits 4 (some FieldType.boolean)) rm_X4_fits (hv_Pc G h sz [.ref (ad 0), .int x1, .int x2]) (hv_Qi G h sz (fun r => ml_Q G h ad (Q r))) 0 0 (hv_A h sz) := by
  refine Met.ofW (cc := cX4_fits) (maxL := 4) (ret := (some FieldType.boolean)) (by decide) rfl ?_
  intro p e s m args below meth c s₁ B hml hv
  obtain ⟨rfl, rfl, hE, hI⟩ := hv_open B hml hv
  have hE : hv_E p s m ([.ref (ad 0), .int x1, .int x2] : List Value).toArray meth c cX4_fits 4 (some FieldType.boolean) RX4 G h := hE
  have hI := ml_I.start hI hS
  obtain ⟨⟨hx, hb, hml, hown, hts⟩, hr, hlocks, -⟩ := id hE
  have hl := lv_entry ([.ref (ad 0), .int x1, .int x2] : List Value) (n := 4) (Nat.le_of_ble_eq_true rfl)
  rw [lg_entry_eq]
  generalize (lg_sl ([.ref (ad 0), .int x1, .int x2] : List Value) ++ List.replicate (4 - (lg_sl ([.ref (ad 0), .int x1, .int x2] : List Value)).length) Slot.unset).toArray = ls at hl ⊢
  have hl : lv_has ls 4 [(0, .ref (ad 0)), (1, .int x1), (2, .int x2)] := hl
  unfold wp_X4_fits at hw
  refine lv_iload_n hx hb dX4_fits_0 rfl (lv_at hl 1 rfl) ?_
  refine lv_bipush (v := 10) hx hb dX4_fits_1 (by decide) ?_
  refine lv_icmp_ge (tgt := 17) hx hb dX4_fits_3 (by decide) (fun c_3 => ?_) (fun c_3 => ?_)
  · have hw := hw.1 c_3
    refine lv_iload_n hx hb dX4_fits_17 rfl (lv_at hl 1 rfl) ?_
    refine lv_bipush (v := 10) hx hb dX4_fits_18 (by decide) ?_
    refine lv_isub hx hb dX4_fits_20 ?_
    refine lv_istore_n (lv' := [(3, .int (x1 - (10 : Int32))), (0, .ref (ad 0)), (1, .int x1), (2, .int x2)]) hx hb dX4_fits_21 rfl hl (by decide) rfl (fun ls hl => ?_)
    refine lv_aload_n hx hb dX4_fits_22 rfl (lv_at hl 1 rfl) ?_
    refine ml_get hE hI 11 (by decide) q1996 rfl rfl dX4_fits_23 ?_
    refine lv_iload_n hx hb dX4_fits_26 rfl (lv_at hl 0 rfl) ?_
    obtain ⟨hin, hw⟩ := hw
    refine ml_iald hE hI 11 rfl rfl rfl hin dX4_fits_27 ?_
    refine lv_iconst (v := -1) hx hb dX4_fits_28 (by decide) ?_
    refine lv_icmp_ne (tgt := 39) hx hb dX4_fits_29 (by decide) (fun c_29 => ?_) (fun c_29 => ?_)
    · have hw := hw.1 c_29
      exact snd_X4_fits_L39 hE Q F A L x2 (x1 - (10 : Int32)) hw _ _ _ hI (lv_sub hl [1, 3, 0] rfl)
    · have hw := hw.2 c_29
      refine lv_aload_n hx hb dX4_fits_32 rfl (lv_at hl 1 rfl) ?_
      refine ml_get hE hI 11 (by decide) q1996 rfl rfl dX4_fits_33 ?_
      refine lv_iload_n hx hb dX4_fits_36 rfl (lv_at hl 0 rfl) ?_
      refine lv_iload_n hx hb dX4_fits_37 rfl (lv_at hl 3 rfl) ?_
      obtain ⟨hin, hw⟩ := hw
      refine ml_iast hE hI 11 rfl rfl rfl hin dX4_fits_38 (fun H locs hI => ?_)
      exact snd_X4_fits_L39 hE Q F (ml_up A 11 (Int32.toNatClampNeg (x1 - (10 : Int32))) x2) L x2 (x1 - (10 : Int32)) hw _ _ _ hI (lv_sub hl [1, 3, 0] rfl)
  · have hw := hw.2 c_3
    refine lv_iload_n hx hb dX4_fits_6 rfl (lv_at hl 1 rfl) ?_
    refine lv_iload_n hx hb dX4_fits_7 rfl (lv_at hl 2 rfl) ?_
    refine lv_icmp_ne (tgt := 15) hx hb dX4_fits_8 (by decide) (fun c_8 => ?_) (fun c_8 => ?_)
    · have hw := hw.1 c_8
      refine lv_iconst (v := 0) hx hb dX4_fits_15 (by decide) ?_
      exact ml_zret hE hI rfl hw dX4_fits_16
    · have hw := hw.2 c_8
      refine lv_iconst (v := 1) hx hb dX4_fits_11 (by decide) ?_
      refine lv_goto (tgt := 16) hx hb dX4_fits_12 (by decide) ?_
      exact ml_zret hE hI rfl hw dX4_fits_16

/-- MatchmakerRulesModel.fitsPattern(III)Z -/
abbrev rm_X4_fitsPattern : Room := { frames := 2, cells := 0, slots := 0, locals := 35 }
def wp_X4_fitsPattern (F : Nat → Int32) (A : Nat → Nat → Int32) (L : Nat → UInt32) (x1 : Int32) (x2 : Int32) (x3 : Int32) (Q : Int32 → (Nat → Int32) → (Nat → Nat → Int32) → (Nat → UInt32) → Prop) : Prop := wp_X4_of F A L x1 x2 (fun r1 F1 A1 L1 => (vp_in ((115 : Int32) + x3) 13675 ∧ ((¬ r1 = (A1 1 (Int32.toNatClampNeg ((115 : Int32) + x3))) → Q (0 : Int32) F1 A1 L1) ∧ (r1 = (A1 1 (Int32.toNatClampNeg ((115 : Int32) + x3))) → wp_X4_of F1 A1 L1 x1 (x2 + (1 : Int32)) (fun r2 F2 A2 L2 => (vp_in ((135 : Int32) + x3) 13675 ∧ wp_X4_fits F2 A2 L2 r2 (A2 1 (Int32.toNatClampNeg ((135 : Int32) + x3))) (fun r3 F3 A3 L3 => ((r3 = 0 → Q (0 : Int32) F3 A3 L3) ∧ (¬ r3 = 0 → wp_X4_of F3 A3 L3 x1 (x2 + (2 : Int32)) (fun r4 F4 A4 L4 => (vp_in ((155 : Int32) + x3) 13675 ∧ wp_X4_fits F4 A4 L4 r4 (A4 1 (Int32.toNatClampNeg ((155 : Int32) + x3))) (fun r5 F5 A5 L5 => ((r5 = 0 → Q (0 : Int32) F5 A5 L5) ∧ (¬ r5 = 0 → Q (1 : Int32) F5 A5 L5))))))))))))))
set_option maxHeartbeats 4000000 in
theorem snd_X4_fitsPattern (l : Launch) (G : GG) (sz : Nat) (h : HH) (ad : Nat → Nat) (F : Nat → Int32) (A : Nat → Nat → Int32) (L : Nat → UInt32) (x1 : Int32) (x2 : Int32) (x3 : Int32) (Q : Int32 → (Nat → Int32) → (Nat → Nat → Int32) → (Nat → UInt32) → Prop) (hS : ml_S G h ad F A L) (hw : wp_X4_fitsPattern F A L x1 x2 x3 Q) : Met l yX4_fitsPattern (ws_ yX4_fitsPattern cX4_fitsPattern 4 (some FieldType.boolean)) rm_X4_fitsPattern (hv_Pc G h sz [.ref (ad 0), .int x1, .int x2, .int x3]) (hv_Qi G h sz (fun r => ml_Q G h ad (Q r))) 0 0 (hv_A h sz) := by
  refine Met.ofW (cc := cX4_fitsPattern) (maxL := 4) (ret := (some FieldType.boolean)) (by decide) rfl ?_
  intro p e s m args below meth c s₁ B hml hv
  obtain ⟨rfl, rfl, hE, hI⟩ := hv_open B hml hv
  have hE : hv_E p s m ([.ref (ad 0), .int x1, .int x2, .int x3] : List Value).toArray meth c cX4_fitsPattern 4 (some FieldType.boolean) RX4 G h := hE
  have hI := ml_I.start hI hS
  obtain ⟨⟨hx, hb, hml, hown, hts⟩, hr, hlocks, -⟩ := id hE
  have hl := lv_entry ([.ref (ad 0), .int x1, .int x2, .int x3] : List Value) (n := 4) (Nat.le_of_ble_eq_true rfl)
  rw [lg_entry_eq]
  generalize (lg_sl ([.ref (ad 0), .int x1, .int x2, .int x3] : List Value) ++ List.replicate (4 - (lg_sl ([.ref (ad 0), .int x1, .int x2, .int x3] : List Value)).length) Slot.unset).toArray = ls at hl ⊢
  have hl : lv_has ls 4 [(0, .ref (ad 0)), (1, .int x1), (2, .int x2), (3, .int x3)] := hl
  unfold wp_X4_fitsPattern at hw
  refine lv_aload_n hx hb dX4_fitsPattern_0 rfl (lv_at hl 0 rfl) ?_
  refine lv_iload_n hx hb dX4_fitsPattern_1 rfl (lv_at hl 1 rfl) ?_
  refine lv_iload_n hx hb dX4_fitsPattern_2 rfl (lv_at hl 2 rfl) ?_
  refine ml_calli (As := [.int x1, .int x2]) (rest := []) (cells := 0) (slots := 0) hE hI (fun h hS => snd_X4_of l G _ h ad F A L x1 x2 _ hS hw) (cwV 2 hts (lw_V q2319 q2321 qs73 q108 q2322) rfl rfl rfl (by decide +kernel) ⟨Nat.le_of_ble_eq_true rfl, Nat.le_of_ble_eq_true rfl⟩) rfl hl.1 (Nat.le_of_ble_eq_true rfl) dX4_fitsPattern_3 ⟨Nat.le_of_ble_eq_true rfl, Nat.le_of_ble_eq_true rfl⟩ (fun r1 F1 A1 L1 H locs hw hI => ?_)
  refine lv_aload_n hx hb dX4_fitsPattern_6 rfl (lv_at hl 0 rfl) ?_
  refine ml_get hE hI 1 (by decide) q1986 rfl rfl dX4_fitsPattern_7 ?_
  refine lv_bipush (v := 115) hx hb dX4_fitsPattern_10 (by decide) ?_
  refine lv_iload_n hx hb dX4_fitsPattern_12 rfl (lv_at hl 3 rfl) ?_
  refine lv_iadd hx hb dX4_fitsPattern_13 ?_
  obtain ⟨hin, hw⟩ := hw
  refine ml_iald hE hI 1 rfl rfl rfl hin dX4_fitsPattern_14 ?_
  refine lv_icmp_ne (tgt := 72) hx hb dX4_fitsPattern_15 (by decide) (fun c_15 => ?_) (fun c_15 => ?_)
  · have hw := hw.1 c_15
    refine lv_iconst (v := 0) hx hb dX4_fitsPattern_72 (by decide) ?_
    exact ml_zret hE hI rfl hw dX4_fitsPattern_73
  · have hw := hw.2 c_15
    refine lv_aload_n hx hb dX4_fitsPattern_18 rfl (lv_at hl 0 rfl) ?_
    refine lv_aload_n hx hb dX4_fitsPattern_19 rfl (lv_at hl 0 rfl) ?_
    refine lv_iload_n hx hb dX4_fitsPattern_20 rfl (lv_at hl 1 rfl) ?_
    refine lv_iload_n hx hb dX4_fitsPattern_21 rfl (lv_at hl 2 rfl) ?_
    refine lv_iconst (v := 1) hx hb dX4_fitsPattern_22 (by decide) ?_
    refine lv_iadd hx hb dX4_fitsPattern_23 ?_
    refine ml_calli (As := [.int x1, .int (x2 + (1 : Int32))]) (rest := [.ref (ad 0)]) (cells := 0) (slots := 0) hE hI (fun h hS => snd_X4_of l G _ h ad F1 A1 L1 x1 (x2 + (1 : Int32)) _ hS hw) (cwV 2 hts (lw_V q2319 q2321 qs73 q108 q2322) rfl rfl rfl (by decide +kernel) ⟨Nat.le_of_ble_eq_true rfl, Nat.le_of_ble_eq_true rfl⟩) rfl hl.1 (Nat.le_of_ble_eq_true rfl) dX4_fitsPattern_24 ⟨Nat.le_of_ble_eq_true rfl, Nat.le_of_ble_eq_true rfl⟩ (fun r2 F2 A2 L2 H locs hw hI => ?_)
    refine lv_aload_n hx hb dX4_fitsPattern_27 rfl (lv_at hl 0 rfl) ?_
    refine ml_get hE hI 1 (by decide) q1986 rfl rfl dX4_fitsPattern_28 ?_
    refine lv_sipush (v := 135) hx hb dX4_fitsPattern_31 (by decide) ?_
    refine lv_iload_n hx hb dX4_fitsPattern_34 rfl (lv_at hl 3 rfl) ?_
    refine lv_iadd hx hb dX4_fitsPattern_35 ?_
    obtain ⟨hin, hw⟩ := hw
    refine ml_iald hE hI 1 rfl rfl rfl hin dX4_fitsPattern_36 ?_
    refine ml_calli (As := [.int r2, .int (A2 1 (Int32.toNatClampNeg ((135 : Int32) + x3)))]) (rest := []) (cells := 0) (slots := 0) hE hI (fun h hS => snd_X4_fits l G _ h ad F2 A2 L2 r2 (A2 1 (Int32.toNatClampNeg ((135 : Int32) + x3))) _ hS hw) (cwV 2 hts (lw_V q2323 q2325 qs74 q108 q2326) rfl rfl rfl (by decide +kernel) ⟨Nat.le_of_ble_eq_true rfl, Nat.le_of_ble_eq_true rfl⟩) rfl hl.1 (Nat.le_of_ble_eq_true rfl) dX4_fitsPattern_37 ⟨Nat.le_of_ble_eq_true rfl, Nat.le_of_ble_eq_true rfl⟩ (fun r3 F3 A3 L3 H locs hw hI => ?_)
    refine lv_if_eq (tgt := 72) hx hb dX4_fitsPattern_40 (by decide) (fun c_40 => ?_) (fun c_40 => ?_)
    · have hw := hw.1 c_40
      refine lv_iconst (v := 0) hx hb dX4_fitsPattern_72 (by decide) ?_
      exact ml_zret hE hI rfl hw dX4_fitsPattern_73
    · have hw := hw.2 c_40
      refine lv_aload_n hx hb dX4_fitsPattern_43 rfl (lv_at hl 0 rfl) ?_
      refine lv_aload_n hx hb dX4_fitsPattern_44 rfl (lv_at hl 0 rfl) ?_
      refine lv_iload_n hx hb dX4_fitsPattern_45 rfl (lv_at hl 1 rfl) ?_
      refine lv_iload_n hx hb dX4_fitsPattern_46 rfl (lv_at hl 2 rfl) ?_
      refine lv_iconst (v := 2) hx hb dX4_fitsPattern_47 (by decide) ?_
      refine lv_iadd hx hb dX4_fitsPattern_48 ?_
      refine ml_calli (As := [.int x1, .int (x2 + (2 : Int32))]) (rest := [.ref (ad 0)]) (cells := 0) (slots := 0) hE hI (fun h hS => snd_X4_of l G _ h ad F3 A3 L3 x1 (x2 + (2 : Int32)) _ hS hw) (cwV 2 hts (lw_V q2319 q2321 qs73 q108 q2322) rfl rfl rfl (by decide +kernel) ⟨Nat.le_of_ble_eq_true rfl, Nat.le_of_ble_eq_true rfl⟩) rfl hl.1 (Nat.le_of_ble_eq_true rfl) dX4_fitsPattern_49 ⟨Nat.le_of_ble_eq_true rfl, Nat.le_of_ble_eq_true rfl⟩ (fun r4 F4 A4 L4 H locs hw hI => ?_)
      refine lv_aload_n hx hb dX4_fitsPattern_52 rfl (lv_at hl 0 rfl) ?_
      refine ml_get hE hI 1 (by decide) q1986 rfl rfl dX4_fitsPattern_53 ?_
      refine lv_sipush (v := 155) hx hb dX4_fitsPattern_56 (by decide) ?_
      refine lv_iload_n hx hb dX4_fitsPattern_59 rfl (lv_at hl 3 rfl) ?_
      refine lv_iadd hx hb dX4_fitsPattern_60 ?_
      obtain ⟨hin, hw⟩ := hw
      refine ml_iald hE hI 1 rfl rfl rfl hin dX4_fitsPattern_61 ?_
      refine ml_calli (As := [.int r4, .int (A4 1 (Int32.toNatClampNeg ((155 : Int32) + x3)))]) (rest := []) (cells := 0) (slots := 0) hE hI (fun h hS => snd_X4_fits l G _ h ad F4 A4 L4 r4 (A4 1 (Int32.toNatClampNeg ((155 : Int32) + x3))) _ hS hw) (cwV 2 hts (lw_V q2323 q2325 qs74 q108 q2326) rfl rfl rfl (by decide +kernel) ⟨Nat.le_of_ble_eq_true rfl, Nat.le_of_ble_eq_true rfl⟩) rfl hl.1 (Nat.le_of_ble_eq_true rfl) dX4_fitsPattern_62 ⟨Nat.le_of_ble_eq_true rfl, Nat.le_of_ble_eq_true rfl⟩ (fun r5 F5 A5 L5 H locs hw hI => ?_)
      refine lv_if_eq (tgt := 72) hx hb dX4_fitsPattern_65 (by decide) (fun c_65 => ?_) (fun c_65 => ?_)
      · have hw := hw.1 c_65
        refine lv_iconst (v := 0) hx hb dX4_fitsPattern_72 (by decide) ?_
        exact ml_zret hE hI rfl hw dX4_fitsPattern_73
      · have hw := hw.2 c_65
        refine lv_iconst (v := 1) hx hb dX4_fitsPattern_68 (by decide) ?_
        refine lv_goto (tgt := 73) hx hb dX4_fitsPattern_69 (by decide) ?_
        exact ml_zret hE hI rfl hw dX4_fitsPattern_73

/-- MatchmakerRulesModel.person(I)I -/
abbrev rm_X4_person : Room := { frames := 1, cells := 0, slots := 0, locals := 12 }
def wp_X4_person (F : Nat → Int32) (A : Nat → Nat → Int32) (L : Nat → UInt32) (x1 : Int32) (Q : Int32 → (Nat → Int32) → (Nat → Nat → Int32) → (Nat → UInt32) → Prop) : Prop := (((10 : Int32) ≤ x1 → (vp_in (x1 - (10 : Int32)) 3 ∧ Q (A 11 (Int32.toNatClampNeg (x1 - (10 : Int32)))) F A L)) ∧ (¬ (10 : Int32) ≤ x1 → Q x1 F A L))
set_option maxHeartbeats 4000000 in
theorem snd_X4_person (l : Launch) (G : GG) (sz : Nat) (h : HH) (ad : Nat → Nat) (F : Nat → Int32) (A : Nat → Nat → Int32) (L : Nat → UInt32) (x1 : Int32) (Q : Int32 → (Nat → Int32) → (Nat → Nat → Int32) → (Nat → UInt32) → Prop) (hS : ml_S G h ad F A L) (hw : wp_X4_person F A L x1 Q) : Met l yX4_person (ws_ yX4_person cX4_person 2 (some FieldType.int)) rm_X4_person (hv_Pc G h sz [.ref (ad 0), .int x1]) (hv_Qi G h sz (fun r => ml_Q G h ad (Q r))) 0 0 (hv_A h sz) := by
  refine Met.ofW (cc := cX4_person) (maxL := 2) (ret := (some FieldType.int)) (by decide) rfl ?_
  intro p e s m args below meth c s₁ B hml hv
  obtain ⟨rfl, rfl, hE, hI⟩ := hv_open B hml hv
  have hE : hv_E p s m ([.ref (ad 0), .int x1] : List Value).toArray meth c cX4_person 2 (some FieldType.int) RX4 G h := hE
  have hI := ml_I.start hI hS
  obtain ⟨⟨hx, hb, hml, hown, hts⟩, hr, hlocks, -⟩ := id hE
  have hl := lv_entry ([.ref (ad 0), .int x1] : List Value) (n := 2) (Nat.le_of_ble_eq_true rfl)
  rw [lg_entry_eq]
  generalize (lg_sl ([.ref (ad 0), .int x1] : List Value) ++ List.replicate (2 - (lg_sl ([.ref (ad 0), .int x1] : List Value)).length) Slot.unset).toArray = ls at hl ⊢
  have hl : lv_has ls 2 [(0, .ref (ad 0)), (1, .int x1)] := hl
  unfold wp_X4_person at hw
  refine lv_iload_n hx hb dX4_person_0 rfl (lv_at hl 1 rfl) ?_
  refine lv_bipush (v := 10) hx hb dX4_person_1 (by decide) ?_
  refine lv_icmp_ge (tgt := 10) hx hb dX4_person_3 (by decide) (fun c_3 => ?_) (fun c_3 => ?_)
  · have hw := hw.1 c_3
    refine lv_aload_n hx hb dX4_person_10 rfl (lv_at hl 0 rfl) ?_
    refine ml_get hE hI 11 (by decide) q1996 rfl rfl dX4_person_11 ?_
    refine lv_iload_n hx hb dX4_person_14 rfl (lv_at hl 1 rfl) ?_
    refine lv_bipush (v := 10) hx hb dX4_person_15 (by decide) ?_
    refine lv_isub hx hb dX4_person_17 ?_
    obtain ⟨hin, hw⟩ := hw
    refine ml_iald hE hI 11 rfl rfl rfl hin dX4_person_18 ?_
    exact ml_iret hE hI hw dX4_person_19
  · have hw := hw.2 c_3
    refine lv_iload_n hx hb dX4_person_6 rfl (lv_at hl 1 rfl) ?_
    refine lv_goto (tgt := 19) hx hb dX4_person_7 (by decide) ?_
    exact ml_iret hE hI hw dX4_person_19

/-- MatchmakerRulesModel.isMatch(III)Z -/
abbrev rm_X4_isMatch : Room := { frames := 3, cells := 0, slots := 0, locals := 58 }
def wp_X4_isMatch (F : Nat → Int32) (A : Nat → Nat → Int32) (L : Nat → UInt32) (x1 : Int32) (x2 : Int32) (x3 : Int32) (Q : Int32 → (Nat → Int32) → (Nat → Nat → Int32) → (Nat → UInt32) → Prop) : Prop := wp_X4_unbinds F A L (fun F1 A1 L1 => wp_X4_fitsPattern F1 A1 L1 x1 (0 : Int32) x2 (fun r2 F2 A2 L2 => ((¬ r2 = 0 → wp_X4_of F2 A2 L2 x1 (3 : Int32) (fun r3 F3 A3 L3 => ((¬ r3 = (1 : Int32) → ((x3 = (-1 : Int32) → ((r3 = 0 → Q (1 : Int32) F3 A3 L3) ∧ (¬ r3 = 0 → wp_X4_of F3 A3 L3 x1 (4 : Int32) (fun r4 F4 A4 L4 => wp_X4_of F4 A4 L4 x1 (5 : Int32) (fun r5 F5 A5 L5 => wp_X4_person F5 A5 L5 r5 (fun r6 F6 A6 L6 => wp_X4_of F6 A6 L6 x1 (6 : Int32) (fun r7 F7 A7 L7 => wp_X4_person F7 A7 L7 r7 (fun r8 F8 A8 L8 => wp_X4_slotOf3 F8 A8 L8 r4 r6 r8 (fun r9 F9 A9 L9 => ((¬ r9 = (-1 : Int32) → Q (0 : Int32) F9 A9 L9) ∧ (r9 = (-1 : Int32) → Q (1 : Int32) F9 A9 L9))))))))))) ∧ (¬ x3 = (-1 : Int32) → Q (0 : Int32) F3 A3 L3))) ∧ (r3 = (1 : Int32) → ((x3 = (-1 : Int32) → Q (0 : Int32) F3 A3 L3) ∧ (¬ x3 = (-1 : Int32) → wp_X4_fitsPattern F3 A3 L3 x1 (4 : Int32) x3 (fun r10 F10 A10 L10 => ((r10 = 0 → Q (0 : Int32) F10 A10 L10) ∧ (¬ r10 = 0 → Q (1 : Int32) F10 A10 L10))))))))) ∧ (r2 = 0 → Q (0 : Int32) F2 A2 L2))))
set_option maxHeartbeats 4000000 in
theorem snd_X4_isMatch (l : Launch) (G : GG) (sz : Nat) (h : HH) (ad : Nat → Nat) (F : Nat → Int32) (A : Nat → Nat → Int32) (L : Nat → UInt32) (x1 : Int32) (x2 : Int32) (x3 : Int32) (Q : Int32 → (Nat → Int32) → (Nat → Nat → Int32) → (Nat → UInt32) → Prop) (hS : ml_S G h ad F A L) (hw : wp_X4_isMatch F A L x1 x2 x3 Q) : Met l yX4_isMatch (ws_ yX4_isMatch cX4_isMatch 5 (some FieldType.boolean)) rm_X4_isMatch (hv_Pc G h sz [.ref (ad 0), .int x1, .int x2, .int x3]) (hv_Qi G h sz (fun r => ml_Q G h ad (Q r))) 0 0 (hv_A h sz) := by
  refine Met.ofW (cc := cX4_isMatch) (maxL := 5) (ret := (some FieldType.boolean)) (by decide) rfl ?_
  intro p e s m args below meth c s₁ B hml hv
  obtain ⟨rfl, rfl, hE, hI⟩ := hv_open B hml hv
  have hE : hv_E p s m ([.ref (ad 0), .int x1, .int x2, .int x3] : List Value).toArray meth c cX4_isMatch 5 (some FieldType.boolean) RX4 G h := hE
  have hI := ml_I.start hI hS
  obtain ⟨⟨hx, hb, hml, hown, hts⟩, hr, hlocks, -⟩ := id hE
  have hl := lv_entry ([.ref (ad 0), .int x1, .int x2, .int x3] : List Value) (n := 5) (Nat.le_of_ble_eq_true rfl)
  rw [lg_entry_eq]
  generalize (lg_sl ([.ref (ad 0), .int x1, .int x2, .int x3] : List Value) ++ List.replicate (5 - (lg_sl ([.ref (ad 0), .int x1, .int x2, .int x3] : List Value)).length) Slot.unset).toArray = ls at hl ⊢
  have hl : lv_has ls 5 [(0, .ref (ad 0)), (1, .int x1), (2, .int x2), (3, .int x3)] := hl
  unfold wp_X4_isMatch at hw
  refine lv_aload_n hx hb dX4_isMatch_0 rfl (lv_at hl 0 rfl) ?_
  refine ml_callv (As := []) (rest := []) (cells := 0) (slots := 0) hE hI (fun h hS => snd_X4_unbinds l G _ h ad F A L _ hS hw) (cwV 0 hts (lw_V q2311 q2313 qs71 q108 q2314) rfl rfl rfl (by decide +kernel) ⟨Nat.le_of_ble_eq_true rfl, Nat.le_of_ble_eq_true rfl⟩) rfl hl.1 (Nat.le_of_ble_eq_true rfl) dX4_isMatch_1 ⟨Nat.le_of_ble_eq_true rfl, Nat.le_of_ble_eq_true rfl⟩ (fun F1 A1 L1 H locs hw hI => ?_)
  refine lv_aload_n hx hb dX4_isMatch_4 rfl (lv_at hl 0 rfl) ?_
  refine lv_iload_n hx hb dX4_isMatch_5 rfl (lv_at hl 1 rfl) ?_
  refine lv_iconst (v := 0) hx hb dX4_isMatch_6 (by decide) ?_
  refine lv_iload_n hx hb dX4_isMatch_7 rfl (lv_at hl 2 rfl) ?_
  refine ml_calli (As := [.int x1, .int (0 : Int32), .int x2]) (rest := []) (cells := 0) (slots := 0) hE hI (fun h hS => snd_X4_fitsPattern l G _ h ad F1 A1 L1 x1 (0 : Int32) x2 _ hS hw) (cwV 3 hts (lw_V q2315 q2317 qs72 q108 q2318) rfl rfl rfl (by decide +kernel) ⟨Nat.le_of_ble_eq_true rfl, Nat.le_of_ble_eq_true rfl⟩) rfl hl.1 (Nat.le_of_ble_eq_true rfl) dX4_isMatch_8 ⟨Nat.le_of_ble_eq_true rfl, Nat.le_of_ble_eq_true rfl⟩ (fun r2 F2 A2 L2 H locs hw hI => ?_)
  refine lv_if_ne (tgt := 16) hx hb dX4_isMatch_11 (by decide) (fun c_11 => ?_) (fun c_11 => ?_)
  · have hw := hw.1 c_11
    refine lv_aload_n hx hb dX4_isMatch_16 rfl (lv_at hl 0 rfl) ?_
    refine lv_iload_n hx hb dX4_isMatch_17 rfl (lv_at hl 1 rfl) ?_
    refine lv_iconst (v := 3) hx hb dX4_isMatch_18 (by decide) ?_
    refine ml_calli (As := [.int x1, .int (3 : Int32)]) (rest := []) (cells := 0) (slots := 0) hE hI (fun h hS => snd_X4_of l G _ h ad F2 A2 L2 x1 (3 : Int32) _ hS hw) (cwV 2 hts (lw_V q2319 q2321 qs73 q108 q2322) rfl rfl rfl (by decide +kernel) ⟨Nat.le_of_ble_eq_true rfl, Nat.le_of_ble_eq_true rfl⟩) rfl hl.1 (Nat.le_of_ble_eq_true rfl) dX4_isMatch_19 ⟨Nat.le_of_ble_eq_true rfl, Nat.le_of_ble_eq_true rfl⟩ (fun r3 F3 A3 L3 H locs hw hI => ?_)
    refine lv_istore (lv' := [(4, .int r3), (0, .ref (ad 0)), (1, .int x1), (2, .int x2), (3, .int x3)]) hx hb dX4_isMatch_22 hl (by decide) rfl (fun ls hl => ?_)
    refine lv_iload hx hb dX4_isMatch_24 (lv_at hl 0 rfl) ?_
    refine lv_iconst (v := 1) hx hb dX4_isMatch_26 (by decide) ?_
    refine lv_icmp_ne (tgt := 51) hx hb dX4_isMatch_27 (by decide) (fun c_27 => ?_) (fun c_27 => ?_)
    · have hw := hw.1 c_27
      refine lv_iload_n hx hb dX4_isMatch_51 rfl (lv_at hl 4 rfl) ?_
      refine lv_iconst (v := -1) hx hb dX4_isMatch_52 (by decide) ?_
      refine lv_icmp_eq (tgt := 58) hx hb dX4_isMatch_53 (by decide) (fun c_53 => ?_) (fun c_53 => ?_)
      · have hw := hw.1 c_53
        refine lv_iload hx hb dX4_isMatch_58 (lv_at hl 0 rfl) ?_
        refine lv_if_eq (tgt := 98) hx hb dX4_isMatch_60 (by decide) (fun c_60 => ?_) (fun c_60 => ?_)
        · have hw := hw.1 c_60
          refine lv_iconst (v := 1) hx hb dX4_isMatch_98 (by decide) ?_
          refine lv_goto (tgt := 103) hx hb dX4_isMatch_99 (by decide) ?_
          exact ml_zret hE hI rfl hw dX4_isMatch_103
        · have hw := hw.2 c_60
          refine lv_aload_n hx hb dX4_isMatch_63 rfl (lv_at hl 1 rfl) ?_
          refine lv_aload_n hx hb dX4_isMatch_64 rfl (lv_at hl 1 rfl) ?_
          refine lv_iload_n hx hb dX4_isMatch_65 rfl (lv_at hl 2 rfl) ?_
          refine lv_iconst (v := 4) hx hb dX4_isMatch_66 (by decide) ?_
          refine ml_calli (As := [.int x1, .int (4 : Int32)]) (rest := [.ref (ad 0)]) (cells := 0) (slots := 0) hE hI (fun h hS => snd_X4_of l G _ h ad F3 A3 L3 x1 (4 : Int32) _ hS hw) (cwV 2 hts (lw_V q2319 q2321 qs73 q108 q2322) rfl rfl rfl (by decide +kernel) ⟨Nat.le_of_ble_eq_true rfl, Nat.le_of_ble_eq_true rfl⟩) rfl hl.1 (Nat.le_of_ble_eq_true rfl) dX4_isMatch_67 ⟨Nat.le_of_ble_eq_true rfl, Nat.le_of_ble_eq_true rfl⟩ (fun r4 F4 A4 L4 H locs hw hI => ?_)
          refine lv_aload_n hx hb dX4_isMatch_70 rfl (lv_at hl 1 rfl) ?_
          refine lv_aload_n hx hb dX4_isMatch_71 rfl (lv_at hl 1 rfl) ?_
          refine lv_iload_n hx hb dX4_isMatch_72 rfl (lv_at hl 2 rfl) ?_
          refine lv_iconst (v := 5) hx hb dX4_isMatch_73 (by decide) ?_
          refine ml_calli (As := [.int x1, .int (5 : Int32)]) (rest := [.ref (ad 0), .int r4, .ref (ad 0)]) (cells := 0) (slots := 0) hE hI (fun h hS => snd_X4_of l G _ h ad F4 A4 L4 x1 (5 : Int32) _ hS hw) (cwV 2 hts (lw_V q2319 q2321 qs73 q108 q2322) rfl rfl rfl (by decide +kernel) ⟨Nat.le_of_ble_eq_true rfl, Nat.le_of_ble_eq_true rfl⟩) rfl hl.1 (Nat.le_of_ble_eq_true rfl) dX4_isMatch_74 ⟨Nat.le_of_ble_eq_true rfl, Nat.le_of_ble_eq_true rfl⟩ (fun r5 F5 A5 L5 H locs hw hI => ?_)
          refine ml_calli (As := [.int r5]) (rest := [.int r4, .ref (ad 0)]) (cells := 0) (slots := 0) hE hI (fun h hS => snd_X4_person l G _ h ad F5 A5 L5 r5 _ hS hw) (cwV 1 hts (lw_V q2327 q2329 qs75 q108 q2330) rfl rfl rfl (by decide +kernel) ⟨Nat.le_of_ble_eq_true rfl, Nat.le_of_ble_eq_true rfl⟩) rfl hl.1 (Nat.le_of_ble_eq_true rfl) dX4_isMatch_77 ⟨Nat.le_of_ble_eq_true rfl, Nat.le_of_ble_eq_true rfl⟩ (fun r6 F6 A6 L6 H locs hw hI => ?_)
          refine lv_aload_n hx hb dX4_isMatch_80 rfl (lv_at hl 1 rfl) ?_
          refine lv_aload_n hx hb dX4_isMatch_81 rfl (lv_at hl 1 rfl) ?_
          refine lv_iload_n hx hb dX4_isMatch_82 rfl (lv_at hl 2 rfl) ?_
          refine lv_bipush (v := 6) hx hb dX4_isMatch_83 (by decide) ?_
          refine ml_calli (As := [.int x1, .int (6 : Int32)]) (rest := [.ref (ad 0), .int r6, .int r4, .ref (ad 0)]) (cells := 0) (slots := 0) hE hI (fun h hS => snd_X4_of l G _ h ad F6 A6 L6 x1 (6 : Int32) _ hS hw) (cwV 2 hts (lw_V q2319 q2321 qs73 q108 q2322) rfl rfl rfl (by decide +kernel) ⟨Nat.le_of_ble_eq_true rfl, Nat.le_of_ble_eq_true rfl⟩) rfl hl.1 (Nat.le_of_ble_eq_true rfl) dX4_isMatch_85 ⟨Nat.le_of_ble_eq_true rfl, Nat.le_of_ble_eq_true rfl⟩ (fun r7 F7 A7 L7 H locs hw hI => ?_)
          refine ml_calli (As := [.int r7]) (rest := [.int r6, .int r4, .ref (ad 0)]) (cells := 0) (slots := 0) hE hI (fun h hS => snd_X4_person l G _ h ad F7 A7 L7 r7 _ hS hw) (cwV 1 hts (lw_V q2327 q2329 qs75 q108 q2330) rfl rfl rfl (by decide +kernel) ⟨Nat.le_of_ble_eq_true rfl, Nat.le_of_ble_eq_true rfl⟩) rfl hl.1 (Nat.le_of_ble_eq_true rfl) dX4_isMatch_88 ⟨Nat.le_of_ble_eq_true rfl, Nat.le_of_ble_eq_true rfl⟩ (fun r8 F8 A8 L8 H locs hw hI => ?_)
          refine ml_calli (As := [.int r4, .int r6, .int r8]) (rest := []) (cells := 0) (slots := 0) hE hI (fun h hS => snd_X4_slotOf3 l G _ h ad F8 A8 L8 r4 r6 r8 _ hS hw) (cwV 3 hts (lw_V q2222 q2224 qs59 q108 q2225) rfl rfl rfl (by decide +kernel) ⟨Nat.le_of_ble_eq_true rfl, Nat.le_of_ble_eq_true rfl⟩) rfl hl.1 (Nat.le_of_ble_eq_true rfl) dX4_isMatch_91 ⟨Nat.le_of_ble_eq_true rfl, Nat.le_of_ble_eq_true rfl⟩ (fun r9 F9 A9 L9 H locs hw hI => ?_)
          refine lv_iconst (v := -1) hx hb dX4_isMatch_94 (by decide) ?_
          refine lv_icmp_ne (tgt := 102) hx hb dX4_isMatch_95 (by decide) (fun c_95 => ?_) (fun c_95 => ?_)
          · have hw := hw.1 c_95
            refine lv_iconst (v := 0) hx hb dX4_isMatch_102 (by decide) ?_
            exact ml_zret hE hI rfl hw dX4_isMatch_103
          · have hw := hw.2 c_95
            refine lv_iconst (v := 1) hx hb dX4_isMatch_98 (by decide) ?_
            refine lv_goto (tgt := 103) hx hb dX4_isMatch_99 (by decide) ?_
            exact ml_zret hE hI rfl hw dX4_isMatch_103
      · have hw := hw.2 c_53
        refine lv_iconst (v := 0) hx hb dX4_isMatch_56 (by decide) ?_
        exact ml_zret hE hI rfl hw dX4_isMatch_57
    · have hw := hw.2 c_27
      refine lv_iload_n hx hb dX4_isMatch_30 rfl (lv_at hl 4 rfl) ?_
      refine lv_iconst (v := -1) hx hb dX4_isMatch_31 (by decide) ?_
      refine lv_icmp_eq (tgt := 49) hx hb dX4_isMatch_32 (by decide) (fun c_32 => ?_) (fun c_32 => ?_)
      · have hw := hw.1 c_32
        refine lv_iconst (v := 0) hx hb dX4_isMatch_49 (by decide) ?_
        exact ml_zret hE hI rfl hw dX4_isMatch_50
      · have hw := hw.2 c_32
        refine lv_aload_n hx hb dX4_isMatch_35 rfl (lv_at hl 1 rfl) ?_
        refine lv_iload_n hx hb dX4_isMatch_36 rfl (lv_at hl 2 rfl) ?_
        refine lv_iconst (v := 4) hx hb dX4_isMatch_37 (by decide) ?_
        refine lv_iload_n hx hb dX4_isMatch_38 rfl (lv_at hl 4 rfl) ?_
        refine ml_calli (As := [.int x1, .int (4 : Int32), .int x3]) (rest := []) (cells := 0) (slots := 0) hE hI (fun h hS => snd_X4_fitsPattern l G _ h ad F3 A3 L3 x1 (4 : Int32) x3 _ hS hw) (cwV 3 hts (lw_V q2315 q2317 qs72 q108 q2318) rfl rfl rfl (by decide +kernel) ⟨Nat.le_of_ble_eq_true rfl, Nat.le_of_ble_eq_true rfl⟩) rfl hl.1 (Nat.le_of_ble_eq_true rfl) dX4_isMatch_39 ⟨Nat.le_of_ble_eq_true rfl, Nat.le_of_ble_eq_true rfl⟩ (fun r10 F10 A10 L10 H locs hw hI => ?_)
        refine lv_if_eq (tgt := 49) hx hb dX4_isMatch_42 (by decide) (fun c_42 => ?_) (fun c_42 => ?_)
        · have hw := hw.1 c_42
          refine lv_iconst (v := 0) hx hb dX4_isMatch_49 (by decide) ?_
          exact ml_zret hE hI rfl hw dX4_isMatch_50
        · have hw := hw.2 c_42
          refine lv_iconst (v := 1) hx hb dX4_isMatch_45 (by decide) ?_
          refine lv_goto (tgt := 50) hx hb dX4_isMatch_46 (by decide) ?_
          exact ml_zret hE hI rfl hw dX4_isMatch_50
  · have hw := hw.2 c_11
    refine lv_iconst (v := 0) hx hb dX4_isMatch_14 (by decide) ?_
    exact ml_zret hE hI rfl hw dX4_isMatch_15

/-- MatchmakerRulesModel.looks()V -/
abbrev rm_X4_looks : Room := { frames := 4, cells := 0, slots := 0, locals := 82 }
def wp_X4_looks_L35 (Q : (Nat → Int32) → (Nat → Nat → Int32) → (Nat → UInt32) → Prop) (k23 : (Nat → Int32) → (Nat → Nat → Int32) → (Nat → UInt32) → (Int32) → (Int32) → Prop) : Nat → (Nat → Int32) → (Nat → Nat → Int32) → (Nat → UInt32) → (Int32) → (Int32) → (Int32) → Prop
  | 0, _, _, _, _, _, _ => False
  | n + 1, F, A, L, x1, x2, x3 => (((A 1 1) ≤ x3 → k23 F A L x1 (x2 + (1 : Int32))) ∧ (¬ (A 1 1) ≤ x3 → wp_X4_mark x1 x2 x3 (fun r2 => (vp_in r2 3360 ∧ ((¬ (A 13 (Int32.toNatClampNeg r2)) = 0 → wp_X4_looks_L35 Q k23 n F A L x1 x2 (x3 + (1 : Int32))) ∧ ((A 13 (Int32.toNatClampNeg r2)) = 0 → wp_X4_isMatch F A L x1 x2 x3 (fun r3 F3 A3 L3 => ((¬ r3 = 0 → (vp_in (F3 31) 3360 ∧ (vp_in (F3 31) 3360 ∧ (vp_in (F3 31) 3360 ∧ wp_X4_looks_L35 Q k23 n (upd F3 31 ((F3 31) + (1 : Int32))) (ml_up (ml_up (ml_up A3 15 (Int32.toNatClampNeg (F3 31)) x1) 16 (Int32.toNatClampNeg (F3 31)) x2) 17 (Int32.toNatClampNeg (F3 31)) x3) L3 x1 x2 (x3 + (1 : Int32)))))) ∧ (r3 = 0 → wp_X4_looks_L35 Q k23 n F3 A3 L3 x1 x2 (x3 + (1 : Int32)))))))))))
set_option maxHeartbeats 4000000 in
theorem snd_X4_looks_L35 {p : Program} {l : Launch} {e : Env} {s : State} {m : MethodId} {args : Array Value} {below : List Frame} {meth : Method} {c : Code} {G : GG} {h0 : HH} {ad : Nat → Nat} (hE : hv_E p s m args meth c cX4_looks 4 (none : Option FieldType) RX4 G h0) (Q : (Nat → Int32) → (Nat → Nat → Int32) → (Nat → UInt32) → Prop) (k23 : (Nat → Int32) → (Nat → Nat → Int32) → (Nat → UInt32) → (Int32) → (Int32) → Prop) (hk23 : ∀ (F : Nat → Int32) (A : Nat → Nat → Int32) (L : Nat → UInt32) (x1 : Int32) (x2 : Int32) (H : Heap) (locs : List Loc) (ls : Array Slot), ml_I G h0 s.heap ad F A L H locs → lv_has ls 4 [(0, .ref (ad 0)), (1, .int x1), (2, .int x2)] → k23 F A L x1 x2 → W p l e (headSpec (ws_ yX4_looks cX4_looks 4 (none : Option FieldType)) rm_X4_looks).room s m args below meth c H locs 0 0 (MQ below (hv_Qv G h0 s.heap.size (ml_Q G h0 ad Q)) args s 0 0 (hv_A h0 s.heap.size)) (F0 m 23 ls [])) : ∀ (n : Nat) (F : Nat → Int32) (A : Nat → Nat → Int32) (L : Nat → UInt32) (x1 : Int32) (x2 : Int32) (x3 : Int32), wp_X4_looks_L35 Q k23 n F A L x1 x2 x3 → ∀ (H : Heap) (locs : List Loc) (ls : Array Slot), ml_I G h0 s.heap ad F A L H locs → lv_has ls 4 [(0, .ref (ad 0)), (1, .int x1), (2, .int x2), (3, .int x3)] → W p l e (headSpec (ws_ yX4_looks cX4_looks 4 (none : Option FieldType)) rm_X4_looks).room s m args below meth c H locs 0 0 (MQ below (hv_Qv G h0 s.heap.size (ml_Q G h0 ad Q)) args s 0 0 (hv_A h0 s.heap.size)) (F0 m 35 ls []) := by
  obtain ⟨⟨hx, hb, hml, hown, hts⟩, hr, hlocks, -⟩ := id hE
  intro n
  induction n with
  | zero => intro F A L x1 x2 x3 hw; exact hw.elim
  | succ n ih =>
    intro F A L x1 x2 x3 hw H locs ls hI hl
    unfold wp_X4_looks_L35 at hw
    refine lv_iload_n hx hb dX4_looks_35 rfl (lv_at hl 3 rfl) ?_
    refine lv_aload_n hx hb dX4_looks_36 rfl (lv_at hl 0 rfl) ?_
    refine ml_get hE hI 1 (by decide) q1986 rfl rfl dX4_looks_37 ?_
    refine lv_iconst (v := 1) hx hb dX4_looks_40 (by decide) ?_
    have hin : vp_in (1 : Int32) 13675 := by unfold vp_in; decide +kernel
    refine ml_iald hE hI 1 rfl rfl (show Int32.toNatClampNeg (1 : Int32) = 1 from by decide +kernel) hin dX4_looks_41 ?_
    refine lv_icmp_ge (tgt := 118) hx hb dX4_looks_42 (by decide) (fun c_42 => ?_) (fun c_42 => ?_)
    · have hw := hw.1 c_42
      refine lv_iinc (v := (x2 + (1 : Int32))) (lv' := [(2, .int (x2 + (1 : Int32))), (0, .ref (ad 0)), (1, .int x1), (3, .int x3)]) hx hb dX4_looks_118 hl (k := 2) rfl rfl (by decide) rfl (fun ls hl => ?_)
      refine lv_goto (tgt := 23) hx hb dX4_looks_121 (by decide) ?_
      exact hk23 F A L x1 (x2 + (1 : Int32)) _ _ _ hI (lv_sub hl [1, 2, 0] rfl) hw
    · have hw := hw.2 c_42
      refine lv_aload_n hx hb dX4_looks_45 rfl (lv_at hl 0 rfl) ?_
      refine ml_get hE hI 13 (by decide) q1998 rfl rfl dX4_looks_46 ?_
      refine lv_iload_n hx hb dX4_looks_49 rfl (lv_at hl 1 rfl) ?_
      refine lv_iload_n hx hb dX4_looks_50 rfl (lv_at hl 2 rfl) ?_
      refine lv_iload_n hx hb dX4_looks_51 rfl (lv_at hl 3 rfl) ?_
      refine ml_calls (As := [.int x1, .int x2, .int x3]) (rest := [.ref (ad 13)]) (cells := 0) (slots := 0) hE hI (fun h => snd_X4_mark l G _ h x1 x2 x3 _ hw) (va_cwS 3 hts (lw_S q2304 q2305 q108 q2306) rfl rfl rfl (by decide +kernel) ⟨Nat.le_of_ble_eq_true rfl, Nat.le_of_ble_eq_true rfl⟩) rfl hl.1 (Nat.le_of_ble_eq_true rfl) dX4_looks_52 ⟨Nat.le_of_ble_eq_true rfl, Nat.le_of_ble_eq_true rfl⟩ (fun r2 H locs hw hI => ?_)
      obtain ⟨hin, hw⟩ := hw
      refine ml_zald hE hI 13 rfl rfl rfl hin dX4_looks_55 ?_
      refine lv_if_ne (tgt := 112) hx hb dX4_looks_56 (by decide) (fun c_56 => ?_) (fun c_56 => ?_)
      · have hw := hw.1 c_56
        refine lv_iinc (v := (x3 + (1 : Int32))) (lv' := [(3, .int (x3 + (1 : Int32))), (0, .ref (ad 0)), (1, .int x1), (2, .int x2)]) hx hb dX4_looks_112 hl (k := 3) rfl rfl (by decide) rfl (fun ls hl => ?_)
        refine lv_goto (tgt := 35) hx hb dX4_looks_115 (by decide) ?_
        exact ih F A L x1 x2 (x3 + (1 : Int32)) hw _ _ _ hI (lv_sub hl [1, 2, 3, 0] rfl)
      · have hw := hw.2 c_56
        refine lv_aload_n hx hb dX4_looks_59 rfl (lv_at hl 0 rfl) ?_
        refine lv_iload_n hx hb dX4_looks_60 rfl (lv_at hl 1 rfl) ?_
        refine lv_iload_n hx hb dX4_looks_61 rfl (lv_at hl 2 rfl) ?_
        refine lv_iload_n hx hb dX4_looks_62 rfl (lv_at hl 3 rfl) ?_
        refine ml_calli (As := [.int x1, .int x2, .int x3]) (rest := []) (cells := 0) (slots := 0) hE hI (fun h hS => snd_X4_isMatch l G _ h ad F A L x1 x2 x3 _ hS hw) (cwV 3 hts (lw_V q2307 q2309 qs70 q108 q2310) rfl rfl rfl (by decide +kernel) ⟨Nat.le_of_ble_eq_true rfl, Nat.le_of_ble_eq_true rfl⟩) rfl hl.1 (Nat.le_of_ble_eq_true rfl) dX4_looks_63 ⟨Nat.le_of_ble_eq_true rfl, Nat.le_of_ble_eq_true rfl⟩ (fun r3 F3 A3 L3 H locs hw hI => ?_)
        refine lv_if_ne (tgt := 72) hx hb dX4_looks_66 (by decide) (fun c_66 => ?_) (fun c_66 => ?_)
        · have hw := hw.1 c_66
          refine lv_aload_n hx hb dX4_looks_72 rfl (lv_at hl 0 rfl) ?_
          refine ml_get hE hI 15 (by decide) q2000 rfl rfl dX4_looks_73 ?_
          refine lv_aload_n hx hb dX4_looks_76 rfl (lv_at hl 0 rfl) ?_
          refine ml_get hE hI 31 (by decide) q2016 rfl rfl dX4_looks_77 ?_
          refine lv_iload_n hx hb dX4_looks_80 rfl (lv_at hl 1 rfl) ?_
          obtain ⟨hin, hw⟩ := hw
          refine ml_iast hE hI 15 rfl rfl rfl hin dX4_looks_81 (fun H locs hI => ?_)
          refine lv_aload_n hx hb dX4_looks_82 rfl (lv_at hl 0 rfl) ?_
          refine ml_get hE hI 16 (by decide) q2001 rfl rfl dX4_looks_83 ?_
          refine lv_aload_n hx hb dX4_looks_86 rfl (lv_at hl 0 rfl) ?_
          refine ml_get hE hI 31 (by decide) q2016 rfl rfl dX4_looks_87 ?_
          refine lv_iload_n hx hb dX4_looks_90 rfl (lv_at hl 2 rfl) ?_
          obtain ⟨hin, hw⟩ := hw
          refine ml_iast hE hI 16 rfl rfl rfl hin dX4_looks_91 (fun H locs hI => ?_)
          refine lv_aload_n hx hb dX4_looks_92 rfl (lv_at hl 0 rfl) ?_
          refine ml_get hE hI 17 (by decide) q2002 rfl rfl dX4_looks_93 ?_
          refine lv_aload_n hx hb dX4_looks_96 rfl (lv_at hl 0 rfl) ?_
          refine ml_get hE hI 31 (by decide) q2016 rfl rfl dX4_looks_97 ?_
          refine lv_iload_n hx hb dX4_looks_100 rfl (lv_at hl 3 rfl) ?_
          obtain ⟨hin, hw⟩ := hw
          refine ml_iast hE hI 17 rfl rfl rfl hin dX4_looks_101 (fun H locs hI => ?_)
          refine lv_aload_n hx hb dX4_looks_102 rfl (lv_at hl 0 rfl) ?_
          refine lv_dup hx hb dX4_looks_103 rfl ?_
          refine ml_get hE hI 31 (by decide) q2016 rfl rfl dX4_looks_104 ?_
          refine lv_iconst (v := 1) hx hb dX4_looks_107 (by decide) ?_
          refine lv_iadd hx hb dX4_looks_108 ?_
          refine ml_put hE hI 31 (by decide) q2016 rfl rfl (ty := .int) rfl rfl rfl (fun _ => rfl) dX4_looks_109 (fun H locs hI => ?_)
          refine lv_iinc (v := (x3 + (1 : Int32))) (lv' := [(3, .int (x3 + (1 : Int32))), (0, .ref (ad 0)), (1, .int x1), (2, .int x2)]) hx hb dX4_looks_112 hl (k := 3) rfl rfl (by decide) rfl (fun ls hl => ?_)
          refine lv_goto (tgt := 35) hx hb dX4_looks_115 (by decide) ?_
          exact ih (upd F3 31 ((F3 31) + (1 : Int32))) (ml_up (ml_up (ml_up A3 15 (Int32.toNatClampNeg (F3 31)) x1) 16 (Int32.toNatClampNeg (F3 31)) x2) 17 (Int32.toNatClampNeg (F3 31)) x3) L3 x1 x2 (x3 + (1 : Int32)) hw _ _ _ hI (lv_sub hl [1, 2, 3, 0] rfl)
        · have hw := hw.2 c_66
          refine lv_goto (tgt := 112) hx hb dX4_looks_69 (by decide) ?_
          refine lv_iinc (v := (x3 + (1 : Int32))) (lv' := [(3, .int (x3 + (1 : Int32))), (0, .ref (ad 0)), (1, .int x1), (2, .int x2)]) hx hb dX4_looks_112 hl (k := 3) rfl rfl (by decide) rfl (fun ls hl => ?_)
          refine lv_goto (tgt := 35) hx hb dX4_looks_115 (by decide) ?_
          exact ih F3 A3 L3 x1 x2 (x3 + (1 : Int32)) hw _ _ _ hI (lv_sub hl [1, 2, 3, 0] rfl)
def wp_X4_looks_L23 (Q : (Nat → Int32) → (Nat → Nat → Int32) → (Nat → UInt32) → Prop) (k11 : (Nat → Int32) → (Nat → Nat → Int32) → (Nat → UInt32) → (Int32) → Prop) : Nat → (Nat → Int32) → (Nat → Nat → Int32) → (Nat → UInt32) → (Int32) → (Int32) → Prop
  | 0, _, _, _, _, _ => False
  | n + 1, F, A, L, x1, x2 => (((A 1 1) ≤ x2 → k11 F A L (x1 + (1 : Int32))) ∧ (¬ (A 1 1) ≤ x2 → (∃ n35, wp_X4_looks_L35 Q (fun F A L x1 x2 => wp_X4_looks_L23 Q k11 n F A L x1 x2) n35 F A L x1 x2 (-1 : Int32))))
set_option maxHeartbeats 4000000 in
theorem snd_X4_looks_L23 {p : Program} {l : Launch} {e : Env} {s : State} {m : MethodId} {args : Array Value} {below : List Frame} {meth : Method} {c : Code} {G : GG} {h0 : HH} {ad : Nat → Nat} (hE : hv_E p s m args meth c cX4_looks 4 (none : Option FieldType) RX4 G h0) (Q : (Nat → Int32) → (Nat → Nat → Int32) → (Nat → UInt32) → Prop) (k11 : (Nat → Int32) → (Nat → Nat → Int32) → (Nat → UInt32) → (Int32) → Prop) (hk11 : ∀ (F : Nat → Int32) (A : Nat → Nat → Int32) (L : Nat → UInt32) (x1 : Int32) (H : Heap) (locs : List Loc) (ls : Array Slot), ml_I G h0 s.heap ad F A L H locs → lv_has ls 4 [(0, .ref (ad 0)), (1, .int x1)] → k11 F A L x1 → W p l e (headSpec (ws_ yX4_looks cX4_looks 4 (none : Option FieldType)) rm_X4_looks).room s m args below meth c H locs 0 0 (MQ below (hv_Qv G h0 s.heap.size (ml_Q G h0 ad Q)) args s 0 0 (hv_A h0 s.heap.size)) (F0 m 11 ls [])) : ∀ (n : Nat) (F : Nat → Int32) (A : Nat → Nat → Int32) (L : Nat → UInt32) (x1 : Int32) (x2 : Int32), wp_X4_looks_L23 Q k11 n F A L x1 x2 → ∀ (H : Heap) (locs : List Loc) (ls : Array Slot), ml_I G h0 s.heap ad F A L H locs → lv_has ls 4 [(0, .ref (ad 0)), (1, .int x1), (2, .int x2)] → W p l e (headSpec (ws_ yX4_looks cX4_looks 4 (none : Option FieldType)) rm_X4_looks).room s m args below meth c H locs 0 0 (MQ below (hv_Qv G h0 s.heap.size (ml_Q G h0 ad Q)) args s 0 0 (hv_A h0 s.heap.size)) (F0 m 23 ls []) := by
  obtain ⟨⟨hx, hb, hml, hown, hts⟩, hr, hlocks, -⟩ := id hE
  intro n
  induction n with
  | zero => intro F A L x1 x2 hw; exact hw.elim
  | succ n ih =>
    intro F A L x1 x2 hw H locs ls hI hl
    unfold wp_X4_looks_L23 at hw
    refine lv_iload_n hx hb dX4_looks_23 rfl (lv_at hl 2 rfl) ?_
    refine lv_aload_n hx hb dX4_looks_24 rfl (lv_at hl 0 rfl) ?_
    refine ml_get hE hI 1 (by decide) q1986 rfl rfl dX4_looks_25 ?_
    refine lv_iconst (v := 1) hx hb dX4_looks_28 (by decide) ?_
    have hin : vp_in (1 : Int32) 13675 := by unfold vp_in; decide +kernel
    refine ml_iald hE hI 1 rfl rfl (show Int32.toNatClampNeg (1 : Int32) = 1 from by decide +kernel) hin dX4_looks_29 ?_
    refine lv_icmp_ge (tgt := 124) hx hb dX4_looks_30 (by decide) (fun c_30 => ?_) (fun c_30 => ?_)
    · have hw := hw.1 c_30
      refine lv_iinc (v := (x1 + (1 : Int32))) (lv' := [(1, .int (x1 + (1 : Int32))), (0, .ref (ad 0)), (2, .int x2)]) hx hb dX4_looks_124 hl (k := 1) rfl rfl (by decide) rfl (fun ls hl => ?_)
      refine lv_goto (tgt := 11) hx hb dX4_looks_127 (by decide) ?_
      exact hk11 F A L (x1 + (1 : Int32)) _ _ _ hI (lv_sub hl [1, 0] rfl) hw
    · have hw := hw.2 c_30
      refine lv_iconst (v := -1) hx hb dX4_looks_33 (by decide) ?_
      refine lv_istore_n (lv' := [(3, .int (-1 : Int32)), (0, .ref (ad 0)), (1, .int x1), (2, .int x2)]) hx hb dX4_looks_34 rfl hl (by decide) rfl (fun ls hl => ?_)
      obtain ⟨n35, hw⟩ := hw
      exact snd_X4_looks_L35 hE Q (fun F A L x1 x2 => wp_X4_looks_L23 Q k11 n F A L x1 x2) (fun F A L x1 x2 H locs ls hI hl hw => ih F A L x1 x2 hw H locs ls hI hl) n35 F A L x1 x2 (-1 : Int32) hw _ _ _ hI (lv_sub hl [1, 2, 3, 0] rfl)
def wp_X4_looks_L11 (Q : (Nat → Int32) → (Nat → Nat → Int32) → (Nat → UInt32) → Prop) : Nat → (Nat → Int32) → (Nat → Nat → Int32) → (Nat → UInt32) → (Int32) → Prop
  | 0, _, _, _, _ => False
  | n + 1, F, A, L, x1 => (((A 1 0) ≤ x1 → Q F A L) ∧ (¬ (A 1 0) ≤ x1 → (∃ n23, wp_X4_looks_L23 Q (fun F A L x1 => wp_X4_looks_L11 Q n F A L x1) n23 F A L x1 (0 : Int32))))
set_option maxHeartbeats 4000000 in
theorem snd_X4_looks_L11 {p : Program} {l : Launch} {e : Env} {s : State} {m : MethodId} {args : Array Value} {below : List Frame} {meth : Method} {c : Code} {G : GG} {h0 : HH} {ad : Nat → Nat} (hE : hv_E p s m args meth c cX4_looks 4 (none : Option FieldType) RX4 G h0) (Q : (Nat → Int32) → (Nat → Nat → Int32) → (Nat → UInt32) → Prop) : ∀ (n : Nat) (F : Nat → Int32) (A : Nat → Nat → Int32) (L : Nat → UInt32) (x1 : Int32), wp_X4_looks_L11 Q n F A L x1 → ∀ (H : Heap) (locs : List Loc) (ls : Array Slot), ml_I G h0 s.heap ad F A L H locs → lv_has ls 4 [(0, .ref (ad 0)), (1, .int x1)] → W p l e (headSpec (ws_ yX4_looks cX4_looks 4 (none : Option FieldType)) rm_X4_looks).room s m args below meth c H locs 0 0 (MQ below (hv_Qv G h0 s.heap.size (ml_Q G h0 ad Q)) args s 0 0 (hv_A h0 s.heap.size)) (F0 m 11 ls []) := by
  obtain ⟨⟨hx, hb, hml, hown, hts⟩, hr, hlocks, -⟩ := id hE
  intro n
  induction n with
  | zero => intro F A L x1 hw; exact hw.elim
  | succ n ih =>
    intro F A L x1 hw H locs ls hI hl
    unfold wp_X4_looks_L11 at hw
    refine lv_iload_n hx hb dX4_looks_11 rfl (lv_at hl 1 rfl) ?_
    refine lv_aload_n hx hb dX4_looks_12 rfl (lv_at hl 0 rfl) ?_
    refine ml_get hE hI 1 (by decide) q1986 rfl rfl dX4_looks_13 ?_
    refine lv_iconst (v := 0) hx hb dX4_looks_16 (by decide) ?_
    have hin : vp_in (0 : Int32) 13675 := by unfold vp_in; decide +kernel
    refine ml_iald hE hI 1 rfl rfl (show Int32.toNatClampNeg (0 : Int32) = 0 from by decide +kernel) hin dX4_looks_17 ?_
    refine lv_icmp_ge (tgt := 130) hx hb dX4_looks_18 (by decide) (fun c_18 => ?_) (fun c_18 => ?_)
    · have hw := hw.1 c_18
      exact ml_vret hE hI hw dX4_looks_130
    · have hw := hw.2 c_18
      refine lv_iconst (v := 0) hx hb dX4_looks_21 (by decide) ?_
      refine lv_istore_n (lv' := [(2, .int (0 : Int32)), (0, .ref (ad 0)), (1, .int x1)]) hx hb dX4_looks_22 rfl hl (by decide) rfl (fun ls hl => ?_)
      obtain ⟨n23, hw⟩ := hw
      exact snd_X4_looks_L23 hE Q (fun F A L x1 => wp_X4_looks_L11 Q n F A L x1) (fun F A L x1 H locs ls hI hl hw => ih F A L x1 hw H locs ls hI hl) n23 F A L x1 (0 : Int32) hw _ _ _ hI (lv_sub hl [1, 2, 0] rfl)
def wp_X4_looks (F : Nat → Int32) (A : Nat → Nat → Int32) (L : Nat → UInt32) (Q : (Nat → Int32) → (Nat → Nat → Int32) → (Nat → UInt32) → Prop) : Prop := wp_X4_marksFired F A L (fun F1 A1 L1 => (∃ n11, wp_X4_looks_L11 Q n11 (upd F1 31 (0 : Int32)) A1 L1 (0 : Int32)))
set_option maxHeartbeats 4000000 in
theorem snd_X4_looks (l : Launch) (G : GG) (sz : Nat) (h : HH) (ad : Nat → Nat) (F : Nat → Int32) (A : Nat → Nat → Int32) (L : Nat → UInt32) (Q : (Nat → Int32) → (Nat → Nat → Int32) → (Nat → UInt32) → Prop) (hS : ml_S G h ad F A L) (hw : wp_X4_looks F A L Q) : Met l yX4_looks (ws_ yX4_looks cX4_looks 4 (none : Option FieldType)) rm_X4_looks (hv_Pc G h sz [.ref (ad 0)]) (hv_Qv G h sz (ml_Q G h ad Q)) 0 0 (hv_A h sz) := by
  refine Met.ofW (cc := cX4_looks) (maxL := 4) (ret := (none : Option FieldType)) (by decide) rfl ?_
  intro p e s m args below meth c s₁ B hml hv
  obtain ⟨rfl, rfl, hE, hI⟩ := hv_open B hml hv
  have hE : hv_E p s m ([.ref (ad 0)] : List Value).toArray meth c cX4_looks 4 (none : Option FieldType) RX4 G h := hE
  have hI := ml_I.start hI hS
  obtain ⟨⟨hx, hb, hml, hown, hts⟩, hr, hlocks, -⟩ := id hE
  have hl := lv_entry ([.ref (ad 0)] : List Value) (n := 4) (Nat.le_of_ble_eq_true rfl)
  rw [lg_entry_eq]
  generalize (lg_sl ([.ref (ad 0)] : List Value) ++ List.replicate (4 - (lg_sl ([.ref (ad 0)] : List Value)).length) Slot.unset).toArray = ls at hl ⊢
  have hl : lv_has ls 4 [(0, .ref (ad 0))] := hl
  unfold wp_X4_looks at hw
  refine lv_aload_n hx hb dX4_looks_0 rfl (lv_at hl 0 rfl) ?_
  refine ml_callv (As := []) (rest := []) (cells := 0) (slots := 0) hE hI (fun h hS => snd_X4_marksFired l G _ h ad F A L _ hS hw) (cwV 0 hts (lw_V q2300 q2302 qs69 q108 q2303) rfl rfl rfl (by decide +kernel) ⟨Nat.le_of_ble_eq_true rfl, Nat.le_of_ble_eq_true rfl⟩) rfl hl.1 (Nat.le_of_ble_eq_true rfl) dX4_looks_1 ⟨Nat.le_of_ble_eq_true rfl, Nat.le_of_ble_eq_true rfl⟩ (fun F1 A1 L1 H locs hw hI => ?_)
  refine lv_aload_n hx hb dX4_looks_4 rfl (lv_at hl 0 rfl) ?_
  refine lv_iconst (v := 0) hx hb dX4_looks_5 (by decide) ?_
  refine ml_put hE hI 31 (by decide) q2016 rfl rfl (ty := .int) rfl rfl rfl (fun _ => rfl) dX4_looks_6 (fun H locs hI => ?_)
  refine lv_iconst (v := 0) hx hb dX4_looks_9 (by decide) ?_
  refine lv_istore_n (lv' := [(1, .int (0 : Int32)), (0, .ref (ad 0))]) hx hb dX4_looks_10 rfl hl (by decide) rfl (fun ls hl => ?_)
  obtain ⟨n11, hw⟩ := hw
  exact snd_X4_looks_L11 hE Q n11 (upd F1 31 (0 : Int32)) A1 L1 (0 : Int32) hw _ _ _ hI (lv_sub hl [1, 0] rfl)

/-- MatchmakerRulesModel.due(Z)I -/
abbrev rm_X4_due : Room := { frames := 5, cells := 0, slots := 0, locals := 105 }
def wp_X4_due (F : Nat → Int32) (A : Nat → Nat → Int32) (L : Nat → UInt32) (x1 : Int32) (Q : Int32 → (Nat → Int32) → (Nat → Nat → Int32) → (Nat → UInt32) → Prop) : Prop := wp_X4_looks (upd F 0 (0 : Int32)) A L (fun F1 A1 L1 => Q (F1 31) F1 A1 L1)
set_option maxHeartbeats 4000000 in
theorem snd_X4_due (l : Launch) (G : GG) (sz : Nat) (h : HH) (ad : Nat → Nat) (F : Nat → Int32) (A : Nat → Nat → Int32) (L : Nat → UInt32) (x1 : Int32) (Q : Int32 → (Nat → Int32) → (Nat → Nat → Int32) → (Nat → UInt32) → Prop) (hS : ml_S G h ad F A L) (hw : wp_X4_due F A L x1 Q) : Met l yX4_due (ws_ yX4_due cX4_due 2 (some FieldType.int)) rm_X4_due (hv_Pc G h sz [.ref (ad 0), .int x1]) (hv_Qi G h sz (fun r => ml_Q G h ad (Q r))) 0 0 (hv_A h sz) := by
  refine Met.ofW (cc := cX4_due) (maxL := 2) (ret := (some FieldType.int)) (by decide) rfl ?_
  intro p e s m args below meth c s₁ B hml hv
  obtain ⟨rfl, rfl, hE, hI⟩ := hv_open B hml hv
  have hE : hv_E p s m ([.ref (ad 0), .int x1] : List Value).toArray meth c cX4_due 2 (some FieldType.int) RX4 G h := hE
  have hI := ml_I.start hI hS
  obtain ⟨⟨hx, hb, hml, hown, hts⟩, hr, hlocks, -⟩ := id hE
  have hl := lv_entry ([.ref (ad 0), .int x1] : List Value) (n := 2) (Nat.le_of_ble_eq_true rfl)
  rw [lg_entry_eq]
  generalize (lg_sl ([.ref (ad 0), .int x1] : List Value) ++ List.replicate (2 - (lg_sl ([.ref (ad 0), .int x1] : List Value)).length) Slot.unset).toArray = ls at hl ⊢
  have hl : lv_has ls 2 [(0, .ref (ad 0)), (1, .int x1)] := hl
  unfold wp_X4_due at hw
  refine lv_aload_n hx hb dX4_due_0 rfl (lv_at hl 0 rfl) ?_
  refine lv_iconst (v := 0) hx hb dX4_due_1 (by decide) ?_
  refine ml_put hE hI 0 (by decide) q1985 rfl rfl (ty := .int) rfl rfl rfl (fun _ => rfl) dX4_due_2 (fun H locs hI => ?_)
  refine lv_aload_n hx hb dX4_due_5 rfl (lv_at hl 0 rfl) ?_
  refine ml_callv (As := []) (rest := []) (cells := 0) (slots := 0) hE hI (fun h hS => snd_X4_looks l G _ h ad (upd F 0 (0 : Int32)) A L _ hS hw) (cwV 0 hts (lw_V q2296 q2298 qs68 q108 q2299) rfl rfl rfl (by decide +kernel) ⟨Nat.le_of_ble_eq_true rfl, Nat.le_of_ble_eq_true rfl⟩) rfl hl.1 (Nat.le_of_ble_eq_true rfl) dX4_due_6 ⟨Nat.le_of_ble_eq_true rfl, Nat.le_of_ble_eq_true rfl⟩ (fun F1 A1 L1 H locs hw hI => ?_)
  refine lv_aload_n hx hb dX4_due_9 rfl (lv_at hl 0 rfl) ?_
  refine ml_get hE hI 31 (by decide) q2016 rfl rfl dX4_due_10 ?_
  exact ml_iret hE hI hw dX4_due_13

/-- MatchmakerRulesModel.newest(I)I -/
abbrev rm_X4_newest : Room := { frames := 1, cells := 0, slots := 0, locals := 12 }
def wp_X4_newest (F : Nat → Int32) (A : Nat → Nat → Int32) (L : Nat → UInt32) (x1 : Int32) (Q : Int32 → (Nat → Int32) → (Nat → Nat → Int32) → (Nat → UInt32) → Prop) : Prop := (vp_in x1 3360 ∧ (vp_in x1 3360 ∧ (((A 17 (Int32.toNatClampNeg x1)) ≤ (A 16 (Int32.toNatClampNeg x1)) → (vp_in x1 3360 ∧ Q (A 16 (Int32.toNatClampNeg x1)) F A L)) ∧ (¬ (A 17 (Int32.toNatClampNeg x1)) ≤ (A 16 (Int32.toNatClampNeg x1)) → (vp_in x1 3360 ∧ Q (A 17 (Int32.toNatClampNeg x1)) F A L)))))
set_option maxHeartbeats 4000000 in
theorem snd_X4_newest (l : Launch) (G : GG) (sz : Nat) (h : HH) (ad : Nat → Nat) (F : Nat → Int32) (A : Nat → Nat → Int32) (L : Nat → UInt32) (x1 : Int32) (Q : Int32 → (Nat → Int32) → (Nat → Nat → Int32) → (Nat → UInt32) → Prop) (hS : ml_S G h ad F A L) (hw : wp_X4_newest F A L x1 Q) : Met l yX4_newest (ws_ yX4_newest cX4_newest 2 (some FieldType.int)) rm_X4_newest (hv_Pc G h sz [.ref (ad 0), .int x1]) (hv_Qi G h sz (fun r => ml_Q G h ad (Q r))) 0 0 (hv_A h sz) := by
  refine Met.ofW (cc := cX4_newest) (maxL := 2) (ret := (some FieldType.int)) (by decide) rfl ?_
  intro p e s m args below meth c s₁ B hml hv
  obtain ⟨rfl, rfl, hE, hI⟩ := hv_open B hml hv
  have hE : hv_E p s m ([.ref (ad 0), .int x1] : List Value).toArray meth c cX4_newest 2 (some FieldType.int) RX4 G h := hE
  have hI := ml_I.start hI hS
  obtain ⟨⟨hx, hb, hml, hown, hts⟩, hr, hlocks, -⟩ := id hE
  have hl := lv_entry ([.ref (ad 0), .int x1] : List Value) (n := 2) (Nat.le_of_ble_eq_true rfl)
  rw [lg_entry_eq]
  generalize (lg_sl ([.ref (ad 0), .int x1] : List Value) ++ List.replicate (2 - (lg_sl ([.ref (ad 0), .int x1] : List Value)).length) Slot.unset).toArray = ls at hl ⊢
  have hl : lv_has ls 2 [(0, .ref (ad 0)), (1, .int x1)] := hl
  unfold wp_X4_newest at hw
  refine lv_aload_n hx hb dX4_newest_0 rfl (lv_at hl 0 rfl) ?_
  refine ml_get hE hI 17 (by decide) q2002 rfl rfl dX4_newest_1 ?_
  refine lv_iload_n hx hb dX4_newest_4 rfl (lv_at hl 1 rfl) ?_
  obtain ⟨hin, hw⟩ := hw
  refine ml_iald hE hI 17 rfl rfl rfl hin dX4_newest_5 ?_
  refine lv_aload_n hx hb dX4_newest_6 rfl (lv_at hl 0 rfl) ?_
  refine ml_get hE hI 16 (by decide) q2001 rfl rfl dX4_newest_7 ?_
  refine lv_iload_n hx hb dX4_newest_10 rfl (lv_at hl 1 rfl) ?_
  obtain ⟨hin, hw⟩ := hw
  refine ml_iald hE hI 16 rfl rfl rfl hin dX4_newest_11 ?_
  refine lv_icmp_le (tgt := 24) hx hb dX4_newest_12 (by decide) (fun c_12 => ?_) (fun c_12 => ?_)
  · have hw := hw.1 c_12
    refine lv_aload_n hx hb dX4_newest_24 rfl (lv_at hl 0 rfl) ?_
    refine ml_get hE hI 16 (by decide) q2001 rfl rfl dX4_newest_25 ?_
    refine lv_iload_n hx hb dX4_newest_28 rfl (lv_at hl 1 rfl) ?_
    obtain ⟨hin, hw⟩ := hw
    refine ml_iald hE hI 16 rfl rfl rfl hin dX4_newest_29 ?_
    exact ml_iret hE hI hw dX4_newest_30
  · have hw := hw.2 c_12
    refine lv_aload_n hx hb dX4_newest_15 rfl (lv_at hl 0 rfl) ?_
    refine ml_get hE hI 17 (by decide) q2002 rfl rfl dX4_newest_16 ?_
    refine lv_iload_n hx hb dX4_newest_19 rfl (lv_at hl 1 rfl) ?_
    obtain ⟨hin, hw⟩ := hw
    refine ml_iald hE hI 17 rfl rfl rfl hin dX4_newest_20 ?_
    refine lv_goto (tgt := 30) hx hb dX4_newest_21 (by decide) ?_
    exact ml_iret hE hI hw dX4_newest_30

/-- MatchmakerRulesModel.isAhead(II)Z -/
abbrev rm_X4_isAhead : Room := { frames := 2, cells := 0, slots := 0, locals := 34 }
def wp_X4_isAhead (F : Nat → Int32) (A : Nat → Nat → Int32) (L : Nat → UInt32) (x1 : Int32) (x2 : Int32) (Q : Int32 → (Nat → Int32) → (Nat → Nat → Int32) → (Nat → UInt32) → Prop) : Prop := (vp_in x1 3360 ∧ wp_X4_of F A L (A 15 (Int32.toNatClampNeg x1)) (10 : Int32) (fun r1 F1 A1 L1 => (vp_in x2 3360 ∧ wp_X4_of F1 A1 L1 (A1 15 (Int32.toNatClampNeg x2)) (10 : Int32) (fun r2 F2 A2 L2 => (((r1 - r2) = 0 → wp_X4_newest F2 A2 L2 x1 (fun r3 F3 A3 L3 => wp_X4_newest F3 A3 L3 x2 (fun r4 F4 A4 L4 => ((r3 = r4 → (vp_in x1 3360 ∧ (vp_in x2 3360 ∧ (((A4 15 (Int32.toNatClampNeg x1)) = (A4 15 (Int32.toNatClampNeg x2)) → (vp_in x1 3360 ∧ (vp_in x2 3360 ∧ (((A4 16 (Int32.toNatClampNeg x1)) = (A4 16 (Int32.toNatClampNeg x2)) → (vp_in x1 3360 ∧ (vp_in x2 3360 ∧ (((A4 17 (Int32.toNatClampNeg x2)) ≤ (A4 17 (Int32.toNatClampNeg x1)) → Q (0 : Int32) F4 A4 L4) ∧ (¬ (A4 17 (Int32.toNatClampNeg x2)) ≤ (A4 17 (Int32.toNatClampNeg x1)) → Q (1 : Int32) F4 A4 L4))))) ∧ (¬ (A4 16 (Int32.toNatClampNeg x1)) = (A4 16 (Int32.toNatClampNeg x2)) → (vp_in x1 3360 ∧ (vp_in x2 3360 ∧ (((A4 16 (Int32.toNatClampNeg x2)) ≤ (A4 16 (Int32.toNatClampNeg x1)) → Q (0 : Int32) F4 A4 L4) ∧ (¬ (A4 16 (Int32.toNatClampNeg x2)) ≤ (A4 16 (Int32.toNatClampNeg x1)) → Q (1 : Int32) F4 A4 L4))))))))) ∧ (¬ (A4 15 (Int32.toNatClampNeg x1)) = (A4 15 (Int32.toNatClampNeg x2)) → (vp_in x1 3360 ∧ (vp_in x2 3360 ∧ (((A4 15 (Int32.toNatClampNeg x2)) ≤ (A4 15 (Int32.toNatClampNeg x1)) → Q (0 : Int32) F4 A4 L4) ∧ (¬ (A4 15 (Int32.toNatClampNeg x2)) ≤ (A4 15 (Int32.toNatClampNeg x1)) → Q (1 : Int32) F4 A4 L4))))))))) ∧ (¬ r3 = r4 → wp_X4_newest F4 A4 L4 x1 (fun r5 F5 A5 L5 => wp_X4_newest F5 A5 L5 x2 (fun r6 F6 A6 L6 => ((r5 ≤ r6 → Q (0 : Int32) F6 A6 L6) ∧ (¬ r5 ≤ r6 → Q (1 : Int32) F6 A6 L6))))))))) ∧ (¬ (r1 - r2) = 0 → (((r1 - r2) ≤ 0 → Q (0 : Int32) F2 A2 L2) ∧ (¬ (r1 - r2) ≤ 0 → Q (1 : Int32) F2 A2 L2))))))))
set_option maxHeartbeats 4000000 in
theorem snd_X4_isAhead (l : Launch) (G : GG) (sz : Nat) (h : HH) (ad : Nat → Nat) (F : Nat → Int32) (A : Nat → Nat → Int32) (L : Nat → UInt32) (x1 : Int32) (x2 : Int32) (Q : Int32 → (Nat → Int32) → (Nat → Nat → Int32) → (Nat → UInt32) → Prop) (hS : ml_S G h ad F A L) (hw : wp_X4_isAhead F A L x1 x2 Q) : Met l yX4_isAhead (ws_ yX4_isAhead cX4_isAhead 4 (some FieldType.boolean)) rm_X4_isAhead (hv_Pc G h sz [.ref (ad 0), .int x1, .int x2]) (hv_Qi G h sz (fun r => ml_Q G h ad (Q r))) 0 0 (hv_A h sz) := by
  refine Met.ofW (cc := cX4_isAhead) (maxL := 4) (ret := (some FieldType.boolean)) (by decide) rfl ?_
  intro p e s m args below meth c s₁ B hml hv
  obtain ⟨rfl, rfl, hE, hI⟩ := hv_open B hml hv
  have hE : hv_E p s m ([.ref (ad 0), .int x1, .int x2] : List Value).toArray meth c cX4_isAhead 4 (some FieldType.boolean) RX4 G h := hE
  have hI := ml_I.start hI hS
  obtain ⟨⟨hx, hb, hml, hown, hts⟩, hr, hlocks, -⟩ := id hE
  have hl := lv_entry ([.ref (ad 0), .int x1, .int x2] : List Value) (n := 4) (Nat.le_of_ble_eq_true rfl)
  rw [lg_entry_eq]
  generalize (lg_sl ([.ref (ad 0), .int x1, .int x2] : List Value) ++ List.replicate (4 - (lg_sl ([.ref (ad 0), .int x1, .int x2] : List Value)).length) Slot.unset).toArray = ls at hl ⊢
  have hl : lv_has ls 4 [(0, .ref (ad 0)), (1, .int x1), (2, .int x2)] := hl
  unfold wp_X4_isAhead at hw
  refine lv_aload_n hx hb dX4_isAhead_0 rfl (lv_at hl 0 rfl) ?_
  refine lv_aload_n hx hb dX4_isAhead_1 rfl (lv_at hl 0 rfl) ?_
  refine ml_get hE hI 15 (by decide) q2000 rfl rfl dX4_isAhead_2 ?_
  refine lv_iload_n hx hb dX4_isAhead_5 rfl (lv_at hl 1 rfl) ?_
  obtain ⟨hin, hw⟩ := hw
  refine ml_iald hE hI 15 rfl rfl rfl hin dX4_isAhead_6 ?_
  refine lv_bipush (v := 10) hx hb dX4_isAhead_7 (by decide) ?_
  refine ml_calli (As := [.int (A 15 (Int32.toNatClampNeg x1)), .int (10 : Int32)]) (rest := []) (cells := 0) (slots := 0) hE hI (fun h hS => snd_X4_of l G _ h ad F A L (A 15 (Int32.toNatClampNeg x1)) (10 : Int32) _ hS hw) (cwV 2 hts (lw_V q2319 q2321 qs73 q108 q2322) rfl rfl rfl (by decide +kernel) ⟨Nat.le_of_ble_eq_true rfl, Nat.le_of_ble_eq_true rfl⟩) rfl hl.1 (Nat.le_of_ble_eq_true rfl) dX4_isAhead_9 ⟨Nat.le_of_ble_eq_true rfl, Nat.le_of_ble_eq_true rfl⟩ (fun r1 F1 A1 L1 H locs hw hI => ?_)
  refine lv_aload_n hx hb dX4_isAhead_12 rfl (lv_at hl 0 rfl) ?_
  refine lv_aload_n hx hb dX4_isAhead_13 rfl (lv_at hl 0 rfl) ?_
  refine ml_get hE hI 15 (by decide) q2000 rfl rfl dX4_isAhead_14 ?_
  refine lv_iload_n hx hb dX4_isAhead_17 rfl (lv_at hl 2 rfl) ?_
  obtain ⟨hin, hw⟩ := hw
  refine ml_iald hE hI 15 rfl rfl rfl hin dX4_isAhead_18 ?_
  refine lv_bipush (v := 10) hx hb dX4_isAhead_19 (by decide) ?_
  refine ml_calli (As := [.int (A1 15 (Int32.toNatClampNeg x2)), .int (10 : Int32)]) (rest := [.int r1]) (cells := 0) (slots := 0) hE hI (fun h hS => snd_X4_of l G _ h ad F1 A1 L1 (A1 15 (Int32.toNatClampNeg x2)) (10 : Int32) _ hS hw) (cwV 2 hts (lw_V q2319 q2321 qs73 q108 q2322) rfl rfl rfl (by decide +kernel) ⟨Nat.le_of_ble_eq_true rfl, Nat.le_of_ble_eq_true rfl⟩) rfl hl.1 (Nat.le_of_ble_eq_true rfl) dX4_isAhead_21 ⟨Nat.le_of_ble_eq_true rfl, Nat.le_of_ble_eq_true rfl⟩ (fun r2 F2 A2 L2 H locs hw hI => ?_)
  refine lv_isub hx hb dX4_isAhead_24 ?_
  refine lv_istore_n (lv' := [(3, .int (r1 - r2)), (0, .ref (ad 0)), (1, .int x1), (2, .int x2)]) hx hb dX4_isAhead_25 rfl hl (by decide) rfl (fun ls hl => ?_)
  refine lv_iload_n hx hb dX4_isAhead_26 rfl (lv_at hl 0 rfl) ?_
  refine lv_if_eq (tgt := 40) hx hb dX4_isAhead_27 (by decide) (fun c_27 => ?_) (fun c_27 => ?_)
  · have hw := hw.1 c_27
    refine lv_aload_n hx hb dX4_isAhead_40 rfl (lv_at hl 1 rfl) ?_
    refine lv_iload_n hx hb dX4_isAhead_41 rfl (lv_at hl 2 rfl) ?_
    refine ml_calli (As := [.int x1]) (rest := []) (cells := 0) (slots := 0) hE hI (fun h hS => snd_X4_newest l G _ h ad F2 A2 L2 x1 _ hS hw) (cwV 1 hts (lw_V q2343 q2345 qs78 q108 q2346) rfl rfl rfl (by decide +kernel) ⟨Nat.le_of_ble_eq_true rfl, Nat.le_of_ble_eq_true rfl⟩) rfl hl.1 (Nat.le_of_ble_eq_true rfl) dX4_isAhead_42 ⟨Nat.le_of_ble_eq_true rfl, Nat.le_of_ble_eq_true rfl⟩ (fun r3 F3 A3 L3 H locs hw hI => ?_)
    refine lv_aload_n hx hb dX4_isAhead_45 rfl (lv_at hl 1 rfl) ?_
    refine lv_iload_n hx hb dX4_isAhead_46 rfl (lv_at hl 3 rfl) ?_
    refine ml_calli (As := [.int x2]) (rest := [.int r3]) (cells := 0) (slots := 0) hE hI (fun h hS => snd_X4_newest l G _ h ad F3 A3 L3 x2 _ hS hw) (cwV 1 hts (lw_V q2343 q2345 qs78 q108 q2346) rfl rfl rfl (by decide +kernel) ⟨Nat.le_of_ble_eq_true rfl, Nat.le_of_ble_eq_true rfl⟩) rfl hl.1 (Nat.le_of_ble_eq_true rfl) dX4_isAhead_47 ⟨Nat.le_of_ble_eq_true rfl, Nat.le_of_ble_eq_true rfl⟩ (fun r4 F4 A4 L4 H locs hw hI => ?_)
    refine lv_icmp_eq (tgt := 72) hx hb dX4_isAhead_50 (by decide) (fun c_50 => ?_) (fun c_50 => ?_)
    · have hw := hw.1 c_50
      refine lv_aload_n hx hb dX4_isAhead_72 rfl (lv_at hl 1 rfl) ?_
      refine ml_get hE hI 15 (by decide) q2000 rfl rfl dX4_isAhead_73 ?_
      refine lv_iload_n hx hb dX4_isAhead_76 rfl (lv_at hl 2 rfl) ?_
      obtain ⟨hin, hw⟩ := hw
      refine ml_iald hE hI 15 rfl rfl rfl hin dX4_isAhead_77 ?_
      refine lv_aload_n hx hb dX4_isAhead_78 rfl (lv_at hl 1 rfl) ?_
      refine ml_get hE hI 15 (by decide) q2000 rfl rfl dX4_isAhead_79 ?_
      refine lv_iload_n hx hb dX4_isAhead_82 rfl (lv_at hl 3 rfl) ?_
      obtain ⟨hin, hw⟩ := hw
      refine ml_iald hE hI 15 rfl rfl rfl hin dX4_isAhead_83 ?_
      refine lv_icmp_eq (tgt := 108) hx hb dX4_isAhead_84 (by decide) (fun c_84 => ?_) (fun c_84 => ?_)
      · have hw := hw.1 c_84
        refine lv_aload_n hx hb dX4_isAhead_108 rfl (lv_at hl 1 rfl) ?_
        refine ml_get hE hI 16 (by decide) q2001 rfl rfl dX4_isAhead_109 ?_
        refine lv_iload_n hx hb dX4_isAhead_112 rfl (lv_at hl 2 rfl) ?_
        obtain ⟨hin, hw⟩ := hw
        refine ml_iald hE hI 16 rfl rfl rfl hin dX4_isAhead_113 ?_
        refine lv_aload_n hx hb dX4_isAhead_114 rfl (lv_at hl 1 rfl) ?_
        refine ml_get hE hI 16 (by decide) q2001 rfl rfl dX4_isAhead_115 ?_
        refine lv_iload_n hx hb dX4_isAhead_118 rfl (lv_at hl 3 rfl) ?_
        obtain ⟨hin, hw⟩ := hw
        refine ml_iald hE hI 16 rfl rfl rfl hin dX4_isAhead_119 ?_
        refine lv_icmp_eq (tgt := 144) hx hb dX4_isAhead_120 (by decide) (fun c_120 => ?_) (fun c_120 => ?_)
        · have hw := hw.1 c_120
          refine lv_aload_n hx hb dX4_isAhead_144 rfl (lv_at hl 1 rfl) ?_
          refine ml_get hE hI 17 (by decide) q2002 rfl rfl dX4_isAhead_145 ?_
          refine lv_iload_n hx hb dX4_isAhead_148 rfl (lv_at hl 2 rfl) ?_
          obtain ⟨hin, hw⟩ := hw
          refine ml_iald hE hI 17 rfl rfl rfl hin dX4_isAhead_149 ?_
          refine lv_aload_n hx hb dX4_isAhead_150 rfl (lv_at hl 1 rfl) ?_
          refine ml_get hE hI 17 (by decide) q2002 rfl rfl dX4_isAhead_151 ?_
          refine lv_iload_n hx hb dX4_isAhead_154 rfl (lv_at hl 3 rfl) ?_
          obtain ⟨hin, hw⟩ := hw
          refine ml_iald hE hI 17 rfl rfl rfl hin dX4_isAhead_155 ?_
          refine lv_icmp_ge (tgt := 163) hx hb dX4_isAhead_156 (by decide) (fun c_156 => ?_) (fun c_156 => ?_)
          · have hw := hw.1 c_156
            refine lv_iconst (v := 0) hx hb dX4_isAhead_163 (by decide) ?_
            exact ml_zret hE hI rfl hw dX4_isAhead_164
          · have hw := hw.2 c_156
            refine lv_iconst (v := 1) hx hb dX4_isAhead_159 (by decide) ?_
            refine lv_goto (tgt := 164) hx hb dX4_isAhead_160 (by decide) ?_
            exact ml_zret hE hI rfl hw dX4_isAhead_164
        · have hw := hw.2 c_120
          refine lv_aload_n hx hb dX4_isAhead_123 rfl (lv_at hl 1 rfl) ?_
          refine ml_get hE hI 16 (by decide) q2001 rfl rfl dX4_isAhead_124 ?_
          refine lv_iload_n hx hb dX4_isAhead_127 rfl (lv_at hl 2 rfl) ?_
          obtain ⟨hin, hw⟩ := hw
          refine ml_iald hE hI 16 rfl rfl rfl hin dX4_isAhead_128 ?_
          refine lv_aload_n hx hb dX4_isAhead_129 rfl (lv_at hl 1 rfl) ?_
          refine ml_get hE hI 16 (by decide) q2001 rfl rfl dX4_isAhead_130 ?_
          refine lv_iload_n hx hb dX4_isAhead_133 rfl (lv_at hl 3 rfl) ?_
          obtain ⟨hin, hw⟩ := hw
          refine ml_iald hE hI 16 rfl rfl rfl hin dX4_isAhead_134 ?_
          refine lv_icmp_ge (tgt := 142) hx hb dX4_isAhead_135 (by decide) (fun c_135 => ?_) (fun c_135 => ?_)
          · have hw := hw.1 c_135
            refine lv_iconst (v := 0) hx hb dX4_isAhead_142 (by decide) ?_
            exact ml_zret hE hI rfl hw dX4_isAhead_143
          · have hw := hw.2 c_135
            refine lv_iconst (v := 1) hx hb dX4_isAhead_138 (by decide) ?_
            refine lv_goto (tgt := 143) hx hb dX4_isAhead_139 (by decide) ?_
            exact ml_zret hE hI rfl hw dX4_isAhead_143
      · have hw := hw.2 c_84
        refine lv_aload_n hx hb dX4_isAhead_87 rfl (lv_at hl 1 rfl) ?_
        refine ml_get hE hI 15 (by decide) q2000 rfl rfl dX4_isAhead_88 ?_
        refine lv_iload_n hx hb dX4_isAhead_91 rfl (lv_at hl 2 rfl) ?_
        obtain ⟨hin, hw⟩ := hw
        refine ml_iald hE hI 15 rfl rfl rfl hin dX4_isAhead_92 ?_
        refine lv_aload_n hx hb dX4_isAhead_93 rfl (lv_at hl 1 rfl) ?_
        refine ml_get hE hI 15 (by decide) q2000 rfl rfl dX4_isAhead_94 ?_
        refine lv_iload_n hx hb dX4_isAhead_97 rfl (lv_at hl 3 rfl) ?_
        obtain ⟨hin, hw⟩ := hw
        refine ml_iald hE hI 15 rfl rfl rfl hin dX4_isAhead_98 ?_
        refine lv_icmp_ge (tgt := 106) hx hb dX4_isAhead_99 (by decide) (fun c_99 => ?_) (fun c_99 => ?_)
        · have hw := hw.1 c_99
          refine lv_iconst (v := 0) hx hb dX4_isAhead_106 (by decide) ?_
          exact ml_zret hE hI rfl hw dX4_isAhead_107
        · have hw := hw.2 c_99
          refine lv_iconst (v := 1) hx hb dX4_isAhead_102 (by decide) ?_
          refine lv_goto (tgt := 107) hx hb dX4_isAhead_103 (by decide) ?_
          exact ml_zret hE hI rfl hw dX4_isAhead_107
    · have hw := hw.2 c_50
      refine lv_aload_n hx hb dX4_isAhead_53 rfl (lv_at hl 1 rfl) ?_
      refine lv_iload_n hx hb dX4_isAhead_54 rfl (lv_at hl 2 rfl) ?_
      refine ml_calli (As := [.int x1]) (rest := []) (cells := 0) (slots := 0) hE hI (fun h hS => snd_X4_newest l G _ h ad F4 A4 L4 x1 _ hS hw) (cwV 1 hts (lw_V q2343 q2345 qs78 q108 q2346) rfl rfl rfl (by decide +kernel) ⟨Nat.le_of_ble_eq_true rfl, Nat.le_of_ble_eq_true rfl⟩) rfl hl.1 (Nat.le_of_ble_eq_true rfl) dX4_isAhead_55 ⟨Nat.le_of_ble_eq_true rfl, Nat.le_of_ble_eq_true rfl⟩ (fun r5 F5 A5 L5 H locs hw hI => ?_)
      refine lv_aload_n hx hb dX4_isAhead_58 rfl (lv_at hl 1 rfl) ?_
      refine lv_iload_n hx hb dX4_isAhead_59 rfl (lv_at hl 3 rfl) ?_
      refine ml_calli (As := [.int x2]) (rest := [.int r5]) (cells := 0) (slots := 0) hE hI (fun h hS => snd_X4_newest l G _ h ad F5 A5 L5 x2 _ hS hw) (cwV 1 hts (lw_V q2343 q2345 qs78 q108 q2346) rfl rfl rfl (by decide +kernel) ⟨Nat.le_of_ble_eq_true rfl, Nat.le_of_ble_eq_true rfl⟩) rfl hl.1 (Nat.le_of_ble_eq_true rfl) dX4_isAhead_60 ⟨Nat.le_of_ble_eq_true rfl, Nat.le_of_ble_eq_true rfl⟩ (fun r6 F6 A6 L6 H locs hw hI => ?_)
      refine lv_icmp_le (tgt := 70) hx hb dX4_isAhead_63 (by decide) (fun c_63 => ?_) (fun c_63 => ?_)
      · have hw := hw.1 c_63
        refine lv_iconst (v := 0) hx hb dX4_isAhead_70 (by decide) ?_
        exact ml_zret hE hI rfl hw dX4_isAhead_71
      · have hw := hw.2 c_63
        refine lv_iconst (v := 1) hx hb dX4_isAhead_66 (by decide) ?_
        refine lv_goto (tgt := 71) hx hb dX4_isAhead_67 (by decide) ?_
        exact ml_zret hE hI rfl hw dX4_isAhead_71
  · have hw := hw.2 c_27
    refine lv_iload_n hx hb dX4_isAhead_30 rfl (lv_at hl 0 rfl) ?_
    refine lv_if_le (tgt := 38) hx hb dX4_isAhead_31 (by decide) (fun c_31 => ?_) (fun c_31 => ?_)
    · have hw := hw.1 c_31
      refine lv_iconst (v := 0) hx hb dX4_isAhead_38 (by decide) ?_
      exact ml_zret hE hI rfl hw dX4_isAhead_39
    · have hw := hw.2 c_31
      refine lv_iconst (v := 1) hx hb dX4_isAhead_34 (by decide) ?_
      refine lv_goto (tgt := 39) hx hb dX4_isAhead_35 (by decide) ?_
      exact ml_zret hE hI rfl hw dX4_isAhead_39
