/-! the reference's methods, walked (by gen/model.py) -/
set_option maxRecDepth 100000
/-- MatchmakerRulesModel.tell(CIII)I -/
abbrev rm_X4_tell : Room := { frames := 5, cells := 0, slots := 0, locals := 103 }
def wp_X4_tell (F : Nat → Int32) (A : Nat → Nat → Int32) (L : Nat → UInt32) (x1 : Int32) (x2 : Int32) (x3 : Int32) (x4 : Int32) (Q : Int32 → (Nat → Int32) → (Nat → Nat → Int32) → (Nat → UInt32) → Prop) : Prop := wp_X4_remembers F A L (fun F1 A1 L1 => wp_X4_tells F1 A1 L1 x1 x2 x3 x4 (fun r2 F2 A2 L2 => wp_X4_ends F2 A2 L2 r2 (2 : Int32) (fun r3 F3 A3 L3 => Q r3 F3 A3 L3)))
set_option maxHeartbeats 4000000 in
theorem snd_X4_tell (l : Launch) (G : GG) (sz : Nat) (h : HH) (ad : Nat → Nat) (F : Nat → Int32) (A : Nat → Nat → Int32) (L : Nat → UInt32) (x1 : Int32) (x2 : Int32) (x3 : Int32) (x4 : Int32) (Q : Int32 → (Nat → Int32) → (Nat → Nat → Int32) → (Nat → UInt32) → Prop) (hS : ml_S G h ad F A L) (hw : wp_X4_tell F A L x1 x2 x3 x4 Q) : Met l yX4_tell (ws_ yX4_tell cX4_tell 5 (some FieldType.int)) rm_X4_tell (hv_Pc G h sz [.ref (ad 0), .int x1, .int x2, .int x3, .int x4]) (hv_Qi G h sz (fun r => ml_Q G h ad (Q r))) 0 0 (hv_A h sz) := by
  refine Met.ofW (cc := cX4_tell) (maxL := 5) (ret := (some FieldType.int)) (by decide) rfl ?_
  intro p e s m args below meth c s₁ B hml hv
  obtain ⟨rfl, rfl, hE, hI⟩ := hv_open B hml hv
  have hE : hv_E p s m ([.ref (ad 0), .int x1, .int x2, .int x3, .int x4] : List Value).toArray meth c cX4_tell 5 (some FieldType.int) RX4 G h := hE
  have hI := ml_I.start hI hS
  obtain ⟨⟨hx, hb, hml, hown, hts⟩, hr, hlocks, -⟩ := id hE
  have hl := lv_entry ([.ref (ad 0), .int x1, .int x2, .int x3, .int x4] : List Value) (n := 5) (Nat.le_of_ble_eq_true rfl)
  rw [lg_entry_eq]
  generalize (lg_sl ([.ref (ad 0), .int x1, .int x2, .int x3, .int x4] : List Value) ++ List.replicate (5 - (lg_sl ([.ref (ad 0), .int x1, .int x2, .int x3, .int x4] : List Value)).length) Slot.unset).toArray = ls at hl ⊢
  have hl : lv_has ls 5 [(0, .ref (ad 0)), (1, .int x1), (2, .int x2), (3, .int x3), (4, .int x4)] := hl
  unfold wp_X4_tell at hw
  refine lv_aload_n hx hb dX4_tell_0 rfl (lv_at hl 0 rfl) ?_
  refine ml_callv (As := []) (rest := []) (cells := 0) (slots := 0) hE hI (fun h hS => snd_X4_remembers l G _ h ad F A L _ hS hw) (cwV 0 hts (lw_V q2110 q2112 qs34 q108 q2113) rfl rfl rfl (by decide +kernel) ⟨Nat.le_of_ble_eq_true rfl, Nat.le_of_ble_eq_true rfl⟩) rfl hl.1 (Nat.le_of_ble_eq_true rfl) dX4_tell_1 ⟨Nat.le_of_ble_eq_true rfl, Nat.le_of_ble_eq_true rfl⟩ (fun F1 A1 L1 H locs hw hI => ?_)
  refine lv_aload_n hx hb dX4_tell_4 rfl (lv_at hl 0 rfl) ?_
  refine lv_aload_n hx hb dX4_tell_5 rfl (lv_at hl 0 rfl) ?_
  refine lv_iload_n hx hb dX4_tell_6 rfl (lv_at hl 1 rfl) ?_
  refine lv_iload_n hx hb dX4_tell_7 rfl (lv_at hl 2 rfl) ?_
  refine lv_iload_n hx hb dX4_tell_8 rfl (lv_at hl 3 rfl) ?_
  refine lv_iload hx hb dX4_tell_9 (lv_at hl 4 rfl) ?_
  refine ml_calli (As := [.int x1, .int x2, .int x3, .int x4]) (rest := [.ref (ad 0)]) (cells := 0) (slots := 0) hE hI (fun h hS => snd_X4_tells l G _ h ad F1 A1 L1 x1 x2 x3 x4 _ hS hw) (cwV 4 hts (lw_V q2218 q2220 qs58 q108 q2221) rfl rfl rfl (by decide +kernel) ⟨Nat.le_of_ble_eq_true rfl, Nat.le_of_ble_eq_true rfl⟩) rfl hl.1 (Nat.le_of_ble_eq_true rfl) dX4_tell_11 ⟨Nat.le_of_ble_eq_true rfl, Nat.le_of_ble_eq_true rfl⟩ (fun r2 F2 A2 L2 H locs hw hI => ?_)
  refine lv_iconst (v := 2) hx hb dX4_tell_14 (by decide) ?_
  refine ml_calli (As := [.int r2, .int (2 : Int32)]) (rest := []) (cells := 0) (slots := 0) hE hI (fun h hS => snd_X4_ends l G _ h ad F2 A2 L2 r2 (2 : Int32) _ hS hw) (cwV 2 hts (lw_V q2165 q2167 qs47 q108 q2168) rfl rfl rfl (by decide +kernel) ⟨Nat.le_of_ble_eq_true rfl, Nat.le_of_ble_eq_true rfl⟩) rfl hl.1 (Nat.le_of_ble_eq_true rfl) dX4_tell_15 ⟨Nat.le_of_ble_eq_true rfl, Nat.le_of_ble_eq_true rfl⟩ (fun r3 F3 A3 L3 H locs hw hI => ?_)
  exact ml_iret hE hI hw dX4_tell_18

/-- MatchmakerRulesModel.isReasonOf(II)Z -/
abbrev rm_X4_isReasonOf : Room := { frames := 2, cells := 0, slots := 0, locals := 34 }
def wp_X4_isReasonOf (F : Nat → Int32) (A : Nat → Nat → Int32) (L : Nat → UInt32) (x1 : Int32) (x2 : Int32) (Q : Int32 → (Nat → Int32) → (Nat → Nat → Int32) → (Nat → UInt32) → Prop) : Prop := wp_X4_firing F A L x1 (3 : Int32) (fun r1 F1 A1 L1 => ((¬ r1 = x2 → Q (0 : Int32) F1 A1 L1) ∧ (r1 = x2 → Q (1 : Int32) F1 A1 L1)))
set_option maxHeartbeats 4000000 in
theorem snd_X4_isReasonOf (l : Launch) (G : GG) (sz : Nat) (h : HH) (ad : Nat → Nat) (F : Nat → Int32) (A : Nat → Nat → Int32) (L : Nat → UInt32) (x1 : Int32) (x2 : Int32) (Q : Int32 → (Nat → Int32) → (Nat → Nat → Int32) → (Nat → UInt32) → Prop) (hS : ml_S G h ad F A L) (hw : wp_X4_isReasonOf F A L x1 x2 Q) : Met l yX4_isReasonOf (ws_ yX4_isReasonOf cX4_isReasonOf 3 (some FieldType.boolean)) rm_X4_isReasonOf (hv_Pc G h sz [.ref (ad 0), .int x1, .int x2]) (hv_Qi G h sz (fun r => ml_Q G h ad (Q r))) 0 0 (hv_A h sz) := by
  refine Met.ofW (cc := cX4_isReasonOf) (maxL := 3) (ret := (some FieldType.boolean)) (by decide) rfl ?_
  intro p e s m args below meth c s₁ B hml hv
  obtain ⟨rfl, rfl, hE, hI⟩ := hv_open B hml hv
  have hE : hv_E p s m ([.ref (ad 0), .int x1, .int x2] : List Value).toArray meth c cX4_isReasonOf 3 (some FieldType.boolean) RX4 G h := hE
  have hI := ml_I.start hI hS
  obtain ⟨⟨hx, hb, hml, hown, hts⟩, hr, hlocks, -⟩ := id hE
  have hl := lv_entry ([.ref (ad 0), .int x1, .int x2] : List Value) (n := 3) (Nat.le_of_ble_eq_true rfl)
  rw [lg_entry_eq]
  generalize (lg_sl ([.ref (ad 0), .int x1, .int x2] : List Value) ++ List.replicate (3 - (lg_sl ([.ref (ad 0), .int x1, .int x2] : List Value)).length) Slot.unset).toArray = ls at hl ⊢
  have hl : lv_has ls 3 [(0, .ref (ad 0)), (1, .int x1), (2, .int x2)] := hl
  unfold wp_X4_isReasonOf at hw
  refine lv_aload_n hx hb dX4_isReasonOf_0 rfl (lv_at hl 0 rfl) ?_
  refine lv_iload_n hx hb dX4_isReasonOf_1 rfl (lv_at hl 1 rfl) ?_
  refine lv_iconst (v := 3) hx hb dX4_isReasonOf_2 (by decide) ?_
  refine ml_calli (As := [.int x1, .int (3 : Int32)]) (rest := []) (cells := 0) (slots := 0) hE hI (fun h hS => snd_X4_firing l G _ h ad F A L x1 (3 : Int32) _ hS hw) (cwV 2 hts (lw_V q2182 q2184 qs50 q108 q2185) rfl rfl rfl (by decide +kernel) ⟨Nat.le_of_ble_eq_true rfl, Nat.le_of_ble_eq_true rfl⟩) rfl hl.1 (Nat.le_of_ble_eq_true rfl) dX4_isReasonOf_3 ⟨Nat.le_of_ble_eq_true rfl, Nat.le_of_ble_eq_true rfl⟩ (fun r1 F1 A1 L1 H locs hw hI => ?_)
  refine lv_iload_n hx hb dX4_isReasonOf_6 rfl (lv_at hl 2 rfl) ?_
  refine lv_icmp_ne (tgt := 14) hx hb dX4_isReasonOf_7 (by decide) (fun c_7 => ?_) (fun c_7 => ?_)
  · have hw := hw.1 c_7
    refine lv_iconst (v := 0) hx hb dX4_isReasonOf_14 (by decide) ?_
    exact ml_zret hE hI rfl hw dX4_isReasonOf_15
  · have hw := hw.2 c_7
    refine lv_iconst (v := 1) hx hb dX4_isReasonOf_10 (by decide) ?_
    refine lv_goto (tgt := 15) hx hb dX4_isReasonOf_11 (by decide) ?_
    exact ml_zret hE hI rfl hw dX4_isReasonOf_15

/-- MatchmakerRulesModel.reasons(I)I -/
abbrev rm_X4_reasons : Room := { frames := 3, cells := 0, slots := 0, locals := 56 }
def wp_X4_reasons_L4 (Q : Int32 → (Nat → Int32) → (Nat → Nat → Int32) → (Nat → UInt32) → Prop) : Nat → (Nat → Int32) → (Nat → Nat → Int32) → (Nat → UInt32) → (Int32) → (Int32) → (Int32) → Prop
  | 0, _, _, _, _, _, _ => False
  | n + 1, F, A, L, x1, x2, x3 => (((A 1 6) ≤ x3 → Q x2 F A L) ∧ (¬ (A 1 6) ≤ x3 → wp_X4_isReasonOf F A L x3 x1 (fun r1 F1 A1 L1 => ((r1 = 0 → wp_X4_reasons_L4 Q n F1 A1 L1 x1 (x2 + (0 : Int32)) (x3 + (1 : Int32))) ∧ (¬ r1 = 0 → wp_X4_reasons_L4 Q n F1 A1 L1 x1 (x2 + (1 : Int32)) (x3 + (1 : Int32)))))))
set_option maxHeartbeats 4000000 in
theorem snd_X4_reasons_L4 {p : Program} {l : Launch} {e : Env} {s : State} {m : MethodId} {args : Array Value} {below : List Frame} {meth : Method} {c : Code} {G : GG} {h0 : HH} {ad : Nat → Nat} (hE : hv_E p s m args meth c cX4_reasons 4 (some FieldType.int) RX4 G h0) (Q : Int32 → (Nat → Int32) → (Nat → Nat → Int32) → (Nat → UInt32) → Prop) : ∀ (n : Nat) (F : Nat → Int32) (A : Nat → Nat → Int32) (L : Nat → UInt32) (x1 : Int32) (x2 : Int32) (x3 : Int32), wp_X4_reasons_L4 Q n F A L x1 x2 x3 → ∀ (H : Heap) (locs : List Loc) (ls : Array Slot), ml_I G h0 s.heap ad F A L H locs → lv_has ls 4 [(0, .ref (ad 0)), (1, .int x1), (2, .int x2), (3, .int x3)] → W p l e (headSpec (ws_ yX4_reasons cX4_reasons 4 (some FieldType.int)) rm_X4_reasons).room s m args below meth c H locs 0 0 (MQ below (hv_Qi G h0 s.heap.size (fun r => ml_Q G h0 ad (Q r))) args s 0 0 (hv_A h0 s.heap.size)) (F0 m 4 ls []) := by
  obtain ⟨⟨hx, hb, hml, hown, hts⟩, hr, hlocks, -⟩ := id hE
  intro n
  induction n with
  | zero => intro F A L x1 x2 x3 hw; exact hw.elim
  | succ n ih =>
    intro F A L x1 x2 x3 hw H locs ls hI hl
    unfold wp_X4_reasons_L4 at hw
    refine lv_iload_n hx hb dX4_reasons_4 rfl (lv_at hl 3 rfl) ?_
    refine lv_aload_n hx hb dX4_reasons_5 rfl (lv_at hl 0 rfl) ?_
    refine ml_get hE hI 1 (by decide) q1986 rfl rfl dX4_reasons_6 ?_
    refine lv_bipush (v := 6) hx hb dX4_reasons_9 (by decide) ?_
    have hin : vp_in (6 : Int32) 13675 := by unfold vp_in; decide +kernel
    refine ml_iald hE hI 1 rfl rfl (show Int32.toNatClampNeg (6 : Int32) = 6 from by decide +kernel) hin dX4_reasons_11 ?_
    refine lv_icmp_ge (tgt := 38) hx hb dX4_reasons_12 (by decide) (fun c_12 => ?_) (fun c_12 => ?_)
    · have hw := hw.1 c_12
      refine lv_iload_n hx hb dX4_reasons_38 rfl (lv_at hl 2 rfl) ?_
      exact ml_iret hE hI hw dX4_reasons_39
    · have hw := hw.2 c_12
      refine lv_iload_n hx hb dX4_reasons_15 rfl (lv_at hl 2 rfl) ?_
      refine lv_aload_n hx hb dX4_reasons_16 rfl (lv_at hl 0 rfl) ?_
      refine lv_iload_n hx hb dX4_reasons_17 rfl (lv_at hl 3 rfl) ?_
      refine lv_iload_n hx hb dX4_reasons_18 rfl (lv_at hl 1 rfl) ?_
      refine ml_calli (As := [.int x3, .int x1]) (rest := [.int x2]) (cells := 0) (slots := 0) hE hI (fun h hS => snd_X4_isReasonOf l G _ h ad F A L x3 x1 _ hS hw) (cwV 2 hts (lw_V q2244 q2246 qs63 q108 q2247) rfl rfl rfl (by decide +kernel) ⟨Nat.le_of_ble_eq_true rfl, Nat.le_of_ble_eq_true rfl⟩) rfl hl.1 (Nat.le_of_ble_eq_true rfl) dX4_reasons_19 ⟨Nat.le_of_ble_eq_true rfl, Nat.le_of_ble_eq_true rfl⟩ (fun r1 F1 A1 L1 H locs hw hI => ?_)
      refine lv_if_eq (tgt := 29) hx hb dX4_reasons_22 (by decide) (fun c_22 => ?_) (fun c_22 => ?_)
      · have hw := hw.1 c_22
        refine lv_iconst (v := 0) hx hb dX4_reasons_29 (by decide) ?_
        refine lv_iadd hx hb dX4_reasons_30 ?_
        refine lv_istore_n (lv' := [(2, .int (x2 + (0 : Int32))), (0, .ref (ad 0)), (1, .int x1), (3, .int x3)]) hx hb dX4_reasons_31 rfl hl (by decide) rfl (fun ls hl => ?_)
        refine lv_iinc (v := (x3 + (1 : Int32))) (lv' := [(3, .int (x3 + (1 : Int32))), (2, .int (x2 + (0 : Int32))), (0, .ref (ad 0)), (1, .int x1)]) hx hb dX4_reasons_32 hl (k := 3) rfl rfl (by decide) rfl (fun ls hl => ?_)
        refine lv_goto (tgt := 4) hx hb dX4_reasons_35 (by decide) ?_
        exact ih F1 A1 L1 x1 (x2 + (0 : Int32)) (x3 + (1 : Int32)) hw _ _ _ hI (lv_sub hl [2, 3, 1, 0] rfl)
      · have hw := hw.2 c_22
        refine lv_iconst (v := 1) hx hb dX4_reasons_25 (by decide) ?_
        refine lv_goto (tgt := 30) hx hb dX4_reasons_26 (by decide) ?_
        refine lv_iadd hx hb dX4_reasons_30 ?_
        refine lv_istore_n (lv' := [(2, .int (x2 + (1 : Int32))), (0, .ref (ad 0)), (1, .int x1), (3, .int x3)]) hx hb dX4_reasons_31 rfl hl (by decide) rfl (fun ls hl => ?_)
        refine lv_iinc (v := (x3 + (1 : Int32))) (lv' := [(3, .int (x3 + (1 : Int32))), (2, .int (x2 + (1 : Int32))), (0, .ref (ad 0)), (1, .int x1)]) hx hb dX4_reasons_32 hl (k := 3) rfl rfl (by decide) rfl (fun ls hl => ?_)
        refine lv_goto (tgt := 4) hx hb dX4_reasons_35 (by decide) ?_
        exact ih F1 A1 L1 x1 (x2 + (1 : Int32)) (x3 + (1 : Int32)) hw _ _ _ hI (lv_sub hl [2, 3, 1, 0] rfl)
def wp_X4_reasons (F : Nat → Int32) (A : Nat → Nat → Int32) (L : Nat → UInt32) (x1 : Int32) (Q : Int32 → (Nat → Int32) → (Nat → Nat → Int32) → (Nat → UInt32) → Prop) : Prop := (∃ n4, wp_X4_reasons_L4 Q n4 F A L x1 (0 : Int32) (0 : Int32))
set_option maxHeartbeats 4000000 in
theorem snd_X4_reasons (l : Launch) (G : GG) (sz : Nat) (h : HH) (ad : Nat → Nat) (F : Nat → Int32) (A : Nat → Nat → Int32) (L : Nat → UInt32) (x1 : Int32) (Q : Int32 → (Nat → Int32) → (Nat → Nat → Int32) → (Nat → UInt32) → Prop) (hS : ml_S G h ad F A L) (hw : wp_X4_reasons F A L x1 Q) : Met l yX4_reasons (ws_ yX4_reasons cX4_reasons 4 (some FieldType.int)) rm_X4_reasons (hv_Pc G h sz [.ref (ad 0), .int x1]) (hv_Qi G h sz (fun r => ml_Q G h ad (Q r))) 0 0 (hv_A h sz) := by
  refine Met.ofW (cc := cX4_reasons) (maxL := 4) (ret := (some FieldType.int)) (by decide) rfl ?_
  intro p e s m args below meth c s₁ B hml hv
  obtain ⟨rfl, rfl, hE, hI⟩ := hv_open B hml hv
  have hE : hv_E p s m ([.ref (ad 0), .int x1] : List Value).toArray meth c cX4_reasons 4 (some FieldType.int) RX4 G h := hE
  have hI := ml_I.start hI hS
  obtain ⟨⟨hx, hb, hml, hown, hts⟩, hr, hlocks, -⟩ := id hE
  have hl := lv_entry ([.ref (ad 0), .int x1] : List Value) (n := 4) (Nat.le_of_ble_eq_true rfl)
  rw [lg_entry_eq]
  generalize (lg_sl ([.ref (ad 0), .int x1] : List Value) ++ List.replicate (4 - (lg_sl ([.ref (ad 0), .int x1] : List Value)).length) Slot.unset).toArray = ls at hl ⊢
  have hl : lv_has ls 4 [(0, .ref (ad 0)), (1, .int x1)] := hl
  unfold wp_X4_reasons at hw
  refine lv_iconst (v := 0) hx hb dX4_reasons_0 (by decide) ?_
  refine lv_istore_n (lv' := [(2, .int (0 : Int32)), (0, .ref (ad 0)), (1, .int x1)]) hx hb dX4_reasons_1 rfl hl (by decide) rfl (fun ls hl => ?_)
  refine lv_iconst (v := 0) hx hb dX4_reasons_2 (by decide) ?_
  refine lv_istore_n (lv' := [(3, .int (0 : Int32)), (2, .int (0 : Int32)), (0, .ref (ad 0)), (1, .int x1)]) hx hb dX4_reasons_3 rfl hl (by decide) rfl (fun ls hl => ?_)
  obtain ⟨n4, hw⟩ := hw
  exact snd_X4_reasons_L4 hE Q n4 F A L x1 (0 : Int32) (0 : Int32) hw _ _ _ hI (lv_sub hl [2, 3, 1, 0] rfl)

/-- MatchmakerRulesModel.untells(I)I -/
abbrev rm_X4_untells : Room := { frames := 5, cells := 0, slots := 0, locals := 103 }
def wp_X4_untells (F : Nat → Int32) (A : Nat → Nat → Int32) (L : Nat → UInt32) (x1 : Int32) (Q : Int32 → (Nat → Int32) → (Nat → Nat → Int32) → (Nat → UInt32) → Prop) : Prop := wp_X4_slotOf F A L x1 (fun r1 F1 A1 L1 => ((¬ r1 = (-1 : Int32) → (vp_in ((175 : Int32) + r1) 13675 ∧ ((¬ (A1 1 (Int32.toNatClampNeg ((175 : Int32) + r1))) = 0 → (vp_in ((175 : Int32) + r1) 13675 ∧ wp_X4_cleans F1 (ml_up A1 1 (Int32.toNatClampNeg ((175 : Int32) + r1)) (0 : Int32)) L1 (fun r2 F2 A2 L2 => wp_X4_done F2 A2 L2 r2 (fun r3 F3 A3 L3 => Q r3 F3 A3 L3)))) ∧ ((A1 1 (Int32.toNatClampNeg ((175 : Int32) + r1))) = 0 → wp_X4_reasons F1 A1 L1 x1 (fun r4 F4 A4 L4 => wp_X4_refused F4 A4 L4 (4 : Int32) r4 (fun r5 F5 A5 L5 => Q r5 F5 A5 L5)))))) ∧ (r1 = (-1 : Int32) → wp_X4_refused F1 A1 L1 (3 : Int32) x1 (fun r6 F6 A6 L6 => Q r6 F6 A6 L6))))
set_option maxHeartbeats 4000000 in
theorem snd_X4_untells (l : Launch) (G : GG) (sz : Nat) (h : HH) (ad : Nat → Nat) (F : Nat → Int32) (A : Nat → Nat → Int32) (L : Nat → UInt32) (x1 : Int32) (Q : Int32 → (Nat → Int32) → (Nat → Nat → Int32) → (Nat → UInt32) → Prop) (hS : ml_S G h ad F A L) (hw : wp_X4_untells F A L x1 Q) : Met l yX4_untells (ws_ yX4_untells cX4_untells 3 (some FieldType.int)) rm_X4_untells (hv_Pc G h sz [.ref (ad 0), .int x1]) (hv_Qi G h sz (fun r => ml_Q G h ad (Q r))) 0 0 (hv_A h sz) := by
  refine Met.ofW (cc := cX4_untells) (maxL := 3) (ret := (some FieldType.int)) (by decide) rfl ?_
  intro p e s m args below meth c s₁ B hml hv
  obtain ⟨rfl, rfl, hE, hI⟩ := hv_open B hml hv
  have hE : hv_E p s m ([.ref (ad 0), .int x1] : List Value).toArray meth c cX4_untells 3 (some FieldType.int) RX4 G h := hE
  have hI := ml_I.start hI hS
  obtain ⟨⟨hx, hb, hml, hown, hts⟩, hr, hlocks, -⟩ := id hE
  have hl := lv_entry ([.ref (ad 0), .int x1] : List Value) (n := 3) (Nat.le_of_ble_eq_true rfl)
  rw [lg_entry_eq]
  generalize (lg_sl ([.ref (ad 0), .int x1] : List Value) ++ List.replicate (3 - (lg_sl ([.ref (ad 0), .int x1] : List Value)).length) Slot.unset).toArray = ls at hl ⊢
  have hl : lv_has ls 3 [(0, .ref (ad 0)), (1, .int x1)] := hl
  unfold wp_X4_untells at hw
  refine lv_aload_n hx hb dX4_untells_0 rfl (lv_at hl 0 rfl) ?_
  refine lv_iload_n hx hb dX4_untells_1 rfl (lv_at hl 1 rfl) ?_
  refine ml_calli (As := [.int x1]) (rest := []) (cells := 0) (slots := 0) hE hI (fun h hS => snd_X4_slotOf l G _ h ad F A L x1 _ hS hw) (cwV 1 hts (lw_V q2198 q2200 qs54 q108 q2201) rfl rfl rfl (by decide +kernel) ⟨Nat.le_of_ble_eq_true rfl, Nat.le_of_ble_eq_true rfl⟩) rfl hl.1 (Nat.le_of_ble_eq_true rfl) dX4_untells_2 ⟨Nat.le_of_ble_eq_true rfl, Nat.le_of_ble_eq_true rfl⟩ (fun r1 F1 A1 L1 H locs hw hI => ?_)
  refine lv_istore_n (lv' := [(2, .int r1), (0, .ref (ad 0)), (1, .int x1)]) hx hb dX4_untells_5 rfl hl (by decide) rfl (fun ls hl => ?_)
  refine lv_iload_n hx hb dX4_untells_6 rfl (lv_at hl 0 rfl) ?_
  refine lv_iconst (v := -1) hx hb dX4_untells_7 (by decide) ?_
  refine lv_icmp_ne (tgt := 18) hx hb dX4_untells_8 (by decide) (fun c_8 => ?_) (fun c_8 => ?_)
  · have hw := hw.1 c_8
    refine lv_aload_n hx hb dX4_untells_18 rfl (lv_at hl 1 rfl) ?_
    refine ml_get hE hI 1 (by decide) q1986 rfl rfl dX4_untells_19 ?_
    refine lv_sipush (v := 175) hx hb dX4_untells_22 (by decide) ?_
    refine lv_iload_n hx hb dX4_untells_25 rfl (lv_at hl 0 rfl) ?_
    refine lv_iadd hx hb dX4_untells_26 ?_
    obtain ⟨hin, hw⟩ := hw
    refine ml_iald hE hI 1 rfl rfl rfl hin dX4_untells_27 ?_
    refine lv_if_ne (tgt := 42) hx hb dX4_untells_28 (by decide) (fun c_28 => ?_) (fun c_28 => ?_)
    · have hw := hw.1 c_28
      refine lv_aload_n hx hb dX4_untells_42 rfl (lv_at hl 1 rfl) ?_
      refine ml_get hE hI 1 (by decide) q1986 rfl rfl dX4_untells_43 ?_
      refine lv_sipush (v := 175) hx hb dX4_untells_46 (by decide) ?_
      refine lv_iload_n hx hb dX4_untells_49 rfl (lv_at hl 0 rfl) ?_
      refine lv_iadd hx hb dX4_untells_50 ?_
      refine lv_iconst (v := 0) hx hb dX4_untells_51 (by decide) ?_
      obtain ⟨hin, hw⟩ := hw
      refine ml_iast hE hI 1 rfl rfl rfl hin dX4_untells_52 (fun H locs hI => ?_)
      refine lv_aload_n hx hb dX4_untells_53 rfl (lv_at hl 1 rfl) ?_
      refine lv_aload_n hx hb dX4_untells_54 rfl (lv_at hl 1 rfl) ?_
      refine ml_calli (As := []) (rest := [.ref (ad 0)]) (cells := 0) (slots := 0) hE hI (fun h hS => snd_X4_cleans l G _ h ad F1 (ml_up A1 1 (Int32.toNatClampNeg ((175 : Int32) + r1)) (0 : Int32)) L1 _ hS hw) (cwV 0 hts (lw_V q2190 q2192 qs52 q108 q2193) rfl rfl rfl (by decide +kernel) ⟨Nat.le_of_ble_eq_true rfl, Nat.le_of_ble_eq_true rfl⟩) rfl hl.1 (Nat.le_of_ble_eq_true rfl) dX4_untells_55 ⟨Nat.le_of_ble_eq_true rfl, Nat.le_of_ble_eq_true rfl⟩ (fun r2 F2 A2 L2 H locs hw hI => ?_)
      refine ml_calli (As := [.int r2]) (rest := []) (cells := 0) (slots := 0) hE hI (fun h hS => snd_X4_done l G _ h ad F2 A2 L2 r2 _ hS hw) (cwV 1 hts (lw_V q2161 q2163 qs46 q108 q2164) rfl rfl rfl (by decide +kernel) ⟨Nat.le_of_ble_eq_true rfl, Nat.le_of_ble_eq_true rfl⟩) rfl hl.1 (Nat.le_of_ble_eq_true rfl) dX4_untells_58 ⟨Nat.le_of_ble_eq_true rfl, Nat.le_of_ble_eq_true rfl⟩ (fun r3 F3 A3 L3 H locs hw hI => ?_)
      exact ml_iret hE hI hw dX4_untells_61
    · have hw := hw.2 c_28
      refine lv_aload_n hx hb dX4_untells_31 rfl (lv_at hl 1 rfl) ?_
      refine lv_iconst (v := 4) hx hb dX4_untells_32 (by decide) ?_
      refine lv_aload_n hx hb dX4_untells_33 rfl (lv_at hl 1 rfl) ?_
      refine lv_iload_n hx hb dX4_untells_34 rfl (lv_at hl 2 rfl) ?_
      refine ml_calli (As := [.int x1]) (rest := [.int (4 : Int32), .ref (ad 0)]) (cells := 0) (slots := 0) hE hI (fun h hS => snd_X4_reasons l G _ h ad F1 A1 L1 x1 _ hS hw) (cwV 1 hts (lw_V q2240 q2242 qs62 q108 q2243) rfl rfl rfl (by decide +kernel) ⟨Nat.le_of_ble_eq_true rfl, Nat.le_of_ble_eq_true rfl⟩) rfl hl.1 (Nat.le_of_ble_eq_true rfl) dX4_untells_35 ⟨Nat.le_of_ble_eq_true rfl, Nat.le_of_ble_eq_true rfl⟩ (fun r4 F4 A4 L4 H locs hw hI => ?_)
      refine ml_calli (As := [.int (4 : Int32), .int r4]) (rest := []) (cells := 0) (slots := 0) hE hI (fun h hS => snd_X4_refused l G _ h ad F4 A4 L4 (4 : Int32) r4 _ hS hw) (cwV 2 hts (lw_V q2157 q2159 qs45 q108 q2160) rfl rfl rfl (by decide +kernel) ⟨Nat.le_of_ble_eq_true rfl, Nat.le_of_ble_eq_true rfl⟩) rfl hl.1 (Nat.le_of_ble_eq_true rfl) dX4_untells_38 ⟨Nat.le_of_ble_eq_true rfl, Nat.le_of_ble_eq_true rfl⟩ (fun r5 F5 A5 L5 H locs hw hI => ?_)
      exact ml_iret hE hI hw dX4_untells_41
  · have hw := hw.2 c_8
    refine lv_aload_n hx hb dX4_untells_11 rfl (lv_at hl 1 rfl) ?_
    refine lv_iconst (v := 3) hx hb dX4_untells_12 (by decide) ?_
    refine lv_iload_n hx hb dX4_untells_13 rfl (lv_at hl 2 rfl) ?_
    refine ml_calli (As := [.int (3 : Int32), .int x1]) (rest := []) (cells := 0) (slots := 0) hE hI (fun h hS => snd_X4_refused l G _ h ad F1 A1 L1 (3 : Int32) x1 _ hS hw) (cwV 2 hts (lw_V q2157 q2159 qs45 q108 q2160) rfl rfl rfl (by decide +kernel) ⟨Nat.le_of_ble_eq_true rfl, Nat.le_of_ble_eq_true rfl⟩) rfl hl.1 (Nat.le_of_ble_eq_true rfl) dX4_untells_14 ⟨Nat.le_of_ble_eq_true rfl, Nat.le_of_ble_eq_true rfl⟩ (fun r6 F6 A6 L6 H locs hw hI => ?_)
    exact ml_iret hE hI hw dX4_untells_17

/-- MatchmakerRulesModel.untell(I)I -/
abbrev rm_X4_untell : Room := { frames := 6, cells := 0, slots := 0, locals := 125 }
def wp_X4_untell (F : Nat → Int32) (A : Nat → Nat → Int32) (L : Nat → UInt32) (x1 : Int32) (Q : Int32 → (Nat → Int32) → (Nat → Nat → Int32) → (Nat → UInt32) → Prop) : Prop := wp_X4_remembers F A L (fun F1 A1 L1 => wp_X4_untells F1 A1 L1 x1 (fun r2 F2 A2 L2 => wp_X4_ends F2 A2 L2 r2 (1 : Int32) (fun r3 F3 A3 L3 => Q r3 F3 A3 L3)))
set_option maxHeartbeats 4000000 in
theorem snd_X4_untell (l : Launch) (G : GG) (sz : Nat) (h : HH) (ad : Nat → Nat) (F : Nat → Int32) (A : Nat → Nat → Int32) (L : Nat → UInt32) (x1 : Int32) (Q : Int32 → (Nat → Int32) → (Nat → Nat → Int32) → (Nat → UInt32) → Prop) (hS : ml_S G h ad F A L) (hw : wp_X4_untell F A L x1 Q) : Met l yX4_untell (ws_ yX4_untell cX4_untell 2 (some FieldType.int)) rm_X4_untell (hv_Pc G h sz [.ref (ad 0), .int x1]) (hv_Qi G h sz (fun r => ml_Q G h ad (Q r))) 0 0 (hv_A h sz) := by
  refine Met.ofW (cc := cX4_untell) (maxL := 2) (ret := (some FieldType.int)) (by decide) rfl ?_
  intro p e s m args below meth c s₁ B hml hv
  obtain ⟨rfl, rfl, hE, hI⟩ := hv_open B hml hv
  have hE : hv_E p s m ([.ref (ad 0), .int x1] : List Value).toArray meth c cX4_untell 2 (some FieldType.int) RX4 G h := hE
  have hI := ml_I.start hI hS
  obtain ⟨⟨hx, hb, hml, hown, hts⟩, hr, hlocks, -⟩ := id hE
  have hl := lv_entry ([.ref (ad 0), .int x1] : List Value) (n := 2) (Nat.le_of_ble_eq_true rfl)
  rw [lg_entry_eq]
  generalize (lg_sl ([.ref (ad 0), .int x1] : List Value) ++ List.replicate (2 - (lg_sl ([.ref (ad 0), .int x1] : List Value)).length) Slot.unset).toArray = ls at hl ⊢
  have hl : lv_has ls 2 [(0, .ref (ad 0)), (1, .int x1)] := hl
  unfold wp_X4_untell at hw
  refine lv_aload_n hx hb dX4_untell_0 rfl (lv_at hl 0 rfl) ?_
  refine ml_callv (As := []) (rest := []) (cells := 0) (slots := 0) hE hI (fun h hS => snd_X4_remembers l G _ h ad F A L _ hS hw) (cwV 0 hts (lw_V q2110 q2112 qs34 q108 q2113) rfl rfl rfl (by decide +kernel) ⟨Nat.le_of_ble_eq_true rfl, Nat.le_of_ble_eq_true rfl⟩) rfl hl.1 (Nat.le_of_ble_eq_true rfl) dX4_untell_1 ⟨Nat.le_of_ble_eq_true rfl, Nat.le_of_ble_eq_true rfl⟩ (fun F1 A1 L1 H locs hw hI => ?_)
  refine lv_aload_n hx hb dX4_untell_4 rfl (lv_at hl 0 rfl) ?_
  refine lv_aload_n hx hb dX4_untell_5 rfl (lv_at hl 0 rfl) ?_
  refine lv_iload_n hx hb dX4_untell_6 rfl (lv_at hl 1 rfl) ?_
  refine ml_calli (As := [.int x1]) (rest := [.ref (ad 0)]) (cells := 0) (slots := 0) hE hI (fun h hS => snd_X4_untells l G _ h ad F1 A1 L1 x1 _ hS hw) (cwV 1 hts (lw_V q2236 q2238 qs61 q108 q2239) rfl rfl rfl (by decide +kernel) ⟨Nat.le_of_ble_eq_true rfl, Nat.le_of_ble_eq_true rfl⟩) rfl hl.1 (Nat.le_of_ble_eq_true rfl) dX4_untell_7 ⟨Nat.le_of_ble_eq_true rfl, Nat.le_of_ble_eq_true rfl⟩ (fun r2 F2 A2 L2 H locs hw hI => ?_)
  refine lv_iconst (v := 1) hx hb dX4_untell_10 (by decide) ?_
  refine ml_calli (As := [.int r2, .int (1 : Int32)]) (rest := []) (cells := 0) (slots := 0) hE hI (fun h hS => snd_X4_ends l G _ h ad F2 A2 L2 r2 (1 : Int32) _ hS hw) (cwV 2 hts (lw_V q2165 q2167 qs47 q108 q2168) rfl rfl rfl (by decide +kernel) ⟨Nat.le_of_ble_eq_true rfl, Nat.le_of_ble_eq_true rfl⟩) rfl hl.1 (Nat.le_of_ble_eq_true rfl) dX4_untell_11 ⟨Nat.le_of_ble_eq_true rfl, Nat.le_of_ble_eq_true rfl⟩ (fun r3 F3 A3 L3 H locs hw hI => ?_)
  exact ml_iret hE hI hw dX4_untell_14

/-- MatchmakerRulesModel.find(CII)I -/
abbrev rm_X4_find : Room := { frames := 2, cells := 0, slots := 0, locals := 36 }
def wp_X4_find (F : Nat → Int32) (A : Nat → Nat → Int32) (L : Nat → UInt32) (x1 : Int32) (x2 : Int32) (x3 : Int32) (Q : Int32 → (Nat → Int32) → (Nat → Nat → Int32) → (Nat → UInt32) → Prop) : Prop := wp_X4_slotOf3 (upd F 0 (0 : Int32)) A L x1 x2 x3 (fun r1 F1 A1 L1 => ((¬ r1 = (-1 : Int32) → (vp_in ((95 : Int32) + r1) 13675 ∧ Q (A1 1 (Int32.toNatClampNeg ((95 : Int32) + r1))) F1 A1 L1)) ∧ (r1 = (-1 : Int32) → wp_X4_fails F1 A1 L1 (1 : Int32) (fun r2 F2 A2 L2 => Q r2 F2 A2 L2))))
set_option maxHeartbeats 4000000 in
theorem snd_X4_find (l : Launch) (G : GG) (sz : Nat) (h : HH) (ad : Nat → Nat) (F : Nat → Int32) (A : Nat → Nat → Int32) (L : Nat → UInt32) (x1 : Int32) (x2 : Int32) (x3 : Int32) (Q : Int32 → (Nat → Int32) → (Nat → Nat → Int32) → (Nat → UInt32) → Prop) (hS : ml_S G h ad F A L) (hw : wp_X4_find F A L x1 x2 x3 Q) : Met l yX4_find (ws_ yX4_find cX4_find 5 (some FieldType.int)) rm_X4_find (hv_Pc G h sz [.ref (ad 0), .int x1, .int x2, .int x3]) (hv_Qi G h sz (fun r => ml_Q G h ad (Q r))) 0 0 (hv_A h sz) := by
  refine Met.ofW (cc := cX4_find) (maxL := 5) (ret := (some FieldType.int)) (by decide) rfl ?_
  intro p e s m args below meth c s₁ B hml hv
  obtain ⟨rfl, rfl, hE, hI⟩ := hv_open B hml hv
  have hE : hv_E p s m ([.ref (ad 0), .int x1, .int x2, .int x3] : List Value).toArray meth c cX4_find 5 (some FieldType.int) RX4 G h := hE
  have hI := ml_I.start hI hS
  obtain ⟨⟨hx, hb, hml, hown, hts⟩, hr, hlocks, -⟩ := id hE
  have hl := lv_entry ([.ref (ad 0), .int x1, .int x2, .int x3] : List Value) (n := 5) (Nat.le_of_ble_eq_true rfl)
  rw [lg_entry_eq]
  generalize (lg_sl ([.ref (ad 0), .int x1, .int x2, .int x3] : List Value) ++ List.replicate (5 - (lg_sl ([.ref (ad 0), .int x1, .int x2, .int x3] : List Value)).length) Slot.unset).toArray = ls at hl ⊢
  have hl : lv_has ls 5 [(0, .ref (ad 0)), (1, .int x1), (2, .int x2), (3, .int x3)] := hl
  unfold wp_X4_find at hw
  refine lv_aload_n hx hb dX4_find_0 rfl (lv_at hl 0 rfl) ?_
  refine lv_iconst (v := 0) hx hb dX4_find_1 (by decide) ?_
  refine ml_put hE hI 0 (by decide) q1985 rfl rfl (ty := .int) rfl rfl rfl (fun _ => rfl) dX4_find_2 (fun H locs hI => ?_)
  refine lv_aload_n hx hb dX4_find_5 rfl (lv_at hl 0 rfl) ?_
  refine lv_iload_n hx hb dX4_find_6 rfl (lv_at hl 1 rfl) ?_
  refine lv_iload_n hx hb dX4_find_7 rfl (lv_at hl 2 rfl) ?_
  refine lv_iload_n hx hb dX4_find_8 rfl (lv_at hl 3 rfl) ?_
  refine ml_calli (As := [.int x1, .int x2, .int x3]) (rest := []) (cells := 0) (slots := 0) hE hI (fun h hS => snd_X4_slotOf3 l G _ h ad (upd F 0 (0 : Int32)) A L x1 x2 x3 _ hS hw) (cwV 3 hts (lw_V q2222 q2224 qs59 q108 q2225) rfl rfl rfl (by decide +kernel) ⟨Nat.le_of_ble_eq_true rfl, Nat.le_of_ble_eq_true rfl⟩) rfl hl.1 (Nat.le_of_ble_eq_true rfl) dX4_find_9 ⟨Nat.le_of_ble_eq_true rfl, Nat.le_of_ble_eq_true rfl⟩ (fun r1 F1 A1 L1 H locs hw hI => ?_)
  refine lv_istore (lv' := [(4, .int r1), (0, .ref (ad 0)), (1, .int x1), (2, .int x2), (3, .int x3)]) hx hb dX4_find_12 hl (by decide) rfl (fun ls hl => ?_)
  refine lv_iload hx hb dX4_find_14 (lv_at hl 0 rfl) ?_
  refine lv_iconst (v := -1) hx hb dX4_find_16 (by decide) ?_
  refine lv_icmp_ne (tgt := 28) hx hb dX4_find_17 (by decide) (fun c_17 => ?_) (fun c_17 => ?_)
  · have hw := hw.1 c_17
    refine lv_aload_n hx hb dX4_find_28 rfl (lv_at hl 1 rfl) ?_
    refine ml_get hE hI 1 (by decide) q1986 rfl rfl dX4_find_29 ?_
    refine lv_bipush (v := 95) hx hb dX4_find_32 (by decide) ?_
    refine lv_iload hx hb dX4_find_34 (lv_at hl 0 rfl) ?_
    refine lv_iadd hx hb dX4_find_36 ?_
    obtain ⟨hin, hw⟩ := hw
    refine ml_iald hE hI 1 rfl rfl rfl hin dX4_find_37 ?_
    exact ml_iret hE hI hw dX4_find_38
  · have hw := hw.2 c_17
    refine lv_aload_n hx hb dX4_find_20 rfl (lv_at hl 1 rfl) ?_
    refine lv_iconst (v := 1) hx hb dX4_find_21 (by decide) ?_
    refine ml_calli (As := [.int (1 : Int32)]) (rest := []) (cells := 0) (slots := 0) hE hI (fun h hS => snd_X4_fails l G _ h ad F1 A1 L1 (1 : Int32) _ hS hw) (cwV 1 hts (lw_V q2149 q2151 qs43 q108 q2152) rfl rfl rfl (by decide +kernel) ⟨Nat.le_of_ble_eq_true rfl, Nat.le_of_ble_eq_true rfl⟩) rfl hl.1 (Nat.le_of_ble_eq_true rfl) dX4_find_22 ⟨Nat.le_of_ble_eq_true rfl, Nat.le_of_ble_eq_true rfl⟩ (fun r2 F2 A2 L2 H locs hw hI => ?_)
    refine lv_goto (tgt := 38) hx hb dX4_find_25 (by decide) ?_
    exact ml_iret hE hI hw dX4_find_38

/-- MatchmakerRulesModel.factAt(I)I -/
abbrev rm_X4_factAt : Room := { frames := 2, cells := 0, slots := 0, locals := 34 }
def wp_X4_factAt (F : Nat → Int32) (A : Nat → Nat → Int32) (L : Nat → UInt32) (x1 : Int32) (Q : Int32 → (Nat → Int32) → (Nat → Nat → Int32) → (Nat → UInt32) → Prop) : Prop := wp_X4_in x1 (0 : Int32) ((A 1 1) - (1 : Int32)) (fun r1 => ((r1 = 0 → wp_X4_fails (upd F 0 (0 : Int32)) A L (1 : Int32) (fun r2 F2 A2 L2 => Q r2 F2 A2 L2)) ∧ (¬ r1 = 0 → (vp_in ((95 : Int32) + x1) 13675 ∧ Q (A 1 (Int32.toNatClampNeg ((95 : Int32) + x1))) (upd F 0 (0 : Int32)) A L))))
set_option maxHeartbeats 4000000 in
theorem snd_X4_factAt (l : Launch) (G : GG) (sz : Nat) (h : HH) (ad : Nat → Nat) (F : Nat → Int32) (A : Nat → Nat → Int32) (L : Nat → UInt32) (x1 : Int32) (Q : Int32 → (Nat → Int32) → (Nat → Nat → Int32) → (Nat → UInt32) → Prop) (hS : ml_S G h ad F A L) (hw : wp_X4_factAt F A L x1 Q) : Met l yX4_factAt (ws_ yX4_factAt cX4_factAt 2 (some FieldType.int)) rm_X4_factAt (hv_Pc G h sz [.ref (ad 0), .int x1]) (hv_Qi G h sz (fun r => ml_Q G h ad (Q r))) 0 0 (hv_A h sz) := by
  refine Met.ofW (cc := cX4_factAt) (maxL := 2) (ret := (some FieldType.int)) (by decide) rfl ?_
  intro p e s m args below meth c s₁ B hml hv
  obtain ⟨rfl, rfl, hE, hI⟩ := hv_open B hml hv
  have hE : hv_E p s m ([.ref (ad 0), .int x1] : List Value).toArray meth c cX4_factAt 2 (some FieldType.int) RX4 G h := hE
  have hI := ml_I.start hI hS
  obtain ⟨⟨hx, hb, hml, hown, hts⟩, hr, hlocks, -⟩ := id hE
  have hl := lv_entry ([.ref (ad 0), .int x1] : List Value) (n := 2) (Nat.le_of_ble_eq_true rfl)
  rw [lg_entry_eq]
  generalize (lg_sl ([.ref (ad 0), .int x1] : List Value) ++ List.replicate (2 - (lg_sl ([.ref (ad 0), .int x1] : List Value)).length) Slot.unset).toArray = ls at hl ⊢
  have hl : lv_has ls 2 [(0, .ref (ad 0)), (1, .int x1)] := hl
  unfold wp_X4_factAt at hw
  refine lv_aload_n hx hb dX4_factAt_0 rfl (lv_at hl 0 rfl) ?_
  refine lv_iconst (v := 0) hx hb dX4_factAt_1 (by decide) ?_
  refine ml_put hE hI 0 (by decide) q1985 rfl rfl (ty := .int) rfl rfl rfl (fun _ => rfl) dX4_factAt_2 (fun H locs hI => ?_)
  refine lv_iload_n hx hb dX4_factAt_5 rfl (lv_at hl 1 rfl) ?_
  refine lv_iconst (v := 0) hx hb dX4_factAt_6 (by decide) ?_
  refine lv_aload_n hx hb dX4_factAt_7 rfl (lv_at hl 0 rfl) ?_
  refine ml_get hE hI 1 (by decide) q1986 rfl rfl dX4_factAt_8 ?_
  refine lv_iconst (v := 1) hx hb dX4_factAt_11 (by decide) ?_
  have hin : vp_in (1 : Int32) 13675 := by unfold vp_in; decide +kernel
  refine ml_iald hE hI 1 rfl rfl (show Int32.toNatClampNeg (1 : Int32) = 1 from by decide +kernel) hin dX4_factAt_12 ?_
  refine lv_iconst (v := 1) hx hb dX4_factAt_13 (by decide) ?_
  refine lv_isub hx hb dX4_factAt_14 ?_
  refine ml_calls (As := [.int x1, .int (0 : Int32), .int ((A 1 1) - (1 : Int32))]) (rest := []) (cells := 0) (slots := 0) hE hI (fun h => snd_X4_in l G _ h x1 (0 : Int32) ((A 1 1) - (1 : Int32)) _ hw) (va_cwS 3 hts (lw_S q2130 q2131 q108 q2132) rfl rfl rfl (by decide +kernel) ⟨Nat.le_of_ble_eq_true rfl, Nat.le_of_ble_eq_true rfl⟩) rfl hl.1 (Nat.le_of_ble_eq_true rfl) dX4_factAt_15 ⟨Nat.le_of_ble_eq_true rfl, Nat.le_of_ble_eq_true rfl⟩ (fun r1 H locs hw hI => ?_)
  refine lv_if_eq (tgt := 33) hx hb dX4_factAt_18 (by decide) (fun c_18 => ?_) (fun c_18 => ?_)
  · have hw := hw.1 c_18
    refine lv_aload_n hx hb dX4_factAt_33 rfl (lv_at hl 0 rfl) ?_
    refine lv_iconst (v := 1) hx hb dX4_factAt_34 (by decide) ?_
    refine ml_calli (As := [.int (1 : Int32)]) (rest := []) (cells := 0) (slots := 0) hE hI (fun h hS => snd_X4_fails l G _ h ad (upd F 0 (0 : Int32)) A L (1 : Int32) _ hS hw) (cwV 1 hts (lw_V q2149 q2151 qs43 q108 q2152) rfl rfl rfl (by decide +kernel) ⟨Nat.le_of_ble_eq_true rfl, Nat.le_of_ble_eq_true rfl⟩) rfl hl.1 (Nat.le_of_ble_eq_true rfl) dX4_factAt_35 ⟨Nat.le_of_ble_eq_true rfl, Nat.le_of_ble_eq_true rfl⟩ (fun r2 F2 A2 L2 H locs hw hI => ?_)
    exact ml_iret hE hI hw dX4_factAt_38
  · have hw := hw.2 c_18
    refine lv_aload_n hx hb dX4_factAt_21 rfl (lv_at hl 0 rfl) ?_
    refine ml_get hE hI 1 (by decide) q1986 rfl rfl dX4_factAt_22 ?_
    refine lv_bipush (v := 95) hx hb dX4_factAt_25 (by decide) ?_
    refine lv_iload_n hx hb dX4_factAt_27 rfl (lv_at hl 1 rfl) ?_
    refine lv_iadd hx hb dX4_factAt_28 ?_
    obtain ⟨hin, hw⟩ := hw
    refine ml_iald hE hI 1 rfl rfl rfl hin dX4_factAt_29 ?_
    refine lv_goto (tgt := 38) hx hb dX4_factAt_30 (by decide) ?_
    exact ml_iret hE hI hw dX4_factAt_38

/-- MatchmakerRulesModel.users(I)I -/
abbrev rm_X4_users : Room := { frames := 2, cells := 0, slots := 0, locals := 34 }
def wp_X4_users_L4 (Q : Int32 → (Nat → Int32) → (Nat → Nat → Int32) → (Nat → UInt32) → Prop) : Nat → (Nat → Int32) → (Nat → Nat → Int32) → (Nat → UInt32) → (Int32) → (Int32) → (Int32) → Prop
  | 0, _, _, _, _, _, _ => False
  | n + 1, F, A, L, x1, x2, x3 => (((A 1 6) ≤ x3 → Q x2 F A L) ∧ (¬ (A 1 6) ≤ x3 → wp_X4_firing F A L x3 (3 : Int32) (fun r1 F1 A1 L1 => ((r1 = (-1 : Int32) → wp_X4_users_L4 Q n F1 A1 L1 x1 (x2 + (0 : Int32)) (x3 + (1 : Int32))) ∧ (¬ r1 = (-1 : Int32) → wp_X4_firing F1 A1 L1 x3 (3 : Int32) (fun r2 F2 A2 L2 => ((r2 = x1 → wp_X4_users_L4 Q n F2 A2 L2 x1 (x2 + (0 : Int32)) (x3 + (1 : Int32))) ∧ (¬ r2 = x1 → wp_X4_firing F2 A2 L2 x3 (1 : Int32) (fun r3 F3 A3 L3 => ((r3 = x1 → wp_X4_users_L4 Q n F3 A3 L3 x1 (x2 + (1 : Int32)) (x3 + (1 : Int32))) ∧ (¬ r3 = x1 → wp_X4_firing F3 A3 L3 x3 (2 : Int32) (fun r4 F4 A4 L4 => ((¬ r4 = x1 → wp_X4_users_L4 Q n F4 A4 L4 x1 (x2 + (0 : Int32)) (x3 + (1 : Int32))) ∧ (r4 = x1 → wp_X4_users_L4 Q n F4 A4 L4 x1 (x2 + (1 : Int32)) (x3 + (1 : Int32))))))))))))))))
set_option maxHeartbeats 4000000 in
theorem snd_X4_users_L4 {p : Program} {l : Launch} {e : Env} {s : State} {m : MethodId} {args : Array Value} {below : List Frame} {meth : Method} {c : Code} {G : GG} {h0 : HH} {ad : Nat → Nat} (hE : hv_E p s m args meth c cX4_users 4 (some FieldType.int) RX4 G h0) (Q : Int32 → (Nat → Int32) → (Nat → Nat → Int32) → (Nat → UInt32) → Prop) : ∀ (n : Nat) (F : Nat → Int32) (A : Nat → Nat → Int32) (L : Nat → UInt32) (x1 : Int32) (x2 : Int32) (x3 : Int32), wp_X4_users_L4 Q n F A L x1 x2 x3 → ∀ (H : Heap) (locs : List Loc) (ls : Array Slot), ml_I G h0 s.heap ad F A L H locs → lv_has ls 4 [(0, .ref (ad 0)), (1, .int x1), (2, .int x2), (3, .int x3)] → W p l e (headSpec (ws_ yX4_users cX4_users 4 (some FieldType.int)) rm_X4_users).room s m args below meth c H locs 0 0 (MQ below (hv_Qi G h0 s.heap.size (fun r => ml_Q G h0 ad (Q r))) args s 0 0 (hv_A h0 s.heap.size)) (F0 m 4 ls []) := by
  obtain ⟨⟨hx, hb, hml, hown, hts⟩, hr, hlocks, -⟩ := id hE
  intro n
  induction n with
  | zero => intro F A L x1 x2 x3 hw; exact hw.elim
  | succ n ih =>
    intro F A L x1 x2 x3 hw H locs ls hI hl
    unfold wp_X4_users_L4 at hw
    refine lv_iload_n hx hb dX4_users_4 rfl (lv_at hl 3 rfl) ?_
    refine lv_aload_n hx hb dX4_users_5 rfl (lv_at hl 0 rfl) ?_
    refine ml_get hE hI 1 (by decide) q1986 rfl rfl dX4_users_6 ?_
    refine lv_bipush (v := 6) hx hb dX4_users_9 (by decide) ?_
    have hin : vp_in (6 : Int32) 13675 := by unfold vp_in; decide +kernel
    refine ml_iald hE hI 1 rfl rfl (show Int32.toNatClampNeg (6 : Int32) = 6 from by decide +kernel) hin dX4_users_11 ?_
    refine lv_icmp_ge (tgt := 69) hx hb dX4_users_12 (by decide) (fun c_12 => ?_) (fun c_12 => ?_)
    · have hw := hw.1 c_12
      refine lv_iload_n hx hb dX4_users_69 rfl (lv_at hl 2 rfl) ?_
      exact ml_iret hE hI hw dX4_users_70
    · have hw := hw.2 c_12
      refine lv_iload_n hx hb dX4_users_15 rfl (lv_at hl 2 rfl) ?_
      refine lv_aload_n hx hb dX4_users_16 rfl (lv_at hl 0 rfl) ?_
      refine lv_iload_n hx hb dX4_users_17 rfl (lv_at hl 3 rfl) ?_
      refine lv_iconst (v := 3) hx hb dX4_users_18 (by decide) ?_
      refine ml_calli (As := [.int x3, .int (3 : Int32)]) (rest := [.int x2]) (cells := 0) (slots := 0) hE hI (fun h hS => snd_X4_firing l G _ h ad F A L x3 (3 : Int32) _ hS hw) (cwV 2 hts (lw_V q2182 q2184 qs50 q108 q2185) rfl rfl rfl (by decide +kernel) ⟨Nat.le_of_ble_eq_true rfl, Nat.le_of_ble_eq_true rfl⟩) rfl hl.1 (Nat.le_of_ble_eq_true rfl) dX4_users_19 ⟨Nat.le_of_ble_eq_true rfl, Nat.le_of_ble_eq_true rfl⟩ (fun r1 F1 A1 L1 H locs hw hI => ?_)
      refine lv_iconst (v := -1) hx hb dX4_users_22 (by decide) ?_
      refine lv_icmp_eq (tgt := 60) hx hb dX4_users_23 (by decide) (fun c_23 => ?_) (fun c_23 => ?_)
      · have hw := hw.1 c_23
        refine lv_iconst (v := 0) hx hb dX4_users_60 (by decide) ?_
        refine lv_iadd hx hb dX4_users_61 ?_
        refine lv_istore_n (lv' := [(2, .int (x2 + (0 : Int32))), (0, .ref (ad 0)), (1, .int x1), (3, .int x3)]) hx hb dX4_users_62 rfl hl (by decide) rfl (fun ls hl => ?_)
        refine lv_iinc (v := (x3 + (1 : Int32))) (lv' := [(3, .int (x3 + (1 : Int32))), (2, .int (x2 + (0 : Int32))), (0, .ref (ad 0)), (1, .int x1)]) hx hb dX4_users_63 hl (k := 3) rfl rfl (by decide) rfl (fun ls hl => ?_)
        refine lv_goto (tgt := 4) hx hb dX4_users_66 (by decide) ?_
        exact ih F1 A1 L1 x1 (x2 + (0 : Int32)) (x3 + (1 : Int32)) hw _ _ _ hI (lv_sub hl [2, 3, 1, 0] rfl)
      · have hw := hw.2 c_23
        refine lv_aload_n hx hb dX4_users_26 rfl (lv_at hl 0 rfl) ?_
        refine lv_iload_n hx hb dX4_users_27 rfl (lv_at hl 3 rfl) ?_
        refine lv_iconst (v := 3) hx hb dX4_users_28 (by decide) ?_
        refine ml_calli (As := [.int x3, .int (3 : Int32)]) (rest := [.int x2]) (cells := 0) (slots := 0) hE hI (fun h hS => snd_X4_firing l G _ h ad F1 A1 L1 x3 (3 : Int32) _ hS hw) (cwV 2 hts (lw_V q2182 q2184 qs50 q108 q2185) rfl rfl rfl (by decide +kernel) ⟨Nat.le_of_ble_eq_true rfl, Nat.le_of_ble_eq_true rfl⟩) rfl hl.1 (Nat.le_of_ble_eq_true rfl) dX4_users_29 ⟨Nat.le_of_ble_eq_true rfl, Nat.le_of_ble_eq_true rfl⟩ (fun r2 F2 A2 L2 H locs hw hI => ?_)
        refine lv_iload_n hx hb dX4_users_32 rfl (lv_at hl 1 rfl) ?_
        refine lv_icmp_eq (tgt := 60) hx hb dX4_users_33 (by decide) (fun c_33 => ?_) (fun c_33 => ?_)
        · have hw := hw.1 c_33
          refine lv_iconst (v := 0) hx hb dX4_users_60 (by decide) ?_
          refine lv_iadd hx hb dX4_users_61 ?_
          refine lv_istore_n (lv' := [(2, .int (x2 + (0 : Int32))), (0, .ref (ad 0)), (1, .int x1), (3, .int x3)]) hx hb dX4_users_62 rfl hl (by decide) rfl (fun ls hl => ?_)
          refine lv_iinc (v := (x3 + (1 : Int32))) (lv' := [(3, .int (x3 + (1 : Int32))), (2, .int (x2 + (0 : Int32))), (0, .ref (ad 0)), (1, .int x1)]) hx hb dX4_users_63 hl (k := 3) rfl rfl (by decide) rfl (fun ls hl => ?_)
          refine lv_goto (tgt := 4) hx hb dX4_users_66 (by decide) ?_
          exact ih F2 A2 L2 x1 (x2 + (0 : Int32)) (x3 + (1 : Int32)) hw _ _ _ hI (lv_sub hl [2, 3, 1, 0] rfl)
        · have hw := hw.2 c_33
          refine lv_aload_n hx hb dX4_users_36 rfl (lv_at hl 0 rfl) ?_
          refine lv_iload_n hx hb dX4_users_37 rfl (lv_at hl 3 rfl) ?_
          refine lv_iconst (v := 1) hx hb dX4_users_38 (by decide) ?_
          refine ml_calli (As := [.int x3, .int (1 : Int32)]) (rest := [.int x2]) (cells := 0) (slots := 0) hE hI (fun h hS => snd_X4_firing l G _ h ad F2 A2 L2 x3 (1 : Int32) _ hS hw) (cwV 2 hts (lw_V q2182 q2184 qs50 q108 q2185) rfl rfl rfl (by decide +kernel) ⟨Nat.le_of_ble_eq_true rfl, Nat.le_of_ble_eq_true rfl⟩) rfl hl.1 (Nat.le_of_ble_eq_true rfl) dX4_users_39 ⟨Nat.le_of_ble_eq_true rfl, Nat.le_of_ble_eq_true rfl⟩ (fun r3 F3 A3 L3 H locs hw hI => ?_)
          refine lv_iload_n hx hb dX4_users_42 rfl (lv_at hl 1 rfl) ?_
          refine lv_icmp_eq (tgt := 56) hx hb dX4_users_43 (by decide) (fun c_43 => ?_) (fun c_43 => ?_)
          · have hw := hw.1 c_43
            refine lv_iconst (v := 1) hx hb dX4_users_56 (by decide) ?_
            refine lv_goto (tgt := 61) hx hb dX4_users_57 (by decide) ?_
            refine lv_iadd hx hb dX4_users_61 ?_
            refine lv_istore_n (lv' := [(2, .int (x2 + (1 : Int32))), (0, .ref (ad 0)), (1, .int x1), (3, .int x3)]) hx hb dX4_users_62 rfl hl (by decide) rfl (fun ls hl => ?_)
            refine lv_iinc (v := (x3 + (1 : Int32))) (lv' := [(3, .int (x3 + (1 : Int32))), (2, .int (x2 + (1 : Int32))), (0, .ref (ad 0)), (1, .int x1)]) hx hb dX4_users_63 hl (k := 3) rfl rfl (by decide) rfl (fun ls hl => ?_)
            refine lv_goto (tgt := 4) hx hb dX4_users_66 (by decide) ?_
            exact ih F3 A3 L3 x1 (x2 + (1 : Int32)) (x3 + (1 : Int32)) hw _ _ _ hI (lv_sub hl [2, 3, 1, 0] rfl)
          · have hw := hw.2 c_43
            refine lv_aload_n hx hb dX4_users_46 rfl (lv_at hl 0 rfl) ?_
            refine lv_iload_n hx hb dX4_users_47 rfl (lv_at hl 3 rfl) ?_
            refine lv_iconst (v := 2) hx hb dX4_users_48 (by decide) ?_
            refine ml_calli (As := [.int x3, .int (2 : Int32)]) (rest := [.int x2]) (cells := 0) (slots := 0) hE hI (fun h hS => snd_X4_firing l G _ h ad F3 A3 L3 x3 (2 : Int32) _ hS hw) (cwV 2 hts (lw_V q2182 q2184 qs50 q108 q2185) rfl rfl rfl (by decide +kernel) ⟨Nat.le_of_ble_eq_true rfl, Nat.le_of_ble_eq_true rfl⟩) rfl hl.1 (Nat.le_of_ble_eq_true rfl) dX4_users_49 ⟨Nat.le_of_ble_eq_true rfl, Nat.le_of_ble_eq_true rfl⟩ (fun r4 F4 A4 L4 H locs hw hI => ?_)
            refine lv_iload_n hx hb dX4_users_52 rfl (lv_at hl 1 rfl) ?_
            refine lv_icmp_ne (tgt := 60) hx hb dX4_users_53 (by decide) (fun c_53 => ?_) (fun c_53 => ?_)
            · have hw := hw.1 c_53
              refine lv_iconst (v := 0) hx hb dX4_users_60 (by decide) ?_
              refine lv_iadd hx hb dX4_users_61 ?_
              refine lv_istore_n (lv' := [(2, .int (x2 + (0 : Int32))), (0, .ref (ad 0)), (1, .int x1), (3, .int x3)]) hx hb dX4_users_62 rfl hl (by decide) rfl (fun ls hl => ?_)
              refine lv_iinc (v := (x3 + (1 : Int32))) (lv' := [(3, .int (x3 + (1 : Int32))), (2, .int (x2 + (0 : Int32))), (0, .ref (ad 0)), (1, .int x1)]) hx hb dX4_users_63 hl (k := 3) rfl rfl (by decide) rfl (fun ls hl => ?_)
              refine lv_goto (tgt := 4) hx hb dX4_users_66 (by decide) ?_
              exact ih F4 A4 L4 x1 (x2 + (0 : Int32)) (x3 + (1 : Int32)) hw _ _ _ hI (lv_sub hl [2, 3, 1, 0] rfl)
            · have hw := hw.2 c_53
              refine lv_iconst (v := 1) hx hb dX4_users_56 (by decide) ?_
              refine lv_goto (tgt := 61) hx hb dX4_users_57 (by decide) ?_
              refine lv_iadd hx hb dX4_users_61 ?_
              refine lv_istore_n (lv' := [(2, .int (x2 + (1 : Int32))), (0, .ref (ad 0)), (1, .int x1), (3, .int x3)]) hx hb dX4_users_62 rfl hl (by decide) rfl (fun ls hl => ?_)
              refine lv_iinc (v := (x3 + (1 : Int32))) (lv' := [(3, .int (x3 + (1 : Int32))), (2, .int (x2 + (1 : Int32))), (0, .ref (ad 0)), (1, .int x1)]) hx hb dX4_users_63 hl (k := 3) rfl rfl (by decide) rfl (fun ls hl => ?_)
              refine lv_goto (tgt := 4) hx hb dX4_users_66 (by decide) ?_
              exact ih F4 A4 L4 x1 (x2 + (1 : Int32)) (x3 + (1 : Int32)) hw _ _ _ hI (lv_sub hl [2, 3, 1, 0] rfl)
def wp_X4_users (F : Nat → Int32) (A : Nat → Nat → Int32) (L : Nat → UInt32) (x1 : Int32) (Q : Int32 → (Nat → Int32) → (Nat → Nat → Int32) → (Nat → UInt32) → Prop) : Prop := (∃ n4, wp_X4_users_L4 Q n4 F A L x1 (0 : Int32) (0 : Int32))
set_option maxHeartbeats 4000000 in
theorem snd_X4_users (l : Launch) (G : GG) (sz : Nat) (h : HH) (ad : Nat → Nat) (F : Nat → Int32) (A : Nat → Nat → Int32) (L : Nat → UInt32) (x1 : Int32) (Q : Int32 → (Nat → Int32) → (Nat → Nat → Int32) → (Nat → UInt32) → Prop) (hS : ml_S G h ad F A L) (hw : wp_X4_users F A L x1 Q) : Met l yX4_users (ws_ yX4_users cX4_users 4 (some FieldType.int)) rm_X4_users (hv_Pc G h sz [.ref (ad 0), .int x1]) (hv_Qi G h sz (fun r => ml_Q G h ad (Q r))) 0 0 (hv_A h sz) := by
  refine Met.ofW (cc := cX4_users) (maxL := 4) (ret := (some FieldType.int)) (by decide) rfl ?_
  intro p e s m args below meth c s₁ B hml hv
  obtain ⟨rfl, rfl, hE, hI⟩ := hv_open B hml hv
  have hE : hv_E p s m ([.ref (ad 0), .int x1] : List Value).toArray meth c cX4_users 4 (some FieldType.int) RX4 G h := hE
  have hI := ml_I.start hI hS
  obtain ⟨⟨hx, hb, hml, hown, hts⟩, hr, hlocks, -⟩ := id hE
  have hl := lv_entry ([.ref (ad 0), .int x1] : List Value) (n := 4) (Nat.le_of_ble_eq_true rfl)
  rw [lg_entry_eq]
  generalize (lg_sl ([.ref (ad 0), .int x1] : List Value) ++ List.replicate (4 - (lg_sl ([.ref (ad 0), .int x1] : List Value)).length) Slot.unset).toArray = ls at hl ⊢
  have hl : lv_has ls 4 [(0, .ref (ad 0)), (1, .int x1)] := hl
  unfold wp_X4_users at hw
  refine lv_iconst (v := 0) hx hb dX4_users_0 (by decide) ?_
  refine lv_istore_n (lv' := [(2, .int (0 : Int32)), (0, .ref (ad 0)), (1, .int x1)]) hx hb dX4_users_1 rfl hl (by decide) rfl (fun ls hl => ?_)
  refine lv_iconst (v := 0) hx hb dX4_users_2 (by decide) ?_
  refine lv_istore_n (lv' := [(3, .int (0 : Int32)), (2, .int (0 : Int32)), (0, .ref (ad 0)), (1, .int x1)]) hx hb dX4_users_3 rfl hl (by decide) rfl (fun ls hl => ?_)
  obtain ⟨n4, hw⟩ := hw
  exact snd_X4_users_L4 hE Q n4 F A L x1 (0 : Int32) (0 : Int32) hw _ _ _ hI (lv_sub hl [2, 3, 1, 0] rfl)

/-- MatchmakerRulesModel.depthOf(I)I -/
abbrev rm_X4_depthOf : Room := { frames := 2, cells := 0, slots := 0, locals := 34 }
def wp_X4_depthOf (F : Nat → Int32) (A : Nat → Nat → Int32) (L : Nat → UInt32) (x1 : Int32) (Q : Int32 → (Nat → Int32) → (Nat → Nat → Int32) → (Nat → UInt32) → Prop) : Prop := ((¬ x1 = (-1 : Int32) → wp_X4_slotOf F A L x1 (fun r1 F1 A1 L1 => (vp_in r1 20 ∧ Q (A1 18 (Int32.toNatClampNeg r1)) F1 A1 L1))) ∧ (x1 = (-1 : Int32) → Q (0 : Int32) F A L))
set_option maxHeartbeats 4000000 in
theorem snd_X4_depthOf (l : Launch) (G : GG) (sz : Nat) (h : HH) (ad : Nat → Nat) (F : Nat → Int32) (A : Nat → Nat → Int32) (L : Nat → UInt32) (x1 : Int32) (Q : Int32 → (Nat → Int32) → (Nat → Nat → Int32) → (Nat → UInt32) → Prop) (hS : ml_S G h ad F A L) (hw : wp_X4_depthOf F A L x1 Q) : Met l yX4_depthOf (ws_ yX4_depthOf cX4_depthOf 2 (some FieldType.int)) rm_X4_depthOf (hv_Pc G h sz [.ref (ad 0), .int x1]) (hv_Qi G h sz (fun r => ml_Q G h ad (Q r))) 0 0 (hv_A h sz) := by
  refine Met.ofW (cc := cX4_depthOf) (maxL := 2) (ret := (some FieldType.int)) (by decide) rfl ?_
  intro p e s m args below meth c s₁ B hml hv
  obtain ⟨rfl, rfl, hE, hI⟩ := hv_open B hml hv
  have hE : hv_E p s m ([.ref (ad 0), .int x1] : List Value).toArray meth c cX4_depthOf 2 (some FieldType.int) RX4 G h := hE
  have hI := ml_I.start hI hS
  obtain ⟨⟨hx, hb, hml, hown, hts⟩, hr, hlocks, -⟩ := id hE
  have hl := lv_entry ([.ref (ad 0), .int x1] : List Value) (n := 2) (Nat.le_of_ble_eq_true rfl)
  rw [lg_entry_eq]
  generalize (lg_sl ([.ref (ad 0), .int x1] : List Value) ++ List.replicate (2 - (lg_sl ([.ref (ad 0), .int x1] : List Value)).length) Slot.unset).toArray = ls at hl ⊢
  have hl : lv_has ls 2 [(0, .ref (ad 0)), (1, .int x1)] := hl
  unfold wp_X4_depthOf at hw
  refine lv_iload_n hx hb dX4_depthOf_0 rfl (lv_at hl 1 rfl) ?_
  refine lv_iconst (v := -1) hx hb dX4_depthOf_1 (by decide) ?_
  refine lv_icmp_ne (tgt := 9) hx hb dX4_depthOf_2 (by decide) (fun c_2 => ?_) (fun c_2 => ?_)
  · have hw := hw.1 c_2
    refine lv_aload_n hx hb dX4_depthOf_9 rfl (lv_at hl 0 rfl) ?_
    refine ml_get hE hI 18 (by decide) q2003 rfl rfl dX4_depthOf_10 ?_
    refine lv_aload_n hx hb dX4_depthOf_13 rfl (lv_at hl 0 rfl) ?_
    refine lv_iload_n hx hb dX4_depthOf_14 rfl (lv_at hl 1 rfl) ?_
    refine ml_calli (As := [.int x1]) (rest := [.ref (ad 18)]) (cells := 0) (slots := 0) hE hI (fun h hS => snd_X4_slotOf l G _ h ad F A L x1 _ hS hw) (cwV 1 hts (lw_V q2198 q2200 qs54 q108 q2201) rfl rfl rfl (by decide +kernel) ⟨Nat.le_of_ble_eq_true rfl, Nat.le_of_ble_eq_true rfl⟩) rfl hl.1 (Nat.le_of_ble_eq_true rfl) dX4_depthOf_15 ⟨Nat.le_of_ble_eq_true rfl, Nat.le_of_ble_eq_true rfl⟩ (fun r1 F1 A1 L1 H locs hw hI => ?_)
    obtain ⟨hin, hw⟩ := hw
    refine ml_iald hE hI 18 rfl rfl rfl hin dX4_depthOf_18 ?_
    exact ml_iret hE hI hw dX4_depthOf_19
  · have hw := hw.2 c_2
    refine lv_iconst (v := 0) hx hb dX4_depthOf_5 (by decide) ?_
    refine lv_goto (tgt := 19) hx hb dX4_depthOf_6 (by decide) ?_
    exact ml_iret hE hI hw dX4_depthOf_19

/-- MatchmakerRulesModel.measures()V -/
abbrev rm_X4_measures : Room := { frames := 3, cells := 0, slots := 0, locals := 55 }
def wp_X4_measures_L128 (Q : (Nat → Int32) → (Nat → Nat → Int32) → (Nat → UInt32) → Prop) (k55 : (Nat → Int32) → (Nat → Nat → Int32) → (Nat → UInt32) → (Int32) → (Int32) → Prop) (F : Nat → Int32) (A : Nat → Nat → Int32) (L : Nat → UInt32) (x1 : Int32) (x2 : Int32) (x3 : Int32) (t0 : Int32) : Prop := (vp_in x3 20 ∧ (((t0 + (1 : Int32)) < (A 18 (Int32.toNatClampNeg x3)) → (vp_in x3 20 ∧ k55 F (ml_up A 18 (Int32.toNatClampNeg x3) (t0 + (1 : Int32))) L (1 : Int32) (x2 + (1 : Int32)))) ∧ (¬ (t0 + (1 : Int32)) < (A 18 (Int32.toNatClampNeg x3)) → k55 F A L x1 (x2 + (1 : Int32)))))
set_option maxHeartbeats 4000000 in
theorem snd_X4_measures_L128 {p : Program} {l : Launch} {e : Env} {s : State} {m : MethodId} {args : Array Value} {below : List Frame} {meth : Method} {c : Code} {G : GG} {h0 : HH} {ad : Nat → Nat} (hE : hv_E p s m args meth c cX4_measures 7 (none : Option FieldType) RX4 G h0) (Q : (Nat → Int32) → (Nat → Nat → Int32) → (Nat → UInt32) → Prop) (k55 : (Nat → Int32) → (Nat → Nat → Int32) → (Nat → UInt32) → (Int32) → (Int32) → Prop) (hk55 : ∀ (F : Nat → Int32) (A : Nat → Nat → Int32) (L : Nat → UInt32) (x1 : Int32) (x2 : Int32) (H : Heap) (locs : List Loc) (ls : Array Slot), ml_I G h0 s.heap ad F A L H locs → lv_has ls 7 [(0, .ref (ad 0)), (1, .int x1), (2, .int x2)] → k55 F A L x1 x2 → W p l e (headSpec (ws_ yX4_measures cX4_measures 7 (none : Option FieldType)) rm_X4_measures).room s m args below meth c H locs 0 0 (MQ below (hv_Qv G h0 s.heap.size (ml_Q G h0 ad Q)) args s 0 0 (hv_A h0 s.heap.size)) (F0 m 55 ls [])) : ∀ (F : Nat → Int32) (A : Nat → Nat → Int32) (L : Nat → UInt32) (x1 : Int32) (x2 : Int32) (x3 : Int32) (t0 : Int32), wp_X4_measures_L128 Q k55 F A L x1 x2 x3 t0 → ∀ (H : Heap) (locs : List Loc) (ls : Array Slot), ml_I G h0 s.heap ad F A L H locs → lv_has ls 7 [(0, .ref (ad 0)), (1, .int x1), (2, .int x2), (3, .int x3)] → W p l e (headSpec (ws_ yX4_measures cX4_measures 7 (none : Option FieldType)) rm_X4_measures).room s m args below meth c H locs 0 0 (MQ below (hv_Qv G h0 s.heap.size (ml_Q G h0 ad Q)) args s 0 0 (hv_A h0 s.heap.size)) (F0 m 128 ls [.int t0]) := by
  obtain ⟨⟨hx, hb, hml, hown, hts⟩, hr, hlocks, -⟩ := id hE
  intro F A L x1 x2 x3 t0 hw H locs ls hI hl
  unfold wp_X4_measures_L128 at hw
  refine lv_iconst (v := 1) hx hb dX4_measures_128 (by decide) ?_
  refine lv_iadd hx hb dX4_measures_129 ?_
  refine lv_istore (lv' := [(6, .int (t0 + (1 : Int32))), (0, .ref (ad 0)), (1, .int x1), (2, .int x2), (3, .int x3)]) hx hb dX4_measures_130 hl (by decide) rfl (fun ls hl => ?_)
  refine lv_iload hx hb dX4_measures_132 (lv_at hl 0 rfl) ?_
  refine lv_aload_n hx hb dX4_measures_134 rfl (lv_at hl 1 rfl) ?_
  refine ml_get hE hI 18 (by decide) q2003 rfl rfl dX4_measures_135 ?_
  refine lv_iload_n hx hb dX4_measures_138 rfl (lv_at hl 4 rfl) ?_
  obtain ⟨hin, hw⟩ := hw
  refine ml_iald hE hI 18 rfl rfl rfl hin dX4_measures_139 ?_
  refine lv_icmp_lt (tgt := 146) hx hb dX4_measures_140 (by decide) (fun c_140 => ?_) (fun c_140 => ?_)
  · have hw := hw.1 c_140
    refine lv_aload_n hx hb dX4_measures_146 rfl (lv_at hl 1 rfl) ?_
    refine ml_get hE hI 18 (by decide) q2003 rfl rfl dX4_measures_147 ?_
    refine lv_iload_n hx hb dX4_measures_150 rfl (lv_at hl 4 rfl) ?_
    refine lv_iload hx hb dX4_measures_151 (lv_at hl 0 rfl) ?_
    obtain ⟨hin, hw⟩ := hw
    refine ml_iast hE hI 18 rfl rfl rfl hin dX4_measures_153 (fun H locs hI => ?_)
    refine lv_iconst (v := 1) hx hb dX4_measures_154 (by decide) ?_
    refine lv_istore_n (lv' := [(1, .int (1 : Int32)), (6, .int (t0 + (1 : Int32))), (0, .ref (ad 0)), (2, .int x2), (3, .int x3)]) hx hb dX4_measures_155 rfl hl (by decide) rfl (fun ls hl => ?_)
    refine lv_iinc (v := (x2 + (1 : Int32))) (lv' := [(2, .int (x2 + (1 : Int32))), (1, .int (1 : Int32)), (6, .int (t0 + (1 : Int32))), (0, .ref (ad 0)), (3, .int x3)]) hx hb dX4_measures_156 hl (k := 3) rfl rfl (by decide) rfl (fun ls hl => ?_)
    refine lv_goto (tgt := 55) hx hb dX4_measures_159 (by decide) ?_
    exact hk55 F (ml_up A 18 (Int32.toNatClampNeg x3) (t0 + (1 : Int32))) L (1 : Int32) (x2 + (1 : Int32)) _ _ _ hI (lv_sub hl [3, 1, 0] rfl) hw
  · have hw := hw.2 c_140
    refine lv_goto (tgt := 156) hx hb dX4_measures_143 (by decide) ?_
    refine lv_iinc (v := (x2 + (1 : Int32))) (lv' := [(2, .int (x2 + (1 : Int32))), (6, .int (t0 + (1 : Int32))), (0, .ref (ad 0)), (1, .int x1), (3, .int x3)]) hx hb dX4_measures_156 hl (k := 3) rfl rfl (by decide) rfl (fun ls hl => ?_)
    refine lv_goto (tgt := 55) hx hb dX4_measures_159 (by decide) ?_
    exact hk55 F A L x1 (x2 + (1 : Int32)) _ _ _ hI (lv_sub hl [2, 3, 0] rfl) hw
def wp_X4_measures_L55 (Q : (Nat → Int32) → (Nat → Nat → Int32) → (Nat → UInt32) → Prop) (k47 : (Nat → Int32) → (Nat → Nat → Int32) → (Nat → UInt32) → (Int32) → Prop) : Nat → (Nat → Int32) → (Nat → Nat → Int32) → (Nat → UInt32) → (Int32) → (Int32) → Prop
  | 0, _, _, _, _, _ => False
  | n + 1, F, A, L, x1, x2 => (((A 1 6) ≤ x2 → k47 F A L x1) ∧ (¬ (A 1 6) ≤ x2 → wp_X4_firing F A L x2 (3 : Int32) (fun r1 F1 A1 L1 => ((¬ r1 = (-1 : Int32) → wp_X4_firing F1 A1 L1 x2 (3 : Int32) (fun r2 F2 A2 L2 => wp_X4_slotOf F2 A2 L2 r2 (fun r3 F3 A3 L3 => wp_X4_firing F3 A3 L3 x2 (1 : Int32) (fun r4 F4 A4 L4 => wp_X4_depthOf F4 A4 L4 r4 (fun r5 F5 A5 L5 => wp_X4_firing F5 A5 L5 x2 (2 : Int32) (fun r6 F6 A6 L6 => wp_X4_depthOf F6 A6 L6 r6 (fun r7 F7 A7 L7 => ((r5 ≤ r7 → wp_X4_measures_L128 Q (fun F A L x1 x2 => wp_X4_measures_L55 Q k47 n F A L x1 x2) F7 A7 L7 x1 x2 r3 r7) ∧ (¬ r5 ≤ r7 → wp_X4_measures_L128 Q (fun F A L x1 x2 => wp_X4_measures_L55 Q k47 n F A L x1 x2) F7 A7 L7 x1 x2 r3 r5))))))))) ∧ (r1 = (-1 : Int32) → wp_X4_measures_L55 Q k47 n F1 A1 L1 x1 (x2 + (1 : Int32)))))))
set_option maxHeartbeats 4000000 in
theorem snd_X4_measures_L55 {p : Program} {l : Launch} {e : Env} {s : State} {m : MethodId} {args : Array Value} {below : List Frame} {meth : Method} {c : Code} {G : GG} {h0 : HH} {ad : Nat → Nat} (hE : hv_E p s m args meth c cX4_measures 7 (none : Option FieldType) RX4 G h0) (Q : (Nat → Int32) → (Nat → Nat → Int32) → (Nat → UInt32) → Prop) (k47 : (Nat → Int32) → (Nat → Nat → Int32) → (Nat → UInt32) → (Int32) → Prop) (hk47 : ∀ (F : Nat → Int32) (A : Nat → Nat → Int32) (L : Nat → UInt32) (x1 : Int32) (H : Heap) (locs : List Loc) (ls : Array Slot), ml_I G h0 s.heap ad F A L H locs → lv_has ls 7 [(0, .ref (ad 0)), (1, .int x1)] → k47 F A L x1 → W p l e (headSpec (ws_ yX4_measures cX4_measures 7 (none : Option FieldType)) rm_X4_measures).room s m args below meth c H locs 0 0 (MQ below (hv_Qv G h0 s.heap.size (ml_Q G h0 ad Q)) args s 0 0 (hv_A h0 s.heap.size)) (F0 m 47 ls [])) : ∀ (n : Nat) (F : Nat → Int32) (A : Nat → Nat → Int32) (L : Nat → UInt32) (x1 : Int32) (x2 : Int32), wp_X4_measures_L55 Q k47 n F A L x1 x2 → ∀ (H : Heap) (locs : List Loc) (ls : Array Slot), ml_I G h0 s.heap ad F A L H locs → lv_has ls 7 [(0, .ref (ad 0)), (1, .int x1), (2, .int x2)] → W p l e (headSpec (ws_ yX4_measures cX4_measures 7 (none : Option FieldType)) rm_X4_measures).room s m args below meth c H locs 0 0 (MQ below (hv_Qv G h0 s.heap.size (ml_Q G h0 ad Q)) args s 0 0 (hv_A h0 s.heap.size)) (F0 m 55 ls []) := by
  obtain ⟨⟨hx, hb, hml, hown, hts⟩, hr, hlocks, -⟩ := id hE
  intro n
  induction n with
  | zero => intro F A L x1 x2 hw; exact hw.elim
  | succ n ih =>
    intro F A L x1 x2 hw H locs ls hI hl
    unfold wp_X4_measures_L55 at hw
    refine lv_iload_n hx hb dX4_measures_55 rfl (lv_at hl 2 rfl) ?_
    refine lv_aload_n hx hb dX4_measures_56 rfl (lv_at hl 0 rfl) ?_
    refine ml_get hE hI 1 (by decide) q1986 rfl rfl dX4_measures_57 ?_
    refine lv_bipush (v := 6) hx hb dX4_measures_60 (by decide) ?_
    have hin : vp_in (6 : Int32) 13675 := by unfold vp_in; decide +kernel
    refine ml_iald hE hI 1 rfl rfl (show Int32.toNatClampNeg (6 : Int32) = 6 from by decide +kernel) hin dX4_measures_62 ?_
    refine lv_icmp_ge (tgt := 162) hx hb dX4_measures_63 (by decide) (fun c_63 => ?_) (fun c_63 => ?_)
    · have hw := hw.1 c_63
      refine lv_goto (tgt := 47) hx hb dX4_measures_162 (by decide) ?_
      exact hk47 F A L x1 _ _ _ hI (lv_sub hl [0, 1] rfl) hw
    · have hw := hw.2 c_63
      refine lv_aload_n hx hb dX4_measures_66 rfl (lv_at hl 0 rfl) ?_
      refine lv_iload_n hx hb dX4_measures_67 rfl (lv_at hl 2 rfl) ?_
      refine lv_iconst (v := 3) hx hb dX4_measures_68 (by decide) ?_
      refine ml_calli (As := [.int x2, .int (3 : Int32)]) (rest := []) (cells := 0) (slots := 0) hE hI (fun h hS => snd_X4_firing l G _ h ad F A L x2 (3 : Int32) _ hS hw) (cwV 2 hts (lw_V q2182 q2184 qs50 q108 q2185) rfl rfl rfl (by decide +kernel) ⟨Nat.le_of_ble_eq_true rfl, Nat.le_of_ble_eq_true rfl⟩) rfl hl.1 (Nat.le_of_ble_eq_true rfl) dX4_measures_69 ⟨Nat.le_of_ble_eq_true rfl, Nat.le_of_ble_eq_true rfl⟩ (fun r1 F1 A1 L1 H locs hw hI => ?_)
      refine lv_iconst (v := -1) hx hb dX4_measures_72 (by decide) ?_
      refine lv_icmp_ne (tgt := 79) hx hb dX4_measures_73 (by decide) (fun c_73 => ?_) (fun c_73 => ?_)
      · have hw := hw.1 c_73
        refine lv_aload_n hx hb dX4_measures_79 rfl (lv_at hl 0 rfl) ?_
        refine lv_aload_n hx hb dX4_measures_80 rfl (lv_at hl 0 rfl) ?_
        refine lv_iload_n hx hb dX4_measures_81 rfl (lv_at hl 2 rfl) ?_
        refine lv_iconst (v := 3) hx hb dX4_measures_82 (by decide) ?_
        refine ml_calli (As := [.int x2, .int (3 : Int32)]) (rest := [.ref (ad 0)]) (cells := 0) (slots := 0) hE hI (fun h hS => snd_X4_firing l G _ h ad F1 A1 L1 x2 (3 : Int32) _ hS hw) (cwV 2 hts (lw_V q2182 q2184 qs50 q108 q2185) rfl rfl rfl (by decide +kernel) ⟨Nat.le_of_ble_eq_true rfl, Nat.le_of_ble_eq_true rfl⟩) rfl hl.1 (Nat.le_of_ble_eq_true rfl) dX4_measures_83 ⟨Nat.le_of_ble_eq_true rfl, Nat.le_of_ble_eq_true rfl⟩ (fun r2 F2 A2 L2 H locs hw hI => ?_)
        refine ml_calli (As := [.int r2]) (rest := []) (cells := 0) (slots := 0) hE hI (fun h hS => snd_X4_slotOf l G _ h ad F2 A2 L2 r2 _ hS hw) (cwV 1 hts (lw_V q2198 q2200 qs54 q108 q2201) rfl rfl rfl (by decide +kernel) ⟨Nat.le_of_ble_eq_true rfl, Nat.le_of_ble_eq_true rfl⟩) rfl hl.1 (Nat.le_of_ble_eq_true rfl) dX4_measures_86 ⟨Nat.le_of_ble_eq_true rfl, Nat.le_of_ble_eq_true rfl⟩ (fun r3 F3 A3 L3 H locs hw hI => ?_)
        refine lv_istore_n (lv' := [(3, .int r3), (0, .ref (ad 0)), (1, .int x1), (2, .int x2)]) hx hb dX4_measures_89 rfl hl (by decide) rfl (fun ls hl => ?_)
        refine lv_aload_n hx hb dX4_measures_90 rfl (lv_at hl 1 rfl) ?_
        refine lv_aload_n hx hb dX4_measures_91 rfl (lv_at hl 1 rfl) ?_
        refine lv_iload_n hx hb dX4_measures_92 rfl (lv_at hl 3 rfl) ?_
        refine lv_iconst (v := 1) hx hb dX4_measures_93 (by decide) ?_
        refine ml_calli (As := [.int x2, .int (1 : Int32)]) (rest := [.ref (ad 0)]) (cells := 0) (slots := 0) hE hI (fun h hS => snd_X4_firing l G _ h ad F3 A3 L3 x2 (1 : Int32) _ hS hw) (cwV 2 hts (lw_V q2182 q2184 qs50 q108 q2185) rfl rfl rfl (by decide +kernel) ⟨Nat.le_of_ble_eq_true rfl, Nat.le_of_ble_eq_true rfl⟩) rfl hl.1 (Nat.le_of_ble_eq_true rfl) dX4_measures_94 ⟨Nat.le_of_ble_eq_true rfl, Nat.le_of_ble_eq_true rfl⟩ (fun r4 F4 A4 L4 H locs hw hI => ?_)
        refine ml_calli (As := [.int r4]) (rest := []) (cells := 0) (slots := 0) hE hI (fun h hS => snd_X4_depthOf l G _ h ad F4 A4 L4 r4 _ hS hw) (cwV 1 hts (lw_V q2269 q2271 qs66 q108 q2272) rfl rfl rfl (by decide +kernel) ⟨Nat.le_of_ble_eq_true rfl, Nat.le_of_ble_eq_true rfl⟩) rfl hl.1 (Nat.le_of_ble_eq_true rfl) dX4_measures_97 ⟨Nat.le_of_ble_eq_true rfl, Nat.le_of_ble_eq_true rfl⟩ (fun r5 F5 A5 L5 H locs hw hI => ?_)
        refine lv_istore (lv' := [(4, .int r5), (3, .int r3), (0, .ref (ad 0)), (1, .int x1), (2, .int x2)]) hx hb dX4_measures_100 hl (by decide) rfl (fun ls hl => ?_)
        refine lv_aload_n hx hb dX4_measures_102 rfl (lv_at hl 2 rfl) ?_
        refine lv_aload_n hx hb dX4_measures_103 rfl (lv_at hl 2 rfl) ?_
        refine lv_iload_n hx hb dX4_measures_104 rfl (lv_at hl 4 rfl) ?_
        refine lv_iconst (v := 2) hx hb dX4_measures_105 (by decide) ?_
        refine ml_calli (As := [.int x2, .int (2 : Int32)]) (rest := [.ref (ad 0)]) (cells := 0) (slots := 0) hE hI (fun h hS => snd_X4_firing l G _ h ad F5 A5 L5 x2 (2 : Int32) _ hS hw) (cwV 2 hts (lw_V q2182 q2184 qs50 q108 q2185) rfl rfl rfl (by decide +kernel) ⟨Nat.le_of_ble_eq_true rfl, Nat.le_of_ble_eq_true rfl⟩) rfl hl.1 (Nat.le_of_ble_eq_true rfl) dX4_measures_106 ⟨Nat.le_of_ble_eq_true rfl, Nat.le_of_ble_eq_true rfl⟩ (fun r6 F6 A6 L6 H locs hw hI => ?_)
        refine ml_calli (As := [.int r6]) (rest := []) (cells := 0) (slots := 0) hE hI (fun h hS => snd_X4_depthOf l G _ h ad F6 A6 L6 r6 _ hS hw) (cwV 1 hts (lw_V q2269 q2271 qs66 q108 q2272) rfl rfl rfl (by decide +kernel) ⟨Nat.le_of_ble_eq_true rfl, Nat.le_of_ble_eq_true rfl⟩) rfl hl.1 (Nat.le_of_ble_eq_true rfl) dX4_measures_109 ⟨Nat.le_of_ble_eq_true rfl, Nat.le_of_ble_eq_true rfl⟩ (fun r7 F7 A7 L7 H locs hw hI => ?_)
        refine lv_istore (lv' := [(5, .int r7), (4, .int r5), (3, .int r3), (0, .ref (ad 0)), (1, .int x1), (2, .int x2)]) hx hb dX4_measures_112 hl (by decide) rfl (fun ls hl => ?_)
        refine lv_iload hx hb dX4_measures_114 (lv_at hl 1 rfl) ?_
        refine lv_iload hx hb dX4_measures_116 (lv_at hl 0 rfl) ?_
        refine lv_icmp_le (tgt := 126) hx hb dX4_measures_118 (by decide) (fun c_118 => ?_) (fun c_118 => ?_)
        · have hw := hw.1 c_118
          refine lv_iload hx hb dX4_measures_126 (lv_at hl 0 rfl) ?_
          exact snd_X4_measures_L128 hE Q (fun F A L x1 x2 => wp_X4_measures_L55 Q k47 n F A L x1 x2) (fun F A L x1 x2 H locs ls hI hl hw => ih F A L x1 x2 hw H locs ls hI hl) F7 A7 L7 x1 x2 r3 r7 hw _ _ _ hI (lv_sub hl [3, 4, 5, 2] rfl)
        · have hw := hw.2 c_118
          refine lv_iload hx hb dX4_measures_121 (lv_at hl 1 rfl) ?_
          refine lv_goto (tgt := 128) hx hb dX4_measures_123 (by decide) ?_
          exact snd_X4_measures_L128 hE Q (fun F A L x1 x2 => wp_X4_measures_L55 Q k47 n F A L x1 x2) (fun F A L x1 x2 H locs ls hI hl hw => ih F A L x1 x2 hw H locs ls hI hl) F7 A7 L7 x1 x2 r3 r5 hw _ _ _ hI (lv_sub hl [3, 4, 5, 2] rfl)
      · have hw := hw.2 c_73
        refine lv_goto (tgt := 156) hx hb dX4_measures_76 (by decide) ?_
        refine lv_iinc (v := (x2 + (1 : Int32))) (lv' := [(2, .int (x2 + (1 : Int32))), (0, .ref (ad 0)), (1, .int x1)]) hx hb dX4_measures_156 hl (k := 2) rfl rfl (by decide) rfl (fun ls hl => ?_)
        refine lv_goto (tgt := 55) hx hb dX4_measures_159 (by decide) ?_
        exact ih F1 A1 L1 x1 (x2 + (1 : Int32)) hw _ _ _ hI (lv_sub hl [1, 2, 0] rfl)
def wp_X4_measures_L47 (Q : (Nat → Int32) → (Nat → Nat → Int32) → (Nat → UInt32) → Prop) : Nat → (Nat → Int32) → (Nat → Nat → Int32) → (Nat → UInt32) → (Int32) → Prop
  | 0, _, _, _, _ => False
  | n + 1, F, A, L, x1 => ((x1 = 0 → Q F A L) ∧ (¬ x1 = 0 → (∃ n55, wp_X4_measures_L55 Q (fun F A L x1 => wp_X4_measures_L47 Q n F A L x1) n55 F A L (0 : Int32) (0 : Int32))))
set_option maxHeartbeats 4000000 in
theorem snd_X4_measures_L47 {p : Program} {l : Launch} {e : Env} {s : State} {m : MethodId} {args : Array Value} {below : List Frame} {meth : Method} {c : Code} {G : GG} {h0 : HH} {ad : Nat → Nat} (hE : hv_E p s m args meth c cX4_measures 7 (none : Option FieldType) RX4 G h0) (Q : (Nat → Int32) → (Nat → Nat → Int32) → (Nat → UInt32) → Prop) : ∀ (n : Nat) (F : Nat → Int32) (A : Nat → Nat → Int32) (L : Nat → UInt32) (x1 : Int32), wp_X4_measures_L47 Q n F A L x1 → ∀ (H : Heap) (locs : List Loc) (ls : Array Slot), ml_I G h0 s.heap ad F A L H locs → lv_has ls 7 [(0, .ref (ad 0)), (1, .int x1)] → W p l e (headSpec (ws_ yX4_measures cX4_measures 7 (none : Option FieldType)) rm_X4_measures).room s m args below meth c H locs 0 0 (MQ below (hv_Qv G h0 s.heap.size (ml_Q G h0 ad Q)) args s 0 0 (hv_A h0 s.heap.size)) (F0 m 47 ls []) := by
  obtain ⟨⟨hx, hb, hml, hown, hts⟩, hr, hlocks, -⟩ := id hE
  intro n
  induction n with
  | zero => intro F A L x1 hw; exact hw.elim
  | succ n ih =>
    intro F A L x1 hw H locs ls hI hl
    unfold wp_X4_measures_L47 at hw
    refine lv_iload_n hx hb dX4_measures_47 rfl (lv_at hl 1 rfl) ?_
    refine lv_if_eq (tgt := 165) hx hb dX4_measures_48 (by decide) (fun c_48 => ?_) (fun c_48 => ?_)
    · have hw := hw.1 c_48
      exact ml_vret hE hI hw dX4_measures_165
    · have hw := hw.2 c_48
      refine lv_iconst (v := 0) hx hb dX4_measures_51 (by decide) ?_
      refine lv_istore_n (lv' := [(1, .int (0 : Int32)), (0, .ref (ad 0))]) hx hb dX4_measures_52 rfl hl (by decide) rfl (fun ls hl => ?_)
      refine lv_iconst (v := 0) hx hb dX4_measures_53 (by decide) ?_
      refine lv_istore_n (lv' := [(2, .int (0 : Int32)), (1, .int (0 : Int32)), (0, .ref (ad 0))]) hx hb dX4_measures_54 rfl hl (by decide) rfl (fun ls hl => ?_)
      obtain ⟨n55, hw⟩ := hw
      exact snd_X4_measures_L55 hE Q (fun F A L x1 => wp_X4_measures_L47 Q n F A L x1) (fun F A L x1 H locs ls hI hl hw => ih F A L x1 hw H locs ls hI hl) n55 F A L (0 : Int32) (0 : Int32) hw _ _ _ hI (lv_sub hl [2, 1, 0] rfl)
def wp_X4_measures_L2 (Q : (Nat → Int32) → (Nat → Nat → Int32) → (Nat → UInt32) → Prop) : Nat → (Nat → Int32) → (Nat → Nat → Int32) → (Nat → UInt32) → (Int32) → Prop
  | 0, _, _, _, _ => False
  | n + 1, F, A, L, x1 => (((A 1 1) ≤ x1 → (∃ n47, wp_X4_measures_L47 Q n47 F A L (1 : Int32))) ∧ (¬ (A 1 1) ≤ x1 → (vp_in ((175 : Int32) + x1) 13675 ∧ ((¬ (A 1 (Int32.toNatClampNeg ((175 : Int32) + x1))) = (1 : Int32) → (vp_in x1 20 ∧ wp_X4_measures_L2 Q n F (ml_up A 18 (Int32.toNatClampNeg x1) (1000000 : Int32)) L (x1 + (1 : Int32)))) ∧ ((A 1 (Int32.toNatClampNeg ((175 : Int32) + x1))) = (1 : Int32) → (vp_in x1 20 ∧ wp_X4_measures_L2 Q n F (ml_up A 18 (Int32.toNatClampNeg x1) (0 : Int32)) L (x1 + (1 : Int32))))))))
set_option maxHeartbeats 4000000 in
theorem snd_X4_measures_L2 {p : Program} {l : Launch} {e : Env} {s : State} {m : MethodId} {args : Array Value} {below : List Frame} {meth : Method} {c : Code} {G : GG} {h0 : HH} {ad : Nat → Nat} (hE : hv_E p s m args meth c cX4_measures 7 (none : Option FieldType) RX4 G h0) (Q : (Nat → Int32) → (Nat → Nat → Int32) → (Nat → UInt32) → Prop) : ∀ (n : Nat) (F : Nat → Int32) (A : Nat → Nat → Int32) (L : Nat → UInt32) (x1 : Int32), wp_X4_measures_L2 Q n F A L x1 → ∀ (H : Heap) (locs : List Loc) (ls : Array Slot), ml_I G h0 s.heap ad F A L H locs → lv_has ls 7 [(0, .ref (ad 0)), (1, .int x1)] → W p l e (headSpec (ws_ yX4_measures cX4_measures 7 (none : Option FieldType)) rm_X4_measures).room s m args below meth c H locs 0 0 (MQ below (hv_Qv G h0 s.heap.size (ml_Q G h0 ad Q)) args s 0 0 (hv_A h0 s.heap.size)) (F0 m 2 ls []) := by
  obtain ⟨⟨hx, hb, hml, hown, hts⟩, hr, hlocks, -⟩ := id hE
  intro n
  induction n with
  | zero => intro F A L x1 hw; exact hw.elim
  | succ n ih =>
    intro F A L x1 hw H locs ls hI hl
    unfold wp_X4_measures_L2 at hw
    refine lv_iload_n hx hb dX4_measures_2 rfl (lv_at hl 1 rfl) ?_
    refine lv_aload_n hx hb dX4_measures_3 rfl (lv_at hl 0 rfl) ?_
    refine ml_get hE hI 1 (by decide) q1986 rfl rfl dX4_measures_4 ?_
    refine lv_iconst (v := 1) hx hb dX4_measures_7 (by decide) ?_
    have hin : vp_in (1 : Int32) 13675 := by unfold vp_in; decide +kernel
    refine ml_iald hE hI 1 rfl rfl (show Int32.toNatClampNeg (1 : Int32) = 1 from by decide +kernel) hin dX4_measures_8 ?_
    refine lv_icmp_ge (tgt := 45) hx hb dX4_measures_9 (by decide) (fun c_9 => ?_) (fun c_9 => ?_)
    · have hw := hw.1 c_9
      refine lv_iconst (v := 1) hx hb dX4_measures_45 (by decide) ?_
      refine lv_istore_n (lv' := [(1, .int (1 : Int32)), (0, .ref (ad 0))]) hx hb dX4_measures_46 rfl hl (by decide) rfl (fun ls hl => ?_)
      obtain ⟨n47, hw⟩ := hw
      exact snd_X4_measures_L47 hE Q n47 F A L (1 : Int32) hw _ _ _ hI (lv_sub hl [1, 0] rfl)
    · have hw := hw.2 c_9
      refine lv_aload_n hx hb dX4_measures_12 rfl (lv_at hl 0 rfl) ?_
      refine ml_get hE hI 18 (by decide) q2003 rfl rfl dX4_measures_13 ?_
      refine lv_iload_n hx hb dX4_measures_16 rfl (lv_at hl 1 rfl) ?_
      refine lv_aload_n hx hb dX4_measures_17 rfl (lv_at hl 0 rfl) ?_
      refine ml_get hE hI 1 (by decide) q1986 rfl rfl dX4_measures_18 ?_
      refine lv_sipush (v := 175) hx hb dX4_measures_21 (by decide) ?_
      refine lv_iload_n hx hb dX4_measures_24 rfl (lv_at hl 1 rfl) ?_
      refine lv_iadd hx hb dX4_measures_25 ?_
      obtain ⟨hin, hw⟩ := hw
      refine ml_iald hE hI 1 rfl rfl rfl hin dX4_measures_26 ?_
      refine lv_iconst (v := 1) hx hb dX4_measures_27 (by decide) ?_
      refine lv_icmp_ne (tgt := 35) hx hb dX4_measures_28 (by decide) (fun c_28 => ?_) (fun c_28 => ?_)
      · have hw := hw.1 c_28
        refine lv_ldcw (v := 1000000) hx hb hown (hts _ q2268) dX4_measures_35 ?_
        obtain ⟨hin, hw⟩ := hw
        refine ml_iast hE hI 18 rfl rfl rfl hin dX4_measures_38 (fun H locs hI => ?_)
        refine lv_iinc (v := (x1 + (1 : Int32))) (lv' := [(1, .int (x1 + (1 : Int32))), (0, .ref (ad 0))]) hx hb dX4_measures_39 hl (k := 1) rfl rfl (by decide) rfl (fun ls hl => ?_)
        refine lv_goto (tgt := 2) hx hb dX4_measures_42 (by decide) ?_
        exact ih F (ml_up A 18 (Int32.toNatClampNeg x1) (1000000 : Int32)) L (x1 + (1 : Int32)) hw _ _ _ hI (lv_sub hl [1, 0] rfl)
      · have hw := hw.2 c_28
        refine lv_iconst (v := 0) hx hb dX4_measures_31 (by decide) ?_
        refine lv_goto (tgt := 38) hx hb dX4_measures_32 (by decide) ?_
        obtain ⟨hin, hw⟩ := hw
        refine ml_iast hE hI 18 rfl rfl rfl hin dX4_measures_38 (fun H locs hI => ?_)
        refine lv_iinc (v := (x1 + (1 : Int32))) (lv' := [(1, .int (x1 + (1 : Int32))), (0, .ref (ad 0))]) hx hb dX4_measures_39 hl (k := 1) rfl rfl (by decide) rfl (fun ls hl => ?_)
        refine lv_goto (tgt := 2) hx hb dX4_measures_42 (by decide) ?_
        exact ih F (ml_up A 18 (Int32.toNatClampNeg x1) (0 : Int32)) L (x1 + (1 : Int32)) hw _ _ _ hI (lv_sub hl [1, 0] rfl)
def wp_X4_measures (F : Nat → Int32) (A : Nat → Nat → Int32) (L : Nat → UInt32) (Q : (Nat → Int32) → (Nat → Nat → Int32) → (Nat → UInt32) → Prop) : Prop := (∃ n2, wp_X4_measures_L2 Q n2 F A L (0 : Int32))
set_option maxHeartbeats 4000000 in
theorem snd_X4_measures (l : Launch) (G : GG) (sz : Nat) (h : HH) (ad : Nat → Nat) (F : Nat → Int32) (A : Nat → Nat → Int32) (L : Nat → UInt32) (Q : (Nat → Int32) → (Nat → Nat → Int32) → (Nat → UInt32) → Prop) (hS : ml_S G h ad F A L) (hw : wp_X4_measures F A L Q) : Met l yX4_measures (ws_ yX4_measures cX4_measures 7 (none : Option FieldType)) rm_X4_measures (hv_Pc G h sz [.ref (ad 0)]) (hv_Qv G h sz (ml_Q G h ad Q)) 0 0 (hv_A h sz) := by
  refine Met.ofW (cc := cX4_measures) (maxL := 7) (ret := (none : Option FieldType)) (by decide) rfl ?_
  intro p e s m args below meth c s₁ B hml hv
  obtain ⟨rfl, rfl, hE, hI⟩ := hv_open B hml hv
  have hE : hv_E p s m ([.ref (ad 0)] : List Value).toArray meth c cX4_measures 7 (none : Option FieldType) RX4 G h := hE
  have hI := ml_I.start hI hS
  obtain ⟨⟨hx, hb, hml, hown, hts⟩, hr, hlocks, -⟩ := id hE
  have hl := lv_entry ([.ref (ad 0)] : List Value) (n := 7) (Nat.le_of_ble_eq_true rfl)
  rw [lg_entry_eq]
  generalize (lg_sl ([.ref (ad 0)] : List Value) ++ List.replicate (7 - (lg_sl ([.ref (ad 0)] : List Value)).length) Slot.unset).toArray = ls at hl ⊢
  have hl : lv_has ls 7 [(0, .ref (ad 0))] := hl
  unfold wp_X4_measures at hw
  refine lv_iconst (v := 0) hx hb dX4_measures_0 (by decide) ?_
  refine lv_istore_n (lv' := [(1, .int (0 : Int32)), (0, .ref (ad 0))]) hx hb dX4_measures_1 rfl hl (by decide) rfl (fun ls hl => ?_)
  obtain ⟨n2, hw⟩ := hw
  exact snd_X4_measures_L2 hE Q n2 F A L (0 : Int32) hw _ _ _ hI (lv_sub hl [1, 0] rfl)
