/-! the reference's methods, walked (by gen/model.py) -/
set_option maxRecDepth 100000
/-- MatchmakerRulesModel.character(I)C -/
abbrev rm_X4_character : Room := { frames := 2, cells := 0, slots := 0, locals := 34 }
def wp_X4_character_L20 (Q : Int32 → (Nat → Int32) → (Nat → Nat → Int32) → (Nat → UInt32) → Prop) (F : Nat → Int32) (A : Nat → Nat → Int32) (L : Nat → UInt32) (x1 : Int32) (t1 : Int32) : Prop := ((((upd F 0 t1) 0) ≤ 0 → (vp_in x1 60000 ∧ (narrow .char (.int (((Int32.toUInt32 (A 10 (Int32.toNatClampNeg x1))) % 65536).toInt32)) = .int (((Int32.toUInt32 (A 10 (Int32.toNatClampNeg x1))) % 65536).toInt32) ∧ Q (((Int32.toUInt32 (A 10 (Int32.toNatClampNeg x1))) % 65536).toInt32) (upd F 0 t1) A L))) ∧ (¬ ((upd F 0 t1) 0) ≤ 0 → Q (0 : Int32) (upd F 0 t1) A L))
set_option maxHeartbeats 4000000 in
theorem snd_X4_character_L20 {p : Program} {l : Launch} {e : Env} {s : State} {m : MethodId} {args : Array Value} {below : List Frame} {meth : Method} {c : Code} {G : GG} {h0 : HH} {ad : Nat → Nat} (hE : hv_E p s m args meth c cX4_character 2 (some FieldType.char) RX4 G h0) (Q : Int32 → (Nat → Int32) → (Nat → Nat → Int32) → (Nat → UInt32) → Prop) : ∀ (F : Nat → Int32) (A : Nat → Nat → Int32) (L : Nat → UInt32) (x1 : Int32) (t1 : Int32), wp_X4_character_L20 Q F A L x1 t1 → ∀ (H : Heap) (locs : List Loc) (ls : Array Slot), ml_I G h0 s.heap ad F A L H locs → lv_has ls 2 [(0, .ref (ad 0)), (1, .int x1)] → W p l e (headSpec (ws_ yX4_character cX4_character 2 (some FieldType.char)) rm_X4_character).room s m args below meth c H locs 0 0 (MQ below (hv_Qi G h0 s.heap.size (fun r => ml_Q G h0 ad (Q r))) args s 0 0 (hv_A h0 s.heap.size)) (F0 m 20 ls [.int t1, .ref (ad 0)]) := by
  obtain ⟨⟨hx, hb, hml, hown, hts⟩, hr, hlocks, -⟩ := id hE
  intro F A L x1 t1 hw H locs ls hI hl
  unfold wp_X4_character_L20 at hw
  refine ml_put hE hI 0 (by decide) q1985 rfl rfl (ty := .int) rfl rfl rfl (fun _ => rfl) dX4_character_20 (fun H locs hI => ?_)
  refine lv_aload_n hx hb dX4_character_23 rfl (lv_at hl 0 rfl) ?_
  refine ml_get hE hI 0 (by decide) q1985 rfl rfl dX4_character_24 ?_
  refine lv_if_le (tgt := 34) hx hb dX4_character_27 (by decide) (fun c_27 => ?_) (fun c_27 => ?_)
  · have hw := hw.1 c_27
    refine lv_aload_n hx hb dX4_character_34 rfl (lv_at hl 0 rfl) ?_
    refine ml_get hE hI 10 (by decide) q1995 rfl rfl dX4_character_35 ?_
    refine lv_iload_n hx hb dX4_character_38 rfl (lv_at hl 1 rfl) ?_
    obtain ⟨hin, hw⟩ := hw
    refine ml_iald hE hI 10 rfl rfl rfl hin dX4_character_39 ?_
    refine lv_i2c (v := ((Int32.toUInt32 (A 10 (Int32.toNatClampNeg x1))) % 65536).toInt32) hx hb dX4_character_40 rfl ?_
    obtain ⟨hnr, hw⟩ := hw
    exact ml_zret hE hI hnr hw dX4_character_41
  · have hw := hw.2 c_27
    refine lv_iconst (v := 0) hx hb dX4_character_30 (by decide) ?_
    refine lv_goto (tgt := 41) hx hb dX4_character_31 (by decide) ?_
    exact ml_zret hE hI rfl hw dX4_character_41
def wp_X4_character (F : Nat → Int32) (A : Nat → Nat → Int32) (L : Nat → UInt32) (x1 : Int32) (Q : Int32 → (Nat → Int32) → (Nat → Nat → Int32) → (Nat → UInt32) → Prop) : Prop := wp_X4_in x1 (0 : Int32) ((F 24) - (1 : Int32)) (fun r1 => ((r1 = 0 → wp_X4_character_L20 Q F A L x1 (1 : Int32)) ∧ (¬ r1 = 0 → wp_X4_character_L20 Q F A L x1 (0 : Int32))))
set_option maxHeartbeats 4000000 in
theorem snd_X4_character (l : Launch) (G : GG) (sz : Nat) (h : HH) (ad : Nat → Nat) (F : Nat → Int32) (A : Nat → Nat → Int32) (L : Nat → UInt32) (x1 : Int32) (Q : Int32 → (Nat → Int32) → (Nat → Nat → Int32) → (Nat → UInt32) → Prop) (hS : ml_S G h ad F A L) (hw : wp_X4_character F A L x1 Q) : Met l yX4_character (ws_ yX4_character cX4_character 2 (some FieldType.char)) rm_X4_character (hv_Pc G h sz [.ref (ad 0), .int x1]) (hv_Qi G h sz (fun r => ml_Q G h ad (Q r))) 0 0 (hv_A h sz) := by
  refine Met.ofW (cc := cX4_character) (maxL := 2) (ret := (some FieldType.char)) (by decide) rfl ?_
  intro p e s m args below meth c s₁ B hml hv
  obtain ⟨rfl, rfl, hE, hI⟩ := hv_open B hml hv
  have hE : hv_E p s m ([.ref (ad 0), .int x1] : List Value).toArray meth c cX4_character 2 (some FieldType.char) RX4 G h := hE
  have hI := ml_I.start hI hS
  obtain ⟨⟨hx, hb, hml, hown, hts⟩, hr, hlocks, -⟩ := id hE
  have hl := lv_entry ([.ref (ad 0), .int x1] : List Value) (n := 2) (Nat.le_of_ble_eq_true rfl)
  rw [lg_entry_eq]
  generalize (lg_sl ([.ref (ad 0), .int x1] : List Value) ++ List.replicate (2 - (lg_sl ([.ref (ad 0), .int x1] : List Value)).length) Slot.unset).toArray = ls at hl ⊢
  have hl : lv_has ls 2 [(0, .ref (ad 0)), (1, .int x1)] := hl
  unfold wp_X4_character at hw
  refine lv_aload_n hx hb dX4_character_0 rfl (lv_at hl 0 rfl) ?_
  refine lv_iload_n hx hb dX4_character_1 rfl (lv_at hl 1 rfl) ?_
  refine lv_iconst (v := 0) hx hb dX4_character_2 (by decide) ?_
  refine lv_aload_n hx hb dX4_character_3 rfl (lv_at hl 0 rfl) ?_
  refine ml_get hE hI 24 (by decide) q2009 rfl rfl dX4_character_4 ?_
  refine lv_iconst (v := 1) hx hb dX4_character_7 (by decide) ?_
  refine lv_isub hx hb dX4_character_8 ?_
  refine ml_calls (As := [.int x1, .int (0 : Int32), .int ((F 24) - (1 : Int32))]) (rest := [.ref (ad 0)]) (cells := 0) (slots := 0) hE hI (fun h => snd_X4_in l G _ h x1 (0 : Int32) ((F 24) - (1 : Int32)) _ hw) (va_cwS 3 hts (lw_S q2130 q2131 q108 q2132) rfl rfl rfl (by decide +kernel) ⟨Nat.le_of_ble_eq_true rfl, Nat.le_of_ble_eq_true rfl⟩) rfl hl.1 (Nat.le_of_ble_eq_true rfl) dX4_character_9 ⟨Nat.le_of_ble_eq_true rfl, Nat.le_of_ble_eq_true rfl⟩ (fun r1 H locs hw hI => ?_)
  refine lv_if_eq (tgt := 19) hx hb dX4_character_12 (by decide) (fun c_12 => ?_) (fun c_12 => ?_)
  · have hw := hw.1 c_12
    refine lv_iconst (v := 1) hx hb dX4_character_19 (by decide) ?_
    exact snd_X4_character_L20 hE Q F A L x1 (1 : Int32) hw _ _ _ hI (lv_sub hl [0, 1] rfl)
  · have hw := hw.2 c_12
    refine lv_iconst (v := 0) hx hb dX4_character_15 (by decide) ?_
    refine lv_goto (tgt := 20) hx hb dX4_character_16 (by decide) ?_
    exact snd_X4_character_L20 hE Q F A L x1 (0 : Int32) hw _ _ _ hI (lv_sub hl [0, 1] rfl)

/-- MatchmakerRulesModel.refusal(Z)I -/
abbrev rm_X4_refusal : Room := { frames := 1, cells := 0, slots := 0, locals := 12 }
def wp_X4_refusal_L13 (Q : Int32 → (Nat → Int32) → (Nat → Nat → Int32) → (Nat → UInt32) → Prop) (F : Nat → Int32) (A : Nat → Nat → Int32) (L : Nat → UInt32) (x1 : Int32) (t1 : Int32) : Prop := ((x1 = 0 → Q ((upd F 0 t1) 27) (upd F 0 t1) A L) ∧ (¬ x1 = 0 → Q ((upd F 0 t1) 28) (upd F 0 t1) A L))
set_option maxHeartbeats 4000000 in
theorem snd_X4_refusal_L13 {p : Program} {l : Launch} {e : Env} {s : State} {m : MethodId} {args : Array Value} {below : List Frame} {meth : Method} {c : Code} {G : GG} {h0 : HH} {ad : Nat → Nat} (hE : hv_E p s m args meth c cX4_refusal 2 (some FieldType.int) RX4 G h0) (Q : Int32 → (Nat → Int32) → (Nat → Nat → Int32) → (Nat → UInt32) → Prop) : ∀ (F : Nat → Int32) (A : Nat → Nat → Int32) (L : Nat → UInt32) (x1 : Int32) (t1 : Int32), wp_X4_refusal_L13 Q F A L x1 t1 → ∀ (H : Heap) (locs : List Loc) (ls : Array Slot), ml_I G h0 s.heap ad F A L H locs → lv_has ls 2 [(0, .ref (ad 0)), (1, .int x1)] → W p l e (headSpec (ws_ yX4_refusal cX4_refusal 2 (some FieldType.int)) rm_X4_refusal).room s m args below meth c H locs 0 0 (MQ below (hv_Qi G h0 s.heap.size (fun r => ml_Q G h0 ad (Q r))) args s 0 0 (hv_A h0 s.heap.size)) (F0 m 13 ls [.int t1, .ref (ad 0)]) := by
  obtain ⟨⟨hx, hb, hml, hown, hts⟩, hr, hlocks, -⟩ := id hE
  intro F A L x1 t1 hw H locs ls hI hl
  unfold wp_X4_refusal_L13 at hw
  refine ml_put hE hI 0 (by decide) q1985 rfl rfl (ty := .int) rfl rfl rfl (fun _ => rfl) dX4_refusal_13 (fun H locs hI => ?_)
  refine lv_iload_n hx hb dX4_refusal_16 rfl (lv_at hl 1 rfl) ?_
  refine lv_if_eq (tgt := 27) hx hb dX4_refusal_17 (by decide) (fun c_17 => ?_) (fun c_17 => ?_)
  · have hw := hw.1 c_17
    refine lv_aload_n hx hb dX4_refusal_27 rfl (lv_at hl 0 rfl) ?_
    refine ml_get hE hI 27 (by decide) q2012 rfl rfl dX4_refusal_28 ?_
    exact ml_iret hE hI hw dX4_refusal_31
  · have hw := hw.2 c_17
    refine lv_aload_n hx hb dX4_refusal_20 rfl (lv_at hl 0 rfl) ?_
    refine ml_get hE hI 28 (by decide) q2013 rfl rfl dX4_refusal_21 ?_
    refine lv_goto (tgt := 31) hx hb dX4_refusal_24 (by decide) ?_
    exact ml_iret hE hI hw dX4_refusal_31
def wp_X4_refusal (F : Nat → Int32) (A : Nat → Nat → Int32) (L : Nat → UInt32) (x1 : Int32) (Q : Int32 → (Nat → Int32) → (Nat → Nat → Int32) → (Nat → UInt32) → Prop) : Prop := ((¬ (F 27) = 0 → wp_X4_refusal_L13 Q F A L x1 (0 : Int32)) ∧ ((F 27) = 0 → wp_X4_refusal_L13 Q F A L x1 (1 : Int32)))
set_option maxHeartbeats 4000000 in
theorem snd_X4_refusal (l : Launch) (G : GG) (sz : Nat) (h : HH) (ad : Nat → Nat) (F : Nat → Int32) (A : Nat → Nat → Int32) (L : Nat → UInt32) (x1 : Int32) (Q : Int32 → (Nat → Int32) → (Nat → Nat → Int32) → (Nat → UInt32) → Prop) (hS : ml_S G h ad F A L) (hw : wp_X4_refusal F A L x1 Q) : Met l yX4_refusal (ws_ yX4_refusal cX4_refusal 2 (some FieldType.int)) rm_X4_refusal (hv_Pc G h sz [.ref (ad 0), .int x1]) (hv_Qi G h sz (fun r => ml_Q G h ad (Q r))) 0 0 (hv_A h sz) := by
  refine Met.ofW (cc := cX4_refusal) (maxL := 2) (ret := (some FieldType.int)) (by decide) rfl ?_
  intro p e s m args below meth c s₁ B hml hv
  obtain ⟨rfl, rfl, hE, hI⟩ := hv_open B hml hv
  have hE : hv_E p s m ([.ref (ad 0), .int x1] : List Value).toArray meth c cX4_refusal 2 (some FieldType.int) RX4 G h := hE
  have hI := ml_I.start hI hS
  obtain ⟨⟨hx, hb, hml, hown, hts⟩, hr, hlocks, -⟩ := id hE
  have hl := lv_entry ([.ref (ad 0), .int x1] : List Value) (n := 2) (Nat.le_of_ble_eq_true rfl)
  rw [lg_entry_eq]
  generalize (lg_sl ([.ref (ad 0), .int x1] : List Value) ++ List.replicate (2 - (lg_sl ([.ref (ad 0), .int x1] : List Value)).length) Slot.unset).toArray = ls at hl ⊢
  have hl : lv_has ls 2 [(0, .ref (ad 0)), (1, .int x1)] := hl
  unfold wp_X4_refusal at hw
  refine lv_aload_n hx hb dX4_refusal_0 rfl (lv_at hl 0 rfl) ?_
  refine lv_aload_n hx hb dX4_refusal_1 rfl (lv_at hl 0 rfl) ?_
  refine ml_get hE hI 27 (by decide) q2012 rfl rfl dX4_refusal_2 ?_
  refine lv_if_ne (tgt := 12) hx hb dX4_refusal_5 (by decide) (fun c_5 => ?_) (fun c_5 => ?_)
  · have hw := hw.1 c_5
    refine lv_iconst (v := 0) hx hb dX4_refusal_12 (by decide) ?_
    exact snd_X4_refusal_L13 hE Q F A L x1 (0 : Int32) hw _ _ _ hI (lv_sub hl [0, 1] rfl)
  · have hw := hw.2 c_5
    refine lv_iconst (v := 1) hx hb dX4_refusal_8 (by decide) ?_
    refine lv_goto (tgt := 13) hx hb dX4_refusal_9 (by decide) ?_
    exact snd_X4_refusal_L13 hE Q F A L x1 (1 : Int32) hw _ _ _ hI (lv_sub hl [0, 1] rfl)

/-- MatchmakerRulesModel.toldMany()I -/
abbrev rm_X4_toldMany : Room := { frames := 1, cells := 0, slots := 0, locals := 12 }
def wp_X4_toldMany_L4 (Q : Int32 → (Nat → Int32) → (Nat → Nat → Int32) → (Nat → UInt32) → Prop) : Nat → (Nat → Int32) → (Nat → Nat → Int32) → (Nat → UInt32) → (Int32) → (Int32) → Prop
  | 0, _, _, _, _, _ => False
  | n + 1, F, A, L, x1, x2 => (((A 1 1) ≤ x2 → Q x1 F A L) ∧ (¬ (A 1 1) ≤ x2 → (vp_in ((175 : Int32) + x2) 13675 ∧ wp_X4_toldMany_L4 Q n F A L (x1 + (A 1 (Int32.toNatClampNeg ((175 : Int32) + x2)))) (x2 + (1 : Int32)))))
set_option maxHeartbeats 4000000 in
theorem snd_X4_toldMany_L4 {p : Program} {l : Launch} {e : Env} {s : State} {m : MethodId} {args : Array Value} {below : List Frame} {meth : Method} {c : Code} {G : GG} {h0 : HH} {ad : Nat → Nat} (hE : hv_E p s m args meth c cX4_toldMany 3 (some FieldType.int) RX4 G h0) (Q : Int32 → (Nat → Int32) → (Nat → Nat → Int32) → (Nat → UInt32) → Prop) : ∀ (n : Nat) (F : Nat → Int32) (A : Nat → Nat → Int32) (L : Nat → UInt32) (x1 : Int32) (x2 : Int32), wp_X4_toldMany_L4 Q n F A L x1 x2 → ∀ (H : Heap) (locs : List Loc) (ls : Array Slot), ml_I G h0 s.heap ad F A L H locs → lv_has ls 3 [(0, .ref (ad 0)), (1, .int x1), (2, .int x2)] → W p l e (headSpec (ws_ yX4_toldMany cX4_toldMany 3 (some FieldType.int)) rm_X4_toldMany).room s m args below meth c H locs 0 0 (MQ below (hv_Qi G h0 s.heap.size (fun r => ml_Q G h0 ad (Q r))) args s 0 0 (hv_A h0 s.heap.size)) (F0 m 4 ls []) := by
  obtain ⟨⟨hx, hb, hml, hown, hts⟩, hr, hlocks, -⟩ := id hE
  intro n
  induction n with
  | zero => intro F A L x1 x2 hw; exact hw.elim
  | succ n ih =>
    intro F A L x1 x2 hw H locs ls hI hl
    unfold wp_X4_toldMany_L4 at hw
    refine lv_iload_n hx hb dX4_toldMany_4 rfl (lv_at hl 2 rfl) ?_
    refine lv_aload_n hx hb dX4_toldMany_5 rfl (lv_at hl 0 rfl) ?_
    refine ml_get hE hI 1 (by decide) q1986 rfl rfl dX4_toldMany_6 ?_
    refine lv_iconst (v := 1) hx hb dX4_toldMany_9 (by decide) ?_
    have hin : vp_in (1 : Int32) 13675 := by unfold vp_in; decide +kernel
    refine ml_iald hE hI 1 rfl rfl (show Int32.toNatClampNeg (1 : Int32) = 1 from by decide +kernel) hin dX4_toldMany_10 ?_
    refine lv_icmp_ge (tgt := 33) hx hb dX4_toldMany_11 (by decide) (fun c_11 => ?_) (fun c_11 => ?_)
    · have hw := hw.1 c_11
      refine lv_iload_n hx hb dX4_toldMany_33 rfl (lv_at hl 1 rfl) ?_
      exact ml_iret hE hI hw dX4_toldMany_34
    · have hw := hw.2 c_11
      refine lv_iload_n hx hb dX4_toldMany_14 rfl (lv_at hl 1 rfl) ?_
      refine lv_aload_n hx hb dX4_toldMany_15 rfl (lv_at hl 0 rfl) ?_
      refine ml_get hE hI 1 (by decide) q1986 rfl rfl dX4_toldMany_16 ?_
      refine lv_sipush (v := 175) hx hb dX4_toldMany_19 (by decide) ?_
      refine lv_iload_n hx hb dX4_toldMany_22 rfl (lv_at hl 2 rfl) ?_
      refine lv_iadd hx hb dX4_toldMany_23 ?_
      obtain ⟨hin, hw⟩ := hw
      refine ml_iald hE hI 1 rfl rfl rfl hin dX4_toldMany_24 ?_
      refine lv_iadd hx hb dX4_toldMany_25 ?_
      refine lv_istore_n (lv' := [(1, .int (x1 + (A 1 (Int32.toNatClampNeg ((175 : Int32) + x2))))), (0, .ref (ad 0)), (2, .int x2)]) hx hb dX4_toldMany_26 rfl hl (by decide) rfl (fun ls hl => ?_)
      refine lv_iinc (v := (x2 + (1 : Int32))) (lv' := [(2, .int (x2 + (1 : Int32))), (1, .int (x1 + (A 1 (Int32.toNatClampNeg ((175 : Int32) + x2))))), (0, .ref (ad 0))]) hx hb dX4_toldMany_27 hl (k := 2) rfl rfl (by decide) rfl (fun ls hl => ?_)
      refine lv_goto (tgt := 4) hx hb dX4_toldMany_30 (by decide) ?_
      exact ih F A L (x1 + (A 1 (Int32.toNatClampNeg ((175 : Int32) + x2)))) (x2 + (1 : Int32)) hw _ _ _ hI (lv_sub hl [2, 1, 0] rfl)
def wp_X4_toldMany (F : Nat → Int32) (A : Nat → Nat → Int32) (L : Nat → UInt32) (Q : Int32 → (Nat → Int32) → (Nat → Nat → Int32) → (Nat → UInt32) → Prop) : Prop := (∃ n4, wp_X4_toldMany_L4 Q n4 F A L (0 : Int32) (0 : Int32))
set_option maxHeartbeats 4000000 in
theorem snd_X4_toldMany (l : Launch) (G : GG) (sz : Nat) (h : HH) (ad : Nat → Nat) (F : Nat → Int32) (A : Nat → Nat → Int32) (L : Nat → UInt32) (Q : Int32 → (Nat → Int32) → (Nat → Nat → Int32) → (Nat → UInt32) → Prop) (hS : ml_S G h ad F A L) (hw : wp_X4_toldMany F A L Q) : Met l yX4_toldMany (ws_ yX4_toldMany cX4_toldMany 3 (some FieldType.int)) rm_X4_toldMany (hv_Pc G h sz [.ref (ad 0)]) (hv_Qi G h sz (fun r => ml_Q G h ad (Q r))) 0 0 (hv_A h sz) := by
  refine Met.ofW (cc := cX4_toldMany) (maxL := 3) (ret := (some FieldType.int)) (by decide) rfl ?_
  intro p e s m args below meth c s₁ B hml hv
  obtain ⟨rfl, rfl, hE, hI⟩ := hv_open B hml hv
  have hE : hv_E p s m ([.ref (ad 0)] : List Value).toArray meth c cX4_toldMany 3 (some FieldType.int) RX4 G h := hE
  have hI := ml_I.start hI hS
  obtain ⟨⟨hx, hb, hml, hown, hts⟩, hr, hlocks, -⟩ := id hE
  have hl := lv_entry ([.ref (ad 0)] : List Value) (n := 3) (Nat.le_of_ble_eq_true rfl)
  rw [lg_entry_eq]
  generalize (lg_sl ([.ref (ad 0)] : List Value) ++ List.replicate (3 - (lg_sl ([.ref (ad 0)] : List Value)).length) Slot.unset).toArray = ls at hl ⊢
  have hl : lv_has ls 3 [(0, .ref (ad 0))] := hl
  unfold wp_X4_toldMany at hw
  refine lv_iconst (v := 0) hx hb dX4_toldMany_0 (by decide) ?_
  refine lv_istore_n (lv' := [(1, .int (0 : Int32)), (0, .ref (ad 0))]) hx hb dX4_toldMany_1 rfl hl (by decide) rfl (fun ls hl => ?_)
  refine lv_iconst (v := 0) hx hb dX4_toldMany_2 (by decide) ?_
  refine lv_istore_n (lv' := [(2, .int (0 : Int32)), (1, .int (0 : Int32)), (0, .ref (ad 0))]) hx hb dX4_toldMany_3 rfl hl (by decide) rfl (fun ls hl => ?_)
  obtain ⟨n4, hw⟩ := hw
  exact snd_X4_toldMany_L4 hE Q n4 F A L (0 : Int32) (0 : Int32) hw _ _ _ hI (lv_sub hl [2, 1, 0] rfl)

/-- MatchmakerRulesModel.dueMany()I -/
abbrev rm_X4_dueMany : Room := { frames := 5, cells := 0, slots := 0, locals := 105 }
def wp_X4_dueMany (F : Nat → Int32) (A : Nat → Nat → Int32) (L : Nat → UInt32) (Q : Int32 → (Nat → Int32) → (Nat → Nat → Int32) → (Nat → UInt32) → Prop) : Prop := wp_X4_looks F A L (fun F1 A1 L1 => Q (F1 31) F1 A1 L1)
set_option maxHeartbeats 4000000 in
theorem snd_X4_dueMany (l : Launch) (G : GG) (sz : Nat) (h : HH) (ad : Nat → Nat) (F : Nat → Int32) (A : Nat → Nat → Int32) (L : Nat → UInt32) (Q : Int32 → (Nat → Int32) → (Nat → Nat → Int32) → (Nat → UInt32) → Prop) (hS : ml_S G h ad F A L) (hw : wp_X4_dueMany F A L Q) : Met l yX4_dueMany (ws_ yX4_dueMany cX4_dueMany 1 (some FieldType.int)) rm_X4_dueMany (hv_Pc G h sz [.ref (ad 0)]) (hv_Qi G h sz (fun r => ml_Q G h ad (Q r))) 0 0 (hv_A h sz) := by
  refine Met.ofW (cc := cX4_dueMany) (maxL := 1) (ret := (some FieldType.int)) (by decide) rfl ?_
  intro p e s m args below meth c s₁ B hml hv
  obtain ⟨rfl, rfl, hE, hI⟩ := hv_open B hml hv
  have hE : hv_E p s m ([.ref (ad 0)] : List Value).toArray meth c cX4_dueMany 1 (some FieldType.int) RX4 G h := hE
  have hI := ml_I.start hI hS
  obtain ⟨⟨hx, hb, hml, hown, hts⟩, hr, hlocks, -⟩ := id hE
  have hl := lv_entry ([.ref (ad 0)] : List Value) (n := 1) (Nat.le_of_ble_eq_true rfl)
  rw [lg_entry_eq]
  generalize (lg_sl ([.ref (ad 0)] : List Value) ++ List.replicate (1 - (lg_sl ([.ref (ad 0)] : List Value)).length) Slot.unset).toArray = ls at hl ⊢
  have hl : lv_has ls 1 [(0, .ref (ad 0))] := hl
  unfold wp_X4_dueMany at hw
  refine lv_aload_n hx hb dX4_dueMany_0 rfl (lv_at hl 0 rfl) ?_
  refine ml_callv (As := []) (rest := []) (cells := 0) (slots := 0) hE hI (fun h hS => snd_X4_looks l G _ h ad F A L _ hS hw) (cwV 0 hts (lw_V q2296 q2298 qs68 q108 q2299) rfl rfl rfl (by decide +kernel) ⟨Nat.le_of_ble_eq_true rfl, Nat.le_of_ble_eq_true rfl⟩) rfl hl.1 (Nat.le_of_ble_eq_true rfl) dX4_dueMany_1 ⟨Nat.le_of_ble_eq_true rfl, Nat.le_of_ble_eq_true rfl⟩ (fun F1 A1 L1 H locs hw hI => ?_)
  refine lv_aload_n hx hb dX4_dueMany_4 rfl (lv_at hl 0 rfl) ?_
  refine ml_get hE hI 31 (by decide) q2016 rfl rfl dX4_dueMany_5 ?_
  exact ml_iret hE hI hw dX4_dueMany_8

/-- MatchmakerRulesModel.allReasons()I -/
abbrev rm_X4_allReasons : Room := { frames := 2, cells := 0, slots := 0, locals := 34 }
def wp_X4_allReasons_L4 (Q : Int32 → (Nat → Int32) → (Nat → Nat → Int32) → (Nat → UInt32) → Prop) : Nat → (Nat → Int32) → (Nat → Nat → Int32) → (Nat → UInt32) → (Int32) → (Int32) → Prop
  | 0, _, _, _, _, _ => False
  | n + 1, F, A, L, x1, x2 => (((A 1 6) ≤ x2 → Q x1 F A L) ∧ (¬ (A 1 6) ≤ x2 → wp_X4_firing F A L x2 (3 : Int32) (fun r1 F1 A1 L1 => ((¬ r1 = (-1 : Int32) → wp_X4_allReasons_L4 Q n F1 A1 L1 (x1 + (1 : Int32)) (x2 + (1 : Int32))) ∧ (r1 = (-1 : Int32) → wp_X4_allReasons_L4 Q n F1 A1 L1 (x1 + (0 : Int32)) (x2 + (1 : Int32)))))))
set_option maxHeartbeats 4000000 in
theorem snd_X4_allReasons_L4 {p : Program} {l : Launch} {e : Env} {s : State} {m : MethodId} {args : Array Value} {below : List Frame} {meth : Method} {c : Code} {G : GG} {h0 : HH} {ad : Nat → Nat} (hE : hv_E p s m args meth c cX4_allReasons 3 (some FieldType.int) RX4 G h0) (Q : Int32 → (Nat → Int32) → (Nat → Nat → Int32) → (Nat → UInt32) → Prop) : ∀ (n : Nat) (F : Nat → Int32) (A : Nat → Nat → Int32) (L : Nat → UInt32) (x1 : Int32) (x2 : Int32), wp_X4_allReasons_L4 Q n F A L x1 x2 → ∀ (H : Heap) (locs : List Loc) (ls : Array Slot), ml_I G h0 s.heap ad F A L H locs → lv_has ls 3 [(0, .ref (ad 0)), (1, .int x1), (2, .int x2)] → W p l e (headSpec (ws_ yX4_allReasons cX4_allReasons 3 (some FieldType.int)) rm_X4_allReasons).room s m args below meth c H locs 0 0 (MQ below (hv_Qi G h0 s.heap.size (fun r => ml_Q G h0 ad (Q r))) args s 0 0 (hv_A h0 s.heap.size)) (F0 m 4 ls []) := by
  obtain ⟨⟨hx, hb, hml, hown, hts⟩, hr, hlocks, -⟩ := id hE
  intro n
  induction n with
  | zero => intro F A L x1 x2 hw; exact hw.elim
  | succ n ih =>
    intro F A L x1 x2 hw H locs ls hI hl
    unfold wp_X4_allReasons_L4 at hw
    refine lv_iload_n hx hb dX4_allReasons_4 rfl (lv_at hl 2 rfl) ?_
    refine lv_aload_n hx hb dX4_allReasons_5 rfl (lv_at hl 0 rfl) ?_
    refine ml_get hE hI 1 (by decide) q1986 rfl rfl dX4_allReasons_6 ?_
    refine lv_bipush (v := 6) hx hb dX4_allReasons_9 (by decide) ?_
    have hin : vp_in (6 : Int32) 13675 := by unfold vp_in; decide +kernel
    refine ml_iald hE hI 1 rfl rfl (show Int32.toNatClampNeg (6 : Int32) = 6 from by decide +kernel) hin dX4_allReasons_11 ?_
    refine lv_icmp_ge (tgt := 39) hx hb dX4_allReasons_12 (by decide) (fun c_12 => ?_) (fun c_12 => ?_)
    · have hw := hw.1 c_12
      refine lv_iload_n hx hb dX4_allReasons_39 rfl (lv_at hl 1 rfl) ?_
      exact ml_iret hE hI hw dX4_allReasons_40
    · have hw := hw.2 c_12
      refine lv_iload_n hx hb dX4_allReasons_15 rfl (lv_at hl 1 rfl) ?_
      refine lv_aload_n hx hb dX4_allReasons_16 rfl (lv_at hl 0 rfl) ?_
      refine lv_iload_n hx hb dX4_allReasons_17 rfl (lv_at hl 2 rfl) ?_
      refine lv_iconst (v := 3) hx hb dX4_allReasons_18 (by decide) ?_
      refine ml_calli (As := [.int x2, .int (3 : Int32)]) (rest := [.int x1]) (cells := 0) (slots := 0) hE hI (fun h hS => snd_X4_firing l G _ h ad F A L x2 (3 : Int32) _ hS hw) (cwV 2 hts (lw_V q2182 q2184 qs50 q108 q2185) rfl rfl rfl (by decide +kernel) ⟨Nat.le_of_ble_eq_true rfl, Nat.le_of_ble_eq_true rfl⟩) rfl hl.1 (Nat.le_of_ble_eq_true rfl) dX4_allReasons_19 ⟨Nat.le_of_ble_eq_true rfl, Nat.le_of_ble_eq_true rfl⟩ (fun r1 F1 A1 L1 H locs hw hI => ?_)
      refine lv_iconst (v := -1) hx hb dX4_allReasons_22 (by decide) ?_
      refine lv_icmp_ne (tgt := 30) hx hb dX4_allReasons_23 (by decide) (fun c_23 => ?_) (fun c_23 => ?_)
      · have hw := hw.1 c_23
        refine lv_iconst (v := 1) hx hb dX4_allReasons_30 (by decide) ?_
        refine lv_iadd hx hb dX4_allReasons_31 ?_
        refine lv_istore_n (lv' := [(1, .int (x1 + (1 : Int32))), (0, .ref (ad 0)), (2, .int x2)]) hx hb dX4_allReasons_32 rfl hl (by decide) rfl (fun ls hl => ?_)
        refine lv_iinc (v := (x2 + (1 : Int32))) (lv' := [(2, .int (x2 + (1 : Int32))), (1, .int (x1 + (1 : Int32))), (0, .ref (ad 0))]) hx hb dX4_allReasons_33 hl (k := 2) rfl rfl (by decide) rfl (fun ls hl => ?_)
        refine lv_goto (tgt := 4) hx hb dX4_allReasons_36 (by decide) ?_
        exact ih F1 A1 L1 (x1 + (1 : Int32)) (x2 + (1 : Int32)) hw _ _ _ hI (lv_sub hl [2, 1, 0] rfl)
      · have hw := hw.2 c_23
        refine lv_iconst (v := 0) hx hb dX4_allReasons_26 (by decide) ?_
        refine lv_goto (tgt := 31) hx hb dX4_allReasons_27 (by decide) ?_
        refine lv_iadd hx hb dX4_allReasons_31 ?_
        refine lv_istore_n (lv' := [(1, .int (x1 + (0 : Int32))), (0, .ref (ad 0)), (2, .int x2)]) hx hb dX4_allReasons_32 rfl hl (by decide) rfl (fun ls hl => ?_)
        refine lv_iinc (v := (x2 + (1 : Int32))) (lv' := [(2, .int (x2 + (1 : Int32))), (1, .int (x1 + (0 : Int32))), (0, .ref (ad 0))]) hx hb dX4_allReasons_33 hl (k := 2) rfl rfl (by decide) rfl (fun ls hl => ?_)
        refine lv_goto (tgt := 4) hx hb dX4_allReasons_36 (by decide) ?_
        exact ih F1 A1 L1 (x1 + (0 : Int32)) (x2 + (1 : Int32)) hw _ _ _ hI (lv_sub hl [2, 1, 0] rfl)
def wp_X4_allReasons (F : Nat → Int32) (A : Nat → Nat → Int32) (L : Nat → UInt32) (Q : Int32 → (Nat → Int32) → (Nat → Nat → Int32) → (Nat → UInt32) → Prop) : Prop := (∃ n4, wp_X4_allReasons_L4 Q n4 F A L (0 : Int32) (0 : Int32))
set_option maxHeartbeats 4000000 in
theorem snd_X4_allReasons (l : Launch) (G : GG) (sz : Nat) (h : HH) (ad : Nat → Nat) (F : Nat → Int32) (A : Nat → Nat → Int32) (L : Nat → UInt32) (Q : Int32 → (Nat → Int32) → (Nat → Nat → Int32) → (Nat → UInt32) → Prop) (hS : ml_S G h ad F A L) (hw : wp_X4_allReasons F A L Q) : Met l yX4_allReasons (ws_ yX4_allReasons cX4_allReasons 3 (some FieldType.int)) rm_X4_allReasons (hv_Pc G h sz [.ref (ad 0)]) (hv_Qi G h sz (fun r => ml_Q G h ad (Q r))) 0 0 (hv_A h sz) := by
  refine Met.ofW (cc := cX4_allReasons) (maxL := 3) (ret := (some FieldType.int)) (by decide) rfl ?_
  intro p e s m args below meth c s₁ B hml hv
  obtain ⟨rfl, rfl, hE, hI⟩ := hv_open B hml hv
  have hE : hv_E p s m ([.ref (ad 0)] : List Value).toArray meth c cX4_allReasons 3 (some FieldType.int) RX4 G h := hE
  have hI := ml_I.start hI hS
  obtain ⟨⟨hx, hb, hml, hown, hts⟩, hr, hlocks, -⟩ := id hE
  have hl := lv_entry ([.ref (ad 0)] : List Value) (n := 3) (Nat.le_of_ble_eq_true rfl)
  rw [lg_entry_eq]
  generalize (lg_sl ([.ref (ad 0)] : List Value) ++ List.replicate (3 - (lg_sl ([.ref (ad 0)] : List Value)).length) Slot.unset).toArray = ls at hl ⊢
  have hl : lv_has ls 3 [(0, .ref (ad 0))] := hl
  unfold wp_X4_allReasons at hw
  refine lv_iconst (v := 0) hx hb dX4_allReasons_0 (by decide) ?_
  refine lv_istore_n (lv' := [(1, .int (0 : Int32)), (0, .ref (ad 0))]) hx hb dX4_allReasons_1 rfl hl (by decide) rfl (fun ls hl => ?_)
  refine lv_iconst (v := 0) hx hb dX4_allReasons_2 (by decide) ?_
  refine lv_istore_n (lv' := [(2, .int (0 : Int32)), (1, .int (0 : Int32)), (0, .ref (ad 0))]) hx hb dX4_allReasons_3 rfl hl (by decide) rfl (fun ls hl => ?_)
  obtain ⟨n4, hw⟩ := hw
  exact snd_X4_allReasons_L4 hE Q n4 F A L (0 : Int32) (0 : Int32) hw _ _ _ hI (lv_sub hl [2, 1, 0] rfl)

/-- MatchmakerRulesModel.deepest()I -/
abbrev rm_X4_deepest : Room := { frames := 4, cells := 0, slots := 0, locals := 81 }
def wp_X4_deepest_L8 (Q : Int32 → (Nat → Int32) → (Nat → Nat → Int32) → (Nat → UInt32) → Prop) : Nat → (Nat → Int32) → (Nat → Nat → Int32) → (Nat → UInt32) → (Int32) → (Int32) → Prop
  | 0, _, _, _, _, _ => False
  | n + 1, F, A, L, x1, x2 => (((A 1 1) ≤ x2 → Q x1 F A L) ∧ (¬ (A 1 1) ≤ x2 → (vp_in x2 20 ∧ (((A 18 (Int32.toNatClampNeg x2)) ≤ x1 → wp_X4_deepest_L8 Q n F A L x1 (x2 + (1 : Int32))) ∧ (¬ (A 18 (Int32.toNatClampNeg x2)) ≤ x1 → (vp_in x2 20 ∧ wp_X4_deepest_L8 Q n F A L (A 18 (Int32.toNatClampNeg x2)) (x2 + (1 : Int32))))))))
set_option maxHeartbeats 4000000 in
theorem snd_X4_deepest_L8 {p : Program} {l : Launch} {e : Env} {s : State} {m : MethodId} {args : Array Value} {below : List Frame} {meth : Method} {c : Code} {G : GG} {h0 : HH} {ad : Nat → Nat} (hE : hv_E p s m args meth c cX4_deepest 3 (some FieldType.int) RX4 G h0) (Q : Int32 → (Nat → Int32) → (Nat → Nat → Int32) → (Nat → UInt32) → Prop) : ∀ (n : Nat) (F : Nat → Int32) (A : Nat → Nat → Int32) (L : Nat → UInt32) (x1 : Int32) (x2 : Int32), wp_X4_deepest_L8 Q n F A L x1 x2 → ∀ (H : Heap) (locs : List Loc) (ls : Array Slot), ml_I G h0 s.heap ad F A L H locs → lv_has ls 3 [(0, .ref (ad 0)), (1, .int x1), (2, .int x2)] → W p l e (headSpec (ws_ yX4_deepest cX4_deepest 3 (some FieldType.int)) rm_X4_deepest).room s m args below meth c H locs 0 0 (MQ below (hv_Qi G h0 s.heap.size (fun r => ml_Q G h0 ad (Q r))) args s 0 0 (hv_A h0 s.heap.size)) (F0 m 8 ls []) := by
  obtain ⟨⟨hx, hb, hml, hown, hts⟩, hr, hlocks, -⟩ := id hE
  intro n
  induction n with
  | zero => intro F A L x1 x2 hw; exact hw.elim
  | succ n ih =>
    intro F A L x1 x2 hw H locs ls hI hl
    unfold wp_X4_deepest_L8 at hw
    refine lv_iload_n hx hb dX4_deepest_8 rfl (lv_at hl 2 rfl) ?_
    refine lv_aload_n hx hb dX4_deepest_9 rfl (lv_at hl 0 rfl) ?_
    refine ml_get hE hI 1 (by decide) q1986 rfl rfl dX4_deepest_10 ?_
    refine lv_iconst (v := 1) hx hb dX4_deepest_13 (by decide) ?_
    have hin : vp_in (1 : Int32) 13675 := by unfold vp_in; decide +kernel
    refine ml_iald hE hI 1 rfl rfl (show Int32.toNatClampNeg (1 : Int32) = 1 from by decide +kernel) hin dX4_deepest_14 ?_
    refine lv_icmp_ge (tgt := 45) hx hb dX4_deepest_15 (by decide) (fun c_15 => ?_) (fun c_15 => ?_)
    · have hw := hw.1 c_15
      refine lv_iload_n hx hb dX4_deepest_45 rfl (lv_at hl 1 rfl) ?_
      exact ml_iret hE hI hw dX4_deepest_46
    · have hw := hw.2 c_15
      refine lv_aload_n hx hb dX4_deepest_18 rfl (lv_at hl 0 rfl) ?_
      refine ml_get hE hI 18 (by decide) q2003 rfl rfl dX4_deepest_19 ?_
      refine lv_iload_n hx hb dX4_deepest_22 rfl (lv_at hl 2 rfl) ?_
      obtain ⟨hin, hw⟩ := hw
      refine ml_iald hE hI 18 rfl rfl rfl hin dX4_deepest_23 ?_
      refine lv_iload_n hx hb dX4_deepest_24 rfl (lv_at hl 1 rfl) ?_
      refine lv_icmp_le (tgt := 37) hx hb dX4_deepest_25 (by decide) (fun c_25 => ?_) (fun c_25 => ?_)
      · have hw := hw.1 c_25
        refine lv_iload_n hx hb dX4_deepest_37 rfl (lv_at hl 1 rfl) ?_
        refine lv_istore_n (lv' := [(1, .int x1), (0, .ref (ad 0)), (2, .int x2)]) hx hb dX4_deepest_38 rfl hl (by decide) rfl (fun ls hl => ?_)
        refine lv_iinc (v := (x2 + (1 : Int32))) (lv' := [(2, .int (x2 + (1 : Int32))), (1, .int x1), (0, .ref (ad 0))]) hx hb dX4_deepest_39 hl (k := 2) rfl rfl (by decide) rfl (fun ls hl => ?_)
        refine lv_goto (tgt := 8) hx hb dX4_deepest_42 (by decide) ?_
        exact ih F A L x1 (x2 + (1 : Int32)) hw _ _ _ hI (lv_sub hl [2, 1, 0] rfl)
      · have hw := hw.2 c_25
        refine lv_aload_n hx hb dX4_deepest_28 rfl (lv_at hl 0 rfl) ?_
        refine ml_get hE hI 18 (by decide) q2003 rfl rfl dX4_deepest_29 ?_
        refine lv_iload_n hx hb dX4_deepest_32 rfl (lv_at hl 2 rfl) ?_
        obtain ⟨hin, hw⟩ := hw
        refine ml_iald hE hI 18 rfl rfl rfl hin dX4_deepest_33 ?_
        refine lv_goto (tgt := 38) hx hb dX4_deepest_34 (by decide) ?_
        refine lv_istore_n (lv' := [(1, .int (A 18 (Int32.toNatClampNeg x2))), (0, .ref (ad 0)), (2, .int x2)]) hx hb dX4_deepest_38 rfl hl (by decide) rfl (fun ls hl => ?_)
        refine lv_iinc (v := (x2 + (1 : Int32))) (lv' := [(2, .int (x2 + (1 : Int32))), (1, .int (A 18 (Int32.toNatClampNeg x2))), (0, .ref (ad 0))]) hx hb dX4_deepest_39 hl (k := 2) rfl rfl (by decide) rfl (fun ls hl => ?_)
        refine lv_goto (tgt := 8) hx hb dX4_deepest_42 (by decide) ?_
        exact ih F A L (A 18 (Int32.toNatClampNeg x2)) (x2 + (1 : Int32)) hw _ _ _ hI (lv_sub hl [2, 1, 0] rfl)
def wp_X4_deepest (F : Nat → Int32) (A : Nat → Nat → Int32) (L : Nat → UInt32) (Q : Int32 → (Nat → Int32) → (Nat → Nat → Int32) → (Nat → UInt32) → Prop) : Prop := wp_X4_measures F A L (fun F1 A1 L1 => (∃ n8, wp_X4_deepest_L8 Q n8 F1 A1 L1 (0 : Int32) (0 : Int32)))
set_option maxHeartbeats 4000000 in
theorem snd_X4_deepest (l : Launch) (G : GG) (sz : Nat) (h : HH) (ad : Nat → Nat) (F : Nat → Int32) (A : Nat → Nat → Int32) (L : Nat → UInt32) (Q : Int32 → (Nat → Int32) → (Nat → Nat → Int32) → (Nat → UInt32) → Prop) (hS : ml_S G h ad F A L) (hw : wp_X4_deepest F A L Q) : Met l yX4_deepest (ws_ yX4_deepest cX4_deepest 3 (some FieldType.int)) rm_X4_deepest (hv_Pc G h sz [.ref (ad 0)]) (hv_Qi G h sz (fun r => ml_Q G h ad (Q r))) 0 0 (hv_A h sz) := by
  refine Met.ofW (cc := cX4_deepest) (maxL := 3) (ret := (some FieldType.int)) (by decide) rfl ?_
  intro p e s m args below meth c s₁ B hml hv
  obtain ⟨rfl, rfl, hE, hI⟩ := hv_open B hml hv
  have hE : hv_E p s m ([.ref (ad 0)] : List Value).toArray meth c cX4_deepest 3 (some FieldType.int) RX4 G h := hE
  have hI := ml_I.start hI hS
  obtain ⟨⟨hx, hb, hml, hown, hts⟩, hr, hlocks, -⟩ := id hE
  have hl := lv_entry ([.ref (ad 0)] : List Value) (n := 3) (Nat.le_of_ble_eq_true rfl)
  rw [lg_entry_eq]
  generalize (lg_sl ([.ref (ad 0)] : List Value) ++ List.replicate (3 - (lg_sl ([.ref (ad 0)] : List Value)).length) Slot.unset).toArray = ls at hl ⊢
  have hl : lv_has ls 3 [(0, .ref (ad 0))] := hl
  unfold wp_X4_deepest at hw
  refine lv_aload_n hx hb dX4_deepest_0 rfl (lv_at hl 0 rfl) ?_
  refine ml_callv (As := []) (rest := []) (cells := 0) (slots := 0) hE hI (fun h hS => snd_X4_measures l G _ h ad F A L _ hS hw) (cwV 0 hts (lw_V q2264 q2266 qs65 q108 q2267) rfl rfl rfl (by decide +kernel) ⟨Nat.le_of_ble_eq_true rfl, Nat.le_of_ble_eq_true rfl⟩) rfl hl.1 (Nat.le_of_ble_eq_true rfl) dX4_deepest_1 ⟨Nat.le_of_ble_eq_true rfl, Nat.le_of_ble_eq_true rfl⟩ (fun F1 A1 L1 H locs hw hI => ?_)
  refine lv_iconst (v := 0) hx hb dX4_deepest_4 (by decide) ?_
  refine lv_istore_n (lv' := [(1, .int (0 : Int32)), (0, .ref (ad 0))]) hx hb dX4_deepest_5 rfl hl (by decide) rfl (fun ls hl => ?_)
  refine lv_iconst (v := 0) hx hb dX4_deepest_6 (by decide) ?_
  refine lv_istore_n (lv' := [(2, .int (0 : Int32)), (1, .int (0 : Int32)), (0, .ref (ad 0))]) hx hb dX4_deepest_7 rfl hl (by decide) rfl (fun ls hl => ?_)
  obtain ⟨n8, hw⟩ := hw
  exact snd_X4_deepest_L8 hE Q n8 F1 A1 L1 (0 : Int32) (0 : Int32) hw _ _ _ hI (lv_sub hl [2, 1, 0] rfl)

/-- MatchmakerRulesModel.account(I)I -/
abbrev rm_X4_account : Room := { frames := 6, cells := 0, slots := 0, locals := 125 }
def wp_X4_account (F : Nat → Int32) (A : Nat → Nat → Int32) (L : Nat → UInt32) (x1 : Int32) (Q : Int32 → (Nat → Int32) → (Nat → Nat → Int32) → (Nat → UInt32) → Prop) : Prop := ((x1 = (0 : Int32) → Q (A 1 1) (upd F 0 (0 : Int32)) A L) ∧ (¬ x1 = (0 : Int32) → ((x1 = (1 : Int32) → Q (A 1 2) (upd F 0 (0 : Int32)) A L) ∧ (¬ x1 = (1 : Int32) → ((x1 = (2 : Int32) → wp_X4_toldMany (upd F 0 (0 : Int32)) A L (fun r1 F1 A1 L1 => Q r1 F1 A1 L1)) ∧ (¬ x1 = (2 : Int32) → ((x1 = (3 : Int32) → Q (A 1 0) (upd F 0 (0 : Int32)) A L) ∧ (¬ x1 = (3 : Int32) → ((x1 = (4 : Int32) → Q (A 1 3) (upd F 0 (0 : Int32)) A L) ∧ (¬ x1 = (4 : Int32) → ((x1 = (5 : Int32) → wp_X4_dueMany (upd F 0 (0 : Int32)) A L (fun r2 F2 A2 L2 => Q r2 F2 A2 L2)) ∧ (¬ x1 = (5 : Int32) → ((x1 = (6 : Int32) → wp_X4_allReasons (upd F 0 (0 : Int32)) A L (fun r3 F3 A3 L3 => Q r3 F3 A3 L3)) ∧ (¬ x1 = (6 : Int32) → ((x1 = (7 : Int32) → Q (A 1 4) (upd F 0 (0 : Int32)) A L) ∧ (¬ x1 = (7 : Int32) → ((x1 = (8 : Int32) → wp_X4_deepest (upd F 0 (0 : Int32)) A L (fun r4 F4 A4 L4 => Q r4 F4 A4 L4)) ∧ (¬ x1 = (8 : Int32) → ((x1 = (9 : Int32) → Q (A 1 5) (upd F 0 (0 : Int32)) A L) ∧ (¬ x1 = (9 : Int32) → ((x1 = (10 : Int32) → Q ((upd F 0 (0 : Int32)) 23) (upd F 0 (0 : Int32)) A L) ∧ (¬ x1 = (10 : Int32) → ((x1 = (11 : Int32) → Q ((upd F 0 (0 : Int32)) 6) (upd F 0 (0 : Int32)) A L) ∧ (¬ x1 = (11 : Int32) → wp_X4_fails (upd F 0 (0 : Int32)) A L (1 : Int32) (fun r5 F5 A5 L5 => Q r5 F5 A5 L5)))))))))))))))))))))))))
set_option maxHeartbeats 4000000 in
theorem snd_X4_account (l : Launch) (G : GG) (sz : Nat) (h : HH) (ad : Nat → Nat) (F : Nat → Int32) (A : Nat → Nat → Int32) (L : Nat → UInt32) (x1 : Int32) (Q : Int32 → (Nat → Int32) → (Nat → Nat → Int32) → (Nat → UInt32) → Prop) (hS : ml_S G h ad F A L) (hw : wp_X4_account F A L x1 Q) : Met l yX4_account (ws_ yX4_account cX4_account 2 (some FieldType.int)) rm_X4_account (hv_Pc G h sz [.ref (ad 0), .int x1]) (hv_Qi G h sz (fun r => ml_Q G h ad (Q r))) 0 0 (hv_A h sz) := by
  refine Met.ofW (cc := cX4_account) (maxL := 2) (ret := (some FieldType.int)) (by decide) rfl ?_
  intro p e s m args below meth c s₁ B hml hv
  obtain ⟨rfl, rfl, hE, hI⟩ := hv_open B hml hv
  have hE : hv_E p s m ([.ref (ad 0), .int x1] : List Value).toArray meth c cX4_account 2 (some FieldType.int) RX4 G h := hE
  have hI := ml_I.start hI hS
  obtain ⟨⟨hx, hb, hml, hown, hts⟩, hr, hlocks, -⟩ := id hE
  have hl := lv_entry ([.ref (ad 0), .int x1] : List Value) (n := 2) (Nat.le_of_ble_eq_true rfl)
  rw [lg_entry_eq]
  generalize (lg_sl ([.ref (ad 0), .int x1] : List Value) ++ List.replicate (2 - (lg_sl ([.ref (ad 0), .int x1] : List Value)).length) Slot.unset).toArray = ls at hl ⊢
  have hl : lv_has ls 2 [(0, .ref (ad 0)), (1, .int x1)] := hl
  unfold wp_X4_account at hw
  refine lv_aload_n hx hb dX4_account_0 rfl (lv_at hl 0 rfl) ?_
  refine lv_iconst (v := 0) hx hb dX4_account_1 (by decide) ?_
  refine ml_put hE hI 0 (by decide) q1985 rfl rfl (ty := .int) rfl rfl rfl (fun _ => rfl) dX4_account_2 (fun H locs hI => ?_)
  refine lv_iload_n hx hb dX4_account_5 rfl (lv_at hl 1 rfl) ?_
  by_cases s6_0 : x1 = (0 : Int32)
  · have hw := hw.1 s6_0
    refine lv_tableIn (tgt := 68) (off := 62) hx hb dX4_account_6 (by rw [s6_0]; decide) (by rw [s6_0]; decide) (by rw [s6_0]; decide) (by decide) ?_
    refine lv_aload_n hx hb dX4_account_68 rfl (lv_at hl 0 rfl) ?_
    refine ml_get hE hI 1 (by decide) q1986 rfl rfl dX4_account_69 ?_
    refine lv_iconst (v := 1) hx hb dX4_account_72 (by decide) ?_
    have hin : vp_in (1 : Int32) 13675 := by unfold vp_in; decide +kernel
    refine ml_iald hE hI 1 rfl rfl (show Int32.toNatClampNeg (1 : Int32) = 1 from by decide +kernel) hin dX4_account_73 ?_
    exact ml_iret hE hI hw dX4_account_74
  · have hw := hw.2 s6_0
    by_cases s6_1 : x1 = (1 : Int32)
    · have hw := hw.1 s6_1
      refine lv_tableIn (tgt := 75) (off := 69) hx hb dX4_account_6 (by rw [s6_1]; decide) (by rw [s6_1]; decide) (by rw [s6_1]; decide) (by decide) ?_
      refine lv_aload_n hx hb dX4_account_75 rfl (lv_at hl 0 rfl) ?_
      refine ml_get hE hI 1 (by decide) q1986 rfl rfl dX4_account_76 ?_
      refine lv_iconst (v := 2) hx hb dX4_account_79 (by decide) ?_
      have hin : vp_in (2 : Int32) 13675 := by unfold vp_in; decide +kernel
      refine ml_iald hE hI 1 rfl rfl (show Int32.toNatClampNeg (2 : Int32) = 2 from by decide +kernel) hin dX4_account_80 ?_
      exact ml_iret hE hI hw dX4_account_81
    · have hw := hw.2 s6_1
      by_cases s6_2 : x1 = (2 : Int32)
      · have hw := hw.1 s6_2
        refine lv_tableIn (tgt := 82) (off := 76) hx hb dX4_account_6 (by rw [s6_2]; decide) (by rw [s6_2]; decide) (by rw [s6_2]; decide) (by decide) ?_
        refine lv_aload_n hx hb dX4_account_82 rfl (lv_at hl 0 rfl) ?_
        refine ml_calli (As := []) (rest := []) (cells := 0) (slots := 0) hE hI (fun h hS => snd_X4_toldMany l G _ h ad (upd F 0 (0 : Int32)) A L _ hS hw) (cwV 0 hts (lw_V q2431 q2433 qs88 q108 q2434) rfl rfl rfl (by decide +kernel) ⟨Nat.le_of_ble_eq_true rfl, Nat.le_of_ble_eq_true rfl⟩) rfl hl.1 (Nat.le_of_ble_eq_true rfl) dX4_account_83 ⟨Nat.le_of_ble_eq_true rfl, Nat.le_of_ble_eq_true rfl⟩ (fun r1 F1 A1 L1 H locs hw hI => ?_)
        exact ml_iret hE hI hw dX4_account_86
      · have hw := hw.2 s6_2
        by_cases s6_3 : x1 = (3 : Int32)
        · have hw := hw.1 s6_3
          refine lv_tableIn (tgt := 87) (off := 81) hx hb dX4_account_6 (by rw [s6_3]; decide) (by rw [s6_3]; decide) (by rw [s6_3]; decide) (by decide) ?_
          refine lv_aload_n hx hb dX4_account_87 rfl (lv_at hl 0 rfl) ?_
          refine ml_get hE hI 1 (by decide) q1986 rfl rfl dX4_account_88 ?_
          refine lv_iconst (v := 0) hx hb dX4_account_91 (by decide) ?_
          have hin : vp_in (0 : Int32) 13675 := by unfold vp_in; decide +kernel
          refine ml_iald hE hI 1 rfl rfl (show Int32.toNatClampNeg (0 : Int32) = 0 from by decide +kernel) hin dX4_account_92 ?_
          exact ml_iret hE hI hw dX4_account_93
        · have hw := hw.2 s6_3
          by_cases s6_4 : x1 = (4 : Int32)
          · have hw := hw.1 s6_4
            refine lv_tableIn (tgt := 94) (off := 88) hx hb dX4_account_6 (by rw [s6_4]; decide) (by rw [s6_4]; decide) (by rw [s6_4]; decide) (by decide) ?_
            refine lv_aload_n hx hb dX4_account_94 rfl (lv_at hl 0 rfl) ?_
            refine ml_get hE hI 1 (by decide) q1986 rfl rfl dX4_account_95 ?_
            refine lv_iconst (v := 3) hx hb dX4_account_98 (by decide) ?_
            have hin : vp_in (3 : Int32) 13675 := by unfold vp_in; decide +kernel
            refine ml_iald hE hI 1 rfl rfl (show Int32.toNatClampNeg (3 : Int32) = 3 from by decide +kernel) hin dX4_account_99 ?_
            exact ml_iret hE hI hw dX4_account_100
          · have hw := hw.2 s6_4
            by_cases s6_5 : x1 = (5 : Int32)
            · have hw := hw.1 s6_5
              refine lv_tableIn (tgt := 101) (off := 95) hx hb dX4_account_6 (by rw [s6_5]; decide) (by rw [s6_5]; decide) (by rw [s6_5]; decide) (by decide) ?_
              refine lv_aload_n hx hb dX4_account_101 rfl (lv_at hl 0 rfl) ?_
              refine ml_calli (As := []) (rest := []) (cells := 0) (slots := 0) hE hI (fun h hS => snd_X4_dueMany l G _ h ad (upd F 0 (0 : Int32)) A L _ hS hw) (cwV 0 hts (lw_V q2435 q2437 qs89 q108 q2438) rfl rfl rfl (by decide +kernel) ⟨Nat.le_of_ble_eq_true rfl, Nat.le_of_ble_eq_true rfl⟩) rfl hl.1 (Nat.le_of_ble_eq_true rfl) dX4_account_102 ⟨Nat.le_of_ble_eq_true rfl, Nat.le_of_ble_eq_true rfl⟩ (fun r2 F2 A2 L2 H locs hw hI => ?_)
              exact ml_iret hE hI hw dX4_account_105
            · have hw := hw.2 s6_5
              by_cases s6_6 : x1 = (6 : Int32)
              · have hw := hw.1 s6_6
                refine lv_tableIn (tgt := 106) (off := 100) hx hb dX4_account_6 (by rw [s6_6]; decide) (by rw [s6_6]; decide) (by rw [s6_6]; decide) (by decide) ?_
                refine lv_aload_n hx hb dX4_account_106 rfl (lv_at hl 0 rfl) ?_
                refine ml_calli (As := []) (rest := []) (cells := 0) (slots := 0) hE hI (fun h hS => snd_X4_allReasons l G _ h ad (upd F 0 (0 : Int32)) A L _ hS hw) (cwV 0 hts (lw_V q2439 q2441 qs90 q108 q2442) rfl rfl rfl (by decide +kernel) ⟨Nat.le_of_ble_eq_true rfl, Nat.le_of_ble_eq_true rfl⟩) rfl hl.1 (Nat.le_of_ble_eq_true rfl) dX4_account_107 ⟨Nat.le_of_ble_eq_true rfl, Nat.le_of_ble_eq_true rfl⟩ (fun r3 F3 A3 L3 H locs hw hI => ?_)
                exact ml_iret hE hI hw dX4_account_110
              · have hw := hw.2 s6_6
                by_cases s6_7 : x1 = (7 : Int32)
                · have hw := hw.1 s6_7
                  refine lv_tableIn (tgt := 111) (off := 105) hx hb dX4_account_6 (by rw [s6_7]; decide) (by rw [s6_7]; decide) (by rw [s6_7]; decide) (by decide) ?_
                  refine lv_aload_n hx hb dX4_account_111 rfl (lv_at hl 0 rfl) ?_
                  refine ml_get hE hI 1 (by decide) q1986 rfl rfl dX4_account_112 ?_
                  refine lv_iconst (v := 4) hx hb dX4_account_115 (by decide) ?_
                  have hin : vp_in (4 : Int32) 13675 := by unfold vp_in; decide +kernel
                  refine ml_iald hE hI 1 rfl rfl (show Int32.toNatClampNeg (4 : Int32) = 4 from by decide +kernel) hin dX4_account_116 ?_
                  exact ml_iret hE hI hw dX4_account_117
                · have hw := hw.2 s6_7
                  by_cases s6_8 : x1 = (8 : Int32)
                  · have hw := hw.1 s6_8
                    refine lv_tableIn (tgt := 118) (off := 112) hx hb dX4_account_6 (by rw [s6_8]; decide) (by rw [s6_8]; decide) (by rw [s6_8]; decide) (by decide) ?_
                    refine lv_aload_n hx hb dX4_account_118 rfl (lv_at hl 0 rfl) ?_
                    refine ml_calli (As := []) (rest := []) (cells := 0) (slots := 0) hE hI (fun h hS => snd_X4_deepest l G _ h ad (upd F 0 (0 : Int32)) A L _ hS hw) (cwV 0 hts (lw_V q2443 q2445 qs91 q108 q2446) rfl rfl rfl (by decide +kernel) ⟨Nat.le_of_ble_eq_true rfl, Nat.le_of_ble_eq_true rfl⟩) rfl hl.1 (Nat.le_of_ble_eq_true rfl) dX4_account_119 ⟨Nat.le_of_ble_eq_true rfl, Nat.le_of_ble_eq_true rfl⟩ (fun r4 F4 A4 L4 H locs hw hI => ?_)
                    exact ml_iret hE hI hw dX4_account_122
                  · have hw := hw.2 s6_8
                    by_cases s6_9 : x1 = (9 : Int32)
                    · have hw := hw.1 s6_9
                      refine lv_tableIn (tgt := 123) (off := 117) hx hb dX4_account_6 (by rw [s6_9]; decide) (by rw [s6_9]; decide) (by rw [s6_9]; decide) (by decide) ?_
                      refine lv_aload_n hx hb dX4_account_123 rfl (lv_at hl 0 rfl) ?_
                      refine ml_get hE hI 1 (by decide) q1986 rfl rfl dX4_account_124 ?_
                      refine lv_iconst (v := 5) hx hb dX4_account_127 (by decide) ?_
                      have hin : vp_in (5 : Int32) 13675 := by unfold vp_in; decide +kernel
                      refine ml_iald hE hI 1 rfl rfl (show Int32.toNatClampNeg (5 : Int32) = 5 from by decide +kernel) hin dX4_account_128 ?_
                      exact ml_iret hE hI hw dX4_account_129
                    · have hw := hw.2 s6_9
                      by_cases s6_10 : x1 = (10 : Int32)
                      · have hw := hw.1 s6_10
                        refine lv_tableIn (tgt := 130) (off := 124) hx hb dX4_account_6 (by rw [s6_10]; decide) (by rw [s6_10]; decide) (by rw [s6_10]; decide) (by decide) ?_
                        refine lv_aload_n hx hb dX4_account_130 rfl (lv_at hl 0 rfl) ?_
                        refine ml_get hE hI 23 (by decide) q2008 rfl rfl dX4_account_131 ?_
                        exact ml_iret hE hI hw dX4_account_134
                      · have hw := hw.2 s6_10
                        by_cases s6_11 : x1 = (11 : Int32)
                        · have hw := hw.1 s6_11
                          refine lv_tableIn (tgt := 135) (off := 129) hx hb dX4_account_6 (by rw [s6_11]; decide) (by rw [s6_11]; decide) (by rw [s6_11]; decide) (by decide) ?_
                          refine lv_aload_n hx hb dX4_account_135 rfl (lv_at hl 0 rfl) ?_
                          refine ml_get hE hI 6 (by decide) q1991 rfl rfl dX4_account_136 ?_
                          exact ml_iret hE hI hw dX4_account_139
                        · have hw := hw.2 s6_11
                          have ts6_0 := lv_neT s6_0 (show ((0 : Int32)).toInt = 0 by decide)
                          have ts6_1 := lv_neT s6_1 (show ((1 : Int32)).toInt = 1 by decide)
                          have ts6_2 := lv_neT s6_2 (show ((2 : Int32)).toInt = 2 by decide)
                          have ts6_3 := lv_neT s6_3 (show ((3 : Int32)).toInt = 3 by decide)
                          have ts6_4 := lv_neT s6_4 (show ((4 : Int32)).toInt = 4 by decide)
                          have ts6_5 := lv_neT s6_5 (show ((5 : Int32)).toInt = 5 by decide)
                          have ts6_6 := lv_neT s6_6 (show ((6 : Int32)).toInt = 6 by decide)
                          have ts6_7 := lv_neT s6_7 (show ((7 : Int32)).toInt = 7 by decide)
                          have ts6_8 := lv_neT s6_8 (show ((8 : Int32)).toInt = 8 by decide)
                          have ts6_9 := lv_neT s6_9 (show ((9 : Int32)).toInt = 9 by decide)
                          have ts6_10 := lv_neT s6_10 (show ((10 : Int32)).toInt = 10 by decide)
                          have ts6_11 := lv_neT s6_11 (show ((11 : Int32)).toInt = 11 by decide)
                          refine lv_tableOut (tgt := 140) hx hb dX4_account_6 (by omega) (by decide) ?_
                          refine lv_aload_n hx hb dX4_account_140 rfl (lv_at hl 0 rfl) ?_
                          refine lv_iconst (v := 1) hx hb dX4_account_141 (by decide) ?_
                          refine ml_calli (As := [.int (1 : Int32)]) (rest := []) (cells := 0) (slots := 0) hE hI (fun h hS => snd_X4_fails l G _ h ad (upd F 0 (0 : Int32)) A L (1 : Int32) _ hS hw) (cwV 1 hts (lw_V q2149 q2151 qs43 q108 q2152) rfl rfl rfl (by decide +kernel) ⟨Nat.le_of_ble_eq_true rfl, Nat.le_of_ble_eq_true rfl⟩) rfl hl.1 (Nat.le_of_ble_eq_true rfl) dX4_account_142 ⟨Nat.le_of_ble_eq_true rfl, Nat.le_of_ble_eq_true rfl⟩ (fun r5 F5 A5 L5 H locs hw hI => ?_)
                          exact ml_iret hE hI hw dX4_account_145

/-- MatchmakerRulesModel.meanTrust()D -/
abbrev rm_X4_meanTrust : Room := { frames := 2, cells := 0, slots := 0, locals := 45 }
def wp_X4_meanTrust_L31 (Q : UInt64 → (Nat → Int32) → (Nat → Nat → Int32) → (Nat → UInt32) → Prop) : Nat → (Nat → Int32) → (Nat → Nat → Int32) → (Nat → UInt32) → (UInt64) → (Int32) → Prop
  | 0, _, _, _, _, _ => False
  | n + 1, F, A, L, x1, x3 => (((A 1 1) ≤ x3 → (vf_n64 (FP.ddiv x1 (FP.i2d (A 1 1))) ∧ Q (FP.ddiv x1 (FP.i2d (A 1 1))) F A L)) ∧ (¬ (A 1 1) ≤ x3 → wp_X4_trustIn F A L x3 (fun r1 F1 A1 L1 => (vf_n64 (FP.f2d r1) ∧ (vf_n64 (FP.dadd x1 (FP.f2d r1)) ∧ wp_X4_meanTrust_L31 Q n F1 A1 L1 (FP.dadd x1 (FP.f2d r1)) (x3 + (1 : Int32)))))))
set_option maxHeartbeats 4000000 in
theorem snd_X4_meanTrust_L31 {p : Program} {l : Launch} {e : Env} {s : State} {m : MethodId} {args : Array Value} {below : List Frame} {meth : Method} {c : Code} {G : GG} {h0 : HH} {ad : Nat → Nat} (hE : hv_E p s m args meth c cX4_meanTrust 4 (some FieldType.double) RX4 G h0) (Q : UInt64 → (Nat → Int32) → (Nat → Nat → Int32) → (Nat → UInt32) → Prop) : ∀ (n : Nat) (F : Nat → Int32) (A : Nat → Nat → Int32) (L : Nat → UInt32) (x1 : UInt64) (x3 : Int32), wp_X4_meanTrust_L31 Q n F A L x1 x3 → ∀ (H : Heap) (locs : List Loc) (ls : Array Slot), ml_I G h0 s.heap ad F A L H locs → lv_has ls 4 [(0, .ref (ad 0)), (1, .double x1), (3, .int x3)] → W p l e (headSpec (ws_ yX4_meanTrust cX4_meanTrust 4 (some FieldType.double)) rm_X4_meanTrust).room s m args below meth c H locs 0 0 (MQ below (hv_Qd G h0 s.heap.size (fun r => ml_Q G h0 ad (Q r))) args s 0 0 (hv_A h0 s.heap.size)) (F0 m 31 ls []) := by
  obtain ⟨⟨hx, hb, hml, hown, hts⟩, hr, hlocks, -⟩ := id hE
  intro n
  induction n with
  | zero => intro F A L x1 x3 hw; exact hw.elim
  | succ n ih =>
    intro F A L x1 x3 hw H locs ls hI hl
    unfold wp_X4_meanTrust_L31 at hw
    refine lv_iload_n hx hb dX4_meanTrust_31 rfl (lv_at hl 2 rfl) ?_
    refine lv_aload_n hx hb dX4_meanTrust_32 rfl (lv_at hl 0 rfl) ?_
    refine ml_get hE hI 1 (by decide) q1986 rfl rfl dX4_meanTrust_33 ?_
    refine lv_iconst (v := 1) hx hb dX4_meanTrust_36 (by decide) ?_
    have hin : vp_in (1 : Int32) 13675 := by unfold vp_in; decide +kernel
    refine ml_iald hE hI 1 rfl rfl (show Int32.toNatClampNeg (1 : Int32) = 1 from by decide +kernel) hin dX4_meanTrust_37 ?_
    refine lv_icmp_ge (tgt := 56) hx hb dX4_meanTrust_38 (by decide) (fun c_38 => ?_) (fun c_38 => ?_)
    · have hw := hw.1 c_38
      refine lv_dload_n hx hb dX4_meanTrust_56 rfl (lv_at hl 1 rfl) ?_
      refine lv_aload_n hx hb dX4_meanTrust_57 rfl (lv_at hl 0 rfl) ?_
      refine ml_get hE hI 1 (by decide) q1986 rfl rfl dX4_meanTrust_58 ?_
      refine lv_iconst (v := 1) hx hb dX4_meanTrust_61 (by decide) ?_
      have hin : vp_in (1 : Int32) 13675 := by unfold vp_in; decide +kernel
      refine ml_iald hE hI 1 rfl rfl (show Int32.toNatClampNeg (1 : Int32) = 1 from by decide +kernel) hin dX4_meanTrust_62 ?_
      refine lv_i2d hx hb dX4_meanTrust_63 ?_
      obtain ⟨hne, hw⟩ := hw
      refine lv_ddiv hx hb dX4_meanTrust_64 hne ?_
      exact ml_dret hE hI hw dX4_meanTrust_65
    · have hw := hw.2 c_38
      refine lv_dload_n hx hb dX4_meanTrust_41 rfl (lv_at hl 1 rfl) ?_
      refine lv_aload_n hx hb dX4_meanTrust_42 rfl (lv_at hl 0 rfl) ?_
      refine lv_iload_n hx hb dX4_meanTrust_43 rfl (lv_at hl 2 rfl) ?_
      refine ml_callf (As := [.int x3]) (rest := [.double x1]) (cells := 0) (slots := 0) hE hI (fun h hS => snd_X4_trustIn l G _ h ad F A L x3 _ hS hw) (cwV 1 hts (lw_V q2277 q2279 qs67 q108 q2280) rfl rfl rfl (by decide +kernel) ⟨Nat.le_of_ble_eq_true rfl, Nat.le_of_ble_eq_true rfl⟩) rfl hl.1 (Nat.le_of_ble_eq_true rfl) dX4_meanTrust_44 ⟨Nat.le_of_ble_eq_true rfl, Nat.le_of_ble_eq_true rfl⟩ (fun r1 F1 A1 L1 H locs hw hI => ?_)
      obtain ⟨hne, hw⟩ := hw
      refine lv_f2d hx hb dX4_meanTrust_47 hne ?_
      obtain ⟨hne, hw⟩ := hw
      refine lv_dadd hx hb dX4_meanTrust_48 hne ?_
      refine lv_dstore_n (lv' := [(1, .double (FP.dadd x1 (FP.f2d r1))), (0, .ref (ad 0)), (3, .int x3)]) hx hb dX4_meanTrust_49 rfl hl (by decide) rfl (fun ls hl => ?_)
      refine lv_iinc (v := (x3 + (1 : Int32))) (lv' := [(3, .int (x3 + (1 : Int32))), (1, .double (FP.dadd x1 (FP.f2d r1))), (0, .ref (ad 0))]) hx hb dX4_meanTrust_50 hl (k := 2) rfl rfl (by decide) rfl (fun ls hl => ?_)
      refine lv_goto (tgt := 31) hx hb dX4_meanTrust_53 (by decide) ?_
      exact ih F1 A1 L1 (FP.dadd x1 (FP.f2d r1)) (x3 + (1 : Int32)) hw _ _ _ hI (lv_sub hl [2, 1, 0] rfl)
def wp_X4_meanTrust_L15 (Q : UInt64 → (Nat → Int32) → (Nat → Nat → Int32) → (Nat → UInt32) → Prop) (F : Nat → Int32) (A : Nat → Nat → Int32) (L : Nat → UInt32) (t1 : Int32) : Prop := ((((upd F 0 t1) 0) ≤ 0 → (∃ n31, wp_X4_meanTrust_L31 Q n31 (upd F 0 t1) A L FP.dconst0 (0 : Int32))) ∧ (¬ ((upd F 0 t1) 0) ≤ 0 → Q FP.dconst0 (upd F 0 t1) A L))
set_option maxHeartbeats 4000000 in
theorem snd_X4_meanTrust_L15 {p : Program} {l : Launch} {e : Env} {s : State} {m : MethodId} {args : Array Value} {below : List Frame} {meth : Method} {c : Code} {G : GG} {h0 : HH} {ad : Nat → Nat} (hE : hv_E p s m args meth c cX4_meanTrust 4 (some FieldType.double) RX4 G h0) (Q : UInt64 → (Nat → Int32) → (Nat → Nat → Int32) → (Nat → UInt32) → Prop) : ∀ (F : Nat → Int32) (A : Nat → Nat → Int32) (L : Nat → UInt32) (t1 : Int32), wp_X4_meanTrust_L15 Q F A L t1 → ∀ (H : Heap) (locs : List Loc) (ls : Array Slot), ml_I G h0 s.heap ad F A L H locs → lv_has ls 4 [(0, .ref (ad 0))] → W p l e (headSpec (ws_ yX4_meanTrust cX4_meanTrust 4 (some FieldType.double)) rm_X4_meanTrust).room s m args below meth c H locs 0 0 (MQ below (hv_Qd G h0 s.heap.size (fun r => ml_Q G h0 ad (Q r))) args s 0 0 (hv_A h0 s.heap.size)) (F0 m 15 ls [.int t1, .ref (ad 0)]) := by
  obtain ⟨⟨hx, hb, hml, hown, hts⟩, hr, hlocks, -⟩ := id hE
  intro F A L t1 hw H locs ls hI hl
  unfold wp_X4_meanTrust_L15 at hw
  refine ml_put hE hI 0 (by decide) q1985 rfl rfl (ty := .int) rfl rfl rfl (fun _ => rfl) dX4_meanTrust_15 (fun H locs hI => ?_)
  refine lv_aload_n hx hb dX4_meanTrust_18 rfl (lv_at hl 0 rfl) ?_
  refine ml_get hE hI 0 (by decide) q1985 rfl rfl dX4_meanTrust_19 ?_
  refine lv_if_le (tgt := 27) hx hb dX4_meanTrust_22 (by decide) (fun c_22 => ?_) (fun c_22 => ?_)
  · have hw := hw.1 c_22
    refine lv_dconst0 hx hb dX4_meanTrust_27 ?_
    refine lv_dstore_n (lv' := [(1, .double FP.dconst0), (0, .ref (ad 0))]) hx hb dX4_meanTrust_28 rfl hl (by decide) rfl (fun ls hl => ?_)
    refine lv_iconst (v := 0) hx hb dX4_meanTrust_29 (by decide) ?_
    refine lv_istore_n (lv' := [(3, .int (0 : Int32)), (1, .double FP.dconst0), (0, .ref (ad 0))]) hx hb dX4_meanTrust_30 rfl hl (by decide) rfl (fun ls hl => ?_)
    obtain ⟨n31, hw⟩ := hw
    exact snd_X4_meanTrust_L31 hE Q n31 (upd F 0 t1) A L FP.dconst0 (0 : Int32) hw _ _ _ hI (lv_sub hl [2, 1, 0] rfl)
  · have hw := hw.2 c_22
    refine lv_dconst0 hx hb dX4_meanTrust_25 ?_
    exact ml_dret hE hI hw dX4_meanTrust_26
def wp_X4_meanTrust (F : Nat → Int32) (A : Nat → Nat → Int32) (L : Nat → UInt32) (Q : UInt64 → (Nat → Int32) → (Nat → Nat → Int32) → (Nat → UInt32) → Prop) : Prop := ((¬ (A 1 1) = 0 → wp_X4_meanTrust_L15 Q F A L (0 : Int32)) ∧ ((A 1 1) = 0 → wp_X4_meanTrust_L15 Q F A L (1 : Int32)))
set_option maxHeartbeats 4000000 in
theorem snd_X4_meanTrust (l : Launch) (G : GG) (sz : Nat) (h : HH) (ad : Nat → Nat) (F : Nat → Int32) (A : Nat → Nat → Int32) (L : Nat → UInt32) (Q : UInt64 → (Nat → Int32) → (Nat → Nat → Int32) → (Nat → UInt32) → Prop) (hS : ml_S G h ad F A L) (hw : wp_X4_meanTrust F A L Q) : Met l yX4_meanTrust (ws_ yX4_meanTrust cX4_meanTrust 4 (some FieldType.double)) rm_X4_meanTrust (hv_Pc G h sz [.ref (ad 0)]) (hv_Qd G h sz (fun r => ml_Q G h ad (Q r))) 0 0 (hv_A h sz) := by
  refine Met.ofW (cc := cX4_meanTrust) (maxL := 4) (ret := (some FieldType.double)) (by decide) rfl ?_
  intro p e s m args below meth c s₁ B hml hv
  obtain ⟨rfl, rfl, hE, hI⟩ := hv_open B hml hv
  have hE : hv_E p s m ([.ref (ad 0)] : List Value).toArray meth c cX4_meanTrust 4 (some FieldType.double) RX4 G h := hE
  have hI := ml_I.start hI hS
  obtain ⟨⟨hx, hb, hml, hown, hts⟩, hr, hlocks, -⟩ := id hE
  have hl := lv_entry ([.ref (ad 0)] : List Value) (n := 4) (Nat.le_of_ble_eq_true rfl)
  rw [lg_entry_eq]
  generalize (lg_sl ([.ref (ad 0)] : List Value) ++ List.replicate (4 - (lg_sl ([.ref (ad 0)] : List Value)).length) Slot.unset).toArray = ls at hl ⊢
  have hl : lv_has ls 4 [(0, .ref (ad 0))] := hl
  unfold wp_X4_meanTrust at hw
  refine lv_aload_n hx hb dX4_meanTrust_0 rfl (lv_at hl 0 rfl) ?_
  refine lv_aload_n hx hb dX4_meanTrust_1 rfl (lv_at hl 0 rfl) ?_
  refine ml_get hE hI 1 (by decide) q1986 rfl rfl dX4_meanTrust_2 ?_
  refine lv_iconst (v := 1) hx hb dX4_meanTrust_5 (by decide) ?_
  have hin : vp_in (1 : Int32) 13675 := by unfold vp_in; decide +kernel
  refine ml_iald hE hI 1 rfl rfl (show Int32.toNatClampNeg (1 : Int32) = 1 from by decide +kernel) hin dX4_meanTrust_6 ?_
  refine lv_if_ne (tgt := 14) hx hb dX4_meanTrust_7 (by decide) (fun c_7 => ?_) (fun c_7 => ?_)
  · have hw := hw.1 c_7
    refine lv_iconst (v := 0) hx hb dX4_meanTrust_14 (by decide) ?_
    exact snd_X4_meanTrust_L15 hE Q F A L (0 : Int32) hw _ _ _ hI (lv_sub hl [0] rfl)
  · have hw := hw.2 c_7
    refine lv_iconst (v := 1) hx hb dX4_meanTrust_10 (by decide) ?_
    refine lv_goto (tgt := 15) hx hb dX4_meanTrust_11 (by decide) ?_
    exact snd_X4_meanTrust_L15 hE Q F A L (1 : Int32) hw _ _ _ hI (lv_sub hl [0] rfl)

/-- MatchmakerRulesModel.store(IZ)I -/
abbrev rm_X4_store : Room := { frames := 2, cells := 0, slots := 0, locals := 45 }
def wp_X4_store_L49 (Q : Int32 → (Nat → Int32) → (Nat → Nat → Int32) → (Nat → UInt32) → Prop) : Nat → (Nat → Int32) → (Nat → Nat → Int32) → (Nat → UInt32) → (Int32) → (Int32) → Prop
  | 0, _, _, _, _, _ => False
  | n + 1, F, A, L, x1, x3 => (((A 1 1) ≤ x3 → Q (A 1 1) F A L) ∧ (¬ (A 1 1) ≤ x3 → (vp_in ((95 : Int32) + x3) 13675 ∧ (vp_in (((20 : Int32) * x1) + x3) 40 ∧ wp_X4_trustIn F (ml_up A 19 (Int32.toNatClampNeg (((20 : Int32) * x1) + x3)) (A 1 (Int32.toNatClampNeg ((95 : Int32) + x3)))) L x3 (fun r2 F2 A2 L2 => (vp_in (((20 : Int32) * x1) + x3) 40 ∧ wp_X4_store_L49 Q n F2 A2 (vf_upd L2 (Int32.toNatClampNeg (((20 : Int32) * x1) + x3)) r2) x1 (x3 + (1 : Int32))))))))
set_option maxHeartbeats 4000000 in
theorem snd_X4_store_L49 {p : Program} {l : Launch} {e : Env} {s : State} {m : MethodId} {args : Array Value} {below : List Frame} {meth : Method} {c : Code} {G : GG} {h0 : HH} {ad : Nat → Nat} (hE : hv_E p s m args meth c cX4_store 4 (some FieldType.int) RX4 G h0) (Q : Int32 → (Nat → Int32) → (Nat → Nat → Int32) → (Nat → UInt32) → Prop) : ∀ (n : Nat) (F : Nat → Int32) (A : Nat → Nat → Int32) (L : Nat → UInt32) (x1 : Int32) (x3 : Int32), wp_X4_store_L49 Q n F A L x1 x3 → ∀ (H : Heap) (locs : List Loc) (ls : Array Slot), ml_I G h0 s.heap ad F A L H locs → lv_has ls 4 [(0, .ref (ad 0)), (1, .int x1), (3, .int x3)] → W p l e (headSpec (ws_ yX4_store cX4_store 4 (some FieldType.int)) rm_X4_store).room s m args below meth c H locs 0 0 (MQ below (hv_Qi G h0 s.heap.size (fun r => ml_Q G h0 ad (Q r))) args s 0 0 (hv_A h0 s.heap.size)) (F0 m 49 ls []) := by
  obtain ⟨⟨hx, hb, hml, hown, hts⟩, hr, hlocks, -⟩ := id hE
  intro n
  induction n with
  | zero => intro F A L x1 x3 hw; exact hw.elim
  | succ n ih =>
    intro F A L x1 x3 hw H locs ls hI hl
    unfold wp_X4_store_L49 at hw
    refine lv_iload_n hx hb dX4_store_49 rfl (lv_at hl 2 rfl) ?_
    refine lv_aload_n hx hb dX4_store_50 rfl (lv_at hl 0 rfl) ?_
    refine ml_get hE hI 1 (by decide) q1986 rfl rfl dX4_store_51 ?_
    refine lv_iconst (v := 1) hx hb dX4_store_54 (by decide) ?_
    have hin : vp_in (1 : Int32) 13675 := by unfold vp_in; decide +kernel
    refine ml_iald hE hI 1 rfl rfl (show Int32.toNatClampNeg (1 : Int32) = 1 from by decide +kernel) hin dX4_store_55 ?_
    refine lv_icmp_ge (tgt := 101) hx hb dX4_store_56 (by decide) (fun c_56 => ?_) (fun c_56 => ?_)
    · have hw := hw.1 c_56
      refine lv_aload_n hx hb dX4_store_101 rfl (lv_at hl 0 rfl) ?_
      refine ml_get hE hI 1 (by decide) q1986 rfl rfl dX4_store_102 ?_
      refine lv_iconst (v := 1) hx hb dX4_store_105 (by decide) ?_
      have hin : vp_in (1 : Int32) 13675 := by unfold vp_in; decide +kernel
      refine ml_iald hE hI 1 rfl rfl (show Int32.toNatClampNeg (1 : Int32) = 1 from by decide +kernel) hin dX4_store_106 ?_
      exact ml_iret hE hI hw dX4_store_107
    · have hw := hw.2 c_56
      refine lv_aload_n hx hb dX4_store_59 rfl (lv_at hl 0 rfl) ?_
      refine ml_get hE hI 19 (by decide) q2004 rfl rfl dX4_store_60 ?_
      refine lv_bipush (v := 20) hx hb dX4_store_63 (by decide) ?_
      refine lv_iload_n hx hb dX4_store_65 rfl (lv_at hl 1 rfl) ?_
      refine lv_imul hx hb dX4_store_66 ?_
      refine lv_iload_n hx hb dX4_store_67 rfl (lv_at hl 2 rfl) ?_
      refine lv_iadd hx hb dX4_store_68 ?_
      refine lv_aload_n hx hb dX4_store_69 rfl (lv_at hl 0 rfl) ?_
      refine ml_get hE hI 1 (by decide) q1986 rfl rfl dX4_store_70 ?_
      refine lv_bipush (v := 95) hx hb dX4_store_73 (by decide) ?_
      refine lv_iload_n hx hb dX4_store_75 rfl (lv_at hl 2 rfl) ?_
      refine lv_iadd hx hb dX4_store_76 ?_
      obtain ⟨hin, hw⟩ := hw
      refine ml_iald hE hI 1 rfl rfl rfl hin dX4_store_77 ?_
      obtain ⟨hin, hw⟩ := hw
      refine ml_iast hE hI 19 rfl rfl rfl hin dX4_store_78 (fun H locs hI => ?_)
      refine lv_aload_n hx hb dX4_store_79 rfl (lv_at hl 0 rfl) ?_
      refine ml_get hE hI 22 (by decide) q2007 rfl rfl dX4_store_80 ?_
      refine lv_bipush (v := 20) hx hb dX4_store_83 (by decide) ?_
      refine lv_iload_n hx hb dX4_store_85 rfl (lv_at hl 1 rfl) ?_
      refine lv_imul hx hb dX4_store_86 ?_
      refine lv_iload_n hx hb dX4_store_87 rfl (lv_at hl 2 rfl) ?_
      refine lv_iadd hx hb dX4_store_88 ?_
      refine lv_aload_n hx hb dX4_store_89 rfl (lv_at hl 0 rfl) ?_
      refine lv_iload_n hx hb dX4_store_90 rfl (lv_at hl 2 rfl) ?_
      refine ml_callf (As := [.int x3]) (rest := [.int (((20 : Int32) * x1) + x3), .ref (ad 22)]) (cells := 0) (slots := 0) hE hI (fun h hS => snd_X4_trustIn l G _ h ad F (ml_up A 19 (Int32.toNatClampNeg (((20 : Int32) * x1) + x3)) (A 1 (Int32.toNatClampNeg ((95 : Int32) + x3)))) L x3 _ hS hw) (cwV 1 hts (lw_V q2277 q2279 qs67 q108 q2280) rfl rfl rfl (by decide +kernel) ⟨Nat.le_of_ble_eq_true rfl, Nat.le_of_ble_eq_true rfl⟩) rfl hl.1 (Nat.le_of_ble_eq_true rfl) dX4_store_91 ⟨Nat.le_of_ble_eq_true rfl, Nat.le_of_ble_eq_true rfl⟩ (fun r2 F2 A2 L2 H locs hw hI => ?_)
      obtain ⟨hin, hw⟩ := hw
      refine ml_fast hE hI hin dX4_store_94 (fun H locs hI => ?_)
      refine lv_iinc (v := (x3 + (1 : Int32))) (lv' := [(3, .int (x3 + (1 : Int32))), (0, .ref (ad 0)), (1, .int x1)]) hx hb dX4_store_95 hl (k := 2) rfl rfl (by decide) rfl (fun ls hl => ?_)
      refine lv_goto (tgt := 49) hx hb dX4_store_98 (by decide) ?_
      exact ih F2 A2 (vf_upd L2 (Int32.toNatClampNeg (((20 : Int32) * x1) + x3)) r2) x1 (x3 + (1 : Int32)) hw _ _ _ hI (lv_sub hl [1, 2, 0] rfl)
def wp_X4_store_L34 (Q : Int32 → (Nat → Int32) → (Nat → Nat → Int32) → (Nat → UInt32) → Prop) (F : Nat → Int32) (A : Nat → Nat → Int32) (L : Nat → UInt32) (x1 : Int32) (t1 : Int32) (t2 : Int32) : Prop := (vp_in t1 2 ∧ (vp_in x1 2 ∧ (∃ n49, wp_X4_store_L49 Q n49 F (ml_up (ml_up A 21 (Int32.toNatClampNeg t1) t2) 20 (Int32.toNatClampNeg x1) ((ml_up A 21 (Int32.toNatClampNeg t1) t2) 1 1)) L x1 (0 : Int32))))
set_option maxHeartbeats 4000000 in
theorem snd_X4_store_L34 {p : Program} {l : Launch} {e : Env} {s : State} {m : MethodId} {args : Array Value} {below : List Frame} {meth : Method} {c : Code} {G : GG} {h0 : HH} {ad : Nat → Nat} (hE : hv_E p s m args meth c cX4_store 4 (some FieldType.int) RX4 G h0) (Q : Int32 → (Nat → Int32) → (Nat → Nat → Int32) → (Nat → UInt32) → Prop) : ∀ (F : Nat → Int32) (A : Nat → Nat → Int32) (L : Nat → UInt32) (x1 : Int32) (t1 : Int32) (t2 : Int32), wp_X4_store_L34 Q F A L x1 t1 t2 → ∀ (H : Heap) (locs : List Loc) (ls : Array Slot), ml_I G h0 s.heap ad F A L H locs → lv_has ls 4 [(0, .ref (ad 0)), (1, .int x1)] → W p l e (headSpec (ws_ yX4_store cX4_store 4 (some FieldType.int)) rm_X4_store).room s m args below meth c H locs 0 0 (MQ below (hv_Qi G h0 s.heap.size (fun r => ml_Q G h0 ad (Q r))) args s 0 0 (hv_A h0 s.heap.size)) (F0 m 34 ls [.int t2, .int t1, .ref (ad 21)]) := by
  obtain ⟨⟨hx, hb, hml, hown, hts⟩, hr, hlocks, -⟩ := id hE
  intro F A L x1 t1 t2 hw H locs ls hI hl
  unfold wp_X4_store_L34 at hw
  obtain ⟨hin, hw⟩ := hw
  refine ml_iast hE hI 21 rfl rfl rfl hin dX4_store_34 (fun H locs hI => ?_)
  refine lv_aload_n hx hb dX4_store_35 rfl (lv_at hl 0 rfl) ?_
  refine ml_get hE hI 20 (by decide) q2005 rfl rfl dX4_store_36 ?_
  refine lv_iload_n hx hb dX4_store_39 rfl (lv_at hl 1 rfl) ?_
  refine lv_aload_n hx hb dX4_store_40 rfl (lv_at hl 0 rfl) ?_
  refine ml_get hE hI 1 (by decide) q1986 rfl rfl dX4_store_41 ?_
  refine lv_iconst (v := 1) hx hb dX4_store_44 (by decide) ?_
  have hin : vp_in (1 : Int32) 13675 := by unfold vp_in; decide +kernel
  refine ml_iald hE hI 1 rfl rfl (show Int32.toNatClampNeg (1 : Int32) = 1 from by decide +kernel) hin dX4_store_45 ?_
  obtain ⟨hin, hw⟩ := hw
  refine ml_iast hE hI 20 rfl rfl rfl hin dX4_store_46 (fun H locs hI => ?_)
  refine lv_iconst (v := 0) hx hb dX4_store_47 (by decide) ?_
  refine lv_istore_n (lv' := [(3, .int (0 : Int32)), (0, .ref (ad 0)), (1, .int x1)]) hx hb dX4_store_48 rfl hl (by decide) rfl (fun ls hl => ?_)
  obtain ⟨n49, hw⟩ := hw
  exact snd_X4_store_L49 hE Q n49 F (ml_up (ml_up A 21 (Int32.toNatClampNeg t1) t2) 20 (Int32.toNatClampNeg x1) ((ml_up A 21 (Int32.toNatClampNeg t1) t2) 1 1)) L x1 (0 : Int32) hw _ _ _ hI (lv_sub hl [1, 2, 0] rfl)
def wp_X4_store (F : Nat → Int32) (A : Nat → Nat → Int32) (L : Nat → UInt32) (x1 : Int32) (x2 : Int32) (Q : Int32 → (Nat → Int32) → (Nat → Nat → Int32) → (Nat → UInt32) → Prop) : Prop := wp_X4_in x1 (0 : Int32) (1 : Int32) (fun r1 => ((¬ r1 = 0 → ((x2 = 0 → wp_X4_store_L34 Q (upd F 0 (0 : Int32)) A L x1 x1 (1 : Int32)) ∧ (¬ x2 = 0 → wp_X4_store_L34 Q (upd F 0 (0 : Int32)) A L x1 x1 (2 : Int32)))) ∧ (r1 = 0 → wp_X4_fails (upd F 0 (0 : Int32)) A L (1 : Int32) (fun r3 F3 A3 L3 => Q r3 F3 A3 L3))))
set_option maxHeartbeats 4000000 in
theorem snd_X4_store (l : Launch) (G : GG) (sz : Nat) (h : HH) (ad : Nat → Nat) (F : Nat → Int32) (A : Nat → Nat → Int32) (L : Nat → UInt32) (x1 : Int32) (x2 : Int32) (Q : Int32 → (Nat → Int32) → (Nat → Nat → Int32) → (Nat → UInt32) → Prop) (hS : ml_S G h ad F A L) (hw : wp_X4_store F A L x1 x2 Q) : Met l yX4_store (ws_ yX4_store cX4_store 4 (some FieldType.int)) rm_X4_store (hv_Pc G h sz [.ref (ad 0), .int x1, .int x2]) (hv_Qi G h sz (fun r => ml_Q G h ad (Q r))) 0 0 (hv_A h sz) := by
  refine Met.ofW (cc := cX4_store) (maxL := 4) (ret := (some FieldType.int)) (by decide) rfl ?_
  intro p e s m args below meth c s₁ B hml hv
  obtain ⟨rfl, rfl, hE, hI⟩ := hv_open B hml hv
  have hE : hv_E p s m ([.ref (ad 0), .int x1, .int x2] : List Value).toArray meth c cX4_store 4 (some FieldType.int) RX4 G h := hE
  have hI := ml_I.start hI hS
  obtain ⟨⟨hx, hb, hml, hown, hts⟩, hr, hlocks, -⟩ := id hE
  have hl := lv_entry ([.ref (ad 0), .int x1, .int x2] : List Value) (n := 4) (Nat.le_of_ble_eq_true rfl)
  rw [lg_entry_eq]
  generalize (lg_sl ([.ref (ad 0), .int x1, .int x2] : List Value) ++ List.replicate (4 - (lg_sl ([.ref (ad 0), .int x1, .int x2] : List Value)).length) Slot.unset).toArray = ls at hl ⊢
  have hl : lv_has ls 4 [(0, .ref (ad 0)), (1, .int x1), (2, .int x2)] := hl
  unfold wp_X4_store at hw
  refine lv_aload_n hx hb dX4_store_0 rfl (lv_at hl 0 rfl) ?_
  refine lv_iconst (v := 0) hx hb dX4_store_1 (by decide) ?_
  refine ml_put hE hI 0 (by decide) q1985 rfl rfl (ty := .int) rfl rfl rfl (fun _ => rfl) dX4_store_2 (fun H locs hI => ?_)
  refine lv_iload_n hx hb dX4_store_5 rfl (lv_at hl 1 rfl) ?_
  refine lv_iconst (v := 0) hx hb dX4_store_6 (by decide) ?_
  refine lv_iconst (v := 1) hx hb dX4_store_7 (by decide) ?_
  refine ml_calls (As := [.int x1, .int (0 : Int32), .int (1 : Int32)]) (rest := []) (cells := 0) (slots := 0) hE hI (fun h => snd_X4_in l G _ h x1 (0 : Int32) (1 : Int32) _ hw) (va_cwS 3 hts (lw_S q2130 q2131 q108 q2132) rfl rfl rfl (by decide +kernel) ⟨Nat.le_of_ble_eq_true rfl, Nat.le_of_ble_eq_true rfl⟩) rfl hl.1 (Nat.le_of_ble_eq_true rfl) dX4_store_8 ⟨Nat.le_of_ble_eq_true rfl, Nat.le_of_ble_eq_true rfl⟩ (fun r1 H locs hw hI => ?_)
  refine lv_if_ne (tgt := 20) hx hb dX4_store_11 (by decide) (fun c_11 => ?_) (fun c_11 => ?_)
  · have hw := hw.1 c_11
    refine lv_aload_n hx hb dX4_store_20 rfl (lv_at hl 0 rfl) ?_
    refine ml_get hE hI 21 (by decide) q2006 rfl rfl dX4_store_21 ?_
    refine lv_iload_n hx hb dX4_store_24 rfl (lv_at hl 1 rfl) ?_
    refine lv_iload_n hx hb dX4_store_25 rfl (lv_at hl 2 rfl) ?_
    refine lv_if_eq (tgt := 33) hx hb dX4_store_26 (by decide) (fun c_26 => ?_) (fun c_26 => ?_)
    · have hw := hw.1 c_26
      refine lv_iconst (v := 1) hx hb dX4_store_33 (by decide) ?_
      exact snd_X4_store_L34 hE Q (upd F 0 (0 : Int32)) A L x1 x1 (1 : Int32) hw _ _ _ hI (lv_sub hl [0, 1] rfl)
    · have hw := hw.2 c_26
      refine lv_iconst (v := 2) hx hb dX4_store_29 (by decide) ?_
      refine lv_goto (tgt := 34) hx hb dX4_store_30 (by decide) ?_
      exact snd_X4_store_L34 hE Q (upd F 0 (0 : Int32)) A L x1 x1 (2 : Int32) hw _ _ _ hI (lv_sub hl [0, 1] rfl)
  · have hw := hw.2 c_11
    refine lv_aload_n hx hb dX4_store_14 rfl (lv_at hl 0 rfl) ?_
    refine lv_iconst (v := 1) hx hb dX4_store_15 (by decide) ?_
    refine ml_calli (As := [.int (1 : Int32)]) (rest := []) (cells := 0) (slots := 0) hE hI (fun h hS => snd_X4_fails l G _ h ad (upd F 0 (0 : Int32)) A L (1 : Int32) _ hS hw) (cwV 1 hts (lw_V q2149 q2151 qs43 q108 q2152) rfl rfl rfl (by decide +kernel) ⟨Nat.le_of_ble_eq_true rfl, Nat.le_of_ble_eq_true rfl⟩) rfl hl.1 (Nat.le_of_ble_eq_true rfl) dX4_store_16 ⟨Nat.le_of_ble_eq_true rfl, Nat.le_of_ble_eq_true rfl⟩ (fun r3 F3 A3 L3 H locs hw hI => ?_)
    exact ml_iret hE hI hw dX4_store_19
