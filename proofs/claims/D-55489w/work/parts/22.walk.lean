/-! the reference's methods, walked (by gen/model.py) -/
set_option maxRecDepth 100000
/-- MatchmakerRulesModel.slotOf(I)I -/
abbrev rm_X4_slotOf : Room := { frames := 1, cells := 0, slots := 0, locals := 12 }
def wp_X4_slotOf_L2 (Q : Int32 → (Nat → Int32) → (Nat → Nat → Int32) → (Nat → UInt32) → Prop) : Nat → (Nat → Int32) → (Nat → Nat → Int32) → (Nat → UInt32) → (Int32) → (Int32) → Prop
  | 0, _, _, _, _, _ => False
  | n + 1, F, A, L, x1, x2 => (((A 1 1) ≤ x2 → Q (-1 : Int32) F A L) ∧ (¬ (A 1 1) ≤ x2 → (vp_in ((95 : Int32) + x2) 13675 ∧ ((¬ (A 1 (Int32.toNatClampNeg ((95 : Int32) + x2))) = x1 → wp_X4_slotOf_L2 Q n F A L x1 (x2 + (1 : Int32))) ∧ ((A 1 (Int32.toNatClampNeg ((95 : Int32) + x2))) = x1 → Q x2 F A L)))))
set_option maxHeartbeats 4000000 in
theorem snd_X4_slotOf_L2 {p : Program} {l : Launch} {e : Env} {s : State} {m : MethodId} {args : Array Value} {below : List Frame} {meth : Method} {c : Code} {G : GG} {h0 : HH} {ad : Nat → Nat} (hE : hv_E p s m args meth c cX4_slotOf 3 (some FieldType.int) RX4 G h0) (Q : Int32 → (Nat → Int32) → (Nat → Nat → Int32) → (Nat → UInt32) → Prop) : ∀ (n : Nat) (F : Nat → Int32) (A : Nat → Nat → Int32) (L : Nat → UInt32) (x1 : Int32) (x2 : Int32), wp_X4_slotOf_L2 Q n F A L x1 x2 → ∀ (H : Heap) (locs : List Loc) (ls : Array Slot), ml_I G h0 s.heap ad F A L H locs → lv_has ls 3 [(0, .ref (ad 0)), (1, .int x1), (2, .int x2)] → W p l e (headSpec (ws_ yX4_slotOf cX4_slotOf 3 (some FieldType.int)) rm_X4_slotOf).room s m args below meth c H locs 0 0 (MQ below (hv_Qi G h0 s.heap.size (fun r => ml_Q G h0 ad (Q r))) args s 0 0 (hv_A h0 s.heap.size)) (F0 m 2 ls []) := by
  obtain ⟨⟨hx, hb, hml, hown, hts⟩, hr, hlocks, -⟩ := id hE
  intro n
  induction n with
  | zero => intro F A L x1 x2 hw; exact hw.elim
  | succ n ih =>
    intro F A L x1 x2 hw H locs ls hI hl
    unfold wp_X4_slotOf_L2 at hw
    refine lv_iload_n hx hb dX4_slotOf_2 rfl (lv_at hl 2 rfl) ?_
    refine lv_aload_n hx hb dX4_slotOf_3 rfl (lv_at hl 0 rfl) ?_
    refine ml_get hE hI 1 (by decide) q1986 rfl rfl dX4_slotOf_4 ?_
    refine lv_iconst (v := 1) hx hb dX4_slotOf_7 (by decide) ?_
    have hin : vp_in (1 : Int32) 13675 := by unfold vp_in; decide +kernel
    refine ml_iald hE hI 1 rfl rfl (show Int32.toNatClampNeg (1 : Int32) = 1 from by decide +kernel) hin dX4_slotOf_8 ?_
    refine lv_icmp_ge (tgt := 33) hx hb dX4_slotOf_9 (by decide) (fun c_9 => ?_) (fun c_9 => ?_)
    · have hw := hw.1 c_9
      refine lv_iconst (v := -1) hx hb dX4_slotOf_33 (by decide) ?_
      exact ml_iret hE hI hw dX4_slotOf_34
    · have hw := hw.2 c_9
      refine lv_aload_n hx hb dX4_slotOf_12 rfl (lv_at hl 0 rfl) ?_
      refine ml_get hE hI 1 (by decide) q1986 rfl rfl dX4_slotOf_13 ?_
      refine lv_bipush (v := 95) hx hb dX4_slotOf_16 (by decide) ?_
      refine lv_iload_n hx hb dX4_slotOf_18 rfl (lv_at hl 2 rfl) ?_
      refine lv_iadd hx hb dX4_slotOf_19 ?_
      obtain ⟨hin, hw⟩ := hw
      refine ml_iald hE hI 1 rfl rfl rfl hin dX4_slotOf_20 ?_
      refine lv_iload_n hx hb dX4_slotOf_21 rfl (lv_at hl 1 rfl) ?_
      refine lv_icmp_ne (tgt := 27) hx hb dX4_slotOf_22 (by decide) (fun c_22 => ?_) (fun c_22 => ?_)
      · have hw := hw.1 c_22
        refine lv_iinc (v := (x2 + (1 : Int32))) (lv' := [(2, .int (x2 + (1 : Int32))), (0, .ref (ad 0)), (1, .int x1)]) hx hb dX4_slotOf_27 hl (k := 2) rfl rfl (by decide) rfl (fun ls hl => ?_)
        refine lv_goto (tgt := 2) hx hb dX4_slotOf_30 (by decide) ?_
        exact ih F A L x1 (x2 + (1 : Int32)) hw _ _ _ hI (lv_sub hl [1, 2, 0] rfl)
      · have hw := hw.2 c_22
        refine lv_iload_n hx hb dX4_slotOf_25 rfl (lv_at hl 2 rfl) ?_
        exact ml_iret hE hI hw dX4_slotOf_26
def wp_X4_slotOf (F : Nat → Int32) (A : Nat → Nat → Int32) (L : Nat → UInt32) (x1 : Int32) (Q : Int32 → (Nat → Int32) → (Nat → Nat → Int32) → (Nat → UInt32) → Prop) : Prop := (∃ n2, wp_X4_slotOf_L2 Q n2 F A L x1 (0 : Int32))
set_option maxHeartbeats 4000000 in
theorem snd_X4_slotOf (l : Launch) (G : GG) (sz : Nat) (h : HH) (ad : Nat → Nat) (F : Nat → Int32) (A : Nat → Nat → Int32) (L : Nat → UInt32) (x1 : Int32) (Q : Int32 → (Nat → Int32) → (Nat → Nat → Int32) → (Nat → UInt32) → Prop) (hS : ml_S G h ad F A L) (hw : wp_X4_slotOf F A L x1 Q) : Met l yX4_slotOf (ws_ yX4_slotOf cX4_slotOf 3 (some FieldType.int)) rm_X4_slotOf (hv_Pc G h sz [.ref (ad 0), .int x1]) (hv_Qi G h sz (fun r => ml_Q G h ad (Q r))) 0 0 (hv_A h sz) := by
  refine Met.ofW (cc := cX4_slotOf) (maxL := 3) (ret := (some FieldType.int)) (by decide) rfl ?_
  intro p e s m args below meth c s₁ B hml hv
  obtain ⟨rfl, rfl, hE, hI⟩ := hv_open B hml hv
  have hE : hv_E p s m ([.ref (ad 0), .int x1] : List Value).toArray meth c cX4_slotOf 3 (some FieldType.int) RX4 G h := hE
  have hI := ml_I.start hI hS
  obtain ⟨⟨hx, hb, hml, hown, hts⟩, hr, hlocks, -⟩ := id hE
  have hl := lv_entry ([.ref (ad 0), .int x1] : List Value) (n := 3) (Nat.le_of_ble_eq_true rfl)
  rw [lg_entry_eq]
  generalize (lg_sl ([.ref (ad 0), .int x1] : List Value) ++ List.replicate (3 - (lg_sl ([.ref (ad 0), .int x1] : List Value)).length) Slot.unset).toArray = ls at hl ⊢
  have hl : lv_has ls 3 [(0, .ref (ad 0)), (1, .int x1)] := hl
  unfold wp_X4_slotOf at hw
  refine lv_iconst (v := 0) hx hb dX4_slotOf_0 (by decide) ?_
  refine lv_istore_n (lv' := [(2, .int (0 : Int32)), (0, .ref (ad 0)), (1, .int x1)]) hx hb dX4_slotOf_1 rfl hl (by decide) rfl (fun ls hl => ?_)
  obtain ⟨n2, hw⟩ := hw
  exact snd_X4_slotOf_L2 hE Q n2 F A L x1 (0 : Int32) hw _ _ _ hI (lv_sub hl [1, 2, 0] rfl)

/-- MatchmakerRulesModel.isGrounded(I)Z -/
abbrev rm_X4_isGrounded : Room := { frames := 2, cells := 0, slots := 0, locals := 34 }
def wp_X4_isGrounded (F : Nat → Int32) (A : Nat → Nat → Int32) (L : Nat → UInt32) (x1 : Int32) (Q : Int32 → (Nat → Int32) → (Nat → Nat → Int32) → (Nat → UInt32) → Prop) : Prop := ((x1 = (-1 : Int32) → Q (1 : Int32) F A L) ∧ (¬ x1 = (-1 : Int32) → wp_X4_slotOf F A L x1 (fun r1 F1 A1 L1 => (vp_in r1 20 ∧ (((A1 14 (Int32.toNatClampNeg r1)) = 0 → Q (0 : Int32) F1 A1 L1) ∧ (¬ (A1 14 (Int32.toNatClampNeg r1)) = 0 → Q (1 : Int32) F1 A1 L1))))))
set_option maxHeartbeats 4000000 in
theorem snd_X4_isGrounded (l : Launch) (G : GG) (sz : Nat) (h : HH) (ad : Nat → Nat) (F : Nat → Int32) (A : Nat → Nat → Int32) (L : Nat → UInt32) (x1 : Int32) (Q : Int32 → (Nat → Int32) → (Nat → Nat → Int32) → (Nat → UInt32) → Prop) (hS : ml_S G h ad F A L) (hw : wp_X4_isGrounded F A L x1 Q) : Met l yX4_isGrounded (ws_ yX4_isGrounded cX4_isGrounded 2 (some FieldType.boolean)) rm_X4_isGrounded (hv_Pc G h sz [.ref (ad 0), .int x1]) (hv_Qi G h sz (fun r => ml_Q G h ad (Q r))) 0 0 (hv_A h sz) := by
  refine Met.ofW (cc := cX4_isGrounded) (maxL := 2) (ret := (some FieldType.boolean)) (by decide) rfl ?_
  intro p e s m args below meth c s₁ B hml hv
  obtain ⟨rfl, rfl, hE, hI⟩ := hv_open B hml hv
  have hE : hv_E p s m ([.ref (ad 0), .int x1] : List Value).toArray meth c cX4_isGrounded 2 (some FieldType.boolean) RX4 G h := hE
  have hI := ml_I.start hI hS
  obtain ⟨⟨hx, hb, hml, hown, hts⟩, hr, hlocks, -⟩ := id hE
  have hl := lv_entry ([.ref (ad 0), .int x1] : List Value) (n := 2) (Nat.le_of_ble_eq_true rfl)
  rw [lg_entry_eq]
  generalize (lg_sl ([.ref (ad 0), .int x1] : List Value) ++ List.replicate (2 - (lg_sl ([.ref (ad 0), .int x1] : List Value)).length) Slot.unset).toArray = ls at hl ⊢
  have hl : lv_has ls 2 [(0, .ref (ad 0)), (1, .int x1)] := hl
  unfold wp_X4_isGrounded at hw
  refine lv_iload_n hx hb dX4_isGrounded_0 rfl (lv_at hl 1 rfl) ?_
  refine lv_iconst (v := -1) hx hb dX4_isGrounded_1 (by decide) ?_
  refine lv_icmp_eq (tgt := 18) hx hb dX4_isGrounded_2 (by decide) (fun c_2 => ?_) (fun c_2 => ?_)
  · have hw := hw.1 c_2
    refine lv_iconst (v := 1) hx hb dX4_isGrounded_18 (by decide) ?_
    refine lv_goto (tgt := 23) hx hb dX4_isGrounded_19 (by decide) ?_
    exact ml_zret hE hI rfl hw dX4_isGrounded_23
  · have hw := hw.2 c_2
    refine lv_aload_n hx hb dX4_isGrounded_5 rfl (lv_at hl 0 rfl) ?_
    refine ml_get hE hI 14 (by decide) q1999 rfl rfl dX4_isGrounded_6 ?_
    refine lv_aload_n hx hb dX4_isGrounded_9 rfl (lv_at hl 0 rfl) ?_
    refine lv_iload_n hx hb dX4_isGrounded_10 rfl (lv_at hl 1 rfl) ?_
    refine ml_calli (As := [.int x1]) (rest := [.ref (ad 14)]) (cells := 0) (slots := 0) hE hI (fun h hS => snd_X4_slotOf l G _ h ad F A L x1 _ hS hw) (cwV 1 hts (lw_V q2198 q2200 qs54 q108 q2201) rfl rfl rfl (by decide +kernel) ⟨Nat.le_of_ble_eq_true rfl, Nat.le_of_ble_eq_true rfl⟩) rfl hl.1 (Nat.le_of_ble_eq_true rfl) dX4_isGrounded_11 ⟨Nat.le_of_ble_eq_true rfl, Nat.le_of_ble_eq_true rfl⟩ (fun r1 F1 A1 L1 H locs hw hI => ?_)
    obtain ⟨hin, hw⟩ := hw
    refine ml_zald hE hI 14 rfl rfl rfl hin dX4_isGrounded_14 ?_
    refine lv_if_eq (tgt := 22) hx hb dX4_isGrounded_15 (by decide) (fun c_15 => ?_) (fun c_15 => ?_)
    · have hw := hw.1 c_15
      refine lv_iconst (v := 0) hx hb dX4_isGrounded_22 (by decide) ?_
      exact ml_zret hE hI rfl hw dX4_isGrounded_23
    · have hw := hw.2 c_15
      refine lv_iconst (v := 1) hx hb dX4_isGrounded_18 (by decide) ?_
      refine lv_goto (tgt := 23) hx hb dX4_isGrounded_19 (by decide) ?_
      exact ml_zret hE hI rfl hw dX4_isGrounded_23

/-- MatchmakerRulesModel.grounds()I -/
abbrev rm_X4_grounds : Room := { frames := 3, cells := 0, slots := 0, locals := 55 }
def wp_X4_grounds_L148 (Q : Int32 → (Nat → Int32) → (Nat → Nat → Int32) → (Nat → UInt32) → Prop) : Nat → (Nat → Int32) → (Nat → Nat → Int32) → (Nat → UInt32) → (Int32) → (Int32) → Prop
  | 0, _, _, _, _, _ => False
  | n + 1, F, A, L, x2, x3 => (((A 1 1) ≤ x3 → Q x2 F A L) ∧ (¬ (A 1 1) ≤ x3 → (vp_in x3 20 ∧ (((A 14 (Int32.toNatClampNeg x3)) = 0 → wp_X4_grounds_L148 Q n F A L (x2 + (1 : Int32)) (x3 + (1 : Int32))) ∧ (¬ (A 14 (Int32.toNatClampNeg x3)) = 0 → wp_X4_grounds_L148 Q n F A L (x2 + (0 : Int32)) (x3 + (1 : Int32)))))))
set_option maxHeartbeats 4000000 in
theorem snd_X4_grounds_L148 {p : Program} {l : Launch} {e : Env} {s : State} {m : MethodId} {args : Array Value} {below : List Frame} {meth : Method} {c : Code} {G : GG} {h0 : HH} {ad : Nat → Nat} (hE : hv_E p s m args meth c cX4_grounds 4 (some FieldType.int) RX4 G h0) (Q : Int32 → (Nat → Int32) → (Nat → Nat → Int32) → (Nat → UInt32) → Prop) : ∀ (n : Nat) (F : Nat → Int32) (A : Nat → Nat → Int32) (L : Nat → UInt32) (x2 : Int32) (x3 : Int32), wp_X4_grounds_L148 Q n F A L x2 x3 → ∀ (H : Heap) (locs : List Loc) (ls : Array Slot), ml_I G h0 s.heap ad F A L H locs → lv_has ls 4 [(0, .ref (ad 0)), (2, .int x2), (3, .int x3)] → W p l e (headSpec (ws_ yX4_grounds cX4_grounds 4 (some FieldType.int)) rm_X4_grounds).room s m args below meth c H locs 0 0 (MQ below (hv_Qi G h0 s.heap.size (fun r => ml_Q G h0 ad (Q r))) args s 0 0 (hv_A h0 s.heap.size)) (F0 m 148 ls []) := by
  obtain ⟨⟨hx, hb, hml, hown, hts⟩, hr, hlocks, -⟩ := id hE
  intro n
  induction n with
  | zero => intro F A L x2 x3 hw; exact hw.elim
  | succ n ih =>
    intro F A L x2 x3 hw H locs ls hI hl
    unfold wp_X4_grounds_L148 at hw
    refine lv_iload_n hx hb dX4_grounds_148 rfl (lv_at hl 2 rfl) ?_
    refine lv_aload_n hx hb dX4_grounds_149 rfl (lv_at hl 0 rfl) ?_
    refine ml_get hE hI 1 (by decide) q1986 rfl rfl dX4_grounds_150 ?_
    refine lv_iconst (v := 1) hx hb dX4_grounds_153 (by decide) ?_
    have hin : vp_in (1 : Int32) 13675 := by unfold vp_in; decide +kernel
    refine ml_iald hE hI 1 rfl rfl (show Int32.toNatClampNeg (1 : Int32) = 1 from by decide +kernel) hin dX4_grounds_154 ?_
    refine lv_icmp_ge (tgt := 181) hx hb dX4_grounds_155 (by decide) (fun c_155 => ?_) (fun c_155 => ?_)
    · have hw := hw.1 c_155
      refine lv_iload_n hx hb dX4_grounds_181 rfl (lv_at hl 1 rfl) ?_
      exact ml_iret hE hI hw dX4_grounds_182
    · have hw := hw.2 c_155
      refine lv_iload_n hx hb dX4_grounds_158 rfl (lv_at hl 1 rfl) ?_
      refine lv_aload_n hx hb dX4_grounds_159 rfl (lv_at hl 0 rfl) ?_
      refine ml_get hE hI 14 (by decide) q1999 rfl rfl dX4_grounds_160 ?_
      refine lv_iload_n hx hb dX4_grounds_163 rfl (lv_at hl 2 rfl) ?_
      obtain ⟨hin, hw⟩ := hw
      refine ml_zald hE hI 14 rfl rfl rfl hin dX4_grounds_164 ?_
      refine lv_if_eq (tgt := 172) hx hb dX4_grounds_165 (by decide) (fun c_165 => ?_) (fun c_165 => ?_)
      · have hw := hw.1 c_165
        refine lv_iconst (v := 1) hx hb dX4_grounds_172 (by decide) ?_
        refine lv_iadd hx hb dX4_grounds_173 ?_
        refine lv_istore_n (lv' := [(2, .int (x2 + (1 : Int32))), (0, .ref (ad 0)), (3, .int x3)]) hx hb dX4_grounds_174 rfl hl (by decide) rfl (fun ls hl => ?_)
        refine lv_iinc (v := (x3 + (1 : Int32))) (lv' := [(3, .int (x3 + (1 : Int32))), (2, .int (x2 + (1 : Int32))), (0, .ref (ad 0))]) hx hb dX4_grounds_175 hl (k := 2) rfl rfl (by decide) rfl (fun ls hl => ?_)
        refine lv_goto (tgt := 148) hx hb dX4_grounds_178 (by decide) ?_
        exact ih F A L (x2 + (1 : Int32)) (x3 + (1 : Int32)) hw _ _ _ hI (lv_sub hl [2, 1, 0] rfl)
      · have hw := hw.2 c_165
        refine lv_iconst (v := 0) hx hb dX4_grounds_168 (by decide) ?_
        refine lv_goto (tgt := 173) hx hb dX4_grounds_169 (by decide) ?_
        refine lv_iadd hx hb dX4_grounds_173 ?_
        refine lv_istore_n (lv' := [(2, .int (x2 + (0 : Int32))), (0, .ref (ad 0)), (3, .int x3)]) hx hb dX4_grounds_174 rfl hl (by decide) rfl (fun ls hl => ?_)
        refine lv_iinc (v := (x3 + (1 : Int32))) (lv' := [(3, .int (x3 + (1 : Int32))), (2, .int (x2 + (0 : Int32))), (0, .ref (ad 0))]) hx hb dX4_grounds_175 hl (k := 2) rfl rfl (by decide) rfl (fun ls hl => ?_)
        refine lv_goto (tgt := 148) hx hb dX4_grounds_178 (by decide) ?_
        exact ih F A L (x2 + (0 : Int32)) (x3 + (1 : Int32)) hw _ _ _ hI (lv_sub hl [2, 1, 0] rfl)
def wp_X4_grounds_L53 (Q : Int32 → (Nat → Int32) → (Nat → Nat → Int32) → (Nat → UInt32) → Prop) (k45 : (Nat → Int32) → (Nat → Nat → Int32) → (Nat → UInt32) → (Int32) → Prop) : Nat → (Nat → Int32) → (Nat → Nat → Int32) → (Nat → UInt32) → (Int32) → (Int32) → Prop
  | 0, _, _, _, _, _ => False
  | n + 1, F, A, L, x1, x2 => (((A 1 6) ≤ x2 → k45 F A L x1) ∧ (¬ (A 1 6) ≤ x2 → wp_X4_firing F A L x2 (3 : Int32) (fun r1 F1 A1 L1 => ((¬ r1 = (-1 : Int32) → wp_X4_firing F1 A1 L1 x2 (3 : Int32) (fun r2 F2 A2 L2 => wp_X4_slotOf F2 A2 L2 r2 (fun r3 F3 A3 L3 => (vp_in r3 20 ∧ ((¬ (A3 14 (Int32.toNatClampNeg r3)) = 0 → wp_X4_grounds_L53 Q k45 n F3 A3 L3 x1 (x2 + (1 : Int32))) ∧ ((A3 14 (Int32.toNatClampNeg r3)) = 0 → wp_X4_firing F3 A3 L3 x2 (1 : Int32) (fun r4 F4 A4 L4 => wp_X4_isGrounded F4 A4 L4 r4 (fun r5 F5 A5 L5 => ((r5 = 0 → wp_X4_grounds_L53 Q k45 n F5 A5 L5 x1 (x2 + (1 : Int32))) ∧ (¬ r5 = 0 → wp_X4_firing F5 A5 L5 x2 (2 : Int32) (fun r6 F6 A6 L6 => wp_X4_isGrounded F6 A6 L6 r6 (fun r7 F7 A7 L7 => ((¬ r7 = 0 → (vp_in r3 20 ∧ wp_X4_grounds_L53 Q k45 n F7 (ml_up A7 14 (Int32.toNatClampNeg r3) (vp_nar .boolean (1 : Int32))) L7 (1 : Int32) (x2 + (1 : Int32)))) ∧ (r7 = 0 → wp_X4_grounds_L53 Q k45 n F7 A7 L7 x1 (x2 + (1 : Int32)))))))))))))))) ∧ (r1 = (-1 : Int32) → wp_X4_grounds_L53 Q k45 n F1 A1 L1 x1 (x2 + (1 : Int32)))))))
set_option maxHeartbeats 4000000 in
theorem snd_X4_grounds_L53 {p : Program} {l : Launch} {e : Env} {s : State} {m : MethodId} {args : Array Value} {below : List Frame} {meth : Method} {c : Code} {G : GG} {h0 : HH} {ad : Nat → Nat} (hE : hv_E p s m args meth c cX4_grounds 4 (some FieldType.int) RX4 G h0) (Q : Int32 → (Nat → Int32) → (Nat → Nat → Int32) → (Nat → UInt32) → Prop) (k45 : (Nat → Int32) → (Nat → Nat → Int32) → (Nat → UInt32) → (Int32) → Prop) (hk45 : ∀ (F : Nat → Int32) (A : Nat → Nat → Int32) (L : Nat → UInt32) (x1 : Int32) (H : Heap) (locs : List Loc) (ls : Array Slot), ml_I G h0 s.heap ad F A L H locs → lv_has ls 4 [(0, .ref (ad 0)), (1, .int x1)] → k45 F A L x1 → W p l e (headSpec (ws_ yX4_grounds cX4_grounds 4 (some FieldType.int)) rm_X4_grounds).room s m args below meth c H locs 0 0 (MQ below (hv_Qi G h0 s.heap.size (fun r => ml_Q G h0 ad (Q r))) args s 0 0 (hv_A h0 s.heap.size)) (F0 m 45 ls [])) : ∀ (n : Nat) (F : Nat → Int32) (A : Nat → Nat → Int32) (L : Nat → UInt32) (x1 : Int32) (x2 : Int32), wp_X4_grounds_L53 Q k45 n F A L x1 x2 → ∀ (H : Heap) (locs : List Loc) (ls : Array Slot), ml_I G h0 s.heap ad F A L H locs → lv_has ls 4 [(0, .ref (ad 0)), (1, .int x1), (2, .int x2)] → W p l e (headSpec (ws_ yX4_grounds cX4_grounds 4 (some FieldType.int)) rm_X4_grounds).room s m args below meth c H locs 0 0 (MQ below (hv_Qi G h0 s.heap.size (fun r => ml_Q G h0 ad (Q r))) args s 0 0 (hv_A h0 s.heap.size)) (F0 m 53 ls []) := by
  obtain ⟨⟨hx, hb, hml, hown, hts⟩, hr, hlocks, -⟩ := id hE
  intro n
  induction n with
  | zero => intro F A L x1 x2 hw; exact hw.elim
  | succ n ih =>
    intro F A L x1 x2 hw H locs ls hI hl
    unfold wp_X4_grounds_L53 at hw
    refine lv_iload_n hx hb dX4_grounds_53 rfl (lv_at hl 2 rfl) ?_
    refine lv_aload_n hx hb dX4_grounds_54 rfl (lv_at hl 0 rfl) ?_
    refine ml_get hE hI 1 (by decide) q1986 rfl rfl dX4_grounds_55 ?_
    refine lv_bipush (v := 6) hx hb dX4_grounds_58 (by decide) ?_
    have hin : vp_in (6 : Int32) 13675 := by unfold vp_in; decide +kernel
    refine ml_iald hE hI 1 rfl rfl (show Int32.toNatClampNeg (6 : Int32) = 6 from by decide +kernel) hin dX4_grounds_60 ?_
    refine lv_icmp_ge (tgt := 141) hx hb dX4_grounds_61 (by decide) (fun c_61 => ?_) (fun c_61 => ?_)
    · have hw := hw.1 c_61
      refine lv_goto (tgt := 45) hx hb dX4_grounds_141 (by decide) ?_
      exact hk45 F A L x1 _ _ _ hI (lv_sub hl [0, 1] rfl) hw
    · have hw := hw.2 c_61
      refine lv_aload_n hx hb dX4_grounds_64 rfl (lv_at hl 0 rfl) ?_
      refine lv_iload_n hx hb dX4_grounds_65 rfl (lv_at hl 2 rfl) ?_
      refine lv_iconst (v := 3) hx hb dX4_grounds_66 (by decide) ?_
      refine ml_calli (As := [.int x2, .int (3 : Int32)]) (rest := []) (cells := 0) (slots := 0) hE hI (fun h hS => snd_X4_firing l G _ h ad F A L x2 (3 : Int32) _ hS hw) (cwV 2 hts (lw_V q2182 q2184 qs50 q108 q2185) rfl rfl rfl (by decide +kernel) ⟨Nat.le_of_ble_eq_true rfl, Nat.le_of_ble_eq_true rfl⟩) rfl hl.1 (Nat.le_of_ble_eq_true rfl) dX4_grounds_67 ⟨Nat.le_of_ble_eq_true rfl, Nat.le_of_ble_eq_true rfl⟩ (fun r1 F1 A1 L1 H locs hw hI => ?_)
      refine lv_iconst (v := -1) hx hb dX4_grounds_70 (by decide) ?_
      refine lv_icmp_ne (tgt := 77) hx hb dX4_grounds_71 (by decide) (fun c_71 => ?_) (fun c_71 => ?_)
      · have hw := hw.1 c_71
        refine lv_aload_n hx hb dX4_grounds_77 rfl (lv_at hl 0 rfl) ?_
        refine lv_aload_n hx hb dX4_grounds_78 rfl (lv_at hl 0 rfl) ?_
        refine lv_iload_n hx hb dX4_grounds_79 rfl (lv_at hl 2 rfl) ?_
        refine lv_iconst (v := 3) hx hb dX4_grounds_80 (by decide) ?_
        refine ml_calli (As := [.int x2, .int (3 : Int32)]) (rest := [.ref (ad 0)]) (cells := 0) (slots := 0) hE hI (fun h hS => snd_X4_firing l G _ h ad F1 A1 L1 x2 (3 : Int32) _ hS hw) (cwV 2 hts (lw_V q2182 q2184 qs50 q108 q2185) rfl rfl rfl (by decide +kernel) ⟨Nat.le_of_ble_eq_true rfl, Nat.le_of_ble_eq_true rfl⟩) rfl hl.1 (Nat.le_of_ble_eq_true rfl) dX4_grounds_81 ⟨Nat.le_of_ble_eq_true rfl, Nat.le_of_ble_eq_true rfl⟩ (fun r2 F2 A2 L2 H locs hw hI => ?_)
        refine ml_calli (As := [.int r2]) (rest := []) (cells := 0) (slots := 0) hE hI (fun h hS => snd_X4_slotOf l G _ h ad F2 A2 L2 r2 _ hS hw) (cwV 1 hts (lw_V q2198 q2200 qs54 q108 q2201) rfl rfl rfl (by decide +kernel) ⟨Nat.le_of_ble_eq_true rfl, Nat.le_of_ble_eq_true rfl⟩) rfl hl.1 (Nat.le_of_ble_eq_true rfl) dX4_grounds_84 ⟨Nat.le_of_ble_eq_true rfl, Nat.le_of_ble_eq_true rfl⟩ (fun r3 F3 A3 L3 H locs hw hI => ?_)
        refine lv_istore_n (lv' := [(3, .int r3), (0, .ref (ad 0)), (1, .int x1), (2, .int x2)]) hx hb dX4_grounds_87 rfl hl (by decide) rfl (fun ls hl => ?_)
        refine lv_aload_n hx hb dX4_grounds_88 rfl (lv_at hl 1 rfl) ?_
        refine ml_get hE hI 14 (by decide) q1999 rfl rfl dX4_grounds_89 ?_
        refine lv_iload_n hx hb dX4_grounds_92 rfl (lv_at hl 0 rfl) ?_
        obtain ⟨hin, hw⟩ := hw
        refine ml_zald hE hI 14 rfl rfl rfl hin dX4_grounds_93 ?_
        refine lv_if_ne (tgt := 135) hx hb dX4_grounds_94 (by decide) (fun c_94 => ?_) (fun c_94 => ?_)
        · have hw := hw.1 c_94
          refine lv_iinc (v := (x2 + (1 : Int32))) (lv' := [(2, .int (x2 + (1 : Int32))), (3, .int r3), (0, .ref (ad 0)), (1, .int x1)]) hx hb dX4_grounds_135 hl (k := 3) rfl rfl (by decide) rfl (fun ls hl => ?_)
          refine lv_goto (tgt := 53) hx hb dX4_grounds_138 (by decide) ?_
          exact ih F3 A3 L3 x1 (x2 + (1 : Int32)) hw _ _ _ hI (lv_sub hl [2, 3, 0] rfl)
        · have hw := hw.2 c_94
          refine lv_aload_n hx hb dX4_grounds_97 rfl (lv_at hl 1 rfl) ?_
          refine lv_aload_n hx hb dX4_grounds_98 rfl (lv_at hl 1 rfl) ?_
          refine lv_iload_n hx hb dX4_grounds_99 rfl (lv_at hl 3 rfl) ?_
          refine lv_iconst (v := 1) hx hb dX4_grounds_100 (by decide) ?_
          refine ml_calli (As := [.int x2, .int (1 : Int32)]) (rest := [.ref (ad 0)]) (cells := 0) (slots := 0) hE hI (fun h hS => snd_X4_firing l G _ h ad F3 A3 L3 x2 (1 : Int32) _ hS hw) (cwV 2 hts (lw_V q2182 q2184 qs50 q108 q2185) rfl rfl rfl (by decide +kernel) ⟨Nat.le_of_ble_eq_true rfl, Nat.le_of_ble_eq_true rfl⟩) rfl hl.1 (Nat.le_of_ble_eq_true rfl) dX4_grounds_101 ⟨Nat.le_of_ble_eq_true rfl, Nat.le_of_ble_eq_true rfl⟩ (fun r4 F4 A4 L4 H locs hw hI => ?_)
          refine ml_calli (As := [.int r4]) (rest := []) (cells := 0) (slots := 0) hE hI (fun h hS => snd_X4_isGrounded l G _ h ad F4 A4 L4 r4 _ hS hw) (cwV 1 hts (lw_V q2202 q2204 qs55 q108 q2205) rfl rfl rfl (by decide +kernel) ⟨Nat.le_of_ble_eq_true rfl, Nat.le_of_ble_eq_true rfl⟩) rfl hl.1 (Nat.le_of_ble_eq_true rfl) dX4_grounds_104 ⟨Nat.le_of_ble_eq_true rfl, Nat.le_of_ble_eq_true rfl⟩ (fun r5 F5 A5 L5 H locs hw hI => ?_)
          refine lv_if_eq (tgt := 135) hx hb dX4_grounds_107 (by decide) (fun c_107 => ?_) (fun c_107 => ?_)
          · have hw := hw.1 c_107
            refine lv_iinc (v := (x2 + (1 : Int32))) (lv' := [(2, .int (x2 + (1 : Int32))), (3, .int r3), (0, .ref (ad 0)), (1, .int x1)]) hx hb dX4_grounds_135 hl (k := 3) rfl rfl (by decide) rfl (fun ls hl => ?_)
            refine lv_goto (tgt := 53) hx hb dX4_grounds_138 (by decide) ?_
            exact ih F5 A5 L5 x1 (x2 + (1 : Int32)) hw _ _ _ hI (lv_sub hl [2, 3, 0] rfl)
          · have hw := hw.2 c_107
            refine lv_aload_n hx hb dX4_grounds_110 rfl (lv_at hl 1 rfl) ?_
            refine lv_aload_n hx hb dX4_grounds_111 rfl (lv_at hl 1 rfl) ?_
            refine lv_iload_n hx hb dX4_grounds_112 rfl (lv_at hl 3 rfl) ?_
            refine lv_iconst (v := 2) hx hb dX4_grounds_113 (by decide) ?_
            refine ml_calli (As := [.int x2, .int (2 : Int32)]) (rest := [.ref (ad 0)]) (cells := 0) (slots := 0) hE hI (fun h hS => snd_X4_firing l G _ h ad F5 A5 L5 x2 (2 : Int32) _ hS hw) (cwV 2 hts (lw_V q2182 q2184 qs50 q108 q2185) rfl rfl rfl (by decide +kernel) ⟨Nat.le_of_ble_eq_true rfl, Nat.le_of_ble_eq_true rfl⟩) rfl hl.1 (Nat.le_of_ble_eq_true rfl) dX4_grounds_114 ⟨Nat.le_of_ble_eq_true rfl, Nat.le_of_ble_eq_true rfl⟩ (fun r6 F6 A6 L6 H locs hw hI => ?_)
            refine ml_calli (As := [.int r6]) (rest := []) (cells := 0) (slots := 0) hE hI (fun h hS => snd_X4_isGrounded l G _ h ad F6 A6 L6 r6 _ hS hw) (cwV 1 hts (lw_V q2202 q2204 qs55 q108 q2205) rfl rfl rfl (by decide +kernel) ⟨Nat.le_of_ble_eq_true rfl, Nat.le_of_ble_eq_true rfl⟩) rfl hl.1 (Nat.le_of_ble_eq_true rfl) dX4_grounds_117 ⟨Nat.le_of_ble_eq_true rfl, Nat.le_of_ble_eq_true rfl⟩ (fun r7 F7 A7 L7 H locs hw hI => ?_)
            refine lv_if_ne (tgt := 126) hx hb dX4_grounds_120 (by decide) (fun c_120 => ?_) (fun c_120 => ?_)
            · have hw := hw.1 c_120
              refine lv_aload_n hx hb dX4_grounds_126 rfl (lv_at hl 1 rfl) ?_
              refine ml_get hE hI 14 (by decide) q1999 rfl rfl dX4_grounds_127 ?_
              refine lv_iload_n hx hb dX4_grounds_130 rfl (lv_at hl 0 rfl) ?_
              refine lv_iconst (v := 1) hx hb dX4_grounds_131 (by decide) ?_
              obtain ⟨hin, hw⟩ := hw
              refine ml_zast hE hI 14 rfl rfl rfl hin dX4_grounds_132 (fun H locs hI => ?_)
              refine lv_iconst (v := 1) hx hb dX4_grounds_133 (by decide) ?_
              refine lv_istore_n (lv' := [(1, .int (1 : Int32)), (3, .int r3), (0, .ref (ad 0)), (2, .int x2)]) hx hb dX4_grounds_134 rfl hl (by decide) rfl (fun ls hl => ?_)
              refine lv_iinc (v := (x2 + (1 : Int32))) (lv' := [(2, .int (x2 + (1 : Int32))), (1, .int (1 : Int32)), (3, .int r3), (0, .ref (ad 0))]) hx hb dX4_grounds_135 hl (k := 3) rfl rfl (by decide) rfl (fun ls hl => ?_)
              refine lv_goto (tgt := 53) hx hb dX4_grounds_138 (by decide) ?_
              exact ih F7 (ml_up A7 14 (Int32.toNatClampNeg r3) (vp_nar .boolean (1 : Int32))) L7 (1 : Int32) (x2 + (1 : Int32)) hw _ _ _ hI (lv_sub hl [3, 1, 0] rfl)
            · have hw := hw.2 c_120
              refine lv_goto (tgt := 135) hx hb dX4_grounds_123 (by decide) ?_
              refine lv_iinc (v := (x2 + (1 : Int32))) (lv' := [(2, .int (x2 + (1 : Int32))), (3, .int r3), (0, .ref (ad 0)), (1, .int x1)]) hx hb dX4_grounds_135 hl (k := 3) rfl rfl (by decide) rfl (fun ls hl => ?_)
              refine lv_goto (tgt := 53) hx hb dX4_grounds_138 (by decide) ?_
              exact ih F7 A7 L7 x1 (x2 + (1 : Int32)) hw _ _ _ hI (lv_sub hl [2, 3, 0] rfl)
      · have hw := hw.2 c_71
        refine lv_goto (tgt := 135) hx hb dX4_grounds_74 (by decide) ?_
        refine lv_iinc (v := (x2 + (1 : Int32))) (lv' := [(2, .int (x2 + (1 : Int32))), (0, .ref (ad 0)), (1, .int x1)]) hx hb dX4_grounds_135 hl (k := 2) rfl rfl (by decide) rfl (fun ls hl => ?_)
        refine lv_goto (tgt := 53) hx hb dX4_grounds_138 (by decide) ?_
        exact ih F1 A1 L1 x1 (x2 + (1 : Int32)) hw _ _ _ hI (lv_sub hl [1, 2, 0] rfl)
def wp_X4_grounds_L45 (Q : Int32 → (Nat → Int32) → (Nat → Nat → Int32) → (Nat → UInt32) → Prop) : Nat → (Nat → Int32) → (Nat → Nat → Int32) → (Nat → UInt32) → (Int32) → Prop
  | 0, _, _, _, _ => False
  | n + 1, F, A, L, x1 => ((x1 = 0 → (∃ n148, wp_X4_grounds_L148 Q n148 F A L (0 : Int32) (0 : Int32))) ∧ (¬ x1 = 0 → (∃ n53, wp_X4_grounds_L53 Q (fun F A L x1 => wp_X4_grounds_L45 Q n F A L x1) n53 F A L (0 : Int32) (0 : Int32))))
set_option maxHeartbeats 4000000 in
theorem snd_X4_grounds_L45 {p : Program} {l : Launch} {e : Env} {s : State} {m : MethodId} {args : Array Value} {below : List Frame} {meth : Method} {c : Code} {G : GG} {h0 : HH} {ad : Nat → Nat} (hE : hv_E p s m args meth c cX4_grounds 4 (some FieldType.int) RX4 G h0) (Q : Int32 → (Nat → Int32) → (Nat → Nat → Int32) → (Nat → UInt32) → Prop) : ∀ (n : Nat) (F : Nat → Int32) (A : Nat → Nat → Int32) (L : Nat → UInt32) (x1 : Int32), wp_X4_grounds_L45 Q n F A L x1 → ∀ (H : Heap) (locs : List Loc) (ls : Array Slot), ml_I G h0 s.heap ad F A L H locs → lv_has ls 4 [(0, .ref (ad 0)), (1, .int x1)] → W p l e (headSpec (ws_ yX4_grounds cX4_grounds 4 (some FieldType.int)) rm_X4_grounds).room s m args below meth c H locs 0 0 (MQ below (hv_Qi G h0 s.heap.size (fun r => ml_Q G h0 ad (Q r))) args s 0 0 (hv_A h0 s.heap.size)) (F0 m 45 ls []) := by
  obtain ⟨⟨hx, hb, hml, hown, hts⟩, hr, hlocks, -⟩ := id hE
  intro n
  induction n with
  | zero => intro F A L x1 hw; exact hw.elim
  | succ n ih =>
    intro F A L x1 hw H locs ls hI hl
    unfold wp_X4_grounds_L45 at hw
    refine lv_iload_n hx hb dX4_grounds_45 rfl (lv_at hl 1 rfl) ?_
    refine lv_if_eq (tgt := 144) hx hb dX4_grounds_46 (by decide) (fun c_46 => ?_) (fun c_46 => ?_)
    · have hw := hw.1 c_46
      refine lv_iconst (v := 0) hx hb dX4_grounds_144 (by decide) ?_
      refine lv_istore_n (lv' := [(2, .int (0 : Int32)), (0, .ref (ad 0)), (1, .int x1)]) hx hb dX4_grounds_145 rfl hl (by decide) rfl (fun ls hl => ?_)
      refine lv_iconst (v := 0) hx hb dX4_grounds_146 (by decide) ?_
      refine lv_istore_n (lv' := [(3, .int (0 : Int32)), (2, .int (0 : Int32)), (0, .ref (ad 0)), (1, .int x1)]) hx hb dX4_grounds_147 rfl hl (by decide) rfl (fun ls hl => ?_)
      obtain ⟨n148, hw⟩ := hw
      exact snd_X4_grounds_L148 hE Q n148 F A L (0 : Int32) (0 : Int32) hw _ _ _ hI (lv_sub hl [2, 1, 0] rfl)
    · have hw := hw.2 c_46
      refine lv_iconst (v := 0) hx hb dX4_grounds_49 (by decide) ?_
      refine lv_istore_n (lv' := [(1, .int (0 : Int32)), (0, .ref (ad 0))]) hx hb dX4_grounds_50 rfl hl (by decide) rfl (fun ls hl => ?_)
      refine lv_iconst (v := 0) hx hb dX4_grounds_51 (by decide) ?_
      refine lv_istore_n (lv' := [(2, .int (0 : Int32)), (1, .int (0 : Int32)), (0, .ref (ad 0))]) hx hb dX4_grounds_52 rfl hl (by decide) rfl (fun ls hl => ?_)
      obtain ⟨n53, hw⟩ := hw
      exact snd_X4_grounds_L53 hE Q (fun F A L x1 => wp_X4_grounds_L45 Q n F A L x1) (fun F A L x1 H locs ls hI hl hw => ih F A L x1 hw H locs ls hI hl) n53 F A L (0 : Int32) (0 : Int32) hw _ _ _ hI (lv_sub hl [2, 1, 0] rfl)
def wp_X4_grounds_L2 (Q : Int32 → (Nat → Int32) → (Nat → Nat → Int32) → (Nat → UInt32) → Prop) : Nat → (Nat → Int32) → (Nat → Nat → Int32) → (Nat → UInt32) → (Int32) → Prop
  | 0, _, _, _, _ => False
  | n + 1, F, A, L, x1 => (((A 1 1) ≤ x1 → (∃ n45, wp_X4_grounds_L45 Q n45 F A L (1 : Int32))) ∧ (¬ (A 1 1) ≤ x1 → (vp_in ((175 : Int32) + x1) 13675 ∧ ((¬ (A 1 (Int32.toNatClampNeg ((175 : Int32) + x1))) = (1 : Int32) → (vp_in x1 20 ∧ wp_X4_grounds_L2 Q n F (ml_up A 14 (Int32.toNatClampNeg x1) (vp_nar .boolean (0 : Int32))) L (x1 + (1 : Int32)))) ∧ ((A 1 (Int32.toNatClampNeg ((175 : Int32) + x1))) = (1 : Int32) → (vp_in x1 20 ∧ wp_X4_grounds_L2 Q n F (ml_up A 14 (Int32.toNatClampNeg x1) (vp_nar .boolean (1 : Int32))) L (x1 + (1 : Int32))))))))
set_option maxHeartbeats 4000000 in
theorem snd_X4_grounds_L2 {p : Program} {l : Launch} {e : Env} {s : State} {m : MethodId} {args : Array Value} {below : List Frame} {meth : Method} {c : Code} {G : GG} {h0 : HH} {ad : Nat → Nat} (hE : hv_E p s m args meth c cX4_grounds 4 (some FieldType.int) RX4 G h0) (Q : Int32 → (Nat → Int32) → (Nat → Nat → Int32) → (Nat → UInt32) → Prop) : ∀ (n : Nat) (F : Nat → Int32) (A : Nat → Nat → Int32) (L : Nat → UInt32) (x1 : Int32), wp_X4_grounds_L2 Q n F A L x1 → ∀ (H : Heap) (locs : List Loc) (ls : Array Slot), ml_I G h0 s.heap ad F A L H locs → lv_has ls 4 [(0, .ref (ad 0)), (1, .int x1)] → W p l e (headSpec (ws_ yX4_grounds cX4_grounds 4 (some FieldType.int)) rm_X4_grounds).room s m args below meth c H locs 0 0 (MQ below (hv_Qi G h0 s.heap.size (fun r => ml_Q G h0 ad (Q r))) args s 0 0 (hv_A h0 s.heap.size)) (F0 m 2 ls []) := by
  obtain ⟨⟨hx, hb, hml, hown, hts⟩, hr, hlocks, -⟩ := id hE
  intro n
  induction n with
  | zero => intro F A L x1 hw; exact hw.elim
  | succ n ih =>
    intro F A L x1 hw H locs ls hI hl
    unfold wp_X4_grounds_L2 at hw
    refine lv_iload_n hx hb dX4_grounds_2 rfl (lv_at hl 1 rfl) ?_
    refine lv_aload_n hx hb dX4_grounds_3 rfl (lv_at hl 0 rfl) ?_
    refine ml_get hE hI 1 (by decide) q1986 rfl rfl dX4_grounds_4 ?_
    refine lv_iconst (v := 1) hx hb dX4_grounds_7 (by decide) ?_
    have hin : vp_in (1 : Int32) 13675 := by unfold vp_in; decide +kernel
    refine ml_iald hE hI 1 rfl rfl (show Int32.toNatClampNeg (1 : Int32) = 1 from by decide +kernel) hin dX4_grounds_8 ?_
    refine lv_icmp_ge (tgt := 43) hx hb dX4_grounds_9 (by decide) (fun c_9 => ?_) (fun c_9 => ?_)
    · have hw := hw.1 c_9
      refine lv_iconst (v := 1) hx hb dX4_grounds_43 (by decide) ?_
      refine lv_istore_n (lv' := [(1, .int (1 : Int32)), (0, .ref (ad 0))]) hx hb dX4_grounds_44 rfl hl (by decide) rfl (fun ls hl => ?_)
      obtain ⟨n45, hw⟩ := hw
      exact snd_X4_grounds_L45 hE Q n45 F A L (1 : Int32) hw _ _ _ hI (lv_sub hl [1, 0] rfl)
    · have hw := hw.2 c_9
      refine lv_aload_n hx hb dX4_grounds_12 rfl (lv_at hl 0 rfl) ?_
      refine ml_get hE hI 14 (by decide) q1999 rfl rfl dX4_grounds_13 ?_
      refine lv_iload_n hx hb dX4_grounds_16 rfl (lv_at hl 1 rfl) ?_
      refine lv_aload_n hx hb dX4_grounds_17 rfl (lv_at hl 0 rfl) ?_
      refine ml_get hE hI 1 (by decide) q1986 rfl rfl dX4_grounds_18 ?_
      refine lv_sipush (v := 175) hx hb dX4_grounds_21 (by decide) ?_
      refine lv_iload_n hx hb dX4_grounds_24 rfl (lv_at hl 1 rfl) ?_
      refine lv_iadd hx hb dX4_grounds_25 ?_
      obtain ⟨hin, hw⟩ := hw
      refine ml_iald hE hI 1 rfl rfl rfl hin dX4_grounds_26 ?_
      refine lv_iconst (v := 1) hx hb dX4_grounds_27 (by decide) ?_
      refine lv_icmp_ne (tgt := 35) hx hb dX4_grounds_28 (by decide) (fun c_28 => ?_) (fun c_28 => ?_)
      · have hw := hw.1 c_28
        refine lv_iconst (v := 0) hx hb dX4_grounds_35 (by decide) ?_
        obtain ⟨hin, hw⟩ := hw
        refine ml_zast hE hI 14 rfl rfl rfl hin dX4_grounds_36 (fun H locs hI => ?_)
        refine lv_iinc (v := (x1 + (1 : Int32))) (lv' := [(1, .int (x1 + (1 : Int32))), (0, .ref (ad 0))]) hx hb dX4_grounds_37 hl (k := 1) rfl rfl (by decide) rfl (fun ls hl => ?_)
        refine lv_goto (tgt := 2) hx hb dX4_grounds_40 (by decide) ?_
        exact ih F (ml_up A 14 (Int32.toNatClampNeg x1) (vp_nar .boolean (0 : Int32))) L (x1 + (1 : Int32)) hw _ _ _ hI (lv_sub hl [1, 0] rfl)
      · have hw := hw.2 c_28
        refine lv_iconst (v := 1) hx hb dX4_grounds_31 (by decide) ?_
        refine lv_goto (tgt := 36) hx hb dX4_grounds_32 (by decide) ?_
        obtain ⟨hin, hw⟩ := hw
        refine ml_zast hE hI 14 rfl rfl rfl hin dX4_grounds_36 (fun H locs hI => ?_)
        refine lv_iinc (v := (x1 + (1 : Int32))) (lv' := [(1, .int (x1 + (1 : Int32))), (0, .ref (ad 0))]) hx hb dX4_grounds_37 hl (k := 1) rfl rfl (by decide) rfl (fun ls hl => ?_)
        refine lv_goto (tgt := 2) hx hb dX4_grounds_40 (by decide) ?_
        exact ih F (ml_up A 14 (Int32.toNatClampNeg x1) (vp_nar .boolean (1 : Int32))) L (x1 + (1 : Int32)) hw _ _ _ hI (lv_sub hl [1, 0] rfl)
def wp_X4_grounds (F : Nat → Int32) (A : Nat → Nat → Int32) (L : Nat → UInt32) (Q : Int32 → (Nat → Int32) → (Nat → Nat → Int32) → (Nat → UInt32) → Prop) : Prop := (∃ n2, wp_X4_grounds_L2 Q n2 F A L (0 : Int32))
set_option maxHeartbeats 4000000 in
theorem snd_X4_grounds (l : Launch) (G : GG) (sz : Nat) (h : HH) (ad : Nat → Nat) (F : Nat → Int32) (A : Nat → Nat → Int32) (L : Nat → UInt32) (Q : Int32 → (Nat → Int32) → (Nat → Nat → Int32) → (Nat → UInt32) → Prop) (hS : ml_S G h ad F A L) (hw : wp_X4_grounds F A L Q) : Met l yX4_grounds (ws_ yX4_grounds cX4_grounds 4 (some FieldType.int)) rm_X4_grounds (hv_Pc G h sz [.ref (ad 0)]) (hv_Qi G h sz (fun r => ml_Q G h ad (Q r))) 0 0 (hv_A h sz) := by
  refine Met.ofW (cc := cX4_grounds) (maxL := 4) (ret := (some FieldType.int)) (by decide) rfl ?_
  intro p e s m args below meth c s₁ B hml hv
  obtain ⟨rfl, rfl, hE, hI⟩ := hv_open B hml hv
  have hE : hv_E p s m ([.ref (ad 0)] : List Value).toArray meth c cX4_grounds 4 (some FieldType.int) RX4 G h := hE
  have hI := ml_I.start hI hS
  obtain ⟨⟨hx, hb, hml, hown, hts⟩, hr, hlocks, -⟩ := id hE
  have hl := lv_entry ([.ref (ad 0)] : List Value) (n := 4) (Nat.le_of_ble_eq_true rfl)
  rw [lg_entry_eq]
  generalize (lg_sl ([.ref (ad 0)] : List Value) ++ List.replicate (4 - (lg_sl ([.ref (ad 0)] : List Value)).length) Slot.unset).toArray = ls at hl ⊢
  have hl : lv_has ls 4 [(0, .ref (ad 0))] := hl
  unfold wp_X4_grounds at hw
  refine lv_iconst (v := 0) hx hb dX4_grounds_0 (by decide) ?_
  refine lv_istore_n (lv' := [(1, .int (0 : Int32)), (0, .ref (ad 0))]) hx hb dX4_grounds_1 rfl hl (by decide) rfl (fun ls hl => ?_)
  obtain ⟨n2, hw⟩ := hw
  exact snd_X4_grounds_L2 hE Q n2 F A L (0 : Int32) hw _ _ _ hI (lv_sub hl [1, 0] rfl)

/-- MatchmakerRulesModel.movesFact(II)V -/
abbrev rm_X4_movesFact : Room := { frames := 1, cells := 0, slots := 0, locals := 12 }
def wp_X4_movesFact (F : Nat → Int32) (A : Nat → Nat → Int32) (L : Nat → UInt32) (x1 : Int32) (x2 : Int32) (Q : (Nat → Int32) → (Nat → Nat → Int32) → (Nat → UInt32) → Prop) : Prop := (vp_in ((95 : Int32) + x1) 13675 ∧ (vp_in ((95 : Int32) + x2) 13675 ∧ (vp_in ((115 : Int32) + x1) 13675 ∧ (vp_in ((115 : Int32) + x2) 13675 ∧ (vp_in ((135 : Int32) + x1) 13675 ∧ (vp_in ((135 : Int32) + x2) 13675 ∧ (vp_in ((155 : Int32) + x1) 13675 ∧ (vp_in ((155 : Int32) + x2) 13675 ∧ (vp_in ((175 : Int32) + x1) 13675 ∧ (vp_in ((175 : Int32) + x2) 13675 ∧ (vp_in ((195 : Int32) + x1) 13675 ∧ (vp_in ((195 : Int32) + x2) 13675 ∧ (vp_in ((215 : Int32) + x1) 13675 ∧ (vp_in ((215 : Int32) + x2) 13675 ∧ Q F (ml_up (ml_up (ml_up (ml_up (ml_up (ml_up (ml_up A 1 (Int32.toNatClampNeg ((95 : Int32) + x2)) (A 1 (Int32.toNatClampNeg ((95 : Int32) + x1)))) 1 (Int32.toNatClampNeg ((115 : Int32) + x2)) ((ml_up A 1 (Int32.toNatClampNeg ((95 : Int32) + x2)) (A 1 (Int32.toNatClampNeg ((95 : Int32) + x1)))) 1 (Int32.toNatClampNeg ((115 : Int32) + x1)))) 1 (Int32.toNatClampNeg ((135 : Int32) + x2)) ((ml_up (ml_up A 1 (Int32.toNatClampNeg ((95 : Int32) + x2)) (A 1 (Int32.toNatClampNeg ((95 : Int32) + x1)))) 1 (Int32.toNatClampNeg ((115 : Int32) + x2)) ((ml_up A 1 (Int32.toNatClampNeg ((95 : Int32) + x2)) (A 1 (Int32.toNatClampNeg ((95 : Int32) + x1)))) 1 (Int32.toNatClampNeg ((115 : Int32) + x1)))) 1 (Int32.toNatClampNeg ((135 : Int32) + x1)))) 1 (Int32.toNatClampNeg ((155 : Int32) + x2)) ((ml_up (ml_up (ml_up A 1 (Int32.toNatClampNeg ((95 : Int32) + x2)) (A 1 (Int32.toNatClampNeg ((95 : Int32) + x1)))) 1 (Int32.toNatClampNeg ((115 : Int32) + x2)) ((ml_up A 1 (Int32.toNatClampNeg ((95 : Int32) + x2)) (A 1 (Int32.toNatClampNeg ((95 : Int32) + x1)))) 1 (Int32.toNatClampNeg ((115 : Int32) + x1)))) 1 (Int32.toNatClampNeg ((135 : Int32) + x2)) ((ml_up (ml_up A 1 (Int32.toNatClampNeg ((95 : Int32) + x2)) (A 1 (Int32.toNatClampNeg ((95 : Int32) + x1)))) 1 (Int32.toNatClampNeg ((115 : Int32) + x2)) ((ml_up A 1 (Int32.toNatClampNeg ((95 : Int32) + x2)) (A 1 (Int32.toNatClampNeg ((95 : Int32) + x1)))) 1 (Int32.toNatClampNeg ((115 : Int32) + x1)))) 1 (Int32.toNatClampNeg ((135 : Int32) + x1)))) 1 (Int32.toNatClampNeg ((155 : Int32) + x1)))) 1 (Int32.toNatClampNeg ((175 : Int32) + x2)) ((ml_up (ml_up (ml_up (ml_up A 1 (Int32.toNatClampNeg ((95 : Int32) + x2)) (A 1 (Int32.toNatClampNeg ((95 : Int32) + x1)))) 1 (Int32.toNatClampNeg ((115 : Int32) + x2)) ((ml_up A 1 (Int32.toNatClampNeg ((95 : Int32) + x2)) (A 1 (Int32.toNatClampNeg ((95 : Int32) + x1)))) 1 (Int32.toNatClampNeg ((115 : Int32) + x1)))) 1 (Int32.toNatClampNeg ((135 : Int32) + x2)) ((ml_up (ml_up A 1 (Int32.toNatClampNeg ((95 : Int32) + x2)) (A 1 (Int32.toNatClampNeg ((95 : Int32) + x1)))) 1 (Int32.toNatClampNeg ((115 : Int32) + x2)) ((ml_up A 1 (Int32.toNatClampNeg ((95 : Int32) + x2)) (A 1 (Int32.toNatClampNeg ((95 : Int32) + x1)))) 1 (Int32.toNatClampNeg ((115 : Int32) + x1)))) 1 (Int32.toNatClampNeg ((135 : Int32) + x1)))) 1 (Int32.toNatClampNeg ((155 : Int32) + x2)) ((ml_up (ml_up (ml_up A 1 (Int32.toNatClampNeg ((95 : Int32) + x2)) (A 1 (Int32.toNatClampNeg ((95 : Int32) + x1)))) 1 (Int32.toNatClampNeg ((115 : Int32) + x2)) ((ml_up A 1 (Int32.toNatClampNeg ((95 : Int32) + x2)) (A 1 (Int32.toNatClampNeg ((95 : Int32) + x1)))) 1 (Int32.toNatClampNeg ((115 : Int32) + x1)))) 1 (Int32.toNatClampNeg ((135 : Int32) + x2)) ((ml_up (ml_up A 1 (Int32.toNatClampNeg ((95 : Int32) + x2)) (A 1 (Int32.toNatClampNeg ((95 : Int32) + x1)))) 1 (Int32.toNatClampNeg ((115 : Int32) + x2)) ((ml_up A 1 (Int32.toNatClampNeg ((95 : Int32) + x2)) (A 1 (Int32.toNatClampNeg ((95 : Int32) + x1)))) 1 (Int32.toNatClampNeg ((115 : Int32) + x1)))) 1 (Int32.toNatClampNeg ((135 : Int32) + x1)))) 1 (Int32.toNatClampNeg ((155 : Int32) + x1)))) 1 (Int32.toNatClampNeg ((175 : Int32) + x1)))) 1 (Int32.toNatClampNeg ((195 : Int32) + x2)) ((ml_up (ml_up (ml_up (ml_up (ml_up A 1 (Int32.toNatClampNeg ((95 : Int32) + x2)) (A 1 (Int32.toNatClampNeg ((95 : Int32) + x1)))) 1 (Int32.toNatClampNeg ((115 : Int32) + x2)) ((ml_up A 1 (Int32.toNatClampNeg ((95 : Int32) + x2)) (A 1 (Int32.toNatClampNeg ((95 : Int32) + x1)))) 1 (Int32.toNatClampNeg ((115 : Int32) + x1)))) 1 (Int32.toNatClampNeg ((135 : Int32) + x2)) ((ml_up (ml_up A 1 (Int32.toNatClampNeg ((95 : Int32) + x2)) (A 1 (Int32.toNatClampNeg ((95 : Int32) + x1)))) 1 (Int32.toNatClampNeg ((115 : Int32) + x2)) ((ml_up A 1 (Int32.toNatClampNeg ((95 : Int32) + x2)) (A 1 (Int32.toNatClampNeg ((95 : Int32) + x1)))) 1 (Int32.toNatClampNeg ((115 : Int32) + x1)))) 1 (Int32.toNatClampNeg ((135 : Int32) + x1)))) 1 (Int32.toNatClampNeg ((155 : Int32) + x2)) ((ml_up (ml_up (ml_up A 1 (Int32.toNatClampNeg ((95 : Int32) + x2)) (A 1 (Int32.toNatClampNeg ((95 : Int32) + x1)))) 1 (Int32.toNatClampNeg ((115 : Int32) + x2)) ((ml_up A 1 (Int32.toNatClampNeg ((95 : Int32) + x2)) (A 1 (Int32.toNatClampNeg ((95 : Int32) + x1)))) 1 (Int32.toNatClampNeg ((115 : Int32) + x1)))) 1 (Int32.toNatClampNeg ((135 : Int32) + x2)) ((ml_up (ml_up A 1 (Int32.toNatClampNeg ((95 : Int32) + x2)) (A 1 (Int32.toNatClampNeg ((95 : Int32) + x1)))) 1 (Int32.toNatClampNeg ((115 : Int32) + x2)) ((ml_up A 1 (Int32.toNatClampNeg ((95 : Int32) + x2)) (A 1 (Int32.toNatClampNeg ((95 : Int32) + x1)))) 1 (Int32.toNatClampNeg ((115 : Int32) + x1)))) 1 (Int32.toNatClampNeg ((135 : Int32) + x1)))) 1 (Int32.toNatClampNeg ((155 : Int32) + x1)))) 1 (Int32.toNatClampNeg ((175 : Int32) + x2)) ((ml_up (ml_up (ml_up (ml_up A 1 (Int32.toNatClampNeg ((95 : Int32) + x2)) (A 1 (Int32.toNatClampNeg ((95 : Int32) + x1)))) 1 (Int32.toNatClampNeg ((115 : Int32) + x2)) ((ml_up A 1 (Int32.toNatClampNeg ((95 : Int32) + x2)) (A 1 (Int32.toNatClampNeg ((95 : Int32) + x1)))) 1 (Int32.toNatClampNeg ((115 : Int32) + x1)))) 1 (Int32.toNatClampNeg ((135 : Int32) + x2)) ((ml_up (ml_up A 1 (Int32.toNatClampNeg ((95 : Int32) + x2)) (A 1 (Int32.toNatClampNeg ((95 : Int32) + x1)))) 1 (Int32.toNatClampNeg ((115 : Int32) + x2)) ((ml_up A 1 (Int32.toNatClampNeg ((95 : Int32) + x2)) (A 1 (Int32.toNatClampNeg ((95 : Int32) + x1)))) 1 (Int32.toNatClampNeg ((115 : Int32) + x1)))) 1 (Int32.toNatClampNeg ((135 : Int32) + x1)))) 1 (Int32.toNatClampNeg ((155 : Int32) + x2)) ((ml_up (ml_up (ml_up A 1 (Int32.toNatClampNeg ((95 : Int32) + x2)) (A 1 (Int32.toNatClampNeg ((95 : Int32) + x1)))) 1 (Int32.toNatClampNeg ((115 : Int32) + x2)) ((ml_up A 1 (Int32.toNatClampNeg ((95 : Int32) + x2)) (A 1 (Int32.toNatClampNeg ((95 : Int32) + x1)))) 1 (Int32.toNatClampNeg ((115 : Int32) + x1)))) 1 (Int32.toNatClampNeg ((135 : Int32) + x2)) ((ml_up (ml_up A 1 (Int32.toNatClampNeg ((95 : Int32) + x2)) (A 1 (Int32.toNatClampNeg ((95 : Int32) + x1)))) 1 (Int32.toNatClampNeg ((115 : Int32) + x2)) ((ml_up A 1 (Int32.toNatClampNeg ((95 : Int32) + x2)) (A 1 (Int32.toNatClampNeg ((95 : Int32) + x1)))) 1 (Int32.toNatClampNeg ((115 : Int32) + x1)))) 1 (Int32.toNatClampNeg ((135 : Int32) + x1)))) 1 (Int32.toNatClampNeg ((155 : Int32) + x1)))) 1 (Int32.toNatClampNeg ((175 : Int32) + x1)))) 1 (Int32.toNatClampNeg ((195 : Int32) + x1)))) 1 (Int32.toNatClampNeg ((215 : Int32) + x2)) ((ml_up (ml_up (ml_up (ml_up (ml_up (ml_up A 1 (Int32.toNatClampNeg ((95 : Int32) + x2)) (A 1 (Int32.toNatClampNeg ((95 : Int32) + x1)))) 1 (Int32.toNatClampNeg ((115 : Int32) + x2)) ((ml_up A 1 (Int32.toNatClampNeg ((95 : Int32) + x2)) (A 1 (Int32.toNatClampNeg ((95 : Int32) + x1)))) 1 (Int32.toNatClampNeg ((115 : Int32) + x1)))) 1 (Int32.toNatClampNeg ((135 : Int32) + x2)) ((ml_up (ml_up A 1 (Int32.toNatClampNeg ((95 : Int32) + x2)) (A 1 (Int32.toNatClampNeg ((95 : Int32) + x1)))) 1 (Int32.toNatClampNeg ((115 : Int32) + x2)) ((ml_up A 1 (Int32.toNatClampNeg ((95 : Int32) + x2)) (A 1 (Int32.toNatClampNeg ((95 : Int32) + x1)))) 1 (Int32.toNatClampNeg ((115 : Int32) + x1)))) 1 (Int32.toNatClampNeg ((135 : Int32) + x1)))) 1 (Int32.toNatClampNeg ((155 : Int32) + x2)) ((ml_up (ml_up (ml_up A 1 (Int32.toNatClampNeg ((95 : Int32) + x2)) (A 1 (Int32.toNatClampNeg ((95 : Int32) + x1)))) 1 (Int32.toNatClampNeg ((115 : Int32) + x2)) ((ml_up A 1 (Int32.toNatClampNeg ((95 : Int32) + x2)) (A 1 (Int32.toNatClampNeg ((95 : Int32) + x1)))) 1 (Int32.toNatClampNeg ((115 : Int32) + x1)))) 1 (Int32.toNatClampNeg ((135 : Int32) + x2)) ((ml_up (ml_up A 1 (Int32.toNatClampNeg ((95 : Int32) + x2)) (A 1 (Int32.toNatClampNeg ((95 : Int32) + x1)))) 1 (Int32.toNatClampNeg ((115 : Int32) + x2)) ((ml_up A 1 (Int32.toNatClampNeg ((95 : Int32) + x2)) (A 1 (Int32.toNatClampNeg ((95 : Int32) + x1)))) 1 (Int32.toNatClampNeg ((115 : Int32) + x1)))) 1 (Int32.toNatClampNeg ((135 : Int32) + x1)))) 1 (Int32.toNatClampNeg ((155 : Int32) + x1)))) 1 (Int32.toNatClampNeg ((175 : Int32) + x2)) ((ml_up (ml_up (ml_up (ml_up A 1 (Int32.toNatClampNeg ((95 : Int32) + x2)) (A 1 (Int32.toNatClampNeg ((95 : Int32) + x1)))) 1 (Int32.toNatClampNeg ((115 : Int32) + x2)) ((ml_up A 1 (Int32.toNatClampNeg ((95 : Int32) + x2)) (A 1 (Int32.toNatClampNeg ((95 : Int32) + x1)))) 1 (Int32.toNatClampNeg ((115 : Int32) + x1)))) 1 (Int32.toNatClampNeg ((135 : Int32) + x2)) ((ml_up (ml_up A 1 (Int32.toNatClampNeg ((95 : Int32) + x2)) (A 1 (Int32.toNatClampNeg ((95 : Int32) + x1)))) 1 (Int32.toNatClampNeg ((115 : Int32) + x2)) ((ml_up A 1 (Int32.toNatClampNeg ((95 : Int32) + x2)) (A 1 (Int32.toNatClampNeg ((95 : Int32) + x1)))) 1 (Int32.toNatClampNeg ((115 : Int32) + x1)))) 1 (Int32.toNatClampNeg ((135 : Int32) + x1)))) 1 (Int32.toNatClampNeg ((155 : Int32) + x2)) ((ml_up (ml_up (ml_up A 1 (Int32.toNatClampNeg ((95 : Int32) + x2)) (A 1 (Int32.toNatClampNeg ((95 : Int32) + x1)))) 1 (Int32.toNatClampNeg ((115 : Int32) + x2)) ((ml_up A 1 (Int32.toNatClampNeg ((95 : Int32) + x2)) (A 1 (Int32.toNatClampNeg ((95 : Int32) + x1)))) 1 (Int32.toNatClampNeg ((115 : Int32) + x1)))) 1 (Int32.toNatClampNeg ((135 : Int32) + x2)) ((ml_up (ml_up A 1 (Int32.toNatClampNeg ((95 : Int32) + x2)) (A 1 (Int32.toNatClampNeg ((95 : Int32) + x1)))) 1 (Int32.toNatClampNeg ((115 : Int32) + x2)) ((ml_up A 1 (Int32.toNatClampNeg ((95 : Int32) + x2)) (A 1 (Int32.toNatClampNeg ((95 : Int32) + x1)))) 1 (Int32.toNatClampNeg ((115 : Int32) + x1)))) 1 (Int32.toNatClampNeg ((135 : Int32) + x1)))) 1 (Int32.toNatClampNeg ((155 : Int32) + x1)))) 1 (Int32.toNatClampNeg ((175 : Int32) + x1)))) 1 (Int32.toNatClampNeg ((195 : Int32) + x2)) ((ml_up (ml_up (ml_up (ml_up (ml_up A 1 (Int32.toNatClampNeg ((95 : Int32) + x2)) (A 1 (Int32.toNatClampNeg ((95 : Int32) + x1)))) 1 (Int32.toNatClampNeg ((115 : Int32) + x2)) ((ml_up A 1 (Int32.toNatClampNeg ((95 : Int32) + x2)) (A 1 (Int32.toNatClampNeg ((95 : Int32) + x1)))) 1 (Int32.toNatClampNeg ((115 : Int32) + x1)))) 1 (Int32.toNatClampNeg ((135 : Int32) + x2)) ((ml_up (ml_up A 1 (Int32.toNatClampNeg ((95 : Int32) + x2)) (A 1 (Int32.toNatClampNeg ((95 : Int32) + x1)))) 1 (Int32.toNatClampNeg ((115 : Int32) + x2)) ((ml_up A 1 (Int32.toNatClampNeg ((95 : Int32) + x2)) (A 1 (Int32.toNatClampNeg ((95 : Int32) + x1)))) 1 (Int32.toNatClampNeg ((115 : Int32) + x1)))) 1 (Int32.toNatClampNeg ((135 : Int32) + x1)))) 1 (Int32.toNatClampNeg ((155 : Int32) + x2)) ((ml_up (ml_up (ml_up A 1 (Int32.toNatClampNeg ((95 : Int32) + x2)) (A 1 (Int32.toNatClampNeg ((95 : Int32) + x1)))) 1 (Int32.toNatClampNeg ((115 : Int32) + x2)) ((ml_up A 1 (Int32.toNatClampNeg ((95 : Int32) + x2)) (A 1 (Int32.toNatClampNeg ((95 : Int32) + x1)))) 1 (Int32.toNatClampNeg ((115 : Int32) + x1)))) 1 (Int32.toNatClampNeg ((135 : Int32) + x2)) ((ml_up (ml_up A 1 (Int32.toNatClampNeg ((95 : Int32) + x2)) (A 1 (Int32.toNatClampNeg ((95 : Int32) + x1)))) 1 (Int32.toNatClampNeg ((115 : Int32) + x2)) ((ml_up A 1 (Int32.toNatClampNeg ((95 : Int32) + x2)) (A 1 (Int32.toNatClampNeg ((95 : Int32) + x1)))) 1 (Int32.toNatClampNeg ((115 : Int32) + x1)))) 1 (Int32.toNatClampNeg ((135 : Int32) + x1)))) 1 (Int32.toNatClampNeg ((155 : Int32) + x1)))) 1 (Int32.toNatClampNeg ((175 : Int32) + x2)) ((ml_up (ml_up (ml_up (ml_up A 1 (Int32.toNatClampNeg ((95 : Int32) + x2)) (A 1 (Int32.toNatClampNeg ((95 : Int32) + x1)))) 1 (Int32.toNatClampNeg ((115 : Int32) + x2)) ((ml_up A 1 (Int32.toNatClampNeg ((95 : Int32) + x2)) (A 1 (Int32.toNatClampNeg ((95 : Int32) + x1)))) 1 (Int32.toNatClampNeg ((115 : Int32) + x1)))) 1 (Int32.toNatClampNeg ((135 : Int32) + x2)) ((ml_up (ml_up A 1 (Int32.toNatClampNeg ((95 : Int32) + x2)) (A 1 (Int32.toNatClampNeg ((95 : Int32) + x1)))) 1 (Int32.toNatClampNeg ((115 : Int32) + x2)) ((ml_up A 1 (Int32.toNatClampNeg ((95 : Int32) + x2)) (A 1 (Int32.toNatClampNeg ((95 : Int32) + x1)))) 1 (Int32.toNatClampNeg ((115 : Int32) + x1)))) 1 (Int32.toNatClampNeg ((135 : Int32) + x1)))) 1 (Int32.toNatClampNeg ((155 : Int32) + x2)) ((ml_up (ml_up (ml_up A 1 (Int32.toNatClampNeg ((95 : Int32) + x2)) (A 1 (Int32.toNatClampNeg ((95 : Int32) + x1)))) 1 (Int32.toNatClampNeg ((115 : Int32) + x2)) ((ml_up A 1 (Int32.toNatClampNeg ((95 : Int32) + x2)) (A 1 (Int32.toNatClampNeg ((95 : Int32) + x1)))) 1 (Int32.toNatClampNeg ((115 : Int32) + x1)))) 1 (Int32.toNatClampNeg ((135 : Int32) + x2)) ((ml_up (ml_up A 1 (Int32.toNatClampNeg ((95 : Int32) + x2)) (A 1 (Int32.toNatClampNeg ((95 : Int32) + x1)))) 1 (Int32.toNatClampNeg ((115 : Int32) + x2)) ((ml_up A 1 (Int32.toNatClampNeg ((95 : Int32) + x2)) (A 1 (Int32.toNatClampNeg ((95 : Int32) + x1)))) 1 (Int32.toNatClampNeg ((115 : Int32) + x1)))) 1 (Int32.toNatClampNeg ((135 : Int32) + x1)))) 1 (Int32.toNatClampNeg ((155 : Int32) + x1)))) 1 (Int32.toNatClampNeg ((175 : Int32) + x1)))) 1 (Int32.toNatClampNeg ((195 : Int32) + x1)))) 1 (Int32.toNatClampNeg ((215 : Int32) + x1)))) L))))))))))))))
set_option maxHeartbeats 4000000 in
theorem snd_X4_movesFact (l : Launch) (G : GG) (sz : Nat) (h : HH) (ad : Nat → Nat) (F : Nat → Int32) (A : Nat → Nat → Int32) (L : Nat → UInt32) (x1 : Int32) (x2 : Int32) (Q : (Nat → Int32) → (Nat → Nat → Int32) → (Nat → UInt32) → Prop) (hS : ml_S G h ad F A L) (hw : wp_X4_movesFact F A L x1 x2 Q) : Met l yX4_movesFact (ws_ yX4_movesFact cX4_movesFact 3 (none : Option FieldType)) rm_X4_movesFact (hv_Pc G h sz [.ref (ad 0), .int x1, .int x2]) (hv_Qv G h sz (ml_Q G h ad Q)) 0 0 (hv_A h sz) := by
  refine Met.ofW (cc := cX4_movesFact) (maxL := 3) (ret := (none : Option FieldType)) (by decide) rfl ?_
  intro p e s m args below meth c s₁ B hml hv
  obtain ⟨rfl, rfl, hE, hI⟩ := hv_open B hml hv
  have hE : hv_E p s m ([.ref (ad 0), .int x1, .int x2] : List Value).toArray meth c cX4_movesFact 3 (none : Option FieldType) RX4 G h := hE
  have hI := ml_I.start hI hS
  obtain ⟨⟨hx, hb, hml, hown, hts⟩, hr, hlocks, -⟩ := id hE
  have hl := lv_entry ([.ref (ad 0), .int x1, .int x2] : List Value) (n := 3) (Nat.le_of_ble_eq_true rfl)
  rw [lg_entry_eq]
  generalize (lg_sl ([.ref (ad 0), .int x1, .int x2] : List Value) ++ List.replicate (3 - (lg_sl ([.ref (ad 0), .int x1, .int x2] : List Value)).length) Slot.unset).toArray = ls at hl ⊢
  have hl : lv_has ls 3 [(0, .ref (ad 0)), (1, .int x1), (2, .int x2)] := hl
  unfold wp_X4_movesFact at hw
  refine lv_aload_n hx hb dX4_movesFact_0 rfl (lv_at hl 0 rfl) ?_
  refine ml_get hE hI 1 (by decide) q1986 rfl rfl dX4_movesFact_1 ?_
  refine lv_bipush (v := 95) hx hb dX4_movesFact_4 (by decide) ?_
  refine lv_iload_n hx hb dX4_movesFact_6 rfl (lv_at hl 2 rfl) ?_
  refine lv_iadd hx hb dX4_movesFact_7 ?_
  refine lv_aload_n hx hb dX4_movesFact_8 rfl (lv_at hl 0 rfl) ?_
  refine ml_get hE hI 1 (by decide) q1986 rfl rfl dX4_movesFact_9 ?_
  refine lv_bipush (v := 95) hx hb dX4_movesFact_12 (by decide) ?_
  refine lv_iload_n hx hb dX4_movesFact_14 rfl (lv_at hl 1 rfl) ?_
  refine lv_iadd hx hb dX4_movesFact_15 ?_
  obtain ⟨hin, hw⟩ := hw
  refine ml_iald hE hI 1 rfl rfl rfl hin dX4_movesFact_16 ?_
  obtain ⟨hin, hw⟩ := hw
  refine ml_iast hE hI 1 rfl rfl rfl hin dX4_movesFact_17 (fun H locs hI => ?_)
  refine lv_aload_n hx hb dX4_movesFact_18 rfl (lv_at hl 0 rfl) ?_
  refine ml_get hE hI 1 (by decide) q1986 rfl rfl dX4_movesFact_19 ?_
  refine lv_bipush (v := 115) hx hb dX4_movesFact_22 (by decide) ?_
  refine lv_iload_n hx hb dX4_movesFact_24 rfl (lv_at hl 2 rfl) ?_
  refine lv_iadd hx hb dX4_movesFact_25 ?_
  refine lv_aload_n hx hb dX4_movesFact_26 rfl (lv_at hl 0 rfl) ?_
  refine ml_get hE hI 1 (by decide) q1986 rfl rfl dX4_movesFact_27 ?_
  refine lv_bipush (v := 115) hx hb dX4_movesFact_30 (by decide) ?_
  refine lv_iload_n hx hb dX4_movesFact_32 rfl (lv_at hl 1 rfl) ?_
  refine lv_iadd hx hb dX4_movesFact_33 ?_
  obtain ⟨hin, hw⟩ := hw
  refine ml_iald hE hI 1 rfl rfl rfl hin dX4_movesFact_34 ?_
  obtain ⟨hin, hw⟩ := hw
  refine ml_iast hE hI 1 rfl rfl rfl hin dX4_movesFact_35 (fun H locs hI => ?_)
  refine lv_aload_n hx hb dX4_movesFact_36 rfl (lv_at hl 0 rfl) ?_
  refine ml_get hE hI 1 (by decide) q1986 rfl rfl dX4_movesFact_37 ?_
  refine lv_sipush (v := 135) hx hb dX4_movesFact_40 (by decide) ?_
  refine lv_iload_n hx hb dX4_movesFact_43 rfl (lv_at hl 2 rfl) ?_
  refine lv_iadd hx hb dX4_movesFact_44 ?_
  refine lv_aload_n hx hb dX4_movesFact_45 rfl (lv_at hl 0 rfl) ?_
  refine ml_get hE hI 1 (by decide) q1986 rfl rfl dX4_movesFact_46 ?_
  refine lv_sipush (v := 135) hx hb dX4_movesFact_49 (by decide) ?_
  refine lv_iload_n hx hb dX4_movesFact_52 rfl (lv_at hl 1 rfl) ?_
  refine lv_iadd hx hb dX4_movesFact_53 ?_
  obtain ⟨hin, hw⟩ := hw
  refine ml_iald hE hI 1 rfl rfl rfl hin dX4_movesFact_54 ?_
  obtain ⟨hin, hw⟩ := hw
  refine ml_iast hE hI 1 rfl rfl rfl hin dX4_movesFact_55 (fun H locs hI => ?_)
  refine lv_aload_n hx hb dX4_movesFact_56 rfl (lv_at hl 0 rfl) ?_
  refine ml_get hE hI 1 (by decide) q1986 rfl rfl dX4_movesFact_57 ?_
  refine lv_sipush (v := 155) hx hb dX4_movesFact_60 (by decide) ?_
  refine lv_iload_n hx hb dX4_movesFact_63 rfl (lv_at hl 2 rfl) ?_
  refine lv_iadd hx hb dX4_movesFact_64 ?_
  refine lv_aload_n hx hb dX4_movesFact_65 rfl (lv_at hl 0 rfl) ?_
  refine ml_get hE hI 1 (by decide) q1986 rfl rfl dX4_movesFact_66 ?_
  refine lv_sipush (v := 155) hx hb dX4_movesFact_69 (by decide) ?_
  refine lv_iload_n hx hb dX4_movesFact_72 rfl (lv_at hl 1 rfl) ?_
  refine lv_iadd hx hb dX4_movesFact_73 ?_
  obtain ⟨hin, hw⟩ := hw
  refine ml_iald hE hI 1 rfl rfl rfl hin dX4_movesFact_74 ?_
  obtain ⟨hin, hw⟩ := hw
  refine ml_iast hE hI 1 rfl rfl rfl hin dX4_movesFact_75 (fun H locs hI => ?_)
  refine lv_aload_n hx hb dX4_movesFact_76 rfl (lv_at hl 0 rfl) ?_
  refine ml_get hE hI 1 (by decide) q1986 rfl rfl dX4_movesFact_77 ?_
  refine lv_sipush (v := 175) hx hb dX4_movesFact_80 (by decide) ?_
  refine lv_iload_n hx hb dX4_movesFact_83 rfl (lv_at hl 2 rfl) ?_
  refine lv_iadd hx hb dX4_movesFact_84 ?_
  refine lv_aload_n hx hb dX4_movesFact_85 rfl (lv_at hl 0 rfl) ?_
  refine ml_get hE hI 1 (by decide) q1986 rfl rfl dX4_movesFact_86 ?_
  refine lv_sipush (v := 175) hx hb dX4_movesFact_89 (by decide) ?_
  refine lv_iload_n hx hb dX4_movesFact_92 rfl (lv_at hl 1 rfl) ?_
  refine lv_iadd hx hb dX4_movesFact_93 ?_
  obtain ⟨hin, hw⟩ := hw
  refine ml_iald hE hI 1 rfl rfl rfl hin dX4_movesFact_94 ?_
  obtain ⟨hin, hw⟩ := hw
  refine ml_iast hE hI 1 rfl rfl rfl hin dX4_movesFact_95 (fun H locs hI => ?_)
  refine lv_aload_n hx hb dX4_movesFact_96 rfl (lv_at hl 0 rfl) ?_
  refine ml_get hE hI 1 (by decide) q1986 rfl rfl dX4_movesFact_97 ?_
  refine lv_sipush (v := 195) hx hb dX4_movesFact_100 (by decide) ?_
  refine lv_iload_n hx hb dX4_movesFact_103 rfl (lv_at hl 2 rfl) ?_
  refine lv_iadd hx hb dX4_movesFact_104 ?_
  refine lv_aload_n hx hb dX4_movesFact_105 rfl (lv_at hl 0 rfl) ?_
  refine ml_get hE hI 1 (by decide) q1986 rfl rfl dX4_movesFact_106 ?_
  refine lv_sipush (v := 195) hx hb dX4_movesFact_109 (by decide) ?_
  refine lv_iload_n hx hb dX4_movesFact_112 rfl (lv_at hl 1 rfl) ?_
  refine lv_iadd hx hb dX4_movesFact_113 ?_
  obtain ⟨hin, hw⟩ := hw
  refine ml_iald hE hI 1 rfl rfl rfl hin dX4_movesFact_114 ?_
  obtain ⟨hin, hw⟩ := hw
  refine ml_iast hE hI 1 rfl rfl rfl hin dX4_movesFact_115 (fun H locs hI => ?_)
  refine lv_aload_n hx hb dX4_movesFact_116 rfl (lv_at hl 0 rfl) ?_
  refine ml_get hE hI 1 (by decide) q1986 rfl rfl dX4_movesFact_117 ?_
  refine lv_sipush (v := 215) hx hb dX4_movesFact_120 (by decide) ?_
  refine lv_iload_n hx hb dX4_movesFact_123 rfl (lv_at hl 2 rfl) ?_
  refine lv_iadd hx hb dX4_movesFact_124 ?_
  refine lv_aload_n hx hb dX4_movesFact_125 rfl (lv_at hl 0 rfl) ?_
  refine ml_get hE hI 1 (by decide) q1986 rfl rfl dX4_movesFact_126 ?_
  refine lv_sipush (v := 215) hx hb dX4_movesFact_129 (by decide) ?_
  refine lv_iload_n hx hb dX4_movesFact_132 rfl (lv_at hl 1 rfl) ?_
  refine lv_iadd hx hb dX4_movesFact_133 ?_
  obtain ⟨hin, hw⟩ := hw
  refine ml_iald hE hI 1 rfl rfl rfl hin dX4_movesFact_134 ?_
  obtain ⟨hin, hw⟩ := hw
  refine ml_iast hE hI 1 rfl rfl rfl hin dX4_movesFact_135 (fun H locs hI => ?_)
  exact ml_vret hE hI hw dX4_movesFact_136

/-- MatchmakerRulesModel.isThere(I)Z -/
abbrev rm_X4_isThere : Room := { frames := 2, cells := 0, slots := 0, locals := 34 }
def wp_X4_isThere (F : Nat → Int32) (A : Nat → Nat → Int32) (L : Nat → UInt32) (x1 : Int32) (Q : Int32 → (Nat → Int32) → (Nat → Nat → Int32) → (Nat → UInt32) → Prop) : Prop := ((x1 = (-1 : Int32) → Q (1 : Int32) F A L) ∧ (¬ x1 = (-1 : Int32) → wp_X4_slotOf F A L x1 (fun r1 F1 A1 L1 => ((r1 = (-1 : Int32) → Q (0 : Int32) F1 A1 L1) ∧ (¬ r1 = (-1 : Int32) → Q (1 : Int32) F1 A1 L1)))))
set_option maxHeartbeats 4000000 in
theorem snd_X4_isThere (l : Launch) (G : GG) (sz : Nat) (h : HH) (ad : Nat → Nat) (F : Nat → Int32) (A : Nat → Nat → Int32) (L : Nat → UInt32) (x1 : Int32) (Q : Int32 → (Nat → Int32) → (Nat → Nat → Int32) → (Nat → UInt32) → Prop) (hS : ml_S G h ad F A L) (hw : wp_X4_isThere F A L x1 Q) : Met l yX4_isThere (ws_ yX4_isThere cX4_isThere 2 (some FieldType.boolean)) rm_X4_isThere (hv_Pc G h sz [.ref (ad 0), .int x1]) (hv_Qi G h sz (fun r => ml_Q G h ad (Q r))) 0 0 (hv_A h sz) := by
  refine Met.ofW (cc := cX4_isThere) (maxL := 2) (ret := (some FieldType.boolean)) (by decide) rfl ?_
  intro p e s m args below meth c s₁ B hml hv
  obtain ⟨rfl, rfl, hE, hI⟩ := hv_open B hml hv
  have hE : hv_E p s m ([.ref (ad 0), .int x1] : List Value).toArray meth c cX4_isThere 2 (some FieldType.boolean) RX4 G h := hE
  have hI := ml_I.start hI hS
  obtain ⟨⟨hx, hb, hml, hown, hts⟩, hr, hlocks, -⟩ := id hE
  have hl := lv_entry ([.ref (ad 0), .int x1] : List Value) (n := 2) (Nat.le_of_ble_eq_true rfl)
  rw [lg_entry_eq]
  generalize (lg_sl ([.ref (ad 0), .int x1] : List Value) ++ List.replicate (2 - (lg_sl ([.ref (ad 0), .int x1] : List Value)).length) Slot.unset).toArray = ls at hl ⊢
  have hl : lv_has ls 2 [(0, .ref (ad 0)), (1, .int x1)] := hl
  unfold wp_X4_isThere at hw
  refine lv_iload_n hx hb dX4_isThere_0 rfl (lv_at hl 1 rfl) ?_
  refine lv_iconst (v := -1) hx hb dX4_isThere_1 (by decide) ?_
  refine lv_icmp_eq (tgt := 14) hx hb dX4_isThere_2 (by decide) (fun c_2 => ?_) (fun c_2 => ?_)
  · have hw := hw.1 c_2
    refine lv_iconst (v := 1) hx hb dX4_isThere_14 (by decide) ?_
    refine lv_goto (tgt := 19) hx hb dX4_isThere_15 (by decide) ?_
    exact ml_zret hE hI rfl hw dX4_isThere_19
  · have hw := hw.2 c_2
    refine lv_aload_n hx hb dX4_isThere_5 rfl (lv_at hl 0 rfl) ?_
    refine lv_iload_n hx hb dX4_isThere_6 rfl (lv_at hl 1 rfl) ?_
    refine ml_calli (As := [.int x1]) (rest := []) (cells := 0) (slots := 0) hE hI (fun h hS => snd_X4_slotOf l G _ h ad F A L x1 _ hS hw) (cwV 1 hts (lw_V q2198 q2200 qs54 q108 q2201) rfl rfl rfl (by decide +kernel) ⟨Nat.le_of_ble_eq_true rfl, Nat.le_of_ble_eq_true rfl⟩) rfl hl.1 (Nat.le_of_ble_eq_true rfl) dX4_isThere_7 ⟨Nat.le_of_ble_eq_true rfl, Nat.le_of_ble_eq_true rfl⟩ (fun r1 F1 A1 L1 H locs hw hI => ?_)
    refine lv_iconst (v := -1) hx hb dX4_isThere_10 (by decide) ?_
    refine lv_icmp_eq (tgt := 18) hx hb dX4_isThere_11 (by decide) (fun c_11 => ?_) (fun c_11 => ?_)
    · have hw := hw.1 c_11
      refine lv_iconst (v := 0) hx hb dX4_isThere_18 (by decide) ?_
      exact ml_zret hE hI rfl hw dX4_isThere_19
    · have hw := hw.2 c_11
      refine lv_iconst (v := 1) hx hb dX4_isThere_14 (by decide) ?_
      refine lv_goto (tgt := 19) hx hb dX4_isThere_15 (by decide) ?_
      exact ml_zret hE hI rfl hw dX4_isThere_19

/-- MatchmakerRulesModel.cleans()I -/
abbrev rm_X4_cleans : Room := { frames := 4, cells := 0, slots := 0, locals := 78 }
def wp_X4_cleans_L65 (Q : Int32 → (Nat → Int32) → (Nat → Nat → Int32) → (Nat → UInt32) → Prop) : Nat → (Nat → Int32) → (Nat → Nat → Int32) → (Nat → UInt32) → (Int32) → (Int32) → (Int32) → Prop
  | 0, _, _, _, _, _, _ => False
  | n + 1, F, A, L, x1, x4, x5 => (((A 1 6) ≤ x5 → Q x1 F (ml_up (ml_up A 1 6 x4) 1 4 (((ml_up A 1 6 x4) 1 4) + x1)) L) ∧ (¬ (A 1 6) ≤ x5 → wp_X4_firing F A L x5 (1 : Int32) (fun r2 F2 A2 L2 => wp_X4_isThere F2 A2 L2 r2 (fun r3 F3 A3 L3 => ((r3 = 0 → wp_X4_cleans_L65 Q n F3 A3 L3 x1 x4 (x5 + (1 : Int32))) ∧ (¬ r3 = 0 → wp_X4_firing F3 A3 L3 x5 (2 : Int32) (fun r4 F4 A4 L4 => wp_X4_isThere F4 A4 L4 r4 (fun r5 F5 A5 L5 => ((¬ r5 = 0 → wp_X4_movesFiring F5 A5 L5 x5 x4 (fun F6 A6 L6 => wp_X4_cleans_L65 Q n F6 A6 L6 x1 (x4 + (1 : Int32)) (x5 + (1 : Int32)))) ∧ (r5 = 0 → wp_X4_cleans_L65 Q n F5 A5 L5 x1 x4 (x5 + (1 : Int32))))))))))))
set_option maxHeartbeats 4000000 in
theorem snd_X4_cleans_L65 {p : Program} {l : Launch} {e : Env} {s : State} {m : MethodId} {args : Array Value} {below : List Frame} {meth : Method} {c : Code} {G : GG} {h0 : HH} {ad : Nat → Nat} (hE : hv_E p s m args meth c cX4_cleans 6 (some FieldType.int) RX4 G h0) (Q : Int32 → (Nat → Int32) → (Nat → Nat → Int32) → (Nat → UInt32) → Prop) : ∀ (n : Nat) (F : Nat → Int32) (A : Nat → Nat → Int32) (L : Nat → UInt32) (x1 : Int32) (x4 : Int32) (x5 : Int32), wp_X4_cleans_L65 Q n F A L x1 x4 x5 → ∀ (H : Heap) (locs : List Loc) (ls : Array Slot), ml_I G h0 s.heap ad F A L H locs → lv_has ls 6 [(0, .ref (ad 0)), (1, .int x1), (4, .int x4), (5, .int x5)] → W p l e (headSpec (ws_ yX4_cleans cX4_cleans 6 (some FieldType.int)) rm_X4_cleans).room s m args below meth c H locs 0 0 (MQ below (hv_Qi G h0 s.heap.size (fun r => ml_Q G h0 ad (Q r))) args s 0 0 (hv_A h0 s.heap.size)) (F0 m 65 ls []) := by
  obtain ⟨⟨hx, hb, hml, hown, hts⟩, hr, hlocks, -⟩ := id hE
  intro n
  induction n with
  | zero => intro F A L x1 x4 x5 hw; exact hw.elim
  | succ n ih =>
    intro F A L x1 x4 x5 hw H locs ls hI hl
    unfold wp_X4_cleans_L65 at hw
    refine lv_iload hx hb dX4_cleans_65 (lv_at hl 3 rfl) ?_
    refine lv_aload_n hx hb dX4_cleans_67 rfl (lv_at hl 0 rfl) ?_
    refine ml_get hE hI 1 (by decide) q1986 rfl rfl dX4_cleans_68 ?_
    refine lv_bipush (v := 6) hx hb dX4_cleans_71 (by decide) ?_
    have hin : vp_in (6 : Int32) 13675 := by unfold vp_in; decide +kernel
    refine ml_iald hE hI 1 rfl rfl (show Int32.toNatClampNeg (6 : Int32) = 6 from by decide +kernel) hin dX4_cleans_73 ?_
    refine lv_icmp_ge (tgt := 125) hx hb dX4_cleans_74 (by decide) (fun c_74 => ?_) (fun c_74 => ?_)
    · have hw := hw.1 c_74
      refine lv_aload_n hx hb dX4_cleans_125 rfl (lv_at hl 0 rfl) ?_
      refine ml_get hE hI 1 (by decide) q1986 rfl rfl dX4_cleans_126 ?_
      refine lv_bipush (v := 6) hx hb dX4_cleans_129 (by decide) ?_
      refine lv_iload hx hb dX4_cleans_131 (lv_at hl 2 rfl) ?_
      have hin : vp_in (6 : Int32) 13675 := by unfold vp_in; decide +kernel
      refine ml_iast hE hI 1 rfl rfl (show Int32.toNatClampNeg (6 : Int32) = 6 from by decide +kernel) hin dX4_cleans_133 (fun H locs hI => ?_)
      refine lv_aload_n hx hb dX4_cleans_134 rfl (lv_at hl 0 rfl) ?_
      refine ml_get hE hI 1 (by decide) q1986 rfl rfl dX4_cleans_135 ?_
      refine lv_iconst (v := 4) hx hb dX4_cleans_138 (by decide) ?_
      refine lv_dup2_11 hx hb dX4_cleans_139 rfl rfl ?_
      have hin : vp_in (4 : Int32) 13675 := by unfold vp_in; decide +kernel
      refine ml_iald hE hI 1 rfl rfl (show Int32.toNatClampNeg (4 : Int32) = 4 from by decide +kernel) hin dX4_cleans_140 ?_
      refine lv_iload_n hx hb dX4_cleans_141 rfl (lv_at hl 1 rfl) ?_
      refine lv_iadd hx hb dX4_cleans_142 ?_
      have hin : vp_in (4 : Int32) 13675 := by unfold vp_in; decide +kernel
      refine ml_iast hE hI 1 rfl rfl (show Int32.toNatClampNeg (4 : Int32) = 4 from by decide +kernel) hin dX4_cleans_143 (fun H locs hI => ?_)
      refine lv_iload_n hx hb dX4_cleans_144 rfl (lv_at hl 1 rfl) ?_
      exact ml_iret hE hI hw dX4_cleans_145
    · have hw := hw.2 c_74
      refine lv_aload_n hx hb dX4_cleans_77 rfl (lv_at hl 0 rfl) ?_
      refine lv_aload_n hx hb dX4_cleans_78 rfl (lv_at hl 0 rfl) ?_
      refine lv_iload hx hb dX4_cleans_79 (lv_at hl 3 rfl) ?_
      refine lv_iconst (v := 1) hx hb dX4_cleans_81 (by decide) ?_
      refine ml_calli (As := [.int x5, .int (1 : Int32)]) (rest := [.ref (ad 0)]) (cells := 0) (slots := 0) hE hI (fun h hS => snd_X4_firing l G _ h ad F A L x5 (1 : Int32) _ hS hw) (cwV 2 hts (lw_V q2182 q2184 qs50 q108 q2185) rfl rfl rfl (by decide +kernel) ⟨Nat.le_of_ble_eq_true rfl, Nat.le_of_ble_eq_true rfl⟩) rfl hl.1 (Nat.le_of_ble_eq_true rfl) dX4_cleans_82 ⟨Nat.le_of_ble_eq_true rfl, Nat.le_of_ble_eq_true rfl⟩ (fun r2 F2 A2 L2 H locs hw hI => ?_)
      refine ml_calli (As := [.int r2]) (rest := []) (cells := 0) (slots := 0) hE hI (fun h hS => snd_X4_isThere l G _ h ad F2 A2 L2 r2 _ hS hw) (cwV 1 hts (lw_V q2210 q2212 qs57 q108 q2213) rfl rfl rfl (by decide +kernel) ⟨Nat.le_of_ble_eq_true rfl, Nat.le_of_ble_eq_true rfl⟩) rfl hl.1 (Nat.le_of_ble_eq_true rfl) dX4_cleans_85 ⟨Nat.le_of_ble_eq_true rfl, Nat.le_of_ble_eq_true rfl⟩ (fun r3 F3 A3 L3 H locs hw hI => ?_)
      refine lv_if_eq (tgt := 119) hx hb dX4_cleans_88 (by decide) (fun c_88 => ?_) (fun c_88 => ?_)
      · have hw := hw.1 c_88
        refine lv_iinc (v := (x5 + (1 : Int32))) (lv' := [(5, .int (x5 + (1 : Int32))), (0, .ref (ad 0)), (1, .int x1), (4, .int x4)]) hx hb dX4_cleans_119 hl (k := 3) rfl rfl (by decide) rfl (fun ls hl => ?_)
        refine lv_goto (tgt := 65) hx hb dX4_cleans_122 (by decide) ?_
        exact ih F3 A3 L3 x1 x4 (x5 + (1 : Int32)) hw _ _ _ hI (lv_sub hl [1, 2, 3, 0] rfl)
      · have hw := hw.2 c_88
        refine lv_aload_n hx hb dX4_cleans_91 rfl (lv_at hl 0 rfl) ?_
        refine lv_aload_n hx hb dX4_cleans_92 rfl (lv_at hl 0 rfl) ?_
        refine lv_iload hx hb dX4_cleans_93 (lv_at hl 3 rfl) ?_
        refine lv_iconst (v := 2) hx hb dX4_cleans_95 (by decide) ?_
        refine ml_calli (As := [.int x5, .int (2 : Int32)]) (rest := [.ref (ad 0)]) (cells := 0) (slots := 0) hE hI (fun h hS => snd_X4_firing l G _ h ad F3 A3 L3 x5 (2 : Int32) _ hS hw) (cwV 2 hts (lw_V q2182 q2184 qs50 q108 q2185) rfl rfl rfl (by decide +kernel) ⟨Nat.le_of_ble_eq_true rfl, Nat.le_of_ble_eq_true rfl⟩) rfl hl.1 (Nat.le_of_ble_eq_true rfl) dX4_cleans_96 ⟨Nat.le_of_ble_eq_true rfl, Nat.le_of_ble_eq_true rfl⟩ (fun r4 F4 A4 L4 H locs hw hI => ?_)
        refine ml_calli (As := [.int r4]) (rest := []) (cells := 0) (slots := 0) hE hI (fun h hS => snd_X4_isThere l G _ h ad F4 A4 L4 r4 _ hS hw) (cwV 1 hts (lw_V q2210 q2212 qs57 q108 q2213) rfl rfl rfl (by decide +kernel) ⟨Nat.le_of_ble_eq_true rfl, Nat.le_of_ble_eq_true rfl⟩) rfl hl.1 (Nat.le_of_ble_eq_true rfl) dX4_cleans_99 ⟨Nat.le_of_ble_eq_true rfl, Nat.le_of_ble_eq_true rfl⟩ (fun r5 F5 A5 L5 H locs hw hI => ?_)
        refine lv_if_ne (tgt := 108) hx hb dX4_cleans_102 (by decide) (fun c_102 => ?_) (fun c_102 => ?_)
        · have hw := hw.1 c_102
          refine lv_aload_n hx hb dX4_cleans_108 rfl (lv_at hl 0 rfl) ?_
          refine lv_iload hx hb dX4_cleans_109 (lv_at hl 3 rfl) ?_
          refine lv_iload hx hb dX4_cleans_111 (lv_at hl 2 rfl) ?_
          refine ml_callv (As := [.int x5, .int x4]) (rest := []) (cells := 0) (slots := 0) hE hI (fun h hS => snd_X4_movesFiring l G _ h ad F5 A5 L5 x5 x4 _ hS hw) (cwV 2 hts (lw_V q2186 q2188 qs51 q108 q2189) rfl rfl rfl (by decide +kernel) ⟨Nat.le_of_ble_eq_true rfl, Nat.le_of_ble_eq_true rfl⟩) rfl hl.1 (Nat.le_of_ble_eq_true rfl) dX4_cleans_113 ⟨Nat.le_of_ble_eq_true rfl, Nat.le_of_ble_eq_true rfl⟩ (fun F6 A6 L6 H locs hw hI => ?_)
          refine lv_iinc (v := (x4 + (1 : Int32))) (lv' := [(4, .int (x4 + (1 : Int32))), (0, .ref (ad 0)), (1, .int x1), (5, .int x5)]) hx hb dX4_cleans_116 hl (k := 2) rfl rfl (by decide) rfl (fun ls hl => ?_)
          refine lv_iinc (v := (x5 + (1 : Int32))) (lv' := [(5, .int (x5 + (1 : Int32))), (4, .int (x4 + (1 : Int32))), (0, .ref (ad 0)), (1, .int x1)]) hx hb dX4_cleans_119 hl (k := 3) rfl rfl (by decide) rfl (fun ls hl => ?_)
          refine lv_goto (tgt := 65) hx hb dX4_cleans_122 (by decide) ?_
          exact ih F6 A6 L6 x1 (x4 + (1 : Int32)) (x5 + (1 : Int32)) hw _ _ _ hI (lv_sub hl [2, 3, 1, 0] rfl)
        · have hw := hw.2 c_102
          refine lv_goto (tgt := 119) hx hb dX4_cleans_105 (by decide) ?_
          refine lv_iinc (v := (x5 + (1 : Int32))) (lv' := [(5, .int (x5 + (1 : Int32))), (0, .ref (ad 0)), (1, .int x1), (4, .int x4)]) hx hb dX4_cleans_119 hl (k := 3) rfl rfl (by decide) rfl (fun ls hl => ?_)
          refine lv_goto (tgt := 65) hx hb dX4_cleans_122 (by decide) ?_
          exact ih F5 A5 L5 x1 x4 (x5 + (1 : Int32)) hw _ _ _ hI (lv_sub hl [1, 2, 3, 0] rfl)
def wp_X4_cleans_L17 (Q : Int32 → (Nat → Int32) → (Nat → Nat → Int32) → (Nat → UInt32) → Prop) : Nat → (Nat → Int32) → (Nat → Nat → Int32) → (Nat → UInt32) → (Int32) → (Int32) → (Int32) → (Int32) → Prop
  | 0, _, _, _, _, _, _, _ => False
  | n + 1, F, A, L, x1, x2, x3, x4 => ((x2 ≤ x4 → (∃ n65, wp_X4_cleans_L65 Q n65 F (ml_up A 1 1 x3) L x1 (0 : Int32) (0 : Int32))) ∧ (¬ x2 ≤ x4 → (vp_in x4 20 ∧ ((¬ (A 14 (Int32.toNatClampNeg x4)) = 0 → wp_X4_movesFact F A L x4 x3 (fun F7 A7 L7 => wp_X4_cleans_L17 Q n F7 A7 L7 x1 x2 (x3 + (1 : Int32)) (x4 + (1 : Int32)))) ∧ ((A 14 (Int32.toNatClampNeg x4)) = 0 → wp_X4_cleans_L17 Q n F A L x1 x2 x3 (x4 + (1 : Int32)))))))
set_option maxHeartbeats 4000000 in
theorem snd_X4_cleans_L17 {p : Program} {l : Launch} {e : Env} {s : State} {m : MethodId} {args : Array Value} {below : List Frame} {meth : Method} {c : Code} {G : GG} {h0 : HH} {ad : Nat → Nat} (hE : hv_E p s m args meth c cX4_cleans 6 (some FieldType.int) RX4 G h0) (Q : Int32 → (Nat → Int32) → (Nat → Nat → Int32) → (Nat → UInt32) → Prop) : ∀ (n : Nat) (F : Nat → Int32) (A : Nat → Nat → Int32) (L : Nat → UInt32) (x1 : Int32) (x2 : Int32) (x3 : Int32) (x4 : Int32), wp_X4_cleans_L17 Q n F A L x1 x2 x3 x4 → ∀ (H : Heap) (locs : List Loc) (ls : Array Slot), ml_I G h0 s.heap ad F A L H locs → lv_has ls 6 [(0, .ref (ad 0)), (1, .int x1), (2, .int x2), (3, .int x3), (4, .int x4)] → W p l e (headSpec (ws_ yX4_cleans cX4_cleans 6 (some FieldType.int)) rm_X4_cleans).room s m args below meth c H locs 0 0 (MQ below (hv_Qi G h0 s.heap.size (fun r => ml_Q G h0 ad (Q r))) args s 0 0 (hv_A h0 s.heap.size)) (F0 m 17 ls []) := by
  obtain ⟨⟨hx, hb, hml, hown, hts⟩, hr, hlocks, -⟩ := id hE
  intro n
  induction n with
  | zero => intro F A L x1 x2 x3 x4 hw; exact hw.elim
  | succ n ih =>
    intro F A L x1 x2 x3 x4 hw H locs ls hI hl
    unfold wp_X4_cleans_L17 at hw
    refine lv_iload hx hb dX4_cleans_17 (lv_at hl 4 rfl) ?_
    refine lv_iload_n hx hb dX4_cleans_19 rfl (lv_at hl 2 rfl) ?_
    refine lv_icmp_ge (tgt := 52) hx hb dX4_cleans_20 (by decide) (fun c_20 => ?_) (fun c_20 => ?_)
    · have hw := hw.1 c_20
      refine lv_aload_n hx hb dX4_cleans_52 rfl (lv_at hl 0 rfl) ?_
      refine ml_get hE hI 1 (by decide) q1986 rfl rfl dX4_cleans_53 ?_
      refine lv_iconst (v := 1) hx hb dX4_cleans_56 (by decide) ?_
      refine lv_iload_n hx hb dX4_cleans_57 rfl (lv_at hl 3 rfl) ?_
      have hin : vp_in (1 : Int32) 13675 := by unfold vp_in; decide +kernel
      refine ml_iast hE hI 1 rfl rfl (show Int32.toNatClampNeg (1 : Int32) = 1 from by decide +kernel) hin dX4_cleans_58 (fun H locs hI => ?_)
      refine lv_iconst (v := 0) hx hb dX4_cleans_59 (by decide) ?_
      refine lv_istore (lv' := [(4, .int (0 : Int32)), (0, .ref (ad 0)), (1, .int x1), (2, .int x2), (3, .int x3)]) hx hb dX4_cleans_60 hl (by decide) rfl (fun ls hl => ?_)
      refine lv_iconst (v := 0) hx hb dX4_cleans_62 (by decide) ?_
      refine lv_istore (lv' := [(5, .int (0 : Int32)), (4, .int (0 : Int32)), (0, .ref (ad 0)), (1, .int x1), (2, .int x2), (3, .int x3)]) hx hb dX4_cleans_63 hl (by decide) rfl (fun ls hl => ?_)
      obtain ⟨n65, hw⟩ := hw
      exact snd_X4_cleans_L65 hE Q n65 F (ml_up A 1 1 x3) L x1 (0 : Int32) (0 : Int32) hw _ _ _ hI (lv_sub hl [2, 3, 1, 0] rfl)
    · have hw := hw.2 c_20
      refine lv_aload_n hx hb dX4_cleans_23 rfl (lv_at hl 0 rfl) ?_
      refine ml_get hE hI 14 (by decide) q1999 rfl rfl dX4_cleans_24 ?_
      refine lv_iload hx hb dX4_cleans_27 (lv_at hl 4 rfl) ?_
      obtain ⟨hin, hw⟩ := hw
      refine ml_zald hE hI 14 rfl rfl rfl hin dX4_cleans_29 ?_
      refine lv_if_ne (tgt := 36) hx hb dX4_cleans_30 (by decide) (fun c_30 => ?_) (fun c_30 => ?_)
      · have hw := hw.1 c_30
        refine lv_aload_n hx hb dX4_cleans_36 rfl (lv_at hl 0 rfl) ?_
        refine lv_iload hx hb dX4_cleans_37 (lv_at hl 4 rfl) ?_
        refine lv_iload_n hx hb dX4_cleans_39 rfl (lv_at hl 3 rfl) ?_
        refine ml_callv (As := [.int x4, .int x3]) (rest := []) (cells := 0) (slots := 0) hE hI (fun h hS => snd_X4_movesFact l G _ h ad F A L x4 x3 _ hS hw) (cwV 2 hts (lw_V q2206 q2208 qs56 q108 q2209) rfl rfl rfl (by decide +kernel) ⟨Nat.le_of_ble_eq_true rfl, Nat.le_of_ble_eq_true rfl⟩) rfl hl.1 (Nat.le_of_ble_eq_true rfl) dX4_cleans_40 ⟨Nat.le_of_ble_eq_true rfl, Nat.le_of_ble_eq_true rfl⟩ (fun F7 A7 L7 H locs hw hI => ?_)
        refine lv_iinc (v := (x3 + (1 : Int32))) (lv' := [(3, .int (x3 + (1 : Int32))), (0, .ref (ad 0)), (1, .int x1), (2, .int x2), (4, .int x4)]) hx hb dX4_cleans_43 hl (k := 3) rfl rfl (by decide) rfl (fun ls hl => ?_)
        refine lv_iinc (v := (x4 + (1 : Int32))) (lv' := [(4, .int (x4 + (1 : Int32))), (3, .int (x3 + (1 : Int32))), (0, .ref (ad 0)), (1, .int x1), (2, .int x2)]) hx hb dX4_cleans_46 hl (k := 4) rfl rfl (by decide) rfl (fun ls hl => ?_)
        refine lv_goto (tgt := 17) hx hb dX4_cleans_49 (by decide) ?_
        exact ih F7 A7 L7 x1 x2 (x3 + (1 : Int32)) (x4 + (1 : Int32)) hw _ _ _ hI (lv_sub hl [2, 3, 4, 1, 0] rfl)
      · have hw := hw.2 c_30
        refine lv_goto (tgt := 46) hx hb dX4_cleans_33 (by decide) ?_
        refine lv_iinc (v := (x4 + (1 : Int32))) (lv' := [(4, .int (x4 + (1 : Int32))), (0, .ref (ad 0)), (1, .int x1), (2, .int x2), (3, .int x3)]) hx hb dX4_cleans_46 hl (k := 4) rfl rfl (by decide) rfl (fun ls hl => ?_)
        refine lv_goto (tgt := 17) hx hb dX4_cleans_49 (by decide) ?_
        exact ih F A L x1 x2 x3 (x4 + (1 : Int32)) hw _ _ _ hI (lv_sub hl [1, 2, 3, 4, 0] rfl)
def wp_X4_cleans (F : Nat → Int32) (A : Nat → Nat → Int32) (L : Nat → UInt32) (Q : Int32 → (Nat → Int32) → (Nat → Nat → Int32) → (Nat → UInt32) → Prop) : Prop := wp_X4_grounds F A L (fun r1 F1 A1 L1 => (∃ n17, wp_X4_cleans_L17 Q n17 F1 A1 L1 r1 (A1 1 1) (0 : Int32) (0 : Int32)))
set_option maxHeartbeats 4000000 in
theorem snd_X4_cleans (l : Launch) (G : GG) (sz : Nat) (h : HH) (ad : Nat → Nat) (F : Nat → Int32) (A : Nat → Nat → Int32) (L : Nat → UInt32) (Q : Int32 → (Nat → Int32) → (Nat → Nat → Int32) → (Nat → UInt32) → Prop) (hS : ml_S G h ad F A L) (hw : wp_X4_cleans F A L Q) : Met l yX4_cleans (ws_ yX4_cleans cX4_cleans 6 (some FieldType.int)) rm_X4_cleans (hv_Pc G h sz [.ref (ad 0)]) (hv_Qi G h sz (fun r => ml_Q G h ad (Q r))) 0 0 (hv_A h sz) := by
  refine Met.ofW (cc := cX4_cleans) (maxL := 6) (ret := (some FieldType.int)) (by decide) rfl ?_
  intro p e s m args below meth c s₁ B hml hv
  obtain ⟨rfl, rfl, hE, hI⟩ := hv_open B hml hv
  have hE : hv_E p s m ([.ref (ad 0)] : List Value).toArray meth c cX4_cleans 6 (some FieldType.int) RX4 G h := hE
  have hI := ml_I.start hI hS
  obtain ⟨⟨hx, hb, hml, hown, hts⟩, hr, hlocks, -⟩ := id hE
  have hl := lv_entry ([.ref (ad 0)] : List Value) (n := 6) (Nat.le_of_ble_eq_true rfl)
  rw [lg_entry_eq]
  generalize (lg_sl ([.ref (ad 0)] : List Value) ++ List.replicate (6 - (lg_sl ([.ref (ad 0)] : List Value)).length) Slot.unset).toArray = ls at hl ⊢
  have hl : lv_has ls 6 [(0, .ref (ad 0))] := hl
  unfold wp_X4_cleans at hw
  refine lv_aload_n hx hb dX4_cleans_0 rfl (lv_at hl 0 rfl) ?_
  refine ml_calli (As := []) (rest := []) (cells := 0) (slots := 0) hE hI (fun h hS => snd_X4_grounds l G _ h ad F A L _ hS hw) (cwV 0 hts (lw_V q2194 q2196 qs53 q108 q2197) rfl rfl rfl (by decide +kernel) ⟨Nat.le_of_ble_eq_true rfl, Nat.le_of_ble_eq_true rfl⟩) rfl hl.1 (Nat.le_of_ble_eq_true rfl) dX4_cleans_1 ⟨Nat.le_of_ble_eq_true rfl, Nat.le_of_ble_eq_true rfl⟩ (fun r1 F1 A1 L1 H locs hw hI => ?_)
  refine lv_istore_n (lv' := [(1, .int r1), (0, .ref (ad 0))]) hx hb dX4_cleans_4 rfl hl (by decide) rfl (fun ls hl => ?_)
  refine lv_aload_n hx hb dX4_cleans_5 rfl (lv_at hl 1 rfl) ?_
  refine ml_get hE hI 1 (by decide) q1986 rfl rfl dX4_cleans_6 ?_
  refine lv_iconst (v := 1) hx hb dX4_cleans_9 (by decide) ?_
  have hin : vp_in (1 : Int32) 13675 := by unfold vp_in; decide +kernel
  refine ml_iald hE hI 1 rfl rfl (show Int32.toNatClampNeg (1 : Int32) = 1 from by decide +kernel) hin dX4_cleans_10 ?_
  refine lv_istore_n (lv' := [(2, .int (A1 1 1)), (1, .int r1), (0, .ref (ad 0))]) hx hb dX4_cleans_11 rfl hl (by decide) rfl (fun ls hl => ?_)
  refine lv_iconst (v := 0) hx hb dX4_cleans_12 (by decide) ?_
  refine lv_istore_n (lv' := [(3, .int (0 : Int32)), (2, .int (A1 1 1)), (1, .int r1), (0, .ref (ad 0))]) hx hb dX4_cleans_13 rfl hl (by decide) rfl (fun ls hl => ?_)
  refine lv_iconst (v := 0) hx hb dX4_cleans_14 (by decide) ?_
  refine lv_istore (lv' := [(4, .int (0 : Int32)), (3, .int (0 : Int32)), (2, .int (A1 1 1)), (1, .int r1), (0, .ref (ad 0))]) hx hb dX4_cleans_15 hl (by decide) rfl (fun ls hl => ?_)
  obtain ⟨n17, hw⟩ := hw
  exact snd_X4_cleans_L17 hE Q n17 F1 A1 L1 r1 (A1 1 1) (0 : Int32) (0 : Int32) hw _ _ _ hI (lv_sub hl [4, 3, 2, 1, 0] rfl)
