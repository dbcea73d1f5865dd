/-! the reference's methods, walked (by gen/model.py) -/
set_option maxRecDepth 100000
/-- MatchmakerRulesModel.behind(I)I -/
abbrev rm_X4_behind : Room := { frames := 3, cells := 0, slots := 0, locals := 57 }
def wp_X4_behind_L26 (Q : Int32 → (Nat → Int32) → (Nat → Nat → Int32) → (Nat → UInt32) → Prop) (k4 : (Nat → Int32) → (Nat → Nat → Int32) → (Nat → UInt32) → (Int32) → (Int32) → (Int32) → Prop) (F : Nat → Int32) (A : Nat → Nat → Int32) (L : Nat → UInt32) (x1 : Int32) (x2 : Int32) (x3 : Int32) : Prop := ((x2 = (-1 : Int32) → k4 F A L x1 x3 (x3 + (1 : Int32))) ∧ (¬ x2 = (-1 : Int32) → wp_X4_isAhead F A L x3 x2 (fun r1 F1 A1 L1 => ((r1 = 0 → k4 F1 A1 L1 x1 x2 (x3 + (1 : Int32))) ∧ (¬ r1 = 0 → k4 F1 A1 L1 x1 x3 (x3 + (1 : Int32)))))))
set_option maxHeartbeats 4000000 in
theorem snd_X4_behind_L26 {p : Program} {l : Launch} {e : Env} {s : State} {m : MethodId} {args : Array Value} {below : List Frame} {meth : Method} {c : Code} {G : GG} {h0 : HH} {ad : Nat → Nat} (hE : hv_E p s m args meth c cX4_behind 4 (some FieldType.int) RX4 G h0) (Q : Int32 → (Nat → Int32) → (Nat → Nat → Int32) → (Nat → UInt32) → Prop) (k4 : (Nat → Int32) → (Nat → Nat → Int32) → (Nat → UInt32) → (Int32) → (Int32) → (Int32) → Prop) (hk4 : ∀ (F : Nat → Int32) (A : Nat → Nat → Int32) (L : Nat → UInt32) (x1 : Int32) (x2 : Int32) (x3 : Int32) (H : Heap) (locs : List Loc) (ls : Array Slot), ml_I G h0 s.heap ad F A L H locs → lv_has ls 4 [(0, .ref (ad 0)), (1, .int x1), (2, .int x2), (3, .int x3)] → k4 F A L x1 x2 x3 → W p l e (headSpec (ws_ yX4_behind cX4_behind 4 (some FieldType.int)) rm_X4_behind).room s m args below meth c H locs 0 0 (MQ below (hv_Qi G h0 s.heap.size (fun r => ml_Q G h0 ad (Q r))) args s 0 0 (hv_A h0 s.heap.size)) (F0 m 4 ls [])) : ∀ (F : Nat → Int32) (A : Nat → Nat → Int32) (L : Nat → UInt32) (x1 : Int32) (x2 : Int32) (x3 : Int32), wp_X4_behind_L26 Q k4 F A L x1 x2 x3 → ∀ (H : Heap) (locs : List Loc) (ls : Array Slot), ml_I G h0 s.heap ad F A L H locs → lv_has ls 4 [(0, .ref (ad 0)), (1, .int x1), (2, .int x2), (3, .int x3)] → W p l e (headSpec (ws_ yX4_behind cX4_behind 4 (some FieldType.int)) rm_X4_behind).room s m args below meth c H locs 0 0 (MQ below (hv_Qi G h0 s.heap.size (fun r => ml_Q G h0 ad (Q r))) args s 0 0 (hv_A h0 s.heap.size)) (F0 m 26 ls []) := by
  obtain ⟨⟨hx, hb, hml, hown, hts⟩, hr, hlocks, -⟩ := id hE
  intro F A L x1 x2 x3 hw H locs ls hI hl
  unfold wp_X4_behind_L26 at hw
  refine lv_iload_n hx hb dX4_behind_26 rfl (lv_at hl 2 rfl) ?_
  refine lv_iconst (v := -1) hx hb dX4_behind_27 (by decide) ?_
  refine lv_icmp_eq (tgt := 40) hx hb dX4_behind_28 (by decide) (fun c_28 => ?_) (fun c_28 => ?_)
  · have hw := hw.1 c_28
    refine lv_iload_n hx hb dX4_behind_40 rfl (lv_at hl 3 rfl) ?_
    refine lv_istore_n (lv' := [(2, .int x3), (0, .ref (ad 0)), (1, .int x1), (3, .int x3)]) hx hb dX4_behind_41 rfl hl (by decide) rfl (fun ls hl => ?_)
    refine lv_iinc (v := (x3 + (1 : Int32))) (lv' := [(3, .int (x3 + (1 : Int32))), (2, .int x3), (0, .ref (ad 0)), (1, .int x1)]) hx hb dX4_behind_42 hl (k := 3) rfl rfl (by decide) rfl (fun ls hl => ?_)
    refine lv_goto (tgt := 4) hx hb dX4_behind_45 (by decide) ?_
    exact hk4 F A L x1 x3 (x3 + (1 : Int32)) _ _ _ hI (lv_sub hl [2, 3, 1, 0] rfl) hw
  · have hw := hw.2 c_28
    refine lv_aload_n hx hb dX4_behind_31 rfl (lv_at hl 0 rfl) ?_
    refine lv_iload_n hx hb dX4_behind_32 rfl (lv_at hl 3 rfl) ?_
    refine lv_iload_n hx hb dX4_behind_33 rfl (lv_at hl 2 rfl) ?_
    refine ml_calli (As := [.int x3, .int x2]) (rest := []) (cells := 0) (slots := 0) hE hI (fun h hS => snd_X4_isAhead l G _ h ad F A L x3 x2 _ hS hw) (cwV 2 hts (lw_V q2339 q2341 qs77 q108 q2342) rfl rfl rfl (by decide +kernel) ⟨Nat.le_of_ble_eq_true rfl, Nat.le_of_ble_eq_true rfl⟩) rfl hl.1 (Nat.le_of_ble_eq_true rfl) dX4_behind_34 ⟨Nat.le_of_ble_eq_true rfl, Nat.le_of_ble_eq_true rfl⟩ (fun r1 F1 A1 L1 H locs hw hI => ?_)
    refine lv_if_eq (tgt := 42) hx hb dX4_behind_37 (by decide) (fun c_37 => ?_) (fun c_37 => ?_)
    · have hw := hw.1 c_37
      refine lv_iinc (v := (x3 + (1 : Int32))) (lv' := [(3, .int (x3 + (1 : Int32))), (0, .ref (ad 0)), (1, .int x1), (2, .int x2)]) hx hb dX4_behind_42 hl (k := 3) rfl rfl (by decide) rfl (fun ls hl => ?_)
      refine lv_goto (tgt := 4) hx hb dX4_behind_45 (by decide) ?_
      exact hk4 F1 A1 L1 x1 x2 (x3 + (1 : Int32)) _ _ _ hI (lv_sub hl [1, 2, 3, 0] rfl) hw
    · have hw := hw.2 c_37
      refine lv_iload_n hx hb dX4_behind_40 rfl (lv_at hl 3 rfl) ?_
      refine lv_istore_n (lv' := [(2, .int x3), (0, .ref (ad 0)), (1, .int x1), (3, .int x3)]) hx hb dX4_behind_41 rfl hl (by decide) rfl (fun ls hl => ?_)
      refine lv_iinc (v := (x3 + (1 : Int32))) (lv' := [(3, .int (x3 + (1 : Int32))), (2, .int x3), (0, .ref (ad 0)), (1, .int x1)]) hx hb dX4_behind_42 hl (k := 3) rfl rfl (by decide) rfl (fun ls hl => ?_)
      refine lv_goto (tgt := 4) hx hb dX4_behind_45 (by decide) ?_
      exact hk4 F1 A1 L1 x1 x3 (x3 + (1 : Int32)) _ _ _ hI (lv_sub hl [2, 3, 1, 0] rfl) hw
def wp_X4_behind_L4 (Q : Int32 → (Nat → Int32) → (Nat → Nat → Int32) → (Nat → UInt32) → Prop) : Nat → (Nat → Int32) → (Nat → Nat → Int32) → (Nat → UInt32) → (Int32) → (Int32) → (Int32) → Prop
  | 0, _, _, _, _, _, _ => False
  | n + 1, F, A, L, x1, x2, x3 => (((F 31) ≤ x3 → Q x2 F A L) ∧ (¬ (F 31) ≤ x3 → ((x1 = (-1 : Int32) → wp_X4_behind_L26 Q (fun F A L x1 x2 x3 => wp_X4_behind_L4 Q n F A L x1 x2 x3) F A L x1 x2 x3) ∧ (¬ x1 = (-1 : Int32) → wp_X4_isAhead F A L x1 x3 (fun r2 F2 A2 L2 => ((r2 = 0 → wp_X4_behind_L4 Q n F2 A2 L2 x1 x2 (x3 + (1 : Int32))) ∧ (¬ r2 = 0 → wp_X4_behind_L26 Q (fun F A L x1 x2 x3 => wp_X4_behind_L4 Q n F A L x1 x2 x3) F2 A2 L2 x1 x2 x3)))))))
set_option maxHeartbeats 4000000 in
theorem snd_X4_behind_L4 {p : Program} {l : Launch} {e : Env} {s : State} {m : MethodId} {args : Array Value} {below : List Frame} {meth : Method} {c : Code} {G : GG} {h0 : HH} {ad : Nat → Nat} (hE : hv_E p s m args meth c cX4_behind 4 (some FieldType.int) RX4 G h0) (Q : Int32 → (Nat → Int32) → (Nat → Nat → Int32) → (Nat → UInt32) → Prop) : ∀ (n : Nat) (F : Nat → Int32) (A : Nat → Nat → Int32) (L : Nat → UInt32) (x1 : Int32) (x2 : Int32) (x3 : Int32), wp_X4_behind_L4 Q n F A L x1 x2 x3 → ∀ (H : Heap) (locs : List Loc) (ls : Array Slot), ml_I G h0 s.heap ad F A L H locs → lv_has ls 4 [(0, .ref (ad 0)), (1, .int x1), (2, .int x2), (3, .int x3)] → W p l e (headSpec (ws_ yX4_behind cX4_behind 4 (some FieldType.int)) rm_X4_behind).room s m args below meth c H locs 0 0 (MQ below (hv_Qi G h0 s.heap.size (fun r => ml_Q G h0 ad (Q r))) args s 0 0 (hv_A h0 s.heap.size)) (F0 m 4 ls []) := by
  obtain ⟨⟨hx, hb, hml, hown, hts⟩, hr, hlocks, -⟩ := id hE
  intro n
  induction n with
  | zero => intro F A L x1 x2 x3 hw; exact hw.elim
  | succ n ih =>
    intro F A L x1 x2 x3 hw H locs ls hI hl
    unfold wp_X4_behind_L4 at hw
    refine lv_iload_n hx hb dX4_behind_4 rfl (lv_at hl 3 rfl) ?_
    refine lv_aload_n hx hb dX4_behind_5 rfl (lv_at hl 0 rfl) ?_
    refine ml_get hE hI 31 (by decide) q2016 rfl rfl dX4_behind_6 ?_
    refine lv_icmp_ge (tgt := 48) hx hb dX4_behind_9 (by decide) (fun c_9 => ?_) (fun c_9 => ?_)
    · have hw := hw.1 c_9
      refine lv_iload_n hx hb dX4_behind_48 rfl (lv_at hl 2 rfl) ?_
      exact ml_iret hE hI hw dX4_behind_49
    · have hw := hw.2 c_9
      refine lv_iload_n hx hb dX4_behind_12 rfl (lv_at hl 1 rfl) ?_
      refine lv_iconst (v := -1) hx hb dX4_behind_13 (by decide) ?_
      refine lv_icmp_eq (tgt := 26) hx hb dX4_behind_14 (by decide) (fun c_14 => ?_) (fun c_14 => ?_)
      · have hw := hw.1 c_14
        exact snd_X4_behind_L26 hE Q (fun F A L x1 x2 x3 => wp_X4_behind_L4 Q n F A L x1 x2 x3) (fun F A L x1 x2 x3 H locs ls hI hl hw => ih F A L x1 x2 x3 hw H locs ls hI hl) F A L x1 x2 x3 hw _ _ _ hI (lv_sub hl [0, 1, 2, 3] rfl)
      · have hw := hw.2 c_14
        refine lv_aload_n hx hb dX4_behind_17 rfl (lv_at hl 0 rfl) ?_
        refine lv_iload_n hx hb dX4_behind_18 rfl (lv_at hl 1 rfl) ?_
        refine lv_iload_n hx hb dX4_behind_19 rfl (lv_at hl 3 rfl) ?_
        refine ml_calli (As := [.int x1, .int x3]) (rest := []) (cells := 0) (slots := 0) hE hI (fun h hS => snd_X4_isAhead l G _ h ad F A L x1 x3 _ hS hw) (cwV 2 hts (lw_V q2339 q2341 qs77 q108 q2342) rfl rfl rfl (by decide +kernel) ⟨Nat.le_of_ble_eq_true rfl, Nat.le_of_ble_eq_true rfl⟩) rfl hl.1 (Nat.le_of_ble_eq_true rfl) dX4_behind_20 ⟨Nat.le_of_ble_eq_true rfl, Nat.le_of_ble_eq_true rfl⟩ (fun r2 F2 A2 L2 H locs hw hI => ?_)
        refine lv_if_eq (tgt := 42) hx hb dX4_behind_23 (by decide) (fun c_23 => ?_) (fun c_23 => ?_)
        · have hw := hw.1 c_23
          refine lv_iinc (v := (x3 + (1 : Int32))) (lv' := [(3, .int (x3 + (1 : Int32))), (0, .ref (ad 0)), (1, .int x1), (2, .int x2)]) hx hb dX4_behind_42 hl (k := 3) rfl rfl (by decide) rfl (fun ls hl => ?_)
          refine lv_goto (tgt := 4) hx hb dX4_behind_45 (by decide) ?_
          exact ih F2 A2 L2 x1 x2 (x3 + (1 : Int32)) hw _ _ _ hI (lv_sub hl [1, 2, 3, 0] rfl)
        · have hw := hw.2 c_23
          exact snd_X4_behind_L26 hE Q (fun F A L x1 x2 x3 => wp_X4_behind_L4 Q n F A L x1 x2 x3) (fun F A L x1 x2 x3 H locs ls hI hl hw => ih F A L x1 x2 x3 hw H locs ls hI hl) F2 A2 L2 x1 x2 x3 hw _ _ _ hI (lv_sub hl [0, 1, 2, 3] rfl)
def wp_X4_behind (F : Nat → Int32) (A : Nat → Nat → Int32) (L : Nat → UInt32) (x1 : Int32) (Q : Int32 → (Nat → Int32) → (Nat → Nat → Int32) → (Nat → UInt32) → Prop) : Prop := (∃ n4, wp_X4_behind_L4 Q n4 F A L x1 (-1 : Int32) (0 : Int32))
set_option maxHeartbeats 4000000 in
theorem snd_X4_behind (l : Launch) (G : GG) (sz : Nat) (h : HH) (ad : Nat → Nat) (F : Nat → Int32) (A : Nat → Nat → Int32) (L : Nat → UInt32) (x1 : Int32) (Q : Int32 → (Nat → Int32) → (Nat → Nat → Int32) → (Nat → UInt32) → Prop) (hS : ml_S G h ad F A L) (hw : wp_X4_behind F A L x1 Q) : Met l yX4_behind (ws_ yX4_behind cX4_behind 4 (some FieldType.int)) rm_X4_behind (hv_Pc G h sz [.ref (ad 0), .int x1]) (hv_Qi G h sz (fun r => ml_Q G h ad (Q r))) 0 0 (hv_A h sz) := by
  refine Met.ofW (cc := cX4_behind) (maxL := 4) (ret := (some FieldType.int)) (by decide) rfl ?_
  intro p e s m args below meth c s₁ B hml hv
  obtain ⟨rfl, rfl, hE, hI⟩ := hv_open B hml hv
  have hE : hv_E p s m ([.ref (ad 0), .int x1] : List Value).toArray meth c cX4_behind 4 (some FieldType.int) RX4 G h := hE
  have hI := ml_I.start hI hS
  obtain ⟨⟨hx, hb, hml, hown, hts⟩, hr, hlocks, -⟩ := id hE
  have hl := lv_entry ([.ref (ad 0), .int x1] : List Value) (n := 4) (Nat.le_of_ble_eq_true rfl)
  rw [lg_entry_eq]
  generalize (lg_sl ([.ref (ad 0), .int x1] : List Value) ++ List.replicate (4 - (lg_sl ([.ref (ad 0), .int x1] : List Value)).length) Slot.unset).toArray = ls at hl ⊢
  have hl : lv_has ls 4 [(0, .ref (ad 0)), (1, .int x1)] := hl
  unfold wp_X4_behind at hw
  refine lv_iconst (v := -1) hx hb dX4_behind_0 (by decide) ?_
  refine lv_istore_n (lv' := [(2, .int (-1 : Int32)), (0, .ref (ad 0)), (1, .int x1)]) hx hb dX4_behind_1 rfl hl (by decide) rfl (fun ls hl => ?_)
  refine lv_iconst (v := 0) hx hb dX4_behind_2 (by decide) ?_
  refine lv_istore_n (lv' := [(3, .int (0 : Int32)), (2, .int (-1 : Int32)), (0, .ref (ad 0)), (1, .int x1)]) hx hb dX4_behind_3 rfl hl (by decide) rfl (fun ls hl => ?_)
  obtain ⟨n4, hw⟩ := hw
  exact snd_X4_behind_L4 hE Q n4 F A L x1 (-1 : Int32) (0 : Int32) hw _ _ _ hI (lv_sub hl [2, 3, 1, 0] rfl)

/-- MatchmakerRulesModel.agenda(II)I -/
abbrev rm_X4_agenda : Room := { frames := 5, cells := 0, slots := 0, locals := 105 }
def wp_X4_agenda_L38 (Q : Int32 → (Nat → Int32) → (Nat → Nat → Int32) → (Nat → UInt32) → Prop) : Nat → (Nat → Int32) → (Nat → Nat → Int32) → (Nat → UInt32) → (Int32) → (Int32) → (Int32) → (Int32) → Prop
  | 0, _, _, _, _, _, _, _ => False
  | n + 1, F, A, L, x1, x2, x3, x4 => ((x1 ≤ x4 → ((x2 = (0 : Int32) → (vp_in x3 3360 ∧ Q (A 15 (Int32.toNatClampNeg x3)) F A L)) ∧ (¬ x2 = (0 : Int32) → ((x2 = (1 : Int32) → (vp_in x3 3360 ∧ (vp_in ((95 : Int32) + (A 16 (Int32.toNatClampNeg x3))) 13675 ∧ Q (A 1 (Int32.toNatClampNeg ((95 : Int32) + (A 16 (Int32.toNatClampNeg x3))))) F A L))) ∧ (¬ x2 = (1 : Int32) → ((x2 = (2 : Int32) → (vp_in x3 3360 ∧ ((¬ (A 17 (Int32.toNatClampNeg x3)) = (-1 : Int32) → (vp_in x3 3360 ∧ (vp_in ((95 : Int32) + (A 17 (Int32.toNatClampNeg x3))) 13675 ∧ Q (A 1 (Int32.toNatClampNeg ((95 : Int32) + (A 17 (Int32.toNatClampNeg x3))))) F A L))) ∧ ((A 17 (Int32.toNatClampNeg x3)) = (-1 : Int32) → Q (-1 : Int32) F A L)))) ∧ (¬ x2 = (2 : Int32) → wp_X4_fails F A L (2 : Int32) (fun r4 F4 A4 L4 => Q r4 F4 A4 L4)))))))) ∧ (¬ x1 ≤ x4 → wp_X4_behind F A L x3 (fun r5 F5 A5 L5 => wp_X4_agenda_L38 Q n F5 A5 L5 x1 x2 r5 (x4 + (1 : Int32)))))
set_option maxHeartbeats 4000000 in
theorem snd_X4_agenda_L38 {p : Program} {l : Launch} {e : Env} {s : State} {m : MethodId} {args : Array Value} {below : List Frame} {meth : Method} {c : Code} {G : GG} {h0 : HH} {ad : Nat → Nat} (hE : hv_E p s m args meth c cX4_agenda 5 (some FieldType.int) RX4 G h0) (Q : Int32 → (Nat → Int32) → (Nat → Nat → Int32) → (Nat → UInt32) → Prop) : ∀ (n : Nat) (F : Nat → Int32) (A : Nat → Nat → Int32) (L : Nat → UInt32) (x1 : Int32) (x2 : Int32) (x3 : Int32) (x4 : Int32), wp_X4_agenda_L38 Q n F A L x1 x2 x3 x4 → ∀ (H : Heap) (locs : List Loc) (ls : Array Slot), ml_I G h0 s.heap ad F A L H locs → lv_has ls 5 [(0, .ref (ad 0)), (1, .int x1), (2, .int x2), (3, .int x3), (4, .int x4)] → W p l e (headSpec (ws_ yX4_agenda cX4_agenda 5 (some FieldType.int)) rm_X4_agenda).room s m args below meth c H locs 0 0 (MQ below (hv_Qi G h0 s.heap.size (fun r => ml_Q G h0 ad (Q r))) args s 0 0 (hv_A h0 s.heap.size)) (F0 m 38 ls []) := by
  obtain ⟨⟨hx, hb, hml, hown, hts⟩, hr, hlocks, -⟩ := id hE
  intro n
  induction n with
  | zero => intro F A L x1 x2 x3 x4 hw; exact hw.elim
  | succ n ih =>
    intro F A L x1 x2 x3 x4 hw H locs ls hI hl
    unfold wp_X4_agenda_L38 at hw
    refine lv_iload hx hb dX4_agenda_38 (lv_at hl 4 rfl) ?_
    refine lv_iload_n hx hb dX4_agenda_40 rfl (lv_at hl 1 rfl) ?_
    refine lv_icmp_ge (tgt := 56) hx hb dX4_agenda_41 (by decide) (fun c_41 => ?_) (fun c_41 => ?_)
    · have hw := hw.1 c_41
      refine lv_iload_n hx hb dX4_agenda_56 rfl (lv_at hl 2 rfl) ?_
      by_cases s57_0 : x2 = (0 : Int32)
      · have hw := hw.1 s57_0
        refine lv_tableIn (tgt := 84) (off := 27) hx hb dX4_agenda_57 (by rw [s57_0]; decide) (by rw [s57_0]; decide) (by rw [s57_0]; decide) (by decide) ?_
        refine lv_aload_n hx hb dX4_agenda_84 rfl (lv_at hl 0 rfl) ?_
        refine ml_get hE hI 15 (by decide) q2000 rfl rfl dX4_agenda_85 ?_
        refine lv_iload_n hx hb dX4_agenda_88 rfl (lv_at hl 3 rfl) ?_
        obtain ⟨hin, hw⟩ := hw
        refine ml_iald hE hI 15 rfl rfl rfl hin dX4_agenda_89 ?_
        exact ml_iret hE hI hw dX4_agenda_90
      · have hw := hw.2 s57_0
        by_cases s57_1 : x2 = (1 : Int32)
        · have hw := hw.1 s57_1
          refine lv_tableIn (tgt := 91) (off := 34) hx hb dX4_agenda_57 (by rw [s57_1]; decide) (by rw [s57_1]; decide) (by rw [s57_1]; decide) (by decide) ?_
          refine lv_aload_n hx hb dX4_agenda_91 rfl (lv_at hl 0 rfl) ?_
          refine ml_get hE hI 1 (by decide) q1986 rfl rfl dX4_agenda_92 ?_
          refine lv_bipush (v := 95) hx hb dX4_agenda_95 (by decide) ?_
          refine lv_aload_n hx hb dX4_agenda_97 rfl (lv_at hl 0 rfl) ?_
          refine ml_get hE hI 16 (by decide) q2001 rfl rfl dX4_agenda_98 ?_
          refine lv_iload_n hx hb dX4_agenda_101 rfl (lv_at hl 3 rfl) ?_
          obtain ⟨hin, hw⟩ := hw
          refine ml_iald hE hI 16 rfl rfl rfl hin dX4_agenda_102 ?_
          refine lv_iadd hx hb dX4_agenda_103 ?_
          obtain ⟨hin, hw⟩ := hw
          refine ml_iald hE hI 1 rfl rfl rfl hin dX4_agenda_104 ?_
          exact ml_iret hE hI hw dX4_agenda_105
        · have hw := hw.2 s57_1
          by_cases s57_2 : x2 = (2 : Int32)
          · have hw := hw.1 s57_2
            refine lv_tableIn (tgt := 106) (off := 49) hx hb dX4_agenda_57 (by rw [s57_2]; decide) (by rw [s57_2]; decide) (by rw [s57_2]; decide) (by decide) ?_
            refine lv_aload_n hx hb dX4_agenda_106 rfl (lv_at hl 0 rfl) ?_
            refine ml_get hE hI 17 (by decide) q2002 rfl rfl dX4_agenda_107 ?_
            refine lv_iload_n hx hb dX4_agenda_110 rfl (lv_at hl 3 rfl) ?_
            obtain ⟨hin, hw⟩ := hw
            refine ml_iald hE hI 17 rfl rfl rfl hin dX4_agenda_111 ?_
            refine lv_iconst (v := -1) hx hb dX4_agenda_112 (by decide) ?_
            refine lv_icmp_ne (tgt := 120) hx hb dX4_agenda_113 (by decide) (fun c_113 => ?_) (fun c_113 => ?_)
            · have hw := hw.1 c_113
              refine lv_aload_n hx hb dX4_agenda_120 rfl (lv_at hl 0 rfl) ?_
              refine ml_get hE hI 1 (by decide) q1986 rfl rfl dX4_agenda_121 ?_
              refine lv_bipush (v := 95) hx hb dX4_agenda_124 (by decide) ?_
              refine lv_aload_n hx hb dX4_agenda_126 rfl (lv_at hl 0 rfl) ?_
              refine ml_get hE hI 17 (by decide) q2002 rfl rfl dX4_agenda_127 ?_
              refine lv_iload_n hx hb dX4_agenda_130 rfl (lv_at hl 3 rfl) ?_
              obtain ⟨hin, hw⟩ := hw
              refine ml_iald hE hI 17 rfl rfl rfl hin dX4_agenda_131 ?_
              refine lv_iadd hx hb dX4_agenda_132 ?_
              obtain ⟨hin, hw⟩ := hw
              refine ml_iald hE hI 1 rfl rfl rfl hin dX4_agenda_133 ?_
              exact ml_iret hE hI hw dX4_agenda_134
            · have hw := hw.2 c_113
              refine lv_iconst (v := -1) hx hb dX4_agenda_116 (by decide) ?_
              refine lv_goto (tgt := 134) hx hb dX4_agenda_117 (by decide) ?_
              exact ml_iret hE hI hw dX4_agenda_134
          · have hw := hw.2 s57_2
            have ts57_0 := lv_neT s57_0 (show ((0 : Int32)).toInt = 0 by decide)
            have ts57_1 := lv_neT s57_1 (show ((1 : Int32)).toInt = 1 by decide)
            have ts57_2 := lv_neT s57_2 (show ((2 : Int32)).toInt = 2 by decide)
            refine lv_tableOut (tgt := 135) hx hb dX4_agenda_57 (by omega) (by decide) ?_
            refine lv_aload_n hx hb dX4_agenda_135 rfl (lv_at hl 0 rfl) ?_
            refine lv_iconst (v := 2) hx hb dX4_agenda_136 (by decide) ?_
            refine ml_calli (As := [.int (2 : Int32)]) (rest := []) (cells := 0) (slots := 0) hE hI (fun h hS => snd_X4_fails l G _ h ad F A L (2 : Int32) _ hS hw) (cwV 1 hts (lw_V q2149 q2151 qs43 q108 q2152) rfl rfl rfl (by decide +kernel) ⟨Nat.le_of_ble_eq_true rfl, Nat.le_of_ble_eq_true rfl⟩) rfl hl.1 (Nat.le_of_ble_eq_true rfl) dX4_agenda_137 ⟨Nat.le_of_ble_eq_true rfl, Nat.le_of_ble_eq_true rfl⟩ (fun r4 F4 A4 L4 H locs hw hI => ?_)
            exact ml_iret hE hI hw dX4_agenda_140
    · have hw := hw.2 c_41
      refine lv_aload_n hx hb dX4_agenda_44 rfl (lv_at hl 0 rfl) ?_
      refine lv_iload_n hx hb dX4_agenda_45 rfl (lv_at hl 3 rfl) ?_
      refine ml_calli (As := [.int x3]) (rest := []) (cells := 0) (slots := 0) hE hI (fun h hS => snd_X4_behind l G _ h ad F A L x3 _ hS hw) (cwV 1 hts (lw_V q2335 q2337 qs76 q108 q2338) rfl rfl rfl (by decide +kernel) ⟨Nat.le_of_ble_eq_true rfl, Nat.le_of_ble_eq_true rfl⟩) rfl hl.1 (Nat.le_of_ble_eq_true rfl) dX4_agenda_46 ⟨Nat.le_of_ble_eq_true rfl, Nat.le_of_ble_eq_true rfl⟩ (fun r5 F5 A5 L5 H locs hw hI => ?_)
      refine lv_istore_n (lv' := [(3, .int r5), (0, .ref (ad 0)), (1, .int x1), (2, .int x2), (4, .int x4)]) hx hb dX4_agenda_49 rfl hl (by decide) rfl (fun ls hl => ?_)
      refine lv_iinc (v := (x4 + (1 : Int32))) (lv' := [(4, .int (x4 + (1 : Int32))), (3, .int r5), (0, .ref (ad 0)), (1, .int x1), (2, .int x2)]) hx hb dX4_agenda_50 hl (k := 4) rfl rfl (by decide) rfl (fun ls hl => ?_)
      refine lv_goto (tgt := 38) hx hb dX4_agenda_53 (by decide) ?_
      exact ih F5 A5 L5 x1 x2 r5 (x4 + (1 : Int32)) hw _ _ _ hI (lv_sub hl [2, 3, 4, 1, 0] rfl)
def wp_X4_agenda (F : Nat → Int32) (A : Nat → Nat → Int32) (L : Nat → UInt32) (x1 : Int32) (x2 : Int32) (Q : Int32 → (Nat → Int32) → (Nat → Nat → Int32) → (Nat → UInt32) → Prop) : Prop := wp_X4_looks (upd F 0 (0 : Int32)) A L (fun F1 A1 L1 => wp_X4_in x1 (0 : Int32) ((F1 31) - (1 : Int32)) (fun r2 => ((¬ r2 = 0 → wp_X4_behind F1 A1 L1 (-1 : Int32) (fun r3 F3 A3 L3 => (∃ n38, wp_X4_agenda_L38 Q n38 F3 A3 L3 x1 x2 r3 (0 : Int32)))) ∧ (r2 = 0 → wp_X4_fails F1 A1 L1 (1 : Int32) (fun r6 F6 A6 L6 => Q r6 F6 A6 L6)))))
set_option maxHeartbeats 4000000 in
theorem snd_X4_agenda (l : Launch) (G : GG) (sz : Nat) (h : HH) (ad : Nat → Nat) (F : Nat → Int32) (A : Nat → Nat → Int32) (L : Nat → UInt32) (x1 : Int32) (x2 : Int32) (Q : Int32 → (Nat → Int32) → (Nat → Nat → Int32) → (Nat → UInt32) → Prop) (hS : ml_S G h ad F A L) (hw : wp_X4_agenda F A L x1 x2 Q) : Met l yX4_agenda (ws_ yX4_agenda cX4_agenda 5 (some FieldType.int)) rm_X4_agenda (hv_Pc G h sz [.ref (ad 0), .int x1, .int x2]) (hv_Qi G h sz (fun r => ml_Q G h ad (Q r))) 0 0 (hv_A h sz) := by
  refine Met.ofW (cc := cX4_agenda) (maxL := 5) (ret := (some FieldType.int)) (by decide) rfl ?_
  intro p e s m args below meth c s₁ B hml hv
  obtain ⟨rfl, rfl, hE, hI⟩ := hv_open B hml hv
  have hE : hv_E p s m ([.ref (ad 0), .int x1, .int x2] : List Value).toArray meth c cX4_agenda 5 (some FieldType.int) RX4 G h := hE
  have hI := ml_I.start hI hS
  obtain ⟨⟨hx, hb, hml, hown, hts⟩, hr, hlocks, -⟩ := id hE
  have hl := lv_entry ([.ref (ad 0), .int x1, .int x2] : List Value) (n := 5) (Nat.le_of_ble_eq_true rfl)
  rw [lg_entry_eq]
  generalize (lg_sl ([.ref (ad 0), .int x1, .int x2] : List Value) ++ List.replicate (5 - (lg_sl ([.ref (ad 0), .int x1, .int x2] : List Value)).length) Slot.unset).toArray = ls at hl ⊢
  have hl : lv_has ls 5 [(0, .ref (ad 0)), (1, .int x1), (2, .int x2)] := hl
  unfold wp_X4_agenda at hw
  refine lv_aload_n hx hb dX4_agenda_0 rfl (lv_at hl 0 rfl) ?_
  refine lv_iconst (v := 0) hx hb dX4_agenda_1 (by decide) ?_
  refine ml_put hE hI 0 (by decide) q1985 rfl rfl (ty := .int) rfl rfl rfl (fun _ => rfl) dX4_agenda_2 (fun H locs hI => ?_)
  refine lv_aload_n hx hb dX4_agenda_5 rfl (lv_at hl 0 rfl) ?_
  refine ml_callv (As := []) (rest := []) (cells := 0) (slots := 0) hE hI (fun h hS => snd_X4_looks l G _ h ad (upd F 0 (0 : Int32)) A L _ hS hw) (cwV 0 hts (lw_V q2296 q2298 qs68 q108 q2299) rfl rfl rfl (by decide +kernel) ⟨Nat.le_of_ble_eq_true rfl, Nat.le_of_ble_eq_true rfl⟩) rfl hl.1 (Nat.le_of_ble_eq_true rfl) dX4_agenda_6 ⟨Nat.le_of_ble_eq_true rfl, Nat.le_of_ble_eq_true rfl⟩ (fun F1 A1 L1 H locs hw hI => ?_)
  refine lv_iload_n hx hb dX4_agenda_9 rfl (lv_at hl 1 rfl) ?_
  refine lv_iconst (v := 0) hx hb dX4_agenda_10 (by decide) ?_
  refine lv_aload_n hx hb dX4_agenda_11 rfl (lv_at hl 0 rfl) ?_
  refine ml_get hE hI 31 (by decide) q2016 rfl rfl dX4_agenda_12 ?_
  refine lv_iconst (v := 1) hx hb dX4_agenda_15 (by decide) ?_
  refine lv_isub hx hb dX4_agenda_16 ?_
  refine ml_calls (As := [.int x1, .int (0 : Int32), .int ((F1 31) - (1 : Int32))]) (rest := []) (cells := 0) (slots := 0) hE hI (fun h => snd_X4_in l G _ h x1 (0 : Int32) ((F1 31) - (1 : Int32)) _ hw) (va_cwS 3 hts (lw_S q2130 q2131 q108 q2132) rfl rfl rfl (by decide +kernel) ⟨Nat.le_of_ble_eq_true rfl, Nat.le_of_ble_eq_true rfl⟩) rfl hl.1 (Nat.le_of_ble_eq_true rfl) dX4_agenda_17 ⟨Nat.le_of_ble_eq_true rfl, Nat.le_of_ble_eq_true rfl⟩ (fun r2 H locs hw hI => ?_)
  refine lv_if_ne (tgt := 29) hx hb dX4_agenda_20 (by decide) (fun c_20 => ?_) (fun c_20 => ?_)
  · have hw := hw.1 c_20
    refine lv_aload_n hx hb dX4_agenda_29 rfl (lv_at hl 0 rfl) ?_
    refine lv_iconst (v := -1) hx hb dX4_agenda_30 (by decide) ?_
    refine ml_calli (As := [.int (-1 : Int32)]) (rest := []) (cells := 0) (slots := 0) hE hI (fun h hS => snd_X4_behind l G _ h ad F1 A1 L1 (-1 : Int32) _ hS hw) (cwV 1 hts (lw_V q2335 q2337 qs76 q108 q2338) rfl rfl rfl (by decide +kernel) ⟨Nat.le_of_ble_eq_true rfl, Nat.le_of_ble_eq_true rfl⟩) rfl hl.1 (Nat.le_of_ble_eq_true rfl) dX4_agenda_31 ⟨Nat.le_of_ble_eq_true rfl, Nat.le_of_ble_eq_true rfl⟩ (fun r3 F3 A3 L3 H locs hw hI => ?_)
    refine lv_istore_n (lv' := [(3, .int r3), (0, .ref (ad 0)), (1, .int x1), (2, .int x2)]) hx hb dX4_agenda_34 rfl hl (by decide) rfl (fun ls hl => ?_)
    refine lv_iconst (v := 0) hx hb dX4_agenda_35 (by decide) ?_
    refine lv_istore (lv' := [(4, .int (0 : Int32)), (3, .int r3), (0, .ref (ad 0)), (1, .int x1), (2, .int x2)]) hx hb dX4_agenda_36 hl (by decide) rfl (fun ls hl => ?_)
    obtain ⟨n38, hw⟩ := hw
    exact snd_X4_agenda_L38 hE Q n38 F3 A3 L3 x1 x2 r3 (0 : Int32) hw _ _ _ hI (lv_sub hl [2, 3, 4, 1, 0] rfl)
  · have hw := hw.2 c_20
    refine lv_aload_n hx hb dX4_agenda_23 rfl (lv_at hl 0 rfl) ?_
    refine lv_iconst (v := 1) hx hb dX4_agenda_24 (by decide) ?_
    refine ml_calli (As := [.int (1 : Int32)]) (rest := []) (cells := 0) (slots := 0) hE hI (fun h hS => snd_X4_fails l G _ h ad F1 A1 L1 (1 : Int32) _ hS hw) (cwV 1 hts (lw_V q2149 q2151 qs43 q108 q2152) rfl rfl rfl (by decide +kernel) ⟨Nat.le_of_ble_eq_true rfl, Nat.le_of_ble_eq_true rfl⟩) rfl hl.1 (Nat.le_of_ble_eq_true rfl) dX4_agenda_25 ⟨Nat.le_of_ble_eq_true rfl, Nat.le_of_ble_eq_true rfl⟩ (fun r6 F6 A6 L6 H locs hw hI => ?_)
    exact ml_iret hE hI hw dX4_agenda_28

/-- MatchmakerRulesModel.matchesOf(I)I -/
abbrev rm_X4_matchesOf : Room := { frames := 4, cells := 0, slots := 0, locals := 82 }
def wp_X4_matchesOf_L17 (Q : Int32 → (Nat → Int32) → (Nat → Nat → Int32) → (Nat → UInt32) → Prop) (k4 : (Nat → Int32) → (Nat → Nat → Int32) → (Nat → UInt32) → (Int32) → (Int32) → (Int32) → Prop) : Nat → (Nat → Int32) → (Nat → Nat → Int32) → (Nat → UInt32) → (Int32) → (Int32) → (Int32) → (Int32) → Prop
  | 0, _, _, _, _, _, _, _ => False
  | n + 1, F, A, L, x1, x2, x3, x4 => (((A 1 1) ≤ x4 → k4 F A L x1 x2 (x3 + (1 : Int32))) ∧ (¬ (A 1 1) ≤ x4 → wp_X4_isMatch F A L x1 x3 x4 (fun r1 F1 A1 L1 => ((r1 = 0 → wp_X4_matchesOf_L17 Q k4 n F1 A1 L1 x1 (x2 + (0 : Int32)) x3 (x4 + (1 : Int32))) ∧ (¬ r1 = 0 → wp_X4_matchesOf_L17 Q k4 n F1 A1 L1 x1 (x2 + (1 : Int32)) x3 (x4 + (1 : Int32)))))))
set_option maxHeartbeats 4000000 in
theorem snd_X4_matchesOf_L17 {p : Program} {l : Launch} {e : Env} {s : State} {m : MethodId} {args : Array Value} {below : List Frame} {meth : Method} {c : Code} {G : GG} {h0 : HH} {ad : Nat → Nat} (hE : hv_E p s m args meth c cX4_matchesOf 5 (some FieldType.int) RX4 G h0) (Q : Int32 → (Nat → Int32) → (Nat → Nat → Int32) → (Nat → UInt32) → Prop) (k4 : (Nat → Int32) → (Nat → Nat → Int32) → (Nat → UInt32) → (Int32) → (Int32) → (Int32) → Prop) (hk4 : ∀ (F : Nat → Int32) (A : Nat → Nat → Int32) (L : Nat → UInt32) (x1 : Int32) (x2 : Int32) (x3 : Int32) (H : Heap) (locs : List Loc) (ls : Array Slot), ml_I G h0 s.heap ad F A L H locs → lv_has ls 5 [(0, .ref (ad 0)), (1, .int x1), (2, .int x2), (3, .int x3)] → k4 F A L x1 x2 x3 → W p l e (headSpec (ws_ yX4_matchesOf cX4_matchesOf 5 (some FieldType.int)) rm_X4_matchesOf).room s m args below meth c H locs 0 0 (MQ below (hv_Qi G h0 s.heap.size (fun r => ml_Q G h0 ad (Q r))) args s 0 0 (hv_A h0 s.heap.size)) (F0 m 4 ls [])) : ∀ (n : Nat) (F : Nat → Int32) (A : Nat → Nat → Int32) (L : Nat → UInt32) (x1 : Int32) (x2 : Int32) (x3 : Int32) (x4 : Int32), wp_X4_matchesOf_L17 Q k4 n F A L x1 x2 x3 x4 → ∀ (H : Heap) (locs : List Loc) (ls : Array Slot), ml_I G h0 s.heap ad F A L H locs → lv_has ls 5 [(0, .ref (ad 0)), (1, .int x1), (2, .int x2), (3, .int x3), (4, .int x4)] → W p l e (headSpec (ws_ yX4_matchesOf cX4_matchesOf 5 (some FieldType.int)) rm_X4_matchesOf).room s m args below meth c H locs 0 0 (MQ below (hv_Qi G h0 s.heap.size (fun r => ml_Q G h0 ad (Q r))) args s 0 0 (hv_A h0 s.heap.size)) (F0 m 17 ls []) := by
  obtain ⟨⟨hx, hb, hml, hown, hts⟩, hr, hlocks, -⟩ := id hE
  intro n
  induction n with
  | zero => intro F A L x1 x2 x3 x4 hw; exact hw.elim
  | succ n ih =>
    intro F A L x1 x2 x3 x4 hw H locs ls hI hl
    unfold wp_X4_matchesOf_L17 at hw
    refine lv_iload hx hb dX4_matchesOf_17 (lv_at hl 4 rfl) ?_
    refine lv_aload_n hx hb dX4_matchesOf_19 rfl (lv_at hl 0 rfl) ?_
    refine ml_get hE hI 1 (by decide) q1986 rfl rfl dX4_matchesOf_20 ?_
    refine lv_iconst (v := 1) hx hb dX4_matchesOf_23 (by decide) ?_
    have hin : vp_in (1 : Int32) 13675 := by unfold vp_in; decide +kernel
    refine ml_iald hE hI 1 rfl rfl (show Int32.toNatClampNeg (1 : Int32) = 1 from by decide +kernel) hin dX4_matchesOf_24 ?_
    refine lv_icmp_ge (tgt := 53) hx hb dX4_matchesOf_25 (by decide) (fun c_25 => ?_) (fun c_25 => ?_)
    · have hw := hw.1 c_25
      refine lv_iinc (v := (x3 + (1 : Int32))) (lv' := [(3, .int (x3 + (1 : Int32))), (0, .ref (ad 0)), (1, .int x1), (2, .int x2), (4, .int x4)]) hx hb dX4_matchesOf_53 hl (k := 3) rfl rfl (by decide) rfl (fun ls hl => ?_)
      refine lv_goto (tgt := 4) hx hb dX4_matchesOf_56 (by decide) ?_
      exact hk4 F A L x1 x2 (x3 + (1 : Int32)) _ _ _ hI (lv_sub hl [1, 2, 3, 0] rfl) hw
    · have hw := hw.2 c_25
      refine lv_iload_n hx hb dX4_matchesOf_28 rfl (lv_at hl 2 rfl) ?_
      refine lv_aload_n hx hb dX4_matchesOf_29 rfl (lv_at hl 0 rfl) ?_
      refine lv_iload_n hx hb dX4_matchesOf_30 rfl (lv_at hl 1 rfl) ?_
      refine lv_iload_n hx hb dX4_matchesOf_31 rfl (lv_at hl 3 rfl) ?_
      refine lv_iload hx hb dX4_matchesOf_32 (lv_at hl 4 rfl) ?_
      refine ml_calli (As := [.int x1, .int x3, .int x4]) (rest := [.int x2]) (cells := 0) (slots := 0) hE hI (fun h hS => snd_X4_isMatch l G _ h ad F A L x1 x3 x4 _ hS hw) (cwV 3 hts (lw_V q2307 q2309 qs70 q108 q2310) rfl rfl rfl (by decide +kernel) ⟨Nat.le_of_ble_eq_true rfl, Nat.le_of_ble_eq_true rfl⟩) rfl hl.1 (Nat.le_of_ble_eq_true rfl) dX4_matchesOf_34 ⟨Nat.le_of_ble_eq_true rfl, Nat.le_of_ble_eq_true rfl⟩ (fun r1 F1 A1 L1 H locs hw hI => ?_)
      refine lv_if_eq (tgt := 44) hx hb dX4_matchesOf_37 (by decide) (fun c_37 => ?_) (fun c_37 => ?_)
      · have hw := hw.1 c_37
        refine lv_iconst (v := 0) hx hb dX4_matchesOf_44 (by decide) ?_
        refine lv_iadd hx hb dX4_matchesOf_45 ?_
        refine lv_istore_n (lv' := [(2, .int (x2 + (0 : Int32))), (0, .ref (ad 0)), (1, .int x1), (3, .int x3), (4, .int x4)]) hx hb dX4_matchesOf_46 rfl hl (by decide) rfl (fun ls hl => ?_)
        refine lv_iinc (v := (x4 + (1 : Int32))) (lv' := [(4, .int (x4 + (1 : Int32))), (2, .int (x2 + (0 : Int32))), (0, .ref (ad 0)), (1, .int x1), (3, .int x3)]) hx hb dX4_matchesOf_47 hl (k := 4) rfl rfl (by decide) rfl (fun ls hl => ?_)
        refine lv_goto (tgt := 17) hx hb dX4_matchesOf_50 (by decide) ?_
        exact ih F1 A1 L1 x1 (x2 + (0 : Int32)) x3 (x4 + (1 : Int32)) hw _ _ _ hI (lv_sub hl [2, 3, 1, 4, 0] rfl)
      · have hw := hw.2 c_37
        refine lv_iconst (v := 1) hx hb dX4_matchesOf_40 (by decide) ?_
        refine lv_goto (tgt := 45) hx hb dX4_matchesOf_41 (by decide) ?_
        refine lv_iadd hx hb dX4_matchesOf_45 ?_
        refine lv_istore_n (lv' := [(2, .int (x2 + (1 : Int32))), (0, .ref (ad 0)), (1, .int x1), (3, .int x3), (4, .int x4)]) hx hb dX4_matchesOf_46 rfl hl (by decide) rfl (fun ls hl => ?_)
        refine lv_iinc (v := (x4 + (1 : Int32))) (lv' := [(4, .int (x4 + (1 : Int32))), (2, .int (x2 + (1 : Int32))), (0, .ref (ad 0)), (1, .int x1), (3, .int x3)]) hx hb dX4_matchesOf_47 hl (k := 4) rfl rfl (by decide) rfl (fun ls hl => ?_)
        refine lv_goto (tgt := 17) hx hb dX4_matchesOf_50 (by decide) ?_
        exact ih F1 A1 L1 x1 (x2 + (1 : Int32)) x3 (x4 + (1 : Int32)) hw _ _ _ hI (lv_sub hl [2, 3, 1, 4, 0] rfl)
def wp_X4_matchesOf_L4 (Q : Int32 → (Nat → Int32) → (Nat → Nat → Int32) → (Nat → UInt32) → Prop) : Nat → (Nat → Int32) → (Nat → Nat → Int32) → (Nat → UInt32) → (Int32) → (Int32) → (Int32) → Prop
  | 0, _, _, _, _, _, _ => False
  | n + 1, F, A, L, x1, x2, x3 => (((A 1 1) ≤ x3 → Q x2 F A L) ∧ (¬ (A 1 1) ≤ x3 → (∃ n17, wp_X4_matchesOf_L17 Q (fun F A L x1 x2 x3 => wp_X4_matchesOf_L4 Q n F A L x1 x2 x3) n17 F A L x1 x2 x3 (-1 : Int32))))
set_option maxHeartbeats 4000000 in
theorem snd_X4_matchesOf_L4 {p : Program} {l : Launch} {e : Env} {s : State} {m : MethodId} {args : Array Value} {below : List Frame} {meth : Method} {c : Code} {G : GG} {h0 : HH} {ad : Nat → Nat} (hE : hv_E p s m args meth c cX4_matchesOf 5 (some FieldType.int) RX4 G h0) (Q : Int32 → (Nat → Int32) → (Nat → Nat → Int32) → (Nat → UInt32) → Prop) : ∀ (n : Nat) (F : Nat → Int32) (A : Nat → Nat → Int32) (L : Nat → UInt32) (x1 : Int32) (x2 : Int32) (x3 : Int32), wp_X4_matchesOf_L4 Q n F A L x1 x2 x3 → ∀ (H : Heap) (locs : List Loc) (ls : Array Slot), ml_I G h0 s.heap ad F A L H locs → lv_has ls 5 [(0, .ref (ad 0)), (1, .int x1), (2, .int x2), (3, .int x3)] → W p l e (headSpec (ws_ yX4_matchesOf cX4_matchesOf 5 (some FieldType.int)) rm_X4_matchesOf).room s m args below meth c H locs 0 0 (MQ below (hv_Qi G h0 s.heap.size (fun r => ml_Q G h0 ad (Q r))) args s 0 0 (hv_A h0 s.heap.size)) (F0 m 4 ls []) := by
  obtain ⟨⟨hx, hb, hml, hown, hts⟩, hr, hlocks, -⟩ := id hE
  intro n
  induction n with
  | zero => intro F A L x1 x2 x3 hw; exact hw.elim
  | succ n ih =>
    intro F A L x1 x2 x3 hw H locs ls hI hl
    unfold wp_X4_matchesOf_L4 at hw
    refine lv_iload_n hx hb dX4_matchesOf_4 rfl (lv_at hl 3 rfl) ?_
    refine lv_aload_n hx hb dX4_matchesOf_5 rfl (lv_at hl 0 rfl) ?_
    refine ml_get hE hI 1 (by decide) q1986 rfl rfl dX4_matchesOf_6 ?_
    refine lv_iconst (v := 1) hx hb dX4_matchesOf_9 (by decide) ?_
    have hin : vp_in (1 : Int32) 13675 := by unfold vp_in; decide +kernel
    refine ml_iald hE hI 1 rfl rfl (show Int32.toNatClampNeg (1 : Int32) = 1 from by decide +kernel) hin dX4_matchesOf_10 ?_
    refine lv_icmp_ge (tgt := 59) hx hb dX4_matchesOf_11 (by decide) (fun c_11 => ?_) (fun c_11 => ?_)
    · have hw := hw.1 c_11
      refine lv_iload_n hx hb dX4_matchesOf_59 rfl (lv_at hl 2 rfl) ?_
      exact ml_iret hE hI hw dX4_matchesOf_60
    · have hw := hw.2 c_11
      refine lv_iconst (v := -1) hx hb dX4_matchesOf_14 (by decide) ?_
      refine lv_istore (lv' := [(4, .int (-1 : Int32)), (0, .ref (ad 0)), (1, .int x1), (2, .int x2), (3, .int x3)]) hx hb dX4_matchesOf_15 hl (by decide) rfl (fun ls hl => ?_)
      obtain ⟨n17, hw⟩ := hw
      exact snd_X4_matchesOf_L17 hE Q (fun F A L x1 x2 x3 => wp_X4_matchesOf_L4 Q n F A L x1 x2 x3) (fun F A L x1 x2 x3 H locs ls hI hl hw => ih F A L x1 x2 x3 hw H locs ls hI hl) n17 F A L x1 x2 x3 (-1 : Int32) hw _ _ _ hI (lv_sub hl [1, 2, 3, 4, 0] rfl)
def wp_X4_matchesOf (F : Nat → Int32) (A : Nat → Nat → Int32) (L : Nat → UInt32) (x1 : Int32) (Q : Int32 → (Nat → Int32) → (Nat → Nat → Int32) → (Nat → UInt32) → Prop) : Prop := (∃ n4, wp_X4_matchesOf_L4 Q n4 F A L x1 (0 : Int32) (0 : Int32))
set_option maxHeartbeats 4000000 in
theorem snd_X4_matchesOf (l : Launch) (G : GG) (sz : Nat) (h : HH) (ad : Nat → Nat) (F : Nat → Int32) (A : Nat → Nat → Int32) (L : Nat → UInt32) (x1 : Int32) (Q : Int32 → (Nat → Int32) → (Nat → Nat → Int32) → (Nat → UInt32) → Prop) (hS : ml_S G h ad F A L) (hw : wp_X4_matchesOf F A L x1 Q) : Met l yX4_matchesOf (ws_ yX4_matchesOf cX4_matchesOf 5 (some FieldType.int)) rm_X4_matchesOf (hv_Pc G h sz [.ref (ad 0), .int x1]) (hv_Qi G h sz (fun r => ml_Q G h ad (Q r))) 0 0 (hv_A h sz) := by
  refine Met.ofW (cc := cX4_matchesOf) (maxL := 5) (ret := (some FieldType.int)) (by decide) rfl ?_
  intro p e s m args below meth c s₁ B hml hv
  obtain ⟨rfl, rfl, hE, hI⟩ := hv_open B hml hv
  have hE : hv_E p s m ([.ref (ad 0), .int x1] : List Value).toArray meth c cX4_matchesOf 5 (some FieldType.int) RX4 G h := hE
  have hI := ml_I.start hI hS
  obtain ⟨⟨hx, hb, hml, hown, hts⟩, hr, hlocks, -⟩ := id hE
  have hl := lv_entry ([.ref (ad 0), .int x1] : List Value) (n := 5) (Nat.le_of_ble_eq_true rfl)
  rw [lg_entry_eq]
  generalize (lg_sl ([.ref (ad 0), .int x1] : List Value) ++ List.replicate (5 - (lg_sl ([.ref (ad 0), .int x1] : List Value)).length) Slot.unset).toArray = ls at hl ⊢
  have hl : lv_has ls 5 [(0, .ref (ad 0)), (1, .int x1)] := hl
  unfold wp_X4_matchesOf at hw
  refine lv_iconst (v := 0) hx hb dX4_matchesOf_0 (by decide) ?_
  refine lv_istore_n (lv' := [(2, .int (0 : Int32)), (0, .ref (ad 0)), (1, .int x1)]) hx hb dX4_matchesOf_1 rfl hl (by decide) rfl (fun ls hl => ?_)
  refine lv_iconst (v := 0) hx hb dX4_matchesOf_2 (by decide) ?_
  refine lv_istore_n (lv' := [(3, .int (0 : Int32)), (2, .int (0 : Int32)), (0, .ref (ad 0)), (1, .int x1)]) hx hb dX4_matchesOf_3 rfl hl (by decide) rfl (fun ls hl => ?_)
  obtain ⟨n4, hw⟩ := hw
  exact snd_X4_matchesOf_L4 hE Q n4 F A L x1 (0 : Int32) (0 : Int32) hw _ _ _ hI (lv_sub hl [2, 3, 1, 0] rfl)

/-- MatchmakerRulesModel.matches(I)I -/
abbrev rm_X4_matches : Room := { frames := 5, cells := 0, slots := 0, locals := 106 }
def wp_X4_matches (F : Nat → Int32) (A : Nat → Nat → Int32) (L : Nat → UInt32) (x1 : Int32) (Q : Int32 → (Nat → Int32) → (Nat → Nat → Int32) → (Nat → UInt32) → Prop) : Prop := wp_X4_in x1 (0 : Int32) ((A 1 0) - (1 : Int32)) (fun r1 => ((r1 = 0 → wp_X4_fails (upd F 0 (0 : Int32)) A L (1 : Int32) (fun r2 F2 A2 L2 => Q r2 F2 A2 L2)) ∧ (¬ r1 = 0 → wp_X4_matchesOf (upd F 0 (0 : Int32)) A L x1 (fun r3 F3 A3 L3 => Q r3 F3 A3 L3))))
set_option maxHeartbeats 4000000 in
theorem snd_X4_matches (l : Launch) (G : GG) (sz : Nat) (h : HH) (ad : Nat → Nat) (F : Nat → Int32) (A : Nat → Nat → Int32) (L : Nat → UInt32) (x1 : Int32) (Q : Int32 → (Nat → Int32) → (Nat → Nat → Int32) → (Nat → UInt32) → Prop) (hS : ml_S G h ad F A L) (hw : wp_X4_matches F A L x1 Q) : Met l yX4_matches (ws_ yX4_matches cX4_matches 2 (some FieldType.int)) rm_X4_matches (hv_Pc G h sz [.ref (ad 0), .int x1]) (hv_Qi G h sz (fun r => ml_Q G h ad (Q r))) 0 0 (hv_A h sz) := by
  refine Met.ofW (cc := cX4_matches) (maxL := 2) (ret := (some FieldType.int)) (by decide) rfl ?_
  intro p e s m args below meth c s₁ B hml hv
  obtain ⟨rfl, rfl, hE, hI⟩ := hv_open B hml hv
  have hE : hv_E p s m ([.ref (ad 0), .int x1] : List Value).toArray meth c cX4_matches 2 (some FieldType.int) RX4 G h := hE
  have hI := ml_I.start hI hS
  obtain ⟨⟨hx, hb, hml, hown, hts⟩, hr, hlocks, -⟩ := id hE
  have hl := lv_entry ([.ref (ad 0), .int x1] : List Value) (n := 2) (Nat.le_of_ble_eq_true rfl)
  rw [lg_entry_eq]
  generalize (lg_sl ([.ref (ad 0), .int x1] : List Value) ++ List.replicate (2 - (lg_sl ([.ref (ad 0), .int x1] : List Value)).length) Slot.unset).toArray = ls at hl ⊢
  have hl : lv_has ls 2 [(0, .ref (ad 0)), (1, .int x1)] := hl
  unfold wp_X4_matches at hw
  refine lv_aload_n hx hb dX4_matches_0 rfl (lv_at hl 0 rfl) ?_
  refine lv_iconst (v := 0) hx hb dX4_matches_1 (by decide) ?_
  refine ml_put hE hI 0 (by decide) q1985 rfl rfl (ty := .int) rfl rfl rfl (fun _ => rfl) dX4_matches_2 (fun H locs hI => ?_)
  refine lv_iload_n hx hb dX4_matches_5 rfl (lv_at hl 1 rfl) ?_
  refine lv_iconst (v := 0) hx hb dX4_matches_6 (by decide) ?_
  refine lv_aload_n hx hb dX4_matches_7 rfl (lv_at hl 0 rfl) ?_
  refine ml_get hE hI 1 (by decide) q1986 rfl rfl dX4_matches_8 ?_
  refine lv_iconst (v := 0) hx hb dX4_matches_11 (by decide) ?_
  have hin : vp_in (0 : Int32) 13675 := by unfold vp_in; decide +kernel
  refine ml_iald hE hI 1 rfl rfl (show Int32.toNatClampNeg (0 : Int32) = 0 from by decide +kernel) hin dX4_matches_12 ?_
  refine lv_iconst (v := 1) hx hb dX4_matches_13 (by decide) ?_
  refine lv_isub hx hb dX4_matches_14 ?_
  refine ml_calls (As := [.int x1, .int (0 : Int32), .int ((A 1 0) - (1 : Int32))]) (rest := []) (cells := 0) (slots := 0) hE hI (fun h => snd_X4_in l G _ h x1 (0 : Int32) ((A 1 0) - (1 : Int32)) _ hw) (va_cwS 3 hts (lw_S q2130 q2131 q108 q2132) rfl rfl rfl (by decide +kernel) ⟨Nat.le_of_ble_eq_true rfl, Nat.le_of_ble_eq_true rfl⟩) rfl hl.1 (Nat.le_of_ble_eq_true rfl) dX4_matches_15 ⟨Nat.le_of_ble_eq_true rfl, Nat.le_of_ble_eq_true rfl⟩ (fun r1 H locs hw hI => ?_)
  refine lv_if_eq (tgt := 29) hx hb dX4_matches_18 (by decide) (fun c_18 => ?_) (fun c_18 => ?_)
  · have hw := hw.1 c_18
    refine lv_aload_n hx hb dX4_matches_29 rfl (lv_at hl 0 rfl) ?_
    refine lv_iconst (v := 1) hx hb dX4_matches_30 (by decide) ?_
    refine ml_calli (As := [.int (1 : Int32)]) (rest := []) (cells := 0) (slots := 0) hE hI (fun h hS => snd_X4_fails l G _ h ad (upd F 0 (0 : Int32)) A L (1 : Int32) _ hS hw) (cwV 1 hts (lw_V q2149 q2151 qs43 q108 q2152) rfl rfl rfl (by decide +kernel) ⟨Nat.le_of_ble_eq_true rfl, Nat.le_of_ble_eq_true rfl⟩) rfl hl.1 (Nat.le_of_ble_eq_true rfl) dX4_matches_31 ⟨Nat.le_of_ble_eq_true rfl, Nat.le_of_ble_eq_true rfl⟩ (fun r2 F2 A2 L2 H locs hw hI => ?_)
    exact ml_iret hE hI hw dX4_matches_34
  · have hw := hw.2 c_18
    refine lv_aload_n hx hb dX4_matches_21 rfl (lv_at hl 0 rfl) ?_
    refine lv_iload_n hx hb dX4_matches_22 rfl (lv_at hl 1 rfl) ?_
    refine ml_calli (As := [.int x1]) (rest := []) (cells := 0) (slots := 0) hE hI (fun h hS => snd_X4_matchesOf l G _ h ad (upd F 0 (0 : Int32)) A L x1 _ hS hw) (cwV 1 hts (lw_V q2351 q2353 qs79 q108 q2354) rfl rfl rfl (by decide +kernel) ⟨Nat.le_of_ble_eq_true rfl, Nat.le_of_ble_eq_true rfl⟩) rfl hl.1 (Nat.le_of_ble_eq_true rfl) dX4_matches_23 ⟨Nat.le_of_ble_eq_true rfl, Nat.le_of_ble_eq_true rfl⟩ (fun r3 F3 A3 L3 H locs hw hI => ?_)
    refine lv_goto (tgt := 34) hx hb dX4_matches_26 (by decide) ?_
    exact ml_iret hE hI hw dX4_matches_34

/-- MatchmakerRulesModel.firesFirst()I -/
abbrev rm_X4_firesFirst : Room := { frames := 4, cells := 0, slots := 0, locals := 82 }
def wp_X4_firesFirst_L261 (Q : Int32 → (Nat → Int32) → (Nat → Nat → Int32) → (Nat → UInt32) → Prop) (F : Nat → Int32) (A : Nat → Nat → Int32) (L : Nat → UInt32) (x9 : Int32) (x12 : Int32) (t1 : Int32) (t2 : Int32) : Prop := (vp_in t1 13675 ∧ (vp_in (x9 + (3 : Int32)) 13675 ∧ Q x12 F (ml_up (ml_up (ml_up A 1 (Int32.toNatClampNeg t1) t2) 1 (Int32.toNatClampNeg (x9 + (3 : Int32))) x12) 1 6 (((ml_up (ml_up A 1 (Int32.toNatClampNeg t1) t2) 1 (Int32.toNatClampNeg (x9 + (3 : Int32))) x12) 1 6) + (1 : Int32))) L))
set_option maxHeartbeats 4000000 in
theorem snd_X4_firesFirst_L261 {p : Program} {l : Launch} {e : Env} {s : State} {m : MethodId} {args : Array Value} {below : List Frame} {meth : Method} {c : Code} {G : GG} {h0 : HH} {ad : Nat → Nat} (hE : hv_E p s m args meth c cX4_firesFirst 13 (some FieldType.int) RX4 G h0) (Q : Int32 → (Nat → Int32) → (Nat → Nat → Int32) → (Nat → UInt32) → Prop) : ∀ (F : Nat → Int32) (A : Nat → Nat → Int32) (L : Nat → UInt32) (x9 : Int32) (x12 : Int32) (t1 : Int32) (t2 : Int32), wp_X4_firesFirst_L261 Q F A L x9 x12 t1 t2 → ∀ (H : Heap) (locs : List Loc) (ls : Array Slot), ml_I G h0 s.heap ad F A L H locs → lv_has ls 13 [(0, .ref (ad 0)), (9, .int x9), (12, .int x12)] → W p l e (headSpec (ws_ yX4_firesFirst cX4_firesFirst 13 (some FieldType.int)) rm_X4_firesFirst).room s m args below meth c H locs 0 0 (MQ below (hv_Qi G h0 s.heap.size (fun r => ml_Q G h0 ad (Q r))) args s 0 0 (hv_A h0 s.heap.size)) (F0 m 261 ls [.int t2, .int t1, .ref (ad 1)]) := by
  obtain ⟨⟨hx, hb, hml, hown, hts⟩, hr, hlocks, -⟩ := id hE
  intro F A L x9 x12 t1 t2 hw H locs ls hI hl
  unfold wp_X4_firesFirst_L261 at hw
  obtain ⟨hin, hw⟩ := hw
  refine ml_iast hE hI 1 rfl rfl rfl hin dX4_firesFirst_261 (fun H locs hI => ?_)
  refine lv_aload_n hx hb dX4_firesFirst_262 rfl (lv_at hl 0 rfl) ?_
  refine ml_get hE hI 1 (by decide) q1986 rfl rfl dX4_firesFirst_263 ?_
  refine lv_iload hx hb dX4_firesFirst_266 (lv_at hl 1 rfl) ?_
  refine lv_iconst (v := 3) hx hb dX4_firesFirst_268 (by decide) ?_
  refine lv_iadd hx hb dX4_firesFirst_269 ?_
  refine lv_iload hx hb dX4_firesFirst_270 (lv_at hl 2 rfl) ?_
  obtain ⟨hin, hw⟩ := hw
  refine ml_iast hE hI 1 rfl rfl rfl hin dX4_firesFirst_272 (fun H locs hI => ?_)
  refine lv_aload_n hx hb dX4_firesFirst_273 rfl (lv_at hl 0 rfl) ?_
  refine ml_get hE hI 1 (by decide) q1986 rfl rfl dX4_firesFirst_274 ?_
  refine lv_bipush (v := 6) hx hb dX4_firesFirst_277 (by decide) ?_
  refine lv_dup2_11 hx hb dX4_firesFirst_279 rfl rfl ?_
  have hin : vp_in (6 : Int32) 13675 := by unfold vp_in; decide +kernel
  refine ml_iald hE hI 1 rfl rfl (show Int32.toNatClampNeg (6 : Int32) = 6 from by decide +kernel) hin dX4_firesFirst_280 ?_
  refine lv_iconst (v := 1) hx hb dX4_firesFirst_281 (by decide) ?_
  refine lv_iadd hx hb dX4_firesFirst_282 ?_
  have hin : vp_in (6 : Int32) 13675 := by unfold vp_in; decide +kernel
  refine ml_iast hE hI 1 rfl rfl (show Int32.toNatClampNeg (6 : Int32) = 6 from by decide +kernel) hin dX4_firesFirst_283 (fun H locs hI => ?_)
  refine lv_iload hx hb dX4_firesFirst_284 (lv_at hl 2 rfl) ?_
  exact ml_iret hE hI hw dX4_firesFirst_286
def wp_X4_firesFirst_L205 (Q : Int32 → (Nat → Int32) → (Nat → Nat → Int32) → (Nat → UInt32) → Prop) (F : Nat → Int32) (A : Nat → Nat → Int32) (L : Nat → UInt32) (x2 : Int32) (x3 : Int32) (x4 : Int32) (x9 : Int32) (x12 : Int32) (t1 : Int32) (t2 : Int32) (t3 : Int32) : Prop := (vp_in t1 13675 ∧ (vp_in x9 13675 ∧ (vp_in ((95 : Int32) + x3) 13675 ∧ (vp_in (x9 + (1 : Int32)) 13675 ∧ ((¬ x4 = (-1 : Int32) → (vp_in ((95 : Int32) + x4) 13675 ∧ wp_X4_firesFirst_L261 Q F (ml_up (ml_up (ml_up A 1 (Int32.toNatClampNeg t1) (t2 + t3)) 1 (Int32.toNatClampNeg x9) x2) 1 (Int32.toNatClampNeg (x9 + (1 : Int32))) ((ml_up (ml_up A 1 (Int32.toNatClampNeg t1) (t2 + t3)) 1 (Int32.toNatClampNeg x9) x2) 1 (Int32.toNatClampNeg ((95 : Int32) + x3)))) L x9 x12 (x9 + (2 : Int32)) ((ml_up (ml_up (ml_up A 1 (Int32.toNatClampNeg t1) (t2 + t3)) 1 (Int32.toNatClampNeg x9) x2) 1 (Int32.toNatClampNeg (x9 + (1 : Int32))) ((ml_up (ml_up A 1 (Int32.toNatClampNeg t1) (t2 + t3)) 1 (Int32.toNatClampNeg x9) x2) 1 (Int32.toNatClampNeg ((95 : Int32) + x3)))) 1 (Int32.toNatClampNeg ((95 : Int32) + x4))))) ∧ (x4 = (-1 : Int32) → wp_X4_firesFirst_L261 Q F (ml_up (ml_up (ml_up A 1 (Int32.toNatClampNeg t1) (t2 + t3)) 1 (Int32.toNatClampNeg x9) x2) 1 (Int32.toNatClampNeg (x9 + (1 : Int32))) ((ml_up (ml_up A 1 (Int32.toNatClampNeg t1) (t2 + t3)) 1 (Int32.toNatClampNeg x9) x2) 1 (Int32.toNatClampNeg ((95 : Int32) + x3)))) L x9 x12 (x9 + (2 : Int32)) (-1 : Int32)))))))
set_option maxHeartbeats 4000000 in
theorem snd_X4_firesFirst_L205 {p : Program} {l : Launch} {e : Env} {s : State} {m : MethodId} {args : Array Value} {below : List Frame} {meth : Method} {c : Code} {G : GG} {h0 : HH} {ad : Nat → Nat} (hE : hv_E p s m args meth c cX4_firesFirst 13 (some FieldType.int) RX4 G h0) (Q : Int32 → (Nat → Int32) → (Nat → Nat → Int32) → (Nat → UInt32) → Prop) : ∀ (F : Nat → Int32) (A : Nat → Nat → Int32) (L : Nat → UInt32) (x2 : Int32) (x3 : Int32) (x4 : Int32) (x9 : Int32) (x12 : Int32) (t1 : Int32) (t2 : Int32) (t3 : Int32), wp_X4_firesFirst_L205 Q F A L x2 x3 x4 x9 x12 t1 t2 t3 → ∀ (H : Heap) (locs : List Loc) (ls : Array Slot), ml_I G h0 s.heap ad F A L H locs → lv_has ls 13 [(0, .ref (ad 0)), (2, .int x2), (3, .int x3), (4, .int x4), (9, .int x9), (12, .int x12)] → W p l e (headSpec (ws_ yX4_firesFirst cX4_firesFirst 13 (some FieldType.int)) rm_X4_firesFirst).room s m args below meth c H locs 0 0 (MQ below (hv_Qi G h0 s.heap.size (fun r => ml_Q G h0 ad (Q r))) args s 0 0 (hv_A h0 s.heap.size)) (F0 m 205 ls [.int t3, .int t2, .int t1, .ref (ad 1)]) := by
  obtain ⟨⟨hx, hb, hml, hown, hts⟩, hr, hlocks, -⟩ := id hE
  intro F A L x2 x3 x4 x9 x12 t1 t2 t3 hw H locs ls hI hl
  unfold wp_X4_firesFirst_L205 at hw
  refine lv_iadd hx hb dX4_firesFirst_205 ?_
  obtain ⟨hin, hw⟩ := hw
  refine ml_iast hE hI 1 rfl rfl rfl hin dX4_firesFirst_206 (fun H locs hI => ?_)
  refine lv_aload_n hx hb dX4_firesFirst_207 rfl (lv_at hl 0 rfl) ?_
  refine ml_get hE hI 1 (by decide) q1986 rfl rfl dX4_firesFirst_208 ?_
  refine lv_iload hx hb dX4_firesFirst_211 (lv_at hl 4 rfl) ?_
  refine lv_iload_n hx hb dX4_firesFirst_213 rfl (lv_at hl 1 rfl) ?_
  obtain ⟨hin, hw⟩ := hw
  refine ml_iast hE hI 1 rfl rfl rfl hin dX4_firesFirst_214 (fun H locs hI => ?_)
  refine lv_aload_n hx hb dX4_firesFirst_215 rfl (lv_at hl 0 rfl) ?_
  refine ml_get hE hI 1 (by decide) q1986 rfl rfl dX4_firesFirst_216 ?_
  refine lv_iload hx hb dX4_firesFirst_219 (lv_at hl 4 rfl) ?_
  refine lv_iconst (v := 1) hx hb dX4_firesFirst_221 (by decide) ?_
  refine lv_iadd hx hb dX4_firesFirst_222 ?_
  refine lv_aload_n hx hb dX4_firesFirst_223 rfl (lv_at hl 0 rfl) ?_
  refine ml_get hE hI 1 (by decide) q1986 rfl rfl dX4_firesFirst_224 ?_
  refine lv_bipush (v := 95) hx hb dX4_firesFirst_227 (by decide) ?_
  refine lv_iload_n hx hb dX4_firesFirst_229 rfl (lv_at hl 2 rfl) ?_
  refine lv_iadd hx hb dX4_firesFirst_230 ?_
  obtain ⟨hin, hw⟩ := hw
  refine ml_iald hE hI 1 rfl rfl rfl hin dX4_firesFirst_231 ?_
  obtain ⟨hin, hw⟩ := hw
  refine ml_iast hE hI 1 rfl rfl rfl hin dX4_firesFirst_232 (fun H locs hI => ?_)
  refine lv_aload_n hx hb dX4_firesFirst_233 rfl (lv_at hl 0 rfl) ?_
  refine ml_get hE hI 1 (by decide) q1986 rfl rfl dX4_firesFirst_234 ?_
  refine lv_iload hx hb dX4_firesFirst_237 (lv_at hl 4 rfl) ?_
  refine lv_iconst (v := 2) hx hb dX4_firesFirst_239 (by decide) ?_
  refine lv_iadd hx hb dX4_firesFirst_240 ?_
  refine lv_iload hx hb dX4_firesFirst_241 (lv_at hl 3 rfl) ?_
  refine lv_iconst (v := -1) hx hb dX4_firesFirst_243 (by decide) ?_
  refine lv_icmp_ne (tgt := 251) hx hb dX4_firesFirst_244 (by decide) (fun c_244 => ?_) (fun c_244 => ?_)
  · have hw := hw.1 c_244
    refine lv_aload_n hx hb dX4_firesFirst_251 rfl (lv_at hl 0 rfl) ?_
    refine ml_get hE hI 1 (by decide) q1986 rfl rfl dX4_firesFirst_252 ?_
    refine lv_bipush (v := 95) hx hb dX4_firesFirst_255 (by decide) ?_
    refine lv_iload hx hb dX4_firesFirst_257 (lv_at hl 3 rfl) ?_
    refine lv_iadd hx hb dX4_firesFirst_259 ?_
    obtain ⟨hin, hw⟩ := hw
    refine ml_iald hE hI 1 rfl rfl rfl hin dX4_firesFirst_260 ?_
    exact snd_X4_firesFirst_L261 hE Q F (ml_up (ml_up (ml_up A 1 (Int32.toNatClampNeg t1) (t2 + t3)) 1 (Int32.toNatClampNeg x9) x2) 1 (Int32.toNatClampNeg (x9 + (1 : Int32))) ((ml_up (ml_up A 1 (Int32.toNatClampNeg t1) (t2 + t3)) 1 (Int32.toNatClampNeg x9) x2) 1 (Int32.toNatClampNeg ((95 : Int32) + x3)))) L x9 x12 (x9 + (2 : Int32)) ((ml_up (ml_up (ml_up A 1 (Int32.toNatClampNeg t1) (t2 + t3)) 1 (Int32.toNatClampNeg x9) x2) 1 (Int32.toNatClampNeg (x9 + (1 : Int32))) ((ml_up (ml_up A 1 (Int32.toNatClampNeg t1) (t2 + t3)) 1 (Int32.toNatClampNeg x9) x2) 1 (Int32.toNatClampNeg ((95 : Int32) + x3)))) 1 (Int32.toNatClampNeg ((95 : Int32) + x4))) hw _ _ _ hI (lv_sub hl [0, 4, 5] rfl)
  · have hw := hw.2 c_244
    refine lv_iconst (v := -1) hx hb dX4_firesFirst_247 (by decide) ?_
    refine lv_goto (tgt := 261) hx hb dX4_firesFirst_248 (by decide) ?_
    exact snd_X4_firesFirst_L261 hE Q F (ml_up (ml_up (ml_up A 1 (Int32.toNatClampNeg t1) (t2 + t3)) 1 (Int32.toNatClampNeg x9) x2) 1 (Int32.toNatClampNeg (x9 + (1 : Int32))) ((ml_up (ml_up A 1 (Int32.toNatClampNeg t1) (t2 + t3)) 1 (Int32.toNatClampNeg x9) x2) 1 (Int32.toNatClampNeg ((95 : Int32) + x3)))) L x9 x12 (x9 + (2 : Int32)) (-1 : Int32) hw _ _ _ hI (lv_sub hl [0, 4, 5] rfl)
def wp_X4_firesFirst_L185 (Q : Int32 → (Nat → Int32) → (Nat → Nat → Int32) → (Nat → UInt32) → Prop) (F : Nat → Int32) (A : Nat → Nat → Int32) (L : Nat → UInt32) (x2 : Int32) (x3 : Int32) (x4 : Int32) (x9 : Int32) (t0 : Int32) : Prop := ((¬ t0 = (-1 : Int32) → wp_X4_firesFirst_L205 Q F A L x2 x3 x4 x9 t0 (5 : Int32) (A 1 5) (0 : Int32)) ∧ (t0 = (-1 : Int32) → wp_X4_firesFirst_L205 Q F A L x2 x3 x4 x9 t0 (5 : Int32) (A 1 5) (1 : Int32)))
set_option maxHeartbeats 4000000 in
theorem snd_X4_firesFirst_L185 {p : Program} {l : Launch} {e : Env} {s : State} {m : MethodId} {args : Array Value} {below : List Frame} {meth : Method} {c : Code} {G : GG} {h0 : HH} {ad : Nat → Nat} (hE : hv_E p s m args meth c cX4_firesFirst 13 (some FieldType.int) RX4 G h0) (Q : Int32 → (Nat → Int32) → (Nat → Nat → Int32) → (Nat → UInt32) → Prop) : ∀ (F : Nat → Int32) (A : Nat → Nat → Int32) (L : Nat → UInt32) (x2 : Int32) (x3 : Int32) (x4 : Int32) (x9 : Int32) (t0 : Int32), wp_X4_firesFirst_L185 Q F A L x2 x3 x4 x9 t0 → ∀ (H : Heap) (locs : List Loc) (ls : Array Slot), ml_I G h0 s.heap ad F A L H locs → lv_has ls 13 [(0, .ref (ad 0)), (2, .int x2), (3, .int x3), (4, .int x4), (9, .int x9)] → W p l e (headSpec (ws_ yX4_firesFirst cX4_firesFirst 13 (some FieldType.int)) rm_X4_firesFirst).room s m args below meth c H locs 0 0 (MQ below (hv_Qi G h0 s.heap.size (fun r => ml_Q G h0 ad (Q r))) args s 0 0 (hv_A h0 s.heap.size)) (F0 m 185 ls [.int t0]) := by
  obtain ⟨⟨hx, hb, hml, hown, hts⟩, hr, hlocks, -⟩ := id hE
  intro F A L x2 x3 x4 x9 t0 hw H locs ls hI hl
  unfold wp_X4_firesFirst_L185 at hw
  refine lv_istore (lv' := [(12, .int t0), (0, .ref (ad 0)), (2, .int x2), (3, .int x3), (4, .int x4), (9, .int x9)]) hx hb dX4_firesFirst_185 hl (by decide) rfl (fun ls hl => ?_)
  refine lv_aload_n hx hb dX4_firesFirst_187 rfl (lv_at hl 1 rfl) ?_
  refine ml_get hE hI 1 (by decide) q1986 rfl rfl dX4_firesFirst_188 ?_
  refine lv_iconst (v := 5) hx hb dX4_firesFirst_191 (by decide) ?_
  refine lv_dup2_11 hx hb dX4_firesFirst_192 rfl rfl ?_
  have hin : vp_in (5 : Int32) 13675 := by unfold vp_in; decide +kernel
  refine ml_iald hE hI 1 rfl rfl (show Int32.toNatClampNeg (5 : Int32) = 5 from by decide +kernel) hin dX4_firesFirst_193 ?_
  refine lv_iload hx hb dX4_firesFirst_194 (lv_at hl 0 rfl) ?_
  refine lv_iconst (v := -1) hx hb dX4_firesFirst_196 (by decide) ?_
  refine lv_icmp_ne (tgt := 204) hx hb dX4_firesFirst_197 (by decide) (fun c_197 => ?_) (fun c_197 => ?_)
  · have hw := hw.1 c_197
    refine lv_iconst (v := 0) hx hb dX4_firesFirst_204 (by decide) ?_
    exact snd_X4_firesFirst_L205 hE Q F A L x2 x3 x4 x9 t0 (5 : Int32) (A 1 5) (0 : Int32) hw _ _ _ hI (lv_sub hl [1, 2, 3, 4, 5, 0] rfl)
  · have hw := hw.2 c_197
    refine lv_iconst (v := 1) hx hb dX4_firesFirst_200 (by decide) ?_
    refine lv_goto (tgt := 205) hx hb dX4_firesFirst_201 (by decide) ?_
    exact snd_X4_firesFirst_L205 hE Q F A L x2 x3 x4 x9 t0 (5 : Int32) (A 1 5) (1 : Int32) hw _ _ _ hI (lv_sub hl [1, 2, 3, 4, 5, 0] rfl)
def wp_X4_firesFirst_L114 (Q : Int32 → (Nat → Int32) → (Nat → Nat → Int32) → (Nat → UInt32) → Prop) (F : Nat → Int32) (A : Nat → Nat → Int32) (L : Nat → UInt32) (x2 : Int32) (x3 : Int32) (x4 : Int32) (x6 : Int32) (x7 : Int32) (x8 : Int32) (x9 : Int32) (t0 : UInt32) : Prop := wp_X4_slotOf3 F A L x6 x7 x8 (fun r10 F10 A10 L10 => ((r10 = (-1 : Int32) → (((20 : Int32) ≤ ((ml_up A10 1 3 ((A10 1 3) + (1 : Int32))) 1 1) → wp_X4_firesFirst_L185 Q F10 (ml_up A10 1 3 ((A10 1 3) + (1 : Int32))) L10 x2 x3 x4 x9 (-1 : Int32)) ∧ (¬ (20 : Int32) ≤ ((ml_up A10 1 3 ((A10 1 3) + (1 : Int32))) 1 1) → wp_X4_comes F10 (ml_up A10 1 3 ((A10 1 3) + (1 : Int32))) L10 x6 x7 x8 (0 : Int32) t0 (fun r11 F11 A11 L11 => wp_X4_firesFirst_L185 Q F11 A11 L11 x2 x3 x4 x9 r11)))) ∧ (¬ r10 = (-1 : Int32) → (vp_in ((95 : Int32) + r10) 13675 ∧ wp_X4_firesFirst_L185 Q F10 (ml_up A10 1 3 ((A10 1 3) + (1 : Int32))) L10 x2 x3 x4 x9 ((ml_up A10 1 3 ((A10 1 3) + (1 : Int32))) 1 (Int32.toNatClampNeg ((95 : Int32) + r10)))))))
set_option maxHeartbeats 4000000 in
theorem snd_X4_firesFirst_L114 {p : Program} {l : Launch} {e : Env} {s : State} {m : MethodId} {args : Array Value} {below : List Frame} {meth : Method} {c : Code} {G : GG} {h0 : HH} {ad : Nat → Nat} (hE : hv_E p s m args meth c cX4_firesFirst 13 (some FieldType.int) RX4 G h0) (Q : Int32 → (Nat → Int32) → (Nat → Nat → Int32) → (Nat → UInt32) → Prop) : ∀ (F : Nat → Int32) (A : Nat → Nat → Int32) (L : Nat → UInt32) (x2 : Int32) (x3 : Int32) (x4 : Int32) (x6 : Int32) (x7 : Int32) (x8 : Int32) (x9 : Int32) (t0 : UInt32), wp_X4_firesFirst_L114 Q F A L x2 x3 x4 x6 x7 x8 x9 t0 → ∀ (H : Heap) (locs : List Loc) (ls : Array Slot), ml_I G h0 s.heap ad F A L H locs → lv_has ls 13 [(0, .ref (ad 0)), (2, .int x2), (3, .int x3), (4, .int x4), (6, .int x6), (7, .int x7), (8, .int x8), (9, .int x9)] → W p l e (headSpec (ws_ yX4_firesFirst cX4_firesFirst 13 (some FieldType.int)) rm_X4_firesFirst).room s m args below meth c H locs 0 0 (MQ below (hv_Qi G h0 s.heap.size (fun r => ml_Q G h0 ad (Q r))) args s 0 0 (hv_A h0 s.heap.size)) (F0 m 114 ls [.float t0]) := by
  obtain ⟨⟨hx, hb, hml, hown, hts⟩, hr, hlocks, -⟩ := id hE
  intro F A L x2 x3 x4 x6 x7 x8 x9 t0 hw H locs ls hI hl
  unfold wp_X4_firesFirst_L114 at hw
  refine lv_fstore (lv' := [(10, .float t0), (0, .ref (ad 0)), (2, .int x2), (3, .int x3), (4, .int x4), (6, .int x6), (7, .int x7), (8, .int x8), (9, .int x9)]) hx hb dX4_firesFirst_114 hl (by decide) rfl (fun ls hl => ?_)
  refine lv_aload_n hx hb dX4_firesFirst_116 rfl (lv_at hl 1 rfl) ?_
  refine lv_iload hx hb dX4_firesFirst_117 (lv_at hl 5 rfl) ?_
  refine lv_iload hx hb dX4_firesFirst_119 (lv_at hl 6 rfl) ?_
  refine lv_iload hx hb dX4_firesFirst_121 (lv_at hl 7 rfl) ?_
  refine ml_calli (As := [.int x6, .int x7, .int x8]) (rest := []) (cells := 0) (slots := 0) hE hI (fun h hS => snd_X4_slotOf3 l G _ h ad F A L x6 x7 x8 _ hS hw) (cwV 3 hts (lw_V q2222 q2224 qs59 q108 q2225) rfl rfl rfl (by decide +kernel) ⟨Nat.le_of_ble_eq_true rfl, Nat.le_of_ble_eq_true rfl⟩) rfl hl.1 (Nat.le_of_ble_eq_true rfl) dX4_firesFirst_123 ⟨Nat.le_of_ble_eq_true rfl, Nat.le_of_ble_eq_true rfl⟩ (fun r10 F10 A10 L10 H locs hw hI => ?_)
  refine lv_istore (lv' := [(11, .int r10), (10, .float t0), (0, .ref (ad 0)), (2, .int x2), (3, .int x3), (4, .int x4), (6, .int x6), (7, .int x7), (8, .int x8), (9, .int x9)]) hx hb dX4_firesFirst_126 hl (by decide) rfl (fun ls hl => ?_)
  refine lv_aload_n hx hb dX4_firesFirst_128 rfl (lv_at hl 2 rfl) ?_
  refine ml_get hE hI 1 (by decide) q1986 rfl rfl dX4_firesFirst_129 ?_
  refine lv_iconst (v := 3) hx hb dX4_firesFirst_132 (by decide) ?_
  refine lv_dup2_11 hx hb dX4_firesFirst_133 rfl rfl ?_
  have hin : vp_in (3 : Int32) 13675 := by unfold vp_in; decide +kernel
  refine ml_iald hE hI 1 rfl rfl (show Int32.toNatClampNeg (3 : Int32) = 3 from by decide +kernel) hin dX4_firesFirst_134 ?_
  refine lv_iconst (v := 1) hx hb dX4_firesFirst_135 (by decide) ?_
  refine lv_iadd hx hb dX4_firesFirst_136 ?_
  have hin : vp_in (3 : Int32) 13675 := by unfold vp_in; decide +kernel
  refine ml_iast hE hI 1 rfl rfl (show Int32.toNatClampNeg (3 : Int32) = 3 from by decide +kernel) hin dX4_firesFirst_137 (fun H locs hI => ?_)
  refine lv_iload hx hb dX4_firesFirst_138 (lv_at hl 0 rfl) ?_
  refine lv_iconst (v := -1) hx hb dX4_firesFirst_140 (by decide) ?_
  refine lv_icmp_eq (tgt := 157) hx hb dX4_firesFirst_141 (by decide) (fun c_141 => ?_) (fun c_141 => ?_)
  · have hw := hw.1 c_141
    refine lv_aload_n hx hb dX4_firesFirst_157 rfl (lv_at hl 2 rfl) ?_
    refine ml_get hE hI 1 (by decide) q1986 rfl rfl dX4_firesFirst_158 ?_
    refine lv_iconst (v := 1) hx hb dX4_firesFirst_161 (by decide) ?_
    have hin : vp_in (1 : Int32) 13675 := by unfold vp_in; decide +kernel
    refine ml_iald hE hI 1 rfl rfl (show Int32.toNatClampNeg (1 : Int32) = 1 from by decide +kernel) hin dX4_firesFirst_162 ?_
    refine lv_bipush (v := 20) hx hb dX4_firesFirst_163 (by decide) ?_
    refine lv_icmp_ge (tgt := 184) hx hb dX4_firesFirst_165 (by decide) (fun c_165 => ?_) (fun c_165 => ?_)
    · have hw := hw.1 c_165
      refine lv_iconst (v := -1) hx hb dX4_firesFirst_184 (by decide) ?_
      exact snd_X4_firesFirst_L185 hE Q F10 (ml_up A10 1 3 ((A10 1 3) + (1 : Int32))) L10 x2 x3 x4 x9 (-1 : Int32) hw _ _ _ hI (lv_sub hl [2, 3, 4, 5, 9] rfl)
    · have hw := hw.2 c_165
      refine lv_aload_n hx hb dX4_firesFirst_168 rfl (lv_at hl 2 rfl) ?_
      refine lv_iload hx hb dX4_firesFirst_169 (lv_at hl 6 rfl) ?_
      refine lv_iload hx hb dX4_firesFirst_171 (lv_at hl 7 rfl) ?_
      refine lv_iload hx hb dX4_firesFirst_173 (lv_at hl 8 rfl) ?_
      refine lv_iconst (v := 0) hx hb dX4_firesFirst_175 (by decide) ?_
      refine lv_fload hx hb dX4_firesFirst_176 (lv_at hl 1 rfl) ?_
      refine ml_calli (As := [.int x6, .int x7, .int x8, .int (0 : Int32), .float t0]) (rest := []) (cells := 0) (slots := 0) hE hI (fun h hS => snd_X4_comes l G _ h ad F10 (ml_up A10 1 3 ((A10 1 3) + (1 : Int32))) L10 x6 x7 x8 (0 : Int32) t0 _ hS hw) (cwV 5 hts (lw_V q2227 q2229 qs60 q108 q2230) rfl rfl rfl (by decide +kernel) ⟨Nat.le_of_ble_eq_true rfl, Nat.le_of_ble_eq_true rfl⟩) rfl hl.1 (Nat.le_of_ble_eq_true rfl) dX4_firesFirst_178 ⟨Nat.le_of_ble_eq_true rfl, Nat.le_of_ble_eq_true rfl⟩ (fun r11 F11 A11 L11 H locs hw hI => ?_)
      refine lv_goto (tgt := 185) hx hb dX4_firesFirst_181 (by decide) ?_
      exact snd_X4_firesFirst_L185 hE Q F11 A11 L11 x2 x3 x4 x9 r11 hw _ _ _ hI (lv_sub hl [2, 3, 4, 5, 9] rfl)
  · have hw := hw.2 c_141
    refine lv_aload_n hx hb dX4_firesFirst_144 rfl (lv_at hl 2 rfl) ?_
    refine ml_get hE hI 1 (by decide) q1986 rfl rfl dX4_firesFirst_145 ?_
    refine lv_bipush (v := 95) hx hb dX4_firesFirst_148 (by decide) ?_
    refine lv_iload hx hb dX4_firesFirst_150 (lv_at hl 0 rfl) ?_
    refine lv_iadd hx hb dX4_firesFirst_152 ?_
    obtain ⟨hin, hw⟩ := hw
    refine ml_iald hE hI 1 rfl rfl rfl hin dX4_firesFirst_153 ?_
    refine lv_goto (tgt := 185) hx hb dX4_firesFirst_154 (by decide) ?_
    exact snd_X4_firesFirst_L185 hE Q F10 (ml_up A10 1 3 ((A10 1 3) + (1 : Int32))) L10 x2 x3 x4 x9 ((ml_up A10 1 3 ((A10 1 3) + (1 : Int32))) 1 (Int32.toNatClampNeg ((95 : Int32) + r10))) hw _ _ _ hI (lv_sub hl [2, 3, 4, 5, 9] rfl)
def wp_X4_firesFirst (F : Nat → Int32) (A : Nat → Nat → Int32) (L : Nat → UInt32) (Q : Int32 → (Nat → Int32) → (Nat → Nat → Int32) → (Nat → UInt32) → Prop) : Prop := wp_X4_behind F A L (-1 : Int32) (fun r1 F1 A1 L1 => (vp_in r1 3360 ∧ (vp_in r1 3360 ∧ (vp_in r1 3360 ∧ wp_X4_isMatch F1 A1 L1 (A1 15 (Int32.toNatClampNeg r1)) (A1 16 (Int32.toNatClampNeg r1)) (A1 17 (Int32.toNatClampNeg r1)) (fun r2 F2 A2 L2 => wp_X4_of F2 A2 L2 (A1 15 (Int32.toNatClampNeg r1)) (7 : Int32) (fun r3 F3 A3 L3 => wp_X4_of F3 A3 L3 (A1 15 (Int32.toNatClampNeg r1)) (8 : Int32) (fun r4 F4 A4 L4 => wp_X4_person F4 A4 L4 r4 (fun r5 F5 A5 L5 => wp_X4_of F5 A5 L5 (A1 15 (Int32.toNatClampNeg r1)) (9 : Int32) (fun r6 F6 A6 L6 => wp_X4_person F6 A6 L6 r6 (fun r7 F7 A7 L7 => ((¬ (A1 17 (Int32.toNatClampNeg r1)) = (-1 : Int32) → wp_X4_trustIn F7 A7 L7 (A1 16 (Int32.toNatClampNeg r1)) (fun r8 F8 A8 L8 => wp_X4_trustIn F8 A8 L8 (A1 17 (Int32.toNatClampNeg r1)) (fun r9 F9 A9 L9 => (vf_n32 (FP.fmul r8 r9) ∧ wp_X4_firesFirst_L114 Q F9 A9 L9 (A1 15 (Int32.toNatClampNeg r1)) (A1 16 (Int32.toNatClampNeg r1)) (A1 17 (Int32.toNatClampNeg r1)) r3 r5 r7 ((235 : Int32) + ((4 : Int32) * (A7 1 6))) (FP.fmul r8 r9))))) ∧ ((A1 17 (Int32.toNatClampNeg r1)) = (-1 : Int32) → wp_X4_trustIn F7 A7 L7 (A1 16 (Int32.toNatClampNeg r1)) (fun r12 F12 A12 L12 => wp_X4_firesFirst_L114 Q F12 A12 L12 (A1 15 (Int32.toNatClampNeg r1)) (A1 16 (Int32.toNatClampNeg r1)) (A1 17 (Int32.toNatClampNeg r1)) r3 r5 r7 ((235 : Int32) + ((4 : Int32) * (A7 1 6))) r12)))))))))))))
set_option maxHeartbeats 4000000 in
theorem snd_X4_firesFirst (l : Launch) (G : GG) (sz : Nat) (h : HH) (ad : Nat → Nat) (F : Nat → Int32) (A : Nat → Nat → Int32) (L : Nat → UInt32) (Q : Int32 → (Nat → Int32) → (Nat → Nat → Int32) → (Nat → UInt32) → Prop) (hS : ml_S G h ad F A L) (hw : wp_X4_firesFirst F A L Q) : Met l yX4_firesFirst (ws_ yX4_firesFirst cX4_firesFirst 13 (some FieldType.int)) rm_X4_firesFirst (hv_Pc G h sz [.ref (ad 0)]) (hv_Qi G h sz (fun r => ml_Q G h ad (Q r))) 0 0 (hv_A h sz) := by
  refine Met.ofW (cc := cX4_firesFirst) (maxL := 13) (ret := (some FieldType.int)) (by decide) rfl ?_
  intro p e s m args below meth c s₁ B hml hv
  obtain ⟨rfl, rfl, hE, hI⟩ := hv_open B hml hv
  have hE : hv_E p s m ([.ref (ad 0)] : List Value).toArray meth c cX4_firesFirst 13 (some FieldType.int) RX4 G h := hE
  have hI := ml_I.start hI hS
  obtain ⟨⟨hx, hb, hml, hown, hts⟩, hr, hlocks, -⟩ := id hE
  have hl := lv_entry ([.ref (ad 0)] : List Value) (n := 13) (Nat.le_of_ble_eq_true rfl)
  rw [lg_entry_eq]
  generalize (lg_sl ([.ref (ad 0)] : List Value) ++ List.replicate (13 - (lg_sl ([.ref (ad 0)] : List Value)).length) Slot.unset).toArray = ls at hl ⊢
  have hl : lv_has ls 13 [(0, .ref (ad 0))] := hl
  unfold wp_X4_firesFirst at hw
  refine lv_aload_n hx hb dX4_firesFirst_0 rfl (lv_at hl 0 rfl) ?_
  refine lv_iconst (v := -1) hx hb dX4_firesFirst_1 (by decide) ?_
  refine ml_calli (As := [.int (-1 : Int32)]) (rest := []) (cells := 0) (slots := 0) hE hI (fun h hS => snd_X4_behind l G _ h ad F A L (-1 : Int32) _ hS hw) (cwV 1 hts (lw_V q2335 q2337 qs76 q108 q2338) rfl rfl rfl (by decide +kernel) ⟨Nat.le_of_ble_eq_true rfl, Nat.le_of_ble_eq_true rfl⟩) rfl hl.1 (Nat.le_of_ble_eq_true rfl) dX4_firesFirst_2 ⟨Nat.le_of_ble_eq_true rfl, Nat.le_of_ble_eq_true rfl⟩ (fun r1 F1 A1 L1 H locs hw hI => ?_)
  refine lv_istore_n (lv' := [(1, .int r1), (0, .ref (ad 0))]) hx hb dX4_firesFirst_5 rfl hl (by decide) rfl (fun ls hl => ?_)
  refine lv_aload_n hx hb dX4_firesFirst_6 rfl (lv_at hl 1 rfl) ?_
  refine ml_get hE hI 15 (by decide) q2000 rfl rfl dX4_firesFirst_7 ?_
  refine lv_iload_n hx hb dX4_firesFirst_10 rfl (lv_at hl 0 rfl) ?_
  obtain ⟨hin, hw⟩ := hw
  refine ml_iald hE hI 15 rfl rfl rfl hin dX4_firesFirst_11 ?_
  refine lv_istore_n (lv' := [(2, .int (A1 15 (Int32.toNatClampNeg r1))), (1, .int r1), (0, .ref (ad 0))]) hx hb dX4_firesFirst_12 rfl hl (by decide) rfl (fun ls hl => ?_)
  refine lv_aload_n hx hb dX4_firesFirst_13 rfl (lv_at hl 2 rfl) ?_
  refine ml_get hE hI 16 (by decide) q2001 rfl rfl dX4_firesFirst_14 ?_
  refine lv_iload_n hx hb dX4_firesFirst_17 rfl (lv_at hl 1 rfl) ?_
  obtain ⟨hin, hw⟩ := hw
  refine ml_iald hE hI 16 rfl rfl rfl hin dX4_firesFirst_18 ?_
  refine lv_istore_n (lv' := [(3, .int (A1 16 (Int32.toNatClampNeg r1))), (2, .int (A1 15 (Int32.toNatClampNeg r1))), (1, .int r1), (0, .ref (ad 0))]) hx hb dX4_firesFirst_19 rfl hl (by decide) rfl (fun ls hl => ?_)
  refine lv_aload_n hx hb dX4_firesFirst_20 rfl (lv_at hl 3 rfl) ?_
  refine ml_get hE hI 17 (by decide) q2002 rfl rfl dX4_firesFirst_21 ?_
  refine lv_iload_n hx hb dX4_firesFirst_24 rfl (lv_at hl 2 rfl) ?_
  obtain ⟨hin, hw⟩ := hw
  refine ml_iald hE hI 17 rfl rfl rfl hin dX4_firesFirst_25 ?_
  refine lv_istore (lv' := [(4, .int (A1 17 (Int32.toNatClampNeg r1))), (3, .int (A1 16 (Int32.toNatClampNeg r1))), (2, .int (A1 15 (Int32.toNatClampNeg r1))), (1, .int r1), (0, .ref (ad 0))]) hx hb dX4_firesFirst_26 hl (by decide) rfl (fun ls hl => ?_)
  refine lv_aload_n hx hb dX4_firesFirst_28 rfl (lv_at hl 4 rfl) ?_
  refine lv_iload_n hx hb dX4_firesFirst_29 rfl (lv_at hl 2 rfl) ?_
  refine lv_iload_n hx hb dX4_firesFirst_30 rfl (lv_at hl 1 rfl) ?_
  refine lv_iload hx hb dX4_firesFirst_31 (lv_at hl 0 rfl) ?_
  refine ml_calli (As := [.int (A1 15 (Int32.toNatClampNeg r1)), .int (A1 16 (Int32.toNatClampNeg r1)), .int (A1 17 (Int32.toNatClampNeg r1))]) (rest := []) (cells := 0) (slots := 0) hE hI (fun h hS => snd_X4_isMatch l G _ h ad F1 A1 L1 (A1 15 (Int32.toNatClampNeg r1)) (A1 16 (Int32.toNatClampNeg r1)) (A1 17 (Int32.toNatClampNeg r1)) _ hS hw) (cwV 3 hts (lw_V q2307 q2309 qs70 q108 q2310) rfl rfl rfl (by decide +kernel) ⟨Nat.le_of_ble_eq_true rfl, Nat.le_of_ble_eq_true rfl⟩) rfl hl.1 (Nat.le_of_ble_eq_true rfl) dX4_firesFirst_33 ⟨Nat.le_of_ble_eq_true rfl, Nat.le_of_ble_eq_true rfl⟩ (fun r2 F2 A2 L2 H locs hw hI => ?_)
  refine lv_istore (lv' := [(5, .int r2), (4, .int (A1 17 (Int32.toNatClampNeg r1))), (3, .int (A1 16 (Int32.toNatClampNeg r1))), (2, .int (A1 15 (Int32.toNatClampNeg r1))), (1, .int r1), (0, .ref (ad 0))]) hx hb dX4_firesFirst_36 hl (by decide) rfl (fun ls hl => ?_)
  refine lv_aload_n hx hb dX4_firesFirst_38 rfl (lv_at hl 5 rfl) ?_
  refine lv_iload_n hx hb dX4_firesFirst_39 rfl (lv_at hl 3 rfl) ?_
  refine lv_bipush (v := 7) hx hb dX4_firesFirst_40 (by decide) ?_
  refine ml_calli (As := [.int (A1 15 (Int32.toNatClampNeg r1)), .int (7 : Int32)]) (rest := []) (cells := 0) (slots := 0) hE hI (fun h hS => snd_X4_of l G _ h ad F2 A2 L2 (A1 15 (Int32.toNatClampNeg r1)) (7 : Int32) _ hS hw) (cwV 2 hts (lw_V q2319 q2321 qs73 q108 q2322) rfl rfl rfl (by decide +kernel) ⟨Nat.le_of_ble_eq_true rfl, Nat.le_of_ble_eq_true rfl⟩) rfl hl.1 (Nat.le_of_ble_eq_true rfl) dX4_firesFirst_42 ⟨Nat.le_of_ble_eq_true rfl, Nat.le_of_ble_eq_true rfl⟩ (fun r3 F3 A3 L3 H locs hw hI => ?_)
  refine lv_istore (lv' := [(6, .int r3), (5, .int r2), (4, .int (A1 17 (Int32.toNatClampNeg r1))), (3, .int (A1 16 (Int32.toNatClampNeg r1))), (2, .int (A1 15 (Int32.toNatClampNeg r1))), (1, .int r1), (0, .ref (ad 0))]) hx hb dX4_firesFirst_45 hl (by decide) rfl (fun ls hl => ?_)
  refine lv_aload_n hx hb dX4_firesFirst_47 rfl (lv_at hl 6 rfl) ?_
  refine lv_aload_n hx hb dX4_firesFirst_48 rfl (lv_at hl 6 rfl) ?_
  refine lv_iload_n hx hb dX4_firesFirst_49 rfl (lv_at hl 4 rfl) ?_
  refine lv_bipush (v := 8) hx hb dX4_firesFirst_50 (by decide) ?_
  refine ml_calli (As := [.int (A1 15 (Int32.toNatClampNeg r1)), .int (8 : Int32)]) (rest := [.ref (ad 0)]) (cells := 0) (slots := 0) hE hI (fun h hS => snd_X4_of l G _ h ad F3 A3 L3 (A1 15 (Int32.toNatClampNeg r1)) (8 : Int32) _ hS hw) (cwV 2 hts (lw_V q2319 q2321 qs73 q108 q2322) rfl rfl rfl (by decide +kernel) ⟨Nat.le_of_ble_eq_true rfl, Nat.le_of_ble_eq_true rfl⟩) rfl hl.1 (Nat.le_of_ble_eq_true rfl) dX4_firesFirst_52 ⟨Nat.le_of_ble_eq_true rfl, Nat.le_of_ble_eq_true rfl⟩ (fun r4 F4 A4 L4 H locs hw hI => ?_)
  refine ml_calli (As := [.int r4]) (rest := []) (cells := 0) (slots := 0) hE hI (fun h hS => snd_X4_person l G _ h ad F4 A4 L4 r4 _ hS hw) (cwV 1 hts (lw_V q2327 q2329 qs75 q108 q2330) rfl rfl rfl (by decide +kernel) ⟨Nat.le_of_ble_eq_true rfl, Nat.le_of_ble_eq_true rfl⟩) rfl hl.1 (Nat.le_of_ble_eq_true rfl) dX4_firesFirst_55 ⟨Nat.le_of_ble_eq_true rfl, Nat.le_of_ble_eq_true rfl⟩ (fun r5 F5 A5 L5 H locs hw hI => ?_)
  refine lv_istore (lv' := [(7, .int r5), (6, .int r3), (5, .int r2), (4, .int (A1 17 (Int32.toNatClampNeg r1))), (3, .int (A1 16 (Int32.toNatClampNeg r1))), (2, .int (A1 15 (Int32.toNatClampNeg r1))), (1, .int r1), (0, .ref (ad 0))]) hx hb dX4_firesFirst_58 hl (by decide) rfl (fun ls hl => ?_)
  refine lv_aload_n hx hb dX4_firesFirst_60 rfl (lv_at hl 7 rfl) ?_
  refine lv_aload_n hx hb dX4_firesFirst_61 rfl (lv_at hl 7 rfl) ?_
  refine lv_iload_n hx hb dX4_firesFirst_62 rfl (lv_at hl 5 rfl) ?_
  refine lv_bipush (v := 9) hx hb dX4_firesFirst_63 (by decide) ?_
  refine ml_calli (As := [.int (A1 15 (Int32.toNatClampNeg r1)), .int (9 : Int32)]) (rest := [.ref (ad 0)]) (cells := 0) (slots := 0) hE hI (fun h hS => snd_X4_of l G _ h ad F5 A5 L5 (A1 15 (Int32.toNatClampNeg r1)) (9 : Int32) _ hS hw) (cwV 2 hts (lw_V q2319 q2321 qs73 q108 q2322) rfl rfl rfl (by decide +kernel) ⟨Nat.le_of_ble_eq_true rfl, Nat.le_of_ble_eq_true rfl⟩) rfl hl.1 (Nat.le_of_ble_eq_true rfl) dX4_firesFirst_65 ⟨Nat.le_of_ble_eq_true rfl, Nat.le_of_ble_eq_true rfl⟩ (fun r6 F6 A6 L6 H locs hw hI => ?_)
  refine ml_calli (As := [.int r6]) (rest := []) (cells := 0) (slots := 0) hE hI (fun h hS => snd_X4_person l G _ h ad F6 A6 L6 r6 _ hS hw) (cwV 1 hts (lw_V q2327 q2329 qs75 q108 q2330) rfl rfl rfl (by decide +kernel) ⟨Nat.le_of_ble_eq_true rfl, Nat.le_of_ble_eq_true rfl⟩) rfl hl.1 (Nat.le_of_ble_eq_true rfl) dX4_firesFirst_68 ⟨Nat.le_of_ble_eq_true rfl, Nat.le_of_ble_eq_true rfl⟩ (fun r7 F7 A7 L7 H locs hw hI => ?_)
  refine lv_istore (lv' := [(8, .int r7), (7, .int r5), (6, .int r3), (5, .int r2), (4, .int (A1 17 (Int32.toNatClampNeg r1))), (3, .int (A1 16 (Int32.toNatClampNeg r1))), (2, .int (A1 15 (Int32.toNatClampNeg r1))), (1, .int r1), (0, .ref (ad 0))]) hx hb dX4_firesFirst_71 hl (by decide) rfl (fun ls hl => ?_)
  refine lv_sipush (v := 235) hx hb dX4_firesFirst_73 (by decide) ?_
  refine lv_iconst (v := 4) hx hb dX4_firesFirst_76 (by decide) ?_
  refine lv_aload_n hx hb dX4_firesFirst_77 rfl (lv_at hl 8 rfl) ?_
  refine ml_get hE hI 1 (by decide) q1986 rfl rfl dX4_firesFirst_78 ?_
  refine lv_bipush (v := 6) hx hb dX4_firesFirst_81 (by decide) ?_
  have hin : vp_in (6 : Int32) 13675 := by unfold vp_in; decide +kernel
  refine ml_iald hE hI 1 rfl rfl (show Int32.toNatClampNeg (6 : Int32) = 6 from by decide +kernel) hin dX4_firesFirst_83 ?_
  refine lv_imul hx hb dX4_firesFirst_84 ?_
  refine lv_iadd hx hb dX4_firesFirst_85 ?_
  refine lv_istore (lv' := [(9, .int ((235 : Int32) + ((4 : Int32) * (A7 1 6)))), (8, .int r7), (7, .int r5), (6, .int r3), (5, .int r2), (4, .int (A1 17 (Int32.toNatClampNeg r1))), (3, .int (A1 16 (Int32.toNatClampNeg r1))), (2, .int (A1 15 (Int32.toNatClampNeg r1))), (1, .int r1), (0, .ref (ad 0))]) hx hb dX4_firesFirst_86 hl (by decide) rfl (fun ls hl => ?_)
  refine lv_iload hx hb dX4_firesFirst_88 (lv_at hl 5 rfl) ?_
  refine lv_iconst (v := -1) hx hb dX4_firesFirst_90 (by decide) ?_
  refine lv_icmp_ne (tgt := 102) hx hb dX4_firesFirst_91 (by decide) (fun c_91 => ?_) (fun c_91 => ?_)
  · have hw := hw.1 c_91
    refine lv_aload_n hx hb dX4_firesFirst_102 rfl (lv_at hl 9 rfl) ?_
    refine lv_iload_n hx hb dX4_firesFirst_103 rfl (lv_at hl 6 rfl) ?_
    refine ml_callf (As := [.int (A1 16 (Int32.toNatClampNeg r1))]) (rest := []) (cells := 0) (slots := 0) hE hI (fun h hS => snd_X4_trustIn l G _ h ad F7 A7 L7 (A1 16 (Int32.toNatClampNeg r1)) _ hS hw) (cwV 1 hts (lw_V q2277 q2279 qs67 q108 q2280) rfl rfl rfl (by decide +kernel) ⟨Nat.le_of_ble_eq_true rfl, Nat.le_of_ble_eq_true rfl⟩) rfl hl.1 (Nat.le_of_ble_eq_true rfl) dX4_firesFirst_104 ⟨Nat.le_of_ble_eq_true rfl, Nat.le_of_ble_eq_true rfl⟩ (fun r8 F8 A8 L8 H locs hw hI => ?_)
    refine lv_aload_n hx hb dX4_firesFirst_107 rfl (lv_at hl 9 rfl) ?_
    refine lv_iload hx hb dX4_firesFirst_108 (lv_at hl 5 rfl) ?_
    refine ml_callf (As := [.int (A1 17 (Int32.toNatClampNeg r1))]) (rest := [.float r8]) (cells := 0) (slots := 0) hE hI (fun h hS => snd_X4_trustIn l G _ h ad F8 A8 L8 (A1 17 (Int32.toNatClampNeg r1)) _ hS hw) (cwV 1 hts (lw_V q2277 q2279 qs67 q108 q2280) rfl rfl rfl (by decide +kernel) ⟨Nat.le_of_ble_eq_true rfl, Nat.le_of_ble_eq_true rfl⟩) rfl hl.1 (Nat.le_of_ble_eq_true rfl) dX4_firesFirst_110 ⟨Nat.le_of_ble_eq_true rfl, Nat.le_of_ble_eq_true rfl⟩ (fun r9 F9 A9 L9 H locs hw hI => ?_)
    obtain ⟨hne, hw⟩ := hw
    refine lv_fmul hx hb dX4_firesFirst_113 hne ?_
    exact snd_X4_firesFirst_L114 hE Q F9 A9 L9 (A1 15 (Int32.toNatClampNeg r1)) (A1 16 (Int32.toNatClampNeg r1)) (A1 17 (Int32.toNatClampNeg r1)) r3 r5 r7 ((235 : Int32) + ((4 : Int32) * (A7 1 6))) (FP.fmul r8 r9) hw _ _ _ hI (lv_sub hl [9, 7, 6, 5, 3, 2, 1, 0] rfl)
  · have hw := hw.2 c_91
    refine lv_aload_n hx hb dX4_firesFirst_94 rfl (lv_at hl 9 rfl) ?_
    refine lv_iload_n hx hb dX4_firesFirst_95 rfl (lv_at hl 6 rfl) ?_
    refine ml_callf (As := [.int (A1 16 (Int32.toNatClampNeg r1))]) (rest := []) (cells := 0) (slots := 0) hE hI (fun h hS => snd_X4_trustIn l G _ h ad F7 A7 L7 (A1 16 (Int32.toNatClampNeg r1)) _ hS hw) (cwV 1 hts (lw_V q2277 q2279 qs67 q108 q2280) rfl rfl rfl (by decide +kernel) ⟨Nat.le_of_ble_eq_true rfl, Nat.le_of_ble_eq_true rfl⟩) rfl hl.1 (Nat.le_of_ble_eq_true rfl) dX4_firesFirst_96 ⟨Nat.le_of_ble_eq_true rfl, Nat.le_of_ble_eq_true rfl⟩ (fun r12 F12 A12 L12 H locs hw hI => ?_)
    refine lv_goto (tgt := 114) hx hb dX4_firesFirst_99 (by decide) ?_
    exact snd_X4_firesFirst_L114 hE Q F12 A12 L12 (A1 15 (Int32.toNatClampNeg r1)) (A1 16 (Int32.toNatClampNeg r1)) (A1 17 (Int32.toNatClampNeg r1)) r3 r5 r7 ((235 : Int32) + ((4 : Int32) * (A7 1 6))) r12 hw _ _ _ hI (lv_sub hl [9, 7, 6, 5, 3, 2, 1, 0] rfl)
