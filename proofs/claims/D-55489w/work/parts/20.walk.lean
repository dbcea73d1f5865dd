/-! the reference's methods, walked (by gen/model.py) -/
set_option maxRecDepth 100000
/-- MatchmakerRulesModel.thrown()I -/
abbrev rm_X4_thrown : Room := { frames := 1, cells := 0, slots := 0, locals := 12 }
def wp_X4_thrown (F : Nat → Int32) (A : Nat → Nat → Int32) (L : Nat → UInt32) (Q : Int32 → (Nat → Int32) → (Nat → Nat → Int32) → (Nat → UInt32) → Prop) : Prop := Q (F 0) F A L
set_option maxHeartbeats 4000000 in
theorem snd_X4_thrown (l : Launch) (G : GG) (sz : Nat) (h : HH) (ad : Nat → Nat) (F : Nat → Int32) (A : Nat → Nat → Int32) (L : Nat → UInt32) (Q : Int32 → (Nat → Int32) → (Nat → Nat → Int32) → (Nat → UInt32) → Prop) (hS : ml_S G h ad F A L) (hw : wp_X4_thrown F A L Q) : Met l yX4_thrown (ws_ yX4_thrown cX4_thrown 1 (some FieldType.int)) rm_X4_thrown (hv_Pc G h sz [.ref (ad 0)]) (hv_Qi G h sz (fun r => ml_Q G h ad (Q r))) 0 0 (hv_A h sz) := by
  refine Met.ofW (cc := cX4_thrown) (maxL := 1) (ret := (some FieldType.int)) (by decide) rfl ?_
  intro p e s m args below meth c s₁ B hml hv
  obtain ⟨rfl, rfl, hE, hI⟩ := hv_open B hml hv
  have hE : hv_E p s m ([.ref (ad 0)] : List Value).toArray meth c cX4_thrown 1 (some FieldType.int) RX4 G h := hE
  have hI := ml_I.start hI hS
  obtain ⟨⟨hx, hb, hml, hown, hts⟩, hr, hlocks, -⟩ := id hE
  have hl := lv_entry ([.ref (ad 0)] : List Value) (n := 1) (Nat.le_of_ble_eq_true rfl)
  rw [lg_entry_eq]
  generalize (lg_sl ([.ref (ad 0)] : List Value) ++ List.replicate (1 - (lg_sl ([.ref (ad 0)] : List Value)).length) Slot.unset).toArray = ls at hl ⊢
  have hl : lv_has ls 1 [(0, .ref (ad 0))] := hl
  unfold wp_X4_thrown at hw
  refine lv_aload_n hx hb dX4_thrown_0 rfl (lv_at hl 0 rfl) ?_
  refine ml_get hE hI 0 (by decide) q1985 rfl rfl dX4_thrown_1 ?_
  exact ml_iret hE hI hw dX4_thrown_4

/-- MatchmakerRulesModel.clear()I -/
abbrev rm_X4_clear : Room := { frames := 1, cells := 0, slots := 0, locals := 12 }
def wp_X4_clear_L14 (Q : Int32 → (Nat → Int32) → (Nat → Nat → Int32) → (Nat → UInt32) → Prop) : Nat → (Nat → Int32) → (Nat → Nat → Int32) → (Nat → UInt32) → (Int32) → (Int32) → Prop
  | 0, _, _, _, _, _ => False
  | n + 1, F, A, L, x1, x2 => (((13675 : Int32) ≤ x2 → Q x1 (upd F 6 (0 : Int32)) A L) ∧ (¬ (13675 : Int32) ≤ x2 → (vp_in x2 13675 ∧ wp_X4_clear_L14 Q n F (ml_up A 1 (Int32.toNatClampNeg x2) (0 : Int32)) L x1 (x2 + (1 : Int32)))))
set_option maxHeartbeats 4000000 in
theorem snd_X4_clear_L14 {p : Program} {l : Launch} {e : Env} {s : State} {m : MethodId} {args : Array Value} {below : List Frame} {meth : Method} {c : Code} {G : GG} {h0 : HH} {ad : Nat → Nat} (hE : hv_E p s m args meth c cX4_clear 3 (some FieldType.int) RX4 G h0) (Q : Int32 → (Nat → Int32) → (Nat → Nat → Int32) → (Nat → UInt32) → Prop) : ∀ (n : Nat) (F : Nat → Int32) (A : Nat → Nat → Int32) (L : Nat → UInt32) (x1 : Int32) (x2 : Int32), wp_X4_clear_L14 Q n F A L x1 x2 → ∀ (H : Heap) (locs : List Loc) (ls : Array Slot), ml_I G h0 s.heap ad F A L H locs → lv_has ls 3 [(0, .ref (ad 0)), (1, .int x1), (2, .int x2)] → W p l e (headSpec (ws_ yX4_clear cX4_clear 3 (some FieldType.int)) rm_X4_clear).room s m args below meth c H locs 0 0 (MQ below (hv_Qi G h0 s.heap.size (fun r => ml_Q G h0 ad (Q r))) args s 0 0 (hv_A h0 s.heap.size)) (F0 m 14 ls []) := by
  obtain ⟨⟨hx, hb, hml, hown, hts⟩, hr, hlocks, -⟩ := id hE
  intro n
  induction n with
  | zero => intro F A L x1 x2 hw; exact hw.elim
  | succ n ih =>
    intro F A L x1 x2 hw H locs ls hI hl
    unfold wp_X4_clear_L14 at hw
    refine lv_iload_n hx hb dX4_clear_14 rfl (lv_at hl 2 rfl) ?_
    refine lv_sipush (v := 13675) hx hb dX4_clear_15 (by decide) ?_
    refine lv_icmp_ge (tgt := 34) hx hb dX4_clear_18 (by decide) (fun c_18 => ?_) (fun c_18 => ?_)
    · have hw := hw.1 c_18
      refine lv_aload_n hx hb dX4_clear_34 rfl (lv_at hl 0 rfl) ?_
      refine lv_iconst (v := 0) hx hb dX4_clear_35 (by decide) ?_
      refine ml_put hE hI 6 (by decide) q1991 rfl rfl (ty := .int) rfl rfl rfl (fun _ => rfl) dX4_clear_36 (fun H locs hI => ?_)
      refine lv_iload_n hx hb dX4_clear_39 rfl (lv_at hl 1 rfl) ?_
      exact ml_iret hE hI hw dX4_clear_40
    · have hw := hw.2 c_18
      refine lv_aload_n hx hb dX4_clear_21 rfl (lv_at hl 0 rfl) ?_
      refine ml_get hE hI 1 (by decide) q1986 rfl rfl dX4_clear_22 ?_
      refine lv_iload_n hx hb dX4_clear_25 rfl (lv_at hl 2 rfl) ?_
      refine lv_iconst (v := 0) hx hb dX4_clear_26 (by decide) ?_
      obtain ⟨hin, hw⟩ := hw
      refine ml_iast hE hI 1 rfl rfl rfl hin dX4_clear_27 (fun H locs hI => ?_)
      refine lv_iinc (v := (x2 + (1 : Int32))) (lv' := [(2, .int (x2 + (1 : Int32))), (0, .ref (ad 0)), (1, .int x1)]) hx hb dX4_clear_28 hl (k := 2) rfl rfl (by decide) rfl (fun ls hl => ?_)
      refine lv_goto (tgt := 14) hx hb dX4_clear_31 (by decide) ?_
      exact ih F (ml_up A 1 (Int32.toNatClampNeg x2) (0 : Int32)) L x1 (x2 + (1 : Int32)) hw _ _ _ hI (lv_sub hl [1, 2, 0] rfl)
def wp_X4_clear (F : Nat → Int32) (A : Nat → Nat → Int32) (L : Nat → UInt32) (Q : Int32 → (Nat → Int32) → (Nat → Nat → Int32) → (Nat → UInt32) → Prop) : Prop := (∃ n14, wp_X4_clear_L14 Q n14 (upd F 0 (0 : Int32)) A L (A 1 1) (0 : Int32))
set_option maxHeartbeats 4000000 in
theorem snd_X4_clear (l : Launch) (G : GG) (sz : Nat) (h : HH) (ad : Nat → Nat) (F : Nat → Int32) (A : Nat → Nat → Int32) (L : Nat → UInt32) (Q : Int32 → (Nat → Int32) → (Nat → Nat → Int32) → (Nat → UInt32) → Prop) (hS : ml_S G h ad F A L) (hw : wp_X4_clear F A L Q) : Met l yX4_clear (ws_ yX4_clear cX4_clear 3 (some FieldType.int)) rm_X4_clear (hv_Pc G h sz [.ref (ad 0)]) (hv_Qi G h sz (fun r => ml_Q G h ad (Q r))) 0 0 (hv_A h sz) := by
  refine Met.ofW (cc := cX4_clear) (maxL := 3) (ret := (some FieldType.int)) (by decide) rfl ?_
  intro p e s m args below meth c s₁ B hml hv
  obtain ⟨rfl, rfl, hE, hI⟩ := hv_open B hml hv
  have hE : hv_E p s m ([.ref (ad 0)] : List Value).toArray meth c cX4_clear 3 (some FieldType.int) RX4 G h := hE
  have hI := ml_I.start hI hS
  obtain ⟨⟨hx, hb, hml, hown, hts⟩, hr, hlocks, -⟩ := id hE
  have hl := lv_entry ([.ref (ad 0)] : List Value) (n := 3) (Nat.le_of_ble_eq_true rfl)
  rw [lg_entry_eq]
  generalize (lg_sl ([.ref (ad 0)] : List Value) ++ List.replicate (3 - (lg_sl ([.ref (ad 0)] : List Value)).length) Slot.unset).toArray = ls at hl ⊢
  have hl : lv_has ls 3 [(0, .ref (ad 0))] := hl
  unfold wp_X4_clear at hw
  refine lv_aload_n hx hb dX4_clear_0 rfl (lv_at hl 0 rfl) ?_
  refine lv_iconst (v := 0) hx hb dX4_clear_1 (by decide) ?_
  refine ml_put hE hI 0 (by decide) q1985 rfl rfl (ty := .int) rfl rfl rfl (fun _ => rfl) dX4_clear_2 (fun H locs hI => ?_)
  refine lv_aload_n hx hb dX4_clear_5 rfl (lv_at hl 0 rfl) ?_
  refine ml_get hE hI 1 (by decide) q1986 rfl rfl dX4_clear_6 ?_
  refine lv_iconst (v := 1) hx hb dX4_clear_9 (by decide) ?_
  have hin : vp_in (1 : Int32) 13675 := by unfold vp_in; decide +kernel
  refine ml_iald hE hI 1 rfl rfl (show Int32.toNatClampNeg (1 : Int32) = 1 from by decide +kernel) hin dX4_clear_10 ?_
  refine lv_istore_n (lv' := [(1, .int (A 1 1)), (0, .ref (ad 0))]) hx hb dX4_clear_11 rfl hl (by decide) rfl (fun ls hl => ?_)
  refine lv_iconst (v := 0) hx hb dX4_clear_12 (by decide) ?_
  refine lv_istore_n (lv' := [(2, .int (0 : Int32)), (1, .int (A 1 1)), (0, .ref (ad 0))]) hx hb dX4_clear_13 rfl hl (by decide) rfl (fun ls hl => ?_)
  obtain ⟨n14, hw⟩ := hw
  exact snd_X4_clear_L14 hE Q n14 (upd F 0 (0 : Int32)) A L (A 1 1) (0 : Int32) hw _ _ _ hI (lv_sub hl [2, 1, 0] rfl)

/-- MatchmakerRulesModel.remembers()V -/
abbrev rm_X4_remembers : Room := { frames := 1, cells := 0, slots := 0, locals := 12 }
def wp_X4_remembers_L7 (Q : (Nat → Int32) → (Nat → Nat → Int32) → (Nat → UInt32) → Prop) : Nat → (Nat → Int32) → (Nat → Nat → Int32) → (Nat → UInt32) → (Int32) → Prop
  | 0, _, _, _, _ => False
  | n + 1, F, A, L, x1 => (((13675 : Int32) ≤ x1 → Q F A L) ∧ (¬ (13675 : Int32) ≤ x1 → (vp_in x1 13675 ∧ (vp_in x1 13675 ∧ wp_X4_remembers_L7 Q n F (ml_up A 2 (Int32.toNatClampNeg x1) (A 1 (Int32.toNatClampNeg x1))) L (x1 + (1 : Int32))))))
set_option maxHeartbeats 4000000 in
theorem snd_X4_remembers_L7 {p : Program} {l : Launch} {e : Env} {s : State} {m : MethodId} {args : Array Value} {below : List Frame} {meth : Method} {c : Code} {G : GG} {h0 : HH} {ad : Nat → Nat} (hE : hv_E p s m args meth c cX4_remembers 2 (none : Option FieldType) RX4 G h0) (Q : (Nat → Int32) → (Nat → Nat → Int32) → (Nat → UInt32) → Prop) : ∀ (n : Nat) (F : Nat → Int32) (A : Nat → Nat → Int32) (L : Nat → UInt32) (x1 : Int32), wp_X4_remembers_L7 Q n F A L x1 → ∀ (H : Heap) (locs : List Loc) (ls : Array Slot), ml_I G h0 s.heap ad F A L H locs → lv_has ls 2 [(0, .ref (ad 0)), (1, .int x1)] → W p l e (headSpec (ws_ yX4_remembers cX4_remembers 2 (none : Option FieldType)) rm_X4_remembers).room s m args below meth c H locs 0 0 (MQ below (hv_Qv G h0 s.heap.size (ml_Q G h0 ad Q)) args s 0 0 (hv_A h0 s.heap.size)) (F0 m 7 ls []) := by
  obtain ⟨⟨hx, hb, hml, hown, hts⟩, hr, hlocks, -⟩ := id hE
  intro n
  induction n with
  | zero => intro F A L x1 hw; exact hw.elim
  | succ n ih =>
    intro F A L x1 hw H locs ls hI hl
    unfold wp_X4_remembers_L7 at hw
    refine lv_iload_n hx hb dX4_remembers_7 rfl (lv_at hl 1 rfl) ?_
    refine lv_sipush (v := 13675) hx hb dX4_remembers_8 (by decide) ?_
    refine lv_icmp_ge (tgt := 32) hx hb dX4_remembers_11 (by decide) (fun c_11 => ?_) (fun c_11 => ?_)
    · have hw := hw.1 c_11
      exact ml_vret hE hI hw dX4_remembers_32
    · have hw := hw.2 c_11
      refine lv_aload_n hx hb dX4_remembers_14 rfl (lv_at hl 0 rfl) ?_
      refine ml_get hE hI 2 (by decide) q1987 rfl rfl dX4_remembers_15 ?_
      refine lv_iload_n hx hb dX4_remembers_18 rfl (lv_at hl 1 rfl) ?_
      refine lv_aload_n hx hb dX4_remembers_19 rfl (lv_at hl 0 rfl) ?_
      refine ml_get hE hI 1 (by decide) q1986 rfl rfl dX4_remembers_20 ?_
      refine lv_iload_n hx hb dX4_remembers_23 rfl (lv_at hl 1 rfl) ?_
      obtain ⟨hin, hw⟩ := hw
      refine ml_iald hE hI 1 rfl rfl rfl hin dX4_remembers_24 ?_
      obtain ⟨hin, hw⟩ := hw
      refine ml_iast hE hI 2 rfl rfl rfl hin dX4_remembers_25 (fun H locs hI => ?_)
      refine lv_iinc (v := (x1 + (1 : Int32))) (lv' := [(1, .int (x1 + (1 : Int32))), (0, .ref (ad 0))]) hx hb dX4_remembers_26 hl (k := 1) rfl rfl (by decide) rfl (fun ls hl => ?_)
      refine lv_goto (tgt := 7) hx hb dX4_remembers_29 (by decide) ?_
      exact ih F (ml_up A 2 (Int32.toNatClampNeg x1) (A 1 (Int32.toNatClampNeg x1))) L (x1 + (1 : Int32)) hw _ _ _ hI (lv_sub hl [1, 0] rfl)
def wp_X4_remembers (F : Nat → Int32) (A : Nat → Nat → Int32) (L : Nat → UInt32) (Q : (Nat → Int32) → (Nat → Nat → Int32) → (Nat → UInt32) → Prop) : Prop := (∃ n7, wp_X4_remembers_L7 Q n7 (upd F 0 (0 : Int32)) A L (0 : Int32))
set_option maxHeartbeats 4000000 in
theorem snd_X4_remembers (l : Launch) (G : GG) (sz : Nat) (h : HH) (ad : Nat → Nat) (F : Nat → Int32) (A : Nat → Nat → Int32) (L : Nat → UInt32) (Q : (Nat → Int32) → (Nat → Nat → Int32) → (Nat → UInt32) → Prop) (hS : ml_S G h ad F A L) (hw : wp_X4_remembers F A L Q) : Met l yX4_remembers (ws_ yX4_remembers cX4_remembers 2 (none : Option FieldType)) rm_X4_remembers (hv_Pc G h sz [.ref (ad 0)]) (hv_Qv G h sz (ml_Q G h ad Q)) 0 0 (hv_A h sz) := by
  refine Met.ofW (cc := cX4_remembers) (maxL := 2) (ret := (none : Option FieldType)) (by decide) rfl ?_
  intro p e s m args below meth c s₁ B hml hv
  obtain ⟨rfl, rfl, hE, hI⟩ := hv_open B hml hv
  have hE : hv_E p s m ([.ref (ad 0)] : List Value).toArray meth c cX4_remembers 2 (none : Option FieldType) RX4 G h := hE
  have hI := ml_I.start hI hS
  obtain ⟨⟨hx, hb, hml, hown, hts⟩, hr, hlocks, -⟩ := id hE
  have hl := lv_entry ([.ref (ad 0)] : List Value) (n := 2) (Nat.le_of_ble_eq_true rfl)
  rw [lg_entry_eq]
  generalize (lg_sl ([.ref (ad 0)] : List Value) ++ List.replicate (2 - (lg_sl ([.ref (ad 0)] : List Value)).length) Slot.unset).toArray = ls at hl ⊢
  have hl : lv_has ls 2 [(0, .ref (ad 0))] := hl
  unfold wp_X4_remembers at hw
  refine lv_aload_n hx hb dX4_remembers_0 rfl (lv_at hl 0 rfl) ?_
  refine lv_iconst (v := 0) hx hb dX4_remembers_1 (by decide) ?_
  refine ml_put hE hI 0 (by decide) q1985 rfl rfl (ty := .int) rfl rfl rfl (fun _ => rfl) dX4_remembers_2 (fun H locs hI => ?_)
  refine lv_iconst (v := 0) hx hb dX4_remembers_5 (by decide) ?_
  refine lv_istore_n (lv' := [(1, .int (0 : Int32)), (0, .ref (ad 0))]) hx hb dX4_remembers_6 rfl hl (by decide) rfl (fun ls hl => ?_)
  obtain ⟨n7, hw⟩ := hw
  exact snd_X4_remembers_L7 hE Q n7 (upd F 0 (0 : Int32)) A L (0 : Int32) hw _ _ _ hI (lv_sub hl [1, 0] rfl)

/-- MatchmakerRulesModel.here()I -/
abbrev rm_X4_here : Room := { frames := 1, cells := 0, slots := 0, locals := 12 }
def wp_X4_here (F : Nat → Int32) (A : Nat → Nat → Int32) (L : Nat → UInt32) (Q : Int32 → (Nat → Int32) → (Nat → Nat → Int32) → (Nat → UInt32) → Prop) : Prop := (((F 33) ≤ (F 32) → Q (-1 : Int32) F A L) ∧ (¬ (F 33) ≤ (F 32) → (vp_in (F 32) 60 ∧ Q (A 8 (Int32.toNatClampNeg (F 32))) F A L)))
set_option maxHeartbeats 4000000 in
theorem snd_X4_here (l : Launch) (G : GG) (sz : Nat) (h : HH) (ad : Nat → Nat) (F : Nat → Int32) (A : Nat → Nat → Int32) (L : Nat → UInt32) (Q : Int32 → (Nat → Int32) → (Nat → Nat → Int32) → (Nat → UInt32) → Prop) (hS : ml_S G h ad F A L) (hw : wp_X4_here F A L Q) : Met l yX4_here (ws_ yX4_here cX4_here 1 (some FieldType.int)) rm_X4_here (hv_Pc G h sz [.ref (ad 0)]) (hv_Qi G h sz (fun r => ml_Q G h ad (Q r))) 0 0 (hv_A h sz) := by
  refine Met.ofW (cc := cX4_here) (maxL := 1) (ret := (some FieldType.int)) (by decide) rfl ?_
  intro p e s m args below meth c s₁ B hml hv
  obtain ⟨rfl, rfl, hE, hI⟩ := hv_open B hml hv
  have hE : hv_E p s m ([.ref (ad 0)] : List Value).toArray meth c cX4_here 1 (some FieldType.int) RX4 G h := hE
  have hI := ml_I.start hI hS
  obtain ⟨⟨hx, hb, hml, hown, hts⟩, hr, hlocks, -⟩ := id hE
  have hl := lv_entry ([.ref (ad 0)] : List Value) (n := 1) (Nat.le_of_ble_eq_true rfl)
  rw [lg_entry_eq]
  generalize (lg_sl ([.ref (ad 0)] : List Value) ++ List.replicate (1 - (lg_sl ([.ref (ad 0)] : List Value)).length) Slot.unset).toArray = ls at hl ⊢
  have hl : lv_has ls 1 [(0, .ref (ad 0))] := hl
  unfold wp_X4_here at hw
  refine lv_aload_n hx hb dX4_here_0 rfl (lv_at hl 0 rfl) ?_
  refine ml_get hE hI 32 (by decide) q2017 rfl rfl dX4_here_1 ?_
  refine lv_aload_n hx hb dX4_here_4 rfl (lv_at hl 0 rfl) ?_
  refine ml_get hE hI 33 (by decide) q2018 rfl rfl dX4_here_5 ?_
  refine lv_icmp_ge (tgt := 23) hx hb dX4_here_8 (by decide) (fun c_8 => ?_) (fun c_8 => ?_)
  · have hw := hw.1 c_8
    refine lv_iconst (v := -1) hx hb dX4_here_23 (by decide) ?_
    exact ml_iret hE hI hw dX4_here_24
  · have hw := hw.2 c_8
    refine lv_aload_n hx hb dX4_here_11 rfl (lv_at hl 0 rfl) ?_
    refine ml_get hE hI 8 (by decide) q1993 rfl rfl dX4_here_12 ?_
    refine lv_aload_n hx hb dX4_here_15 rfl (lv_at hl 0 rfl) ?_
    refine ml_get hE hI 32 (by decide) q2017 rfl rfl dX4_here_16 ?_
    obtain ⟨hin, hw⟩ := hw
    refine ml_iald hE hI 8 rfl rfl rfl hin dX4_here_19 ?_
    refine lv_goto (tgt := 24) hx hb dX4_here_20 (by decide) ?_
    exact ml_iret hE hI hw dX4_here_24

/-- MatchmakerRulesModel.in(III)Z -/
abbrev rm_X4_in : Room := { frames := 1, cells := 0, slots := 0, locals := 12 }
def wp_X4_in (x0 : Int32) (x1 : Int32) (x2 : Int32) (Q : Int32 → Prop) : Prop := ((x0 < x1 → Q (0 : Int32)) ∧ (¬ x0 < x1 → ((x2 < x0 → Q (0 : Int32)) ∧ (¬ x2 < x0 → Q (1 : Int32)))))
set_option maxHeartbeats 4000000 in
theorem snd_X4_in (l : Launch) (G : GG) (sz : Nat) (h : HH) (x0 : Int32) (x1 : Int32) (x2 : Int32) (Q : Int32 → Prop) (hw : wp_X4_in x0 x1 x2 Q) : Met l yX4_in (ws_ yX4_in cX4_in 3 (some FieldType.boolean)) rm_X4_in (hv_Pc G h sz [.int x0, .int x1, .int x2]) (hv_Qi G h sz (fun r h' => h' = h ∧ Q r)) 0 0 (hv_A h sz) := by
  refine Met.ofW (cc := cX4_in) (maxL := 3) (ret := (some FieldType.boolean)) (by decide) rfl ?_
  intro p e s m args below meth c s₁ B hml hv
  obtain ⟨rfl, rfl, hE, hI⟩ := hv_open B hml hv
  have hE : hv_E p s m ([.int x0, .int x1, .int x2] : List Value).toArray meth c cX4_in 3 (some FieldType.boolean) RX4 G h := hE
  obtain ⟨⟨hx, hb, hml, hown, hts⟩, hr, hlocks, -⟩ := id hE
  have hl := lv_entry ([.int x0, .int x1, .int x2] : List Value) (n := 3) (Nat.le_of_ble_eq_true rfl)
  rw [lg_entry_eq]
  generalize (lg_sl ([.int x0, .int x1, .int x2] : List Value) ++ List.replicate (3 - (lg_sl ([.int x0, .int x1, .int x2] : List Value)).length) Slot.unset).toArray = ls at hl ⊢
  have hl : lv_has ls 3 [(0, .int x0), (1, .int x1), (2, .int x2)] := hl
  unfold wp_X4_in at hw
  refine lv_iload_n hx hb dX4_in_0 rfl (lv_at hl 0 rfl) ?_
  refine lv_iload_n hx hb dX4_in_1 rfl (lv_at hl 1 rfl) ?_
  refine lv_icmp_lt (tgt := 14) hx hb dX4_in_2 (by decide) (fun c_2 => ?_) (fun c_2 => ?_)
  · have hw := hw.1 c_2
    refine lv_iconst (v := 0) hx hb dX4_in_14 (by decide) ?_
    exact hv_zret hE hI (Nat.le_refl _) (Nat.le_refl _) rfl ⟨rfl, hw⟩ dX4_in_15
  · have hw := hw.2 c_2
    refine lv_iload_n hx hb dX4_in_5 rfl (lv_at hl 0 rfl) ?_
    refine lv_iload_n hx hb dX4_in_6 rfl (lv_at hl 2 rfl) ?_
    refine lv_icmp_gt (tgt := 14) hx hb dX4_in_7 (by decide) (fun c_7 => ?_) (fun c_7 => ?_)
    · have hw := hw.1 c_7
      refine lv_iconst (v := 0) hx hb dX4_in_14 (by decide) ?_
      exact hv_zret hE hI (Nat.le_refl _) (Nat.le_refl _) rfl ⟨rfl, hw⟩ dX4_in_15
    · have hw := hw.2 c_7
      refine lv_iconst (v := 1) hx hb dX4_in_10 (by decide) ?_
      refine lv_goto (tgt := 15) hx hb dX4_in_11 (by decide) ?_
      exact hv_zret hE hI (Nat.le_refl _) (Nat.le_refl _) rfl ⟨rfl, hw⟩ dX4_in_15

/-- MatchmakerRulesModel.takes()I -/
abbrev rm_X4_takes : Room := { frames := 2, cells := 0, slots := 0, locals := 32 }
def wp_X4_takes (F : Nat → Int32) (A : Nat → Nat → Int32) (L : Nat → UInt32) (Q : Int32 → (Nat → Int32) → (Nat → Nat → Int32) → (Nat → UInt32) → Prop) : Prop := wp_X4_here F A L (fun r1 F1 A1 L1 => (((F1 35) = 0 → Q r1 (upd F1 32 ((F1 32) + (1 : Int32))) A1 L1) ∧ (¬ (F1 35) = 0 → Q r1 (upd F1 32 ((F1 32) + (0 : Int32))) A1 L1)))
set_option maxHeartbeats 4000000 in
theorem snd_X4_takes (l : Launch) (G : GG) (sz : Nat) (h : HH) (ad : Nat → Nat) (F : Nat → Int32) (A : Nat → Nat → Int32) (L : Nat → UInt32) (Q : Int32 → (Nat → Int32) → (Nat → Nat → Int32) → (Nat → UInt32) → Prop) (hS : ml_S G h ad F A L) (hw : wp_X4_takes F A L Q) : Met l yX4_takes (ws_ yX4_takes cX4_takes 2 (some FieldType.int)) rm_X4_takes (hv_Pc G h sz [.ref (ad 0)]) (hv_Qi G h sz (fun r => ml_Q G h ad (Q r))) 0 0 (hv_A h sz) := by
  refine Met.ofW (cc := cX4_takes) (maxL := 2) (ret := (some FieldType.int)) (by decide) rfl ?_
  intro p e s m args below meth c s₁ B hml hv
  obtain ⟨rfl, rfl, hE, hI⟩ := hv_open B hml hv
  have hE : hv_E p s m ([.ref (ad 0)] : List Value).toArray meth c cX4_takes 2 (some FieldType.int) RX4 G h := hE
  have hI := ml_I.start hI hS
  obtain ⟨⟨hx, hb, hml, hown, hts⟩, hr, hlocks, -⟩ := id hE
  have hl := lv_entry ([.ref (ad 0)] : List Value) (n := 2) (Nat.le_of_ble_eq_true rfl)
  rw [lg_entry_eq]
  generalize (lg_sl ([.ref (ad 0)] : List Value) ++ List.replicate (2 - (lg_sl ([.ref (ad 0)] : List Value)).length) Slot.unset).toArray = ls at hl ⊢
  have hl : lv_has ls 2 [(0, .ref (ad 0))] := hl
  unfold wp_X4_takes at hw
  refine lv_aload_n hx hb dX4_takes_0 rfl (lv_at hl 0 rfl) ?_
  refine ml_calli (As := []) (rest := []) (cells := 0) (slots := 0) hE hI (fun h hS => snd_X4_here l G _ h ad F A L _ hS hw) (cwV 0 hts (lw_V q2126 q2128 qs38 q108 q2129) rfl rfl rfl (by decide +kernel) ⟨Nat.le_of_ble_eq_true rfl, Nat.le_of_ble_eq_true rfl⟩) rfl hl.1 (Nat.le_of_ble_eq_true rfl) dX4_takes_1 ⟨Nat.le_of_ble_eq_true rfl, Nat.le_of_ble_eq_true rfl⟩ (fun r1 F1 A1 L1 H locs hw hI => ?_)
  refine lv_istore_n (lv' := [(1, .int r1), (0, .ref (ad 0))]) hx hb dX4_takes_4 rfl hl (by decide) rfl (fun ls hl => ?_)
  refine lv_aload_n hx hb dX4_takes_5 rfl (lv_at hl 1 rfl) ?_
  refine lv_dup hx hb dX4_takes_6 rfl ?_
  refine ml_get hE hI 32 (by decide) q2017 rfl rfl dX4_takes_7 ?_
  refine lv_aload_n hx hb dX4_takes_10 rfl (lv_at hl 1 rfl) ?_
  refine ml_get hE hI 35 (by decide) q2020 rfl rfl dX4_takes_11 ?_
  refine lv_if_eq (tgt := 21) hx hb dX4_takes_14 (by decide) (fun c_14 => ?_) (fun c_14 => ?_)
  · have hw := hw.1 c_14
    refine lv_iconst (v := 1) hx hb dX4_takes_21 (by decide) ?_
    refine lv_iadd hx hb dX4_takes_22 ?_
    refine ml_put hE hI 32 (by decide) q2017 rfl rfl (ty := .int) rfl rfl rfl (fun _ => rfl) dX4_takes_23 (fun H locs hI => ?_)
    refine lv_iload_n hx hb dX4_takes_26 rfl (lv_at hl 0 rfl) ?_
    exact ml_iret hE hI hw dX4_takes_27
  · have hw := hw.2 c_14
    refine lv_iconst (v := 0) hx hb dX4_takes_17 (by decide) ?_
    refine lv_goto (tgt := 22) hx hb dX4_takes_18 (by decide) ?_
    refine lv_iadd hx hb dX4_takes_22 ?_
    refine ml_put hE hI 32 (by decide) q2017 rfl rfl (ty := .int) rfl rfl rfl (fun _ => rfl) dX4_takes_23 (fun H locs hI => ?_)
    refine lv_iload_n hx hb dX4_takes_26 rfl (lv_at hl 0 rfl) ?_
    exact ml_iret hE hI hw dX4_takes_27

/-- MatchmakerRulesModel.kind()I -/
abbrev rm_X4_kind : Room := { frames := 3, cells := 0, slots := 0, locals := 53 }
def wp_X4_kind (F : Nat → Int32) (A : Nat → Nat → Int32) (L : Nat → UInt32) (Q : Int32 → (Nat → Int32) → (Nat → Nat → Int32) → (Nat → UInt32) → Prop) : Prop := ((¬ (F 35) = 0 → wp_X4_takes (upd F 35 (1 : Int32)) A L (fun r1 F1 A1 L1 => Q r1 F1 A1 L1)) ∧ ((F 35) = 0 → wp_X4_here F A L (fun r2 F2 A2 L2 => wp_X4_in r2 (97 : Int32) (102 : Int32) (fun r3 => ((¬ r3 = 0 → wp_X4_takes (upd F2 35 (0 : Int32)) A2 L2 (fun r4 F4 A4 L4 => Q r4 F4 A4 L4)) ∧ (r3 = 0 → wp_X4_takes (upd F2 35 (1 : Int32)) A2 L2 (fun r5 F5 A5 L5 => Q r5 F5 A5 L5)))))))
set_option maxHeartbeats 4000000 in
theorem snd_X4_kind (l : Launch) (G : GG) (sz : Nat) (h : HH) (ad : Nat → Nat) (F : Nat → Int32) (A : Nat → Nat → Int32) (L : Nat → UInt32) (Q : Int32 → (Nat → Int32) → (Nat → Nat → Int32) → (Nat → UInt32) → Prop) (hS : ml_S G h ad F A L) (hw : wp_X4_kind F A L Q) : Met l yX4_kind (ws_ yX4_kind cX4_kind 1 (some FieldType.int)) rm_X4_kind (hv_Pc G h sz [.ref (ad 0)]) (hv_Qi G h sz (fun r => ml_Q G h ad (Q r))) 0 0 (hv_A h sz) := by
  refine Met.ofW (cc := cX4_kind) (maxL := 1) (ret := (some FieldType.int)) (by decide) rfl ?_
  intro p e s m args below meth c s₁ B hml hv
  obtain ⟨rfl, rfl, hE, hI⟩ := hv_open B hml hv
  have hE : hv_E p s m ([.ref (ad 0)] : List Value).toArray meth c cX4_kind 1 (some FieldType.int) RX4 G h := hE
  have hI := ml_I.start hI hS
  obtain ⟨⟨hx, hb, hml, hown, hts⟩, hr, hlocks, -⟩ := id hE
  have hl := lv_entry ([.ref (ad 0)] : List Value) (n := 1) (Nat.le_of_ble_eq_true rfl)
  rw [lg_entry_eq]
  generalize (lg_sl ([.ref (ad 0)] : List Value) ++ List.replicate (1 - (lg_sl ([.ref (ad 0)] : List Value)).length) Slot.unset).toArray = ls at hl ⊢
  have hl : lv_has ls 1 [(0, .ref (ad 0))] := hl
  unfold wp_X4_kind at hw
  refine lv_aload_n hx hb dX4_kind_0 rfl (lv_at hl 0 rfl) ?_
  refine lv_aload_n hx hb dX4_kind_1 rfl (lv_at hl 0 rfl) ?_
  refine ml_get hE hI 35 (by decide) q2020 rfl rfl dX4_kind_2 ?_
  refine lv_if_ne (tgt := 22) hx hb dX4_kind_5 (by decide) (fun c_5 => ?_) (fun c_5 => ?_)
  · have hw := hw.1 c_5
    refine lv_iconst (v := 1) hx hb dX4_kind_22 (by decide) ?_
    refine lv_goto (tgt := 27) hx hb dX4_kind_23 (by decide) ?_
    refine ml_put hE hI 35 (by decide) q2020 rfl rfl (ty := .boolean) rfl rfl rfl (fun _ => rfl) dX4_kind_27 (fun H locs hI => ?_)
    refine lv_aload_n hx hb dX4_kind_30 rfl (lv_at hl 0 rfl) ?_
    refine ml_calli (As := []) (rest := []) (cells := 0) (slots := 0) hE hI (fun h hS => snd_X4_takes l G _ h ad (upd F 35 (1 : Int32)) A L _ hS hw) (cwV 0 hts (lw_V q2133 q2135 qs39 q108 q2136) rfl rfl rfl (by decide +kernel) ⟨Nat.le_of_ble_eq_true rfl, Nat.le_of_ble_eq_true rfl⟩) rfl hl.1 (Nat.le_of_ble_eq_true rfl) dX4_kind_31 ⟨Nat.le_of_ble_eq_true rfl, Nat.le_of_ble_eq_true rfl⟩ (fun r1 F1 A1 L1 H locs hw hI => ?_)
    exact ml_iret hE hI hw dX4_kind_34
  · have hw := hw.2 c_5
    refine lv_aload_n hx hb dX4_kind_8 rfl (lv_at hl 0 rfl) ?_
    refine ml_calli (As := []) (rest := [.ref (ad 0)]) (cells := 0) (slots := 0) hE hI (fun h hS => snd_X4_here l G _ h ad F A L _ hS hw) (cwV 0 hts (lw_V q2126 q2128 qs38 q108 q2129) rfl rfl rfl (by decide +kernel) ⟨Nat.le_of_ble_eq_true rfl, Nat.le_of_ble_eq_true rfl⟩) rfl hl.1 (Nat.le_of_ble_eq_true rfl) dX4_kind_9 ⟨Nat.le_of_ble_eq_true rfl, Nat.le_of_ble_eq_true rfl⟩ (fun r2 F2 A2 L2 H locs hw hI => ?_)
    refine lv_bipush (v := 97) hx hb dX4_kind_12 (by decide) ?_
    refine lv_bipush (v := 102) hx hb dX4_kind_14 (by decide) ?_
    refine ml_calls (As := [.int r2, .int (97 : Int32), .int (102 : Int32)]) (rest := [.ref (ad 0)]) (cells := 0) (slots := 0) hE hI (fun h => snd_X4_in l G _ h r2 (97 : Int32) (102 : Int32) _ hw) (va_cwS 3 hts (lw_S q2130 q2131 q108 q2132) rfl rfl rfl (by decide +kernel) ⟨Nat.le_of_ble_eq_true rfl, Nat.le_of_ble_eq_true rfl⟩) rfl hl.1 (Nat.le_of_ble_eq_true rfl) dX4_kind_16 ⟨Nat.le_of_ble_eq_true rfl, Nat.le_of_ble_eq_true rfl⟩ (fun r3 H locs hw hI => ?_)
    refine lv_if_ne (tgt := 26) hx hb dX4_kind_19 (by decide) (fun c_19 => ?_) (fun c_19 => ?_)
    · have hw := hw.1 c_19
      refine lv_iconst (v := 0) hx hb dX4_kind_26 (by decide) ?_
      refine ml_put hE hI 35 (by decide) q2020 rfl rfl (ty := .boolean) rfl rfl rfl (fun _ => rfl) dX4_kind_27 (fun H locs hI => ?_)
      refine lv_aload_n hx hb dX4_kind_30 rfl (lv_at hl 0 rfl) ?_
      refine ml_calli (As := []) (rest := []) (cells := 0) (slots := 0) hE hI (fun h hS => snd_X4_takes l G _ h ad (upd F2 35 (0 : Int32)) A2 L2 _ hS hw) (cwV 0 hts (lw_V q2133 q2135 qs39 q108 q2136) rfl rfl rfl (by decide +kernel) ⟨Nat.le_of_ble_eq_true rfl, Nat.le_of_ble_eq_true rfl⟩) rfl hl.1 (Nat.le_of_ble_eq_true rfl) dX4_kind_31 ⟨Nat.le_of_ble_eq_true rfl, Nat.le_of_ble_eq_true rfl⟩ (fun r4 F4 A4 L4 H locs hw hI => ?_)
      exact ml_iret hE hI hw dX4_kind_34
    · have hw := hw.2 c_19
      refine lv_iconst (v := 1) hx hb dX4_kind_22 (by decide) ?_
      refine lv_goto (tgt := 27) hx hb dX4_kind_23 (by decide) ?_
      refine ml_put hE hI 35 (by decide) q2020 rfl rfl (ty := .boolean) rfl rfl rfl (fun _ => rfl) dX4_kind_27 (fun H locs hI => ?_)
      refine lv_aload_n hx hb dX4_kind_30 rfl (lv_at hl 0 rfl) ?_
      refine ml_calli (As := []) (rest := []) (cells := 0) (slots := 0) hE hI (fun h hS => snd_X4_takes l G _ h ad (upd F2 35 (1 : Int32)) A2 L2 _ hS hw) (cwV 0 hts (lw_V q2133 q2135 qs39 q108 q2136) rfl rfl rfl (by decide +kernel) ⟨Nat.le_of_ble_eq_true rfl, Nat.le_of_ble_eq_true rfl⟩) rfl hl.1 (Nat.le_of_ble_eq_true rfl) dX4_kind_31 ⟨Nat.le_of_ble_eq_true rfl, Nat.le_of_ble_eq_true rfl⟩ (fun r5 F5 A5 L5 H locs hw hI => ?_)
      exact ml_iret hE hI hw dX4_kind_34

/-- MatchmakerRulesModel.term(Z)I -/
abbrev rm_X4_term : Room := { frames := 2, cells := 0, slots := 0, locals := 34 }
def wp_X4_term_L98 (Q : Int32 → (Nat → Int32) → (Nat → Nat → Int32) → (Nat → UInt32) → Prop) (F : Nat → Int32) (A : Nat → Nat → Int32) (L : Nat → UInt32) (x2 : Int32) (x3 : Int32) : Prop := ((x3 = 0 → Q (x2 - (48 : Int32)) F A L) ∧ (¬ x3 = 0 → Q (((10 : Int32) + x2) - (88 : Int32)) F A L))
set_option maxHeartbeats 4000000 in
theorem snd_X4_term_L98 {p : Program} {l : Launch} {e : Env} {s : State} {m : MethodId} {args : Array Value} {below : List Frame} {meth : Method} {c : Code} {G : GG} {h0 : HH} {ad : Nat → Nat} (hE : hv_E p s m args meth c cX4_term 4 (some FieldType.int) RX4 G h0) (Q : Int32 → (Nat → Int32) → (Nat → Nat → Int32) → (Nat → UInt32) → Prop) : ∀ (F : Nat → Int32) (A : Nat → Nat → Int32) (L : Nat → UInt32) (x2 : Int32) (x3 : Int32), wp_X4_term_L98 Q F A L x2 x3 → ∀ (H : Heap) (locs : List Loc) (ls : Array Slot), ml_I G h0 s.heap ad F A L H locs → lv_has ls 4 [(2, .int x2), (3, .int x3)] → W p l e (headSpec (ws_ yX4_term cX4_term 4 (some FieldType.int)) rm_X4_term).room s m args below meth c H locs 0 0 (MQ below (hv_Qi G h0 s.heap.size (fun r => ml_Q G h0 ad (Q r))) args s 0 0 (hv_A h0 s.heap.size)) (F0 m 98 ls []) := by
  obtain ⟨⟨hx, hb, hml, hown, hts⟩, hr, hlocks, -⟩ := id hE
  intro F A L x2 x3 hw H locs ls hI hl
  unfold wp_X4_term_L98 at hw
  refine lv_iload_n hx hb dX4_term_98 rfl (lv_at hl 1 rfl) ?_
  refine lv_if_eq (tgt := 112) hx hb dX4_term_99 (by decide) (fun c_99 => ?_) (fun c_99 => ?_)
  · have hw := hw.1 c_99
    refine lv_iload_n hx hb dX4_term_112 rfl (lv_at hl 0 rfl) ?_
    refine lv_bipush (v := 48) hx hb dX4_term_113 (by decide) ?_
    refine lv_isub hx hb dX4_term_115 ?_
    exact ml_iret hE hI hw dX4_term_116
  · have hw := hw.2 c_99
    refine lv_bipush (v := 10) hx hb dX4_term_102 (by decide) ?_
    refine lv_iload_n hx hb dX4_term_104 rfl (lv_at hl 0 rfl) ?_
    refine lv_iadd hx hb dX4_term_105 ?_
    refine lv_bipush (v := 88) hx hb dX4_term_106 (by decide) ?_
    refine lv_isub hx hb dX4_term_108 ?_
    refine lv_goto (tgt := 116) hx hb dX4_term_109 (by decide) ?_
    exact ml_iret hE hI hw dX4_term_116
def wp_X4_term_L62 (Q : Int32 → (Nat → Int32) → (Nat → Nat → Int32) → (Nat → UInt32) → Prop) (F : Nat → Int32) (A : Nat → Nat → Int32) (L : Nat → UInt32) (x2 : Int32) (x3 : Int32) (t1 : Int32) : Prop := ((narrow .boolean (.int t1) = .int t1 ∧ fits .boolean (.int t1) = true) ∧ ((((upd F 35 t1) 35) = 0 → ((x3 = 0 → wp_X4_term_L98 Q (upd (upd F 35 t1) 32 (((upd F 35 t1) 32) + (1 : Int32))) A L x2 x3) ∧ (¬ x3 = 0 → (vp_in (x2 - (88 : Int32)) 3 ∧ wp_X4_term_L98 Q (upd (upd F 35 t1) 32 (((upd F 35 t1) 32) + (1 : Int32))) (ml_up A 36 (Int32.toNatClampNeg (x2 - (88 : Int32))) (vp_nar .boolean (1 : Int32))) L x2 x3)))) ∧ (¬ ((upd F 35 t1) 35) = 0 → Q (0 : Int32) (upd F 35 t1) A L)))
set_option maxHeartbeats 4000000 in
theorem snd_X4_term_L62 {p : Program} {l : Launch} {e : Env} {s : State} {m : MethodId} {args : Array Value} {below : List Frame} {meth : Method} {c : Code} {G : GG} {h0 : HH} {ad : Nat → Nat} (hE : hv_E p s m args meth c cX4_term 4 (some FieldType.int) RX4 G h0) (Q : Int32 → (Nat → Int32) → (Nat → Nat → Int32) → (Nat → UInt32) → Prop) : ∀ (F : Nat → Int32) (A : Nat → Nat → Int32) (L : Nat → UInt32) (x2 : Int32) (x3 : Int32) (t1 : Int32), wp_X4_term_L62 Q F A L x2 x3 t1 → ∀ (H : Heap) (locs : List Loc) (ls : Array Slot), ml_I G h0 s.heap ad F A L H locs → lv_has ls 4 [(0, .ref (ad 0)), (2, .int x2), (3, .int x3)] → W p l e (headSpec (ws_ yX4_term cX4_term 4 (some FieldType.int)) rm_X4_term).room s m args below meth c H locs 0 0 (MQ below (hv_Qi G h0 s.heap.size (fun r => ml_Q G h0 ad (Q r))) args s 0 0 (hv_A h0 s.heap.size)) (F0 m 62 ls [.int t1, .ref (ad 0)]) := by
  obtain ⟨⟨hx, hb, hml, hown, hts⟩, hr, hlocks, -⟩ := id hE
  intro F A L x2 x3 t1 hw H locs ls hI hl
  unfold wp_X4_term_L62 at hw
  obtain ⟨⟨hn1, hn2⟩, hw⟩ := hw
  refine ml_put hE hI 35 (by decide) q2020 rfl rfl (ty := .boolean) rfl hn1 hn2 (fun _ => rfl) dX4_term_62 (fun H locs hI => ?_)
  refine lv_aload_n hx hb dX4_term_65 rfl (lv_at hl 0 rfl) ?_
  refine ml_get hE hI 35 (by decide) q2020 rfl rfl dX4_term_66 ?_
  refine lv_if_eq (tgt := 74) hx hb dX4_term_69 (by decide) (fun c_69 => ?_) (fun c_69 => ?_)
  · have hw := hw.1 c_69
    refine lv_aload_n hx hb dX4_term_74 rfl (lv_at hl 0 rfl) ?_
    refine lv_dup hx hb dX4_term_75 rfl ?_
    refine ml_get hE hI 32 (by decide) q2017 rfl rfl dX4_term_76 ?_
    refine lv_iconst (v := 1) hx hb dX4_term_79 (by decide) ?_
    refine lv_iadd hx hb dX4_term_80 ?_
    refine ml_put hE hI 32 (by decide) q2017 rfl rfl (ty := .int) rfl rfl rfl (fun _ => rfl) dX4_term_81 (fun H locs hI => ?_)
    refine lv_iload_n hx hb dX4_term_84 rfl (lv_at hl 2 rfl) ?_
    refine lv_if_eq (tgt := 98) hx hb dX4_term_85 (by decide) (fun c_85 => ?_) (fun c_85 => ?_)
    · have hw := hw.1 c_85
      exact snd_X4_term_L98 hE Q (upd (upd F 35 t1) 32 (((upd F 35 t1) 32) + (1 : Int32))) A L x2 x3 hw _ _ _ hI (lv_sub hl [1, 2] rfl)
    · have hw := hw.2 c_85
      refine lv_aload_n hx hb dX4_term_88 rfl (lv_at hl 0 rfl) ?_
      refine ml_get hE hI 36 (by decide) q2021 rfl rfl dX4_term_89 ?_
      refine lv_iload_n hx hb dX4_term_92 rfl (lv_at hl 1 rfl) ?_
      refine lv_bipush (v := 88) hx hb dX4_term_93 (by decide) ?_
      refine lv_isub hx hb dX4_term_95 ?_
      refine lv_iconst (v := 1) hx hb dX4_term_96 (by decide) ?_
      obtain ⟨hin, hw⟩ := hw
      refine ml_zast hE hI 36 rfl rfl rfl hin dX4_term_97 (fun H locs hI => ?_)
      exact snd_X4_term_L98 hE Q (upd (upd F 35 t1) 32 (((upd F 35 t1) 32) + (1 : Int32))) (ml_up A 36 (Int32.toNatClampNeg (x2 - (88 : Int32))) (vp_nar .boolean (1 : Int32))) L x2 x3 hw _ _ _ hI (lv_sub hl [1, 2] rfl)
  · have hw := hw.2 c_69
    refine lv_iconst (v := 0) hx hb dX4_term_72 (by decide) ?_
    exact ml_iret hE hI hw dX4_term_73
def wp_X4_term_L57 (Q : Int32 → (Nat → Int32) → (Nat → Nat → Int32) → (Nat → UInt32) → Prop) (F : Nat → Int32) (A : Nat → Nat → Int32) (L : Nat → UInt32) (x2 : Int32) (x3 : Int32) : Prop := wp_X4_term_L62 Q F A L x2 x3 (1 : Int32)
set_option maxHeartbeats 4000000 in
theorem snd_X4_term_L57 {p : Program} {l : Launch} {e : Env} {s : State} {m : MethodId} {args : Array Value} {below : List Frame} {meth : Method} {c : Code} {G : GG} {h0 : HH} {ad : Nat → Nat} (hE : hv_E p s m args meth c cX4_term 4 (some FieldType.int) RX4 G h0) (Q : Int32 → (Nat → Int32) → (Nat → Nat → Int32) → (Nat → UInt32) → Prop) : ∀ (F : Nat → Int32) (A : Nat → Nat → Int32) (L : Nat → UInt32) (x2 : Int32) (x3 : Int32), wp_X4_term_L57 Q F A L x2 x3 → ∀ (H : Heap) (locs : List Loc) (ls : Array Slot), ml_I G h0 s.heap ad F A L H locs → lv_has ls 4 [(0, .ref (ad 0)), (2, .int x2), (3, .int x3)] → W p l e (headSpec (ws_ yX4_term cX4_term 4 (some FieldType.int)) rm_X4_term).room s m args below meth c H locs 0 0 (MQ below (hv_Qi G h0 s.heap.size (fun r => ml_Q G h0 ad (Q r))) args s 0 0 (hv_A h0 s.heap.size)) (F0 m 57 ls [.ref (ad 0)]) := by
  obtain ⟨⟨hx, hb, hml, hown, hts⟩, hr, hlocks, -⟩ := id hE
  intro F A L x2 x3 hw H locs ls hI hl
  unfold wp_X4_term_L57 at hw
  refine lv_iconst (v := 1) hx hb dX4_term_57 (by decide) ?_
  refine lv_goto (tgt := 62) hx hb dX4_term_58 (by decide) ?_
  exact snd_X4_term_L62 hE Q F A L x2 x3 (1 : Int32) hw _ _ _ hI (lv_sub hl [0, 1, 2] rfl)
def wp_X4_term_L61 (Q : Int32 → (Nat → Int32) → (Nat → Nat → Int32) → (Nat → UInt32) → Prop) (F : Nat → Int32) (A : Nat → Nat → Int32) (L : Nat → UInt32) (x2 : Int32) (x3 : Int32) : Prop := wp_X4_term_L62 Q F A L x2 x3 (0 : Int32)
set_option maxHeartbeats 4000000 in
theorem snd_X4_term_L61 {p : Program} {l : Launch} {e : Env} {s : State} {m : MethodId} {args : Array Value} {below : List Frame} {meth : Method} {c : Code} {G : GG} {h0 : HH} {ad : Nat → Nat} (hE : hv_E p s m args meth c cX4_term 4 (some FieldType.int) RX4 G h0) (Q : Int32 → (Nat → Int32) → (Nat → Nat → Int32) → (Nat → UInt32) → Prop) : ∀ (F : Nat → Int32) (A : Nat → Nat → Int32) (L : Nat → UInt32) (x2 : Int32) (x3 : Int32), wp_X4_term_L61 Q F A L x2 x3 → ∀ (H : Heap) (locs : List Loc) (ls : Array Slot), ml_I G h0 s.heap ad F A L H locs → lv_has ls 4 [(0, .ref (ad 0)), (2, .int x2), (3, .int x3)] → W p l e (headSpec (ws_ yX4_term cX4_term 4 (some FieldType.int)) rm_X4_term).room s m args below meth c H locs 0 0 (MQ below (hv_Qi G h0 s.heap.size (fun r => ml_Q G h0 ad (Q r))) args s 0 0 (hv_A h0 s.heap.size)) (F0 m 61 ls [.ref (ad 0)]) := by
  obtain ⟨⟨hx, hb, hml, hown, hts⟩, hr, hlocks, -⟩ := id hE
  intro F A L x2 x3 hw H locs ls hI hl
  unfold wp_X4_term_L61 at hw
  refine lv_iconst (v := 0) hx hb dX4_term_61 (by decide) ?_
  exact snd_X4_term_L62 hE Q F A L x2 x3 (0 : Int32) hw _ _ _ hI (lv_sub hl [0, 1, 2] rfl)
def wp_X4_term_L37 (Q : Int32 → (Nat → Int32) → (Nat → Nat → Int32) → (Nat → UInt32) → Prop) (F : Nat → Int32) (A : Nat → Nat → Int32) (L : Nat → UInt32) (x1 : Int32) (x2 : Int32) (x3 : Int32) : Prop := ((x3 = 0 → wp_X4_term_L61 Q F A L x2 x3) ∧ (¬ x3 = 0 → ((¬ x1 = 0 → wp_X4_term_L61 Q F A L x2 x3) ∧ (x1 = 0 → (vp_in (x2 - (88 : Int32)) 3 ∧ ((¬ (A 36 (Int32.toNatClampNeg (x2 - (88 : Int32)))) = 0 → wp_X4_term_L61 Q F A L x2 x3) ∧ ((A 36 (Int32.toNatClampNeg (x2 - (88 : Int32)))) = 0 → wp_X4_term_L57 Q F A L x2 x3)))))))
set_option maxHeartbeats 4000000 in
theorem snd_X4_term_L37 {p : Program} {l : Launch} {e : Env} {s : State} {m : MethodId} {args : Array Value} {below : List Frame} {meth : Method} {c : Code} {G : GG} {h0 : HH} {ad : Nat → Nat} (hE : hv_E p s m args meth c cX4_term 4 (some FieldType.int) RX4 G h0) (Q : Int32 → (Nat → Int32) → (Nat → Nat → Int32) → (Nat → UInt32) → Prop) : ∀ (F : Nat → Int32) (A : Nat → Nat → Int32) (L : Nat → UInt32) (x1 : Int32) (x2 : Int32) (x3 : Int32), wp_X4_term_L37 Q F A L x1 x2 x3 → ∀ (H : Heap) (locs : List Loc) (ls : Array Slot), ml_I G h0 s.heap ad F A L H locs → lv_has ls 4 [(0, .ref (ad 0)), (1, .int x1), (2, .int x2), (3, .int x3)] → W p l e (headSpec (ws_ yX4_term cX4_term 4 (some FieldType.int)) rm_X4_term).room s m args below meth c H locs 0 0 (MQ below (hv_Qi G h0 s.heap.size (fun r => ml_Q G h0 ad (Q r))) args s 0 0 (hv_A h0 s.heap.size)) (F0 m 37 ls [.ref (ad 0)]) := by
  obtain ⟨⟨hx, hb, hml, hown, hts⟩, hr, hlocks, -⟩ := id hE
  intro F A L x1 x2 x3 hw H locs ls hI hl
  unfold wp_X4_term_L37 at hw
  refine lv_iload_n hx hb dX4_term_37 rfl (lv_at hl 3 rfl) ?_
  refine lv_if_eq (tgt := 61) hx hb dX4_term_38 (by decide) (fun c_38 => ?_) (fun c_38 => ?_)
  · have hw := hw.1 c_38
    exact snd_X4_term_L61 hE Q F A L x2 x3 hw _ _ _ hI (lv_sub hl [0, 2, 3] rfl)
  · have hw := hw.2 c_38
    refine lv_iload_n hx hb dX4_term_41 rfl (lv_at hl 1 rfl) ?_
    refine lv_if_ne (tgt := 61) hx hb dX4_term_42 (by decide) (fun c_42 => ?_) (fun c_42 => ?_)
    · have hw := hw.1 c_42
      exact snd_X4_term_L61 hE Q F A L x2 x3 hw _ _ _ hI (lv_sub hl [0, 2, 3] rfl)
    · have hw := hw.2 c_42
      refine lv_aload_n hx hb dX4_term_45 rfl (lv_at hl 0 rfl) ?_
      refine ml_get hE hI 36 (by decide) q2021 rfl rfl dX4_term_46 ?_
      refine lv_iload_n hx hb dX4_term_49 rfl (lv_at hl 2 rfl) ?_
      refine lv_bipush (v := 88) hx hb dX4_term_50 (by decide) ?_
      refine lv_isub hx hb dX4_term_52 ?_
      obtain ⟨hin, hw⟩ := hw
      refine ml_zald hE hI 36 rfl rfl rfl hin dX4_term_53 ?_
      refine lv_if_ne (tgt := 61) hx hb dX4_term_54 (by decide) (fun c_54 => ?_) (fun c_54 => ?_)
      · have hw := hw.1 c_54
        exact snd_X4_term_L61 hE Q F A L x2 x3 hw _ _ _ hI (lv_sub hl [0, 2, 3] rfl)
      · have hw := hw.2 c_54
        exact snd_X4_term_L57 hE Q F A L x2 x3 hw _ _ _ hI (lv_sub hl [0, 2, 3] rfl)
def wp_X4_term (F : Nat → Int32) (A : Nat → Nat → Int32) (L : Nat → UInt32) (x1 : Int32) (Q : Int32 → (Nat → Int32) → (Nat → Nat → Int32) → (Nat → UInt32) → Prop) : Prop := wp_X4_here F A L (fun r1 F1 A1 L1 => wp_X4_in r1 (88 : Int32) (90 : Int32) (fun r2 => ((¬ (F1 35) = 0 → wp_X4_term_L57 Q F1 A1 L1 r1 r2) ∧ ((F1 35) = 0 → wp_X4_in r1 (48 : Int32) (57 : Int32) (fun r3 => ((¬ r3 = 0 → wp_X4_term_L37 Q F1 A1 L1 x1 r1 r2) ∧ (r3 = 0 → ((r2 = 0 → wp_X4_term_L57 Q F1 A1 L1 r1 r2) ∧ (¬ r2 = 0 → wp_X4_term_L37 Q F1 A1 L1 x1 r1 r2)))))))))
set_option maxHeartbeats 4000000 in
theorem snd_X4_term (l : Launch) (G : GG) (sz : Nat) (h : HH) (ad : Nat → Nat) (F : Nat → Int32) (A : Nat → Nat → Int32) (L : Nat → UInt32) (x1 : Int32) (Q : Int32 → (Nat → Int32) → (Nat → Nat → Int32) → (Nat → UInt32) → Prop) (hS : ml_S G h ad F A L) (hw : wp_X4_term F A L x1 Q) : Met l yX4_term (ws_ yX4_term cX4_term 4 (some FieldType.int)) rm_X4_term (hv_Pc G h sz [.ref (ad 0), .int x1]) (hv_Qi G h sz (fun r => ml_Q G h ad (Q r))) 0 0 (hv_A h sz) := by
  refine Met.ofW (cc := cX4_term) (maxL := 4) (ret := (some FieldType.int)) (by decide) rfl ?_
  intro p e s m args below meth c s₁ B hml hv
  obtain ⟨rfl, rfl, hE, hI⟩ := hv_open B hml hv
  have hE : hv_E p s m ([.ref (ad 0), .int x1] : List Value).toArray meth c cX4_term 4 (some FieldType.int) RX4 G h := hE
  have hI := ml_I.start hI hS
  obtain ⟨⟨hx, hb, hml, hown, hts⟩, hr, hlocks, -⟩ := id hE
  have hl := lv_entry ([.ref (ad 0), .int x1] : List Value) (n := 4) (Nat.le_of_ble_eq_true rfl)
  rw [lg_entry_eq]
  generalize (lg_sl ([.ref (ad 0), .int x1] : List Value) ++ List.replicate (4 - (lg_sl ([.ref (ad 0), .int x1] : List Value)).length) Slot.unset).toArray = ls at hl ⊢
  have hl : lv_has ls 4 [(0, .ref (ad 0)), (1, .int x1)] := hl
  unfold wp_X4_term at hw
  refine lv_aload_n hx hb dX4_term_0 rfl (lv_at hl 0 rfl) ?_
  refine ml_calli (As := []) (rest := []) (cells := 0) (slots := 0) hE hI (fun h hS => snd_X4_here l G _ h ad F A L _ hS hw) (cwV 0 hts (lw_V q2126 q2128 qs38 q108 q2129) rfl rfl rfl (by decide +kernel) ⟨Nat.le_of_ble_eq_true rfl, Nat.le_of_ble_eq_true rfl⟩) rfl hl.1 (Nat.le_of_ble_eq_true rfl) dX4_term_1 ⟨Nat.le_of_ble_eq_true rfl, Nat.le_of_ble_eq_true rfl⟩ (fun r1 F1 A1 L1 H locs hw hI => ?_)
  refine lv_istore_n (lv' := [(2, .int r1), (0, .ref (ad 0)), (1, .int x1)]) hx hb dX4_term_4 rfl hl (by decide) rfl (fun ls hl => ?_)
  refine lv_iload_n hx hb dX4_term_5 rfl (lv_at hl 0 rfl) ?_
  refine lv_bipush (v := 88) hx hb dX4_term_6 (by decide) ?_
  refine lv_bipush (v := 90) hx hb dX4_term_8 (by decide) ?_
  refine ml_calls (As := [.int r1, .int (88 : Int32), .int (90 : Int32)]) (rest := []) (cells := 0) (slots := 0) hE hI (fun h => snd_X4_in l G _ h r1 (88 : Int32) (90 : Int32) _ hw) (va_cwS 3 hts (lw_S q2130 q2131 q108 q2132) rfl rfl rfl (by decide +kernel) ⟨Nat.le_of_ble_eq_true rfl, Nat.le_of_ble_eq_true rfl⟩) rfl hl.1 (Nat.le_of_ble_eq_true rfl) dX4_term_10 ⟨Nat.le_of_ble_eq_true rfl, Nat.le_of_ble_eq_true rfl⟩ (fun r2 H locs hw hI => ?_)
  refine lv_istore_n (lv' := [(3, .int r2), (2, .int r1), (0, .ref (ad 0)), (1, .int x1)]) hx hb dX4_term_13 rfl hl (by decide) rfl (fun ls hl => ?_)
  refine lv_aload_n hx hb dX4_term_14 rfl (lv_at hl 2 rfl) ?_
  refine lv_aload_n hx hb dX4_term_15 rfl (lv_at hl 2 rfl) ?_
  refine ml_get hE hI 35 (by decide) q2020 rfl rfl dX4_term_16 ?_
  refine lv_if_ne (tgt := 57) hx hb dX4_term_19 (by decide) (fun c_19 => ?_) (fun c_19 => ?_)
  · have hw := hw.1 c_19
    exact snd_X4_term_L57 hE Q F1 A1 L1 r1 r2 hw _ _ _ hI (lv_sub hl [2, 1, 0] rfl)
  · have hw := hw.2 c_19
    refine lv_iload_n hx hb dX4_term_22 rfl (lv_at hl 1 rfl) ?_
    refine lv_bipush (v := 48) hx hb dX4_term_23 (by decide) ?_
    refine lv_bipush (v := 57) hx hb dX4_term_25 (by decide) ?_
    refine ml_calls (As := [.int r1, .int (48 : Int32), .int (57 : Int32)]) (rest := [.ref (ad 0)]) (cells := 0) (slots := 0) hE hI (fun h => snd_X4_in l G _ h r1 (48 : Int32) (57 : Int32) _ hw) (va_cwS 3 hts (lw_S q2130 q2131 q108 q2132) rfl rfl rfl (by decide +kernel) ⟨Nat.le_of_ble_eq_true rfl, Nat.le_of_ble_eq_true rfl⟩) rfl hl.1 (Nat.le_of_ble_eq_true rfl) dX4_term_27 ⟨Nat.le_of_ble_eq_true rfl, Nat.le_of_ble_eq_true rfl⟩ (fun r3 H locs hw hI => ?_)
    refine lv_if_ne (tgt := 37) hx hb dX4_term_30 (by decide) (fun c_30 => ?_) (fun c_30 => ?_)
    · have hw := hw.1 c_30
      exact snd_X4_term_L37 hE Q F1 A1 L1 x1 r1 r2 hw _ _ _ hI (lv_sub hl [2, 3, 1, 0] rfl)
    · have hw := hw.2 c_30
      refine lv_iload_n hx hb dX4_term_33 rfl (lv_at hl 0 rfl) ?_
      refine lv_if_eq (tgt := 57) hx hb dX4_term_34 (by decide) (fun c_34 => ?_) (fun c_34 => ?_)
      · have hw := hw.1 c_34
        exact snd_X4_term_L57 hE Q F1 A1 L1 r1 r2 hw _ _ _ hI (lv_sub hl [2, 1, 0] rfl)
      · have hw := hw.2 c_34
        exact snd_X4_term_L37 hE Q F1 A1 L1 x1 r1 r2 hw _ _ _ hI (lv_sub hl [2, 3, 1, 0] rfl)

/-- MatchmakerRulesModel.pattern(IZ)V -/
abbrev rm_X4_pattern : Room := { frames := 4, cells := 0, slots := 0, locals := 73 }
def wp_X4_pattern (F : Nat → Int32) (A : Nat → Nat → Int32) (L : Nat → UInt32) (x1 : Int32) (x2 : Int32) (Q : (Nat → Int32) → (Nat → Nat → Int32) → (Nat → UInt32) → Prop) : Prop := wp_X4_kind F A L (fun r1 F1 A1 L1 => (vp_in x1 11 ∧ wp_X4_term F1 (ml_up A1 12 (Int32.toNatClampNeg x1) r1) L1 x2 (fun r2 F2 A2 L2 => (vp_in (x1 + (1 : Int32)) 11 ∧ wp_X4_term F2 (ml_up A2 12 (Int32.toNatClampNeg (x1 + (1 : Int32))) r2) L2 x2 (fun r3 F3 A3 L3 => (vp_in (x1 + (2 : Int32)) 11 ∧ Q F3 (ml_up A3 12 (Int32.toNatClampNeg (x1 + (2 : Int32))) r3) L3))))))
set_option maxHeartbeats 4000000 in
theorem snd_X4_pattern (l : Launch) (G : GG) (sz : Nat) (h : HH) (ad : Nat → Nat) (F : Nat → Int32) (A : Nat → Nat → Int32) (L : Nat → UInt32) (x1 : Int32) (x2 : Int32) (Q : (Nat → Int32) → (Nat → Nat → Int32) → (Nat → UInt32) → Prop) (hS : ml_S G h ad F A L) (hw : wp_X4_pattern F A L x1 x2 Q) : Met l yX4_pattern (ws_ yX4_pattern cX4_pattern 3 (none : Option FieldType)) rm_X4_pattern (hv_Pc G h sz [.ref (ad 0), .int x1, .int x2]) (hv_Qv G h sz (ml_Q G h ad Q)) 0 0 (hv_A h sz) := by
  refine Met.ofW (cc := cX4_pattern) (maxL := 3) (ret := (none : Option FieldType)) (by decide) rfl ?_
  intro p e s m args below meth c s₁ B hml hv
  obtain ⟨rfl, rfl, hE, hI⟩ := hv_open B hml hv
  have hE : hv_E p s m ([.ref (ad 0), .int x1, .int x2] : List Value).toArray meth c cX4_pattern 3 (none : Option FieldType) RX4 G h := hE
  have hI := ml_I.start hI hS
  obtain ⟨⟨hx, hb, hml, hown, hts⟩, hr, hlocks, -⟩ := id hE
  have hl := lv_entry ([.ref (ad 0), .int x1, .int x2] : List Value) (n := 3) (Nat.le_of_ble_eq_true rfl)
  rw [lg_entry_eq]
  generalize (lg_sl ([.ref (ad 0), .int x1, .int x2] : List Value) ++ List.replicate (3 - (lg_sl ([.ref (ad 0), .int x1, .int x2] : List Value)).length) Slot.unset).toArray = ls at hl ⊢
  have hl : lv_has ls 3 [(0, .ref (ad 0)), (1, .int x1), (2, .int x2)] := hl
  unfold wp_X4_pattern at hw
  refine lv_aload_n hx hb dX4_pattern_0 rfl (lv_at hl 0 rfl) ?_
  refine ml_get hE hI 12 (by decide) q1997 rfl rfl dX4_pattern_1 ?_
  refine lv_iload_n hx hb dX4_pattern_4 rfl (lv_at hl 1 rfl) ?_
  refine lv_aload_n hx hb dX4_pattern_5 rfl (lv_at hl 0 rfl) ?_
  refine ml_calli (As := []) (rest := [.int x1, .ref (ad 12)]) (cells := 0) (slots := 0) hE hI (fun h hS => snd_X4_kind l G _ h ad F A L _ hS hw) (cwV 0 hts (lw_V q2122 q2124 qs37 q108 q2125) rfl rfl rfl (by decide +kernel) ⟨Nat.le_of_ble_eq_true rfl, Nat.le_of_ble_eq_true rfl⟩) rfl hl.1 (Nat.le_of_ble_eq_true rfl) dX4_pattern_6 ⟨Nat.le_of_ble_eq_true rfl, Nat.le_of_ble_eq_true rfl⟩ (fun r1 F1 A1 L1 H locs hw hI => ?_)
  obtain ⟨hin, hw⟩ := hw
  refine ml_iast hE hI 12 rfl rfl rfl hin dX4_pattern_9 (fun H locs hI => ?_)
  refine lv_aload_n hx hb dX4_pattern_10 rfl (lv_at hl 0 rfl) ?_
  refine ml_get hE hI 12 (by decide) q1997 rfl rfl dX4_pattern_11 ?_
  refine lv_iload_n hx hb dX4_pattern_14 rfl (lv_at hl 1 rfl) ?_
  refine lv_iconst (v := 1) hx hb dX4_pattern_15 (by decide) ?_
  refine lv_iadd hx hb dX4_pattern_16 ?_
  refine lv_aload_n hx hb dX4_pattern_17 rfl (lv_at hl 0 rfl) ?_
  refine lv_iload_n hx hb dX4_pattern_18 rfl (lv_at hl 2 rfl) ?_
  refine ml_calli (As := [.int x2]) (rest := [.int (x1 + (1 : Int32)), .ref (ad 12)]) (cells := 0) (slots := 0) hE hI (fun h hS => snd_X4_term l G _ h ad F1 (ml_up A1 12 (Int32.toNatClampNeg x1) r1) L1 x2 _ hS hw) (cwV 1 hts (lw_V q2137 q2139 qs40 q108 q2140) rfl rfl rfl (by decide +kernel) ⟨Nat.le_of_ble_eq_true rfl, Nat.le_of_ble_eq_true rfl⟩) rfl hl.1 (Nat.le_of_ble_eq_true rfl) dX4_pattern_19 ⟨Nat.le_of_ble_eq_true rfl, Nat.le_of_ble_eq_true rfl⟩ (fun r2 F2 A2 L2 H locs hw hI => ?_)
  obtain ⟨hin, hw⟩ := hw
  refine ml_iast hE hI 12 rfl rfl rfl hin dX4_pattern_22 (fun H locs hI => ?_)
  refine lv_aload_n hx hb dX4_pattern_23 rfl (lv_at hl 0 rfl) ?_
  refine ml_get hE hI 12 (by decide) q1997 rfl rfl dX4_pattern_24 ?_
  refine lv_iload_n hx hb dX4_pattern_27 rfl (lv_at hl 1 rfl) ?_
  refine lv_iconst (v := 2) hx hb dX4_pattern_28 (by decide) ?_
  refine lv_iadd hx hb dX4_pattern_29 ?_
  refine lv_aload_n hx hb dX4_pattern_30 rfl (lv_at hl 0 rfl) ?_
  refine lv_iload_n hx hb dX4_pattern_31 rfl (lv_at hl 2 rfl) ?_
  refine ml_calli (As := [.int x2]) (rest := [.int (x1 + (2 : Int32)), .ref (ad 12)]) (cells := 0) (slots := 0) hE hI (fun h hS => snd_X4_term l G _ h ad F2 (ml_up A2 12 (Int32.toNatClampNeg (x1 + (1 : Int32))) r2) L2 x2 _ hS hw) (cwV 1 hts (lw_V q2137 q2139 qs40 q108 q2140) rfl rfl rfl (by decide +kernel) ⟨Nat.le_of_ble_eq_true rfl, Nat.le_of_ble_eq_true rfl⟩) rfl hl.1 (Nat.le_of_ble_eq_true rfl) dX4_pattern_32 ⟨Nat.le_of_ble_eq_true rfl, Nat.le_of_ble_eq_true rfl⟩ (fun r3 F3 A3 L3 H locs hw hI => ?_)
  obtain ⟨hin, hw⟩ := hw
  refine ml_iast hE hI 12 rfl rfl rfl hin dX4_pattern_35 (fun H locs hI => ?_)
  exact ml_vret hE hI hw dX4_pattern_36

/-- MatchmakerRulesModel.must(I)V -/
abbrev rm_X4_must : Room := { frames := 3, cells := 0, slots := 0, locals := 53 }
def wp_X4_must_L16 (Q : (Nat → Int32) → (Nat → Nat → Int32) → (Nat → UInt32) → Prop) (F : Nat → Int32) (A : Nat → Nat → Int32) (L : Nat → UInt32) : Prop := wp_X4_takes (upd F 35 (1 : Int32)) A L (fun r1 F1 A1 L1 => Q F1 A1 L1)
set_option maxHeartbeats 4000000 in
theorem snd_X4_must_L16 {p : Program} {l : Launch} {e : Env} {s : State} {m : MethodId} {args : Array Value} {below : List Frame} {meth : Method} {c : Code} {G : GG} {h0 : HH} {ad : Nat → Nat} (hE : hv_E p s m args meth c cX4_must 3 (none : Option FieldType) RX4 G h0) (Q : (Nat → Int32) → (Nat → Nat → Int32) → (Nat → UInt32) → Prop) : ∀ (F : Nat → Int32) (A : Nat → Nat → Int32) (L : Nat → UInt32), wp_X4_must_L16 Q F A L → ∀ (H : Heap) (locs : List Loc) (ls : Array Slot), ml_I G h0 s.heap ad F A L H locs → lv_has ls 3 [(0, .ref (ad 0))] → W p l e (headSpec (ws_ yX4_must cX4_must 3 (none : Option FieldType)) rm_X4_must).room s m args below meth c H locs 0 0 (MQ below (hv_Qv G h0 s.heap.size (ml_Q G h0 ad Q)) args s 0 0 (hv_A h0 s.heap.size)) (F0 m 16 ls [.ref (ad 0)]) := by
  obtain ⟨⟨hx, hb, hml, hown, hts⟩, hr, hlocks, -⟩ := id hE
  intro F A L hw H locs ls hI hl
  unfold wp_X4_must_L16 at hw
  refine lv_iconst (v := 1) hx hb dX4_must_16 (by decide) ?_
  refine lv_goto (tgt := 21) hx hb dX4_must_17 (by decide) ?_
  refine ml_put hE hI 35 (by decide) q2020 rfl rfl (ty := .boolean) rfl rfl rfl (fun _ => rfl) dX4_must_21 (fun H locs hI => ?_)
  refine lv_aload_n hx hb dX4_must_24 rfl (lv_at hl 0 rfl) ?_
  refine ml_calli (As := []) (rest := []) (cells := 0) (slots := 0) hE hI (fun h hS => snd_X4_takes l G _ h ad (upd F 35 (1 : Int32)) A L _ hS hw) (cwV 0 hts (lw_V q2133 q2135 qs39 q108 q2136) rfl rfl rfl (by decide +kernel) ⟨Nat.le_of_ble_eq_true rfl, Nat.le_of_ble_eq_true rfl⟩) rfl hl.1 (Nat.le_of_ble_eq_true rfl) dX4_must_25 ⟨Nat.le_of_ble_eq_true rfl, Nat.le_of_ble_eq_true rfl⟩ (fun r1 F1 A1 L1 H locs hw hI => ?_)
  refine lv_istore_n (lv' := [(2, .int r1), (0, .ref (ad 0))]) hx hb dX4_must_28 rfl hl (by decide) rfl (fun ls hl => ?_)
  exact ml_vret hE hI hw dX4_must_29
def wp_X4_must (F : Nat → Int32) (A : Nat → Nat → Int32) (L : Nat → UInt32) (x1 : Int32) (Q : (Nat → Int32) → (Nat → Nat → Int32) → (Nat → UInt32) → Prop) : Prop := ((¬ (F 35) = 0 → wp_X4_must_L16 Q F A L) ∧ ((F 35) = 0 → wp_X4_here F A L (fun r2 F2 A2 L2 => ((r2 = x1 → wp_X4_takes (upd F2 35 (0 : Int32)) A2 L2 (fun r3 F3 A3 L3 => Q F3 A3 L3)) ∧ (¬ r2 = x1 → wp_X4_must_L16 Q F2 A2 L2)))))
set_option maxHeartbeats 4000000 in
theorem snd_X4_must (l : Launch) (G : GG) (sz : Nat) (h : HH) (ad : Nat → Nat) (F : Nat → Int32) (A : Nat → Nat → Int32) (L : Nat → UInt32) (x1 : Int32) (Q : (Nat → Int32) → (Nat → Nat → Int32) → (Nat → UInt32) → Prop) (hS : ml_S G h ad F A L) (hw : wp_X4_must F A L x1 Q) : Met l yX4_must (ws_ yX4_must cX4_must 3 (none : Option FieldType)) rm_X4_must (hv_Pc G h sz [.ref (ad 0), .int x1]) (hv_Qv G h sz (ml_Q G h ad Q)) 0 0 (hv_A h sz) := by
  refine Met.ofW (cc := cX4_must) (maxL := 3) (ret := (none : Option FieldType)) (by decide) rfl ?_
  intro p e s m args below meth c s₁ B hml hv
  obtain ⟨rfl, rfl, hE, hI⟩ := hv_open B hml hv
  have hE : hv_E p s m ([.ref (ad 0), .int x1] : List Value).toArray meth c cX4_must 3 (none : Option FieldType) RX4 G h := hE
  have hI := ml_I.start hI hS
  obtain ⟨⟨hx, hb, hml, hown, hts⟩, hr, hlocks, -⟩ := id hE
  have hl := lv_entry ([.ref (ad 0), .int x1] : List Value) (n := 3) (Nat.le_of_ble_eq_true rfl)
  rw [lg_entry_eq]
  generalize (lg_sl ([.ref (ad 0), .int x1] : List Value) ++ List.replicate (3 - (lg_sl ([.ref (ad 0), .int x1] : List Value)).length) Slot.unset).toArray = ls at hl ⊢
  have hl : lv_has ls 3 [(0, .ref (ad 0)), (1, .int x1)] := hl
  unfold wp_X4_must at hw
  refine lv_aload_n hx hb dX4_must_0 rfl (lv_at hl 0 rfl) ?_
  refine lv_aload_n hx hb dX4_must_1 rfl (lv_at hl 0 rfl) ?_
  refine ml_get hE hI 35 (by decide) q2020 rfl rfl dX4_must_2 ?_
  refine lv_if_ne (tgt := 16) hx hb dX4_must_5 (by decide) (fun c_5 => ?_) (fun c_5 => ?_)
  · have hw := hw.1 c_5
    exact snd_X4_must_L16 hE Q F A L hw _ _ _ hI (lv_sub hl [0] rfl)
  · have hw := hw.2 c_5
    refine lv_aload_n hx hb dX4_must_8 rfl (lv_at hl 0 rfl) ?_
    refine ml_calli (As := []) (rest := [.ref (ad 0)]) (cells := 0) (slots := 0) hE hI (fun h hS => snd_X4_here l G _ h ad F A L _ hS hw) (cwV 0 hts (lw_V q2126 q2128 qs38 q108 q2129) rfl rfl rfl (by decide +kernel) ⟨Nat.le_of_ble_eq_true rfl, Nat.le_of_ble_eq_true rfl⟩) rfl hl.1 (Nat.le_of_ble_eq_true rfl) dX4_must_9 ⟨Nat.le_of_ble_eq_true rfl, Nat.le_of_ble_eq_true rfl⟩ (fun r2 F2 A2 L2 H locs hw hI => ?_)
    refine lv_iload_n hx hb dX4_must_12 rfl (lv_at hl 1 rfl) ?_
    refine lv_icmp_eq (tgt := 20) hx hb dX4_must_13 (by decide) (fun c_13 => ?_) (fun c_13 => ?_)
    · have hw := hw.1 c_13
      refine lv_iconst (v := 0) hx hb dX4_must_20 (by decide) ?_
      refine ml_put hE hI 35 (by decide) q2020 rfl rfl (ty := .boolean) rfl rfl rfl (fun _ => rfl) dX4_must_21 (fun H locs hI => ?_)
      refine lv_aload_n hx hb dX4_must_24 rfl (lv_at hl 0 rfl) ?_
      refine ml_calli (As := []) (rest := []) (cells := 0) (slots := 0) hE hI (fun h hS => snd_X4_takes l G _ h ad (upd F2 35 (0 : Int32)) A2 L2 _ hS hw) (cwV 0 hts (lw_V q2133 q2135 qs39 q108 q2136) rfl rfl rfl (by decide +kernel) ⟨Nat.le_of_ble_eq_true rfl, Nat.le_of_ble_eq_true rfl⟩) rfl hl.1 (Nat.le_of_ble_eq_true rfl) dX4_must_25 ⟨Nat.le_of_ble_eq_true rfl, Nat.le_of_ble_eq_true rfl⟩ (fun r3 F3 A3 L3 H locs hw hI => ?_)
      refine lv_istore_n (lv' := [(2, .int r3), (0, .ref (ad 0)), (1, .int x1)]) hx hb dX4_must_28 rfl hl (by decide) rfl (fun ls hl => ?_)
      exact ml_vret hE hI hw dX4_must_29
    · have hw := hw.2 c_13
      exact snd_X4_must_L16 hE Q F2 A2 L2 hw _ _ _ hI (lv_sub hl [0] rfl)

/-- MatchmakerRulesModel.number(I)I -/
abbrev rm_X4_number : Room := { frames := 2, cells := 0, slots := 0, locals := 34 }
def wp_X4_number_L67 (Q : Int32 → (Nat → Int32) → (Nat → Nat → Int32) → (Nat → UInt32) → Prop) (F : Nat → Int32) (A : Nat → Nat → Int32) (L : Nat → UInt32) (x2 : Int32) (x3 : Int32) : Prop := ((¬ (F 35) = 0 → Q x2 (upd F 35 (1 : Int32)) A L) ∧ ((F 35) = 0 → ((¬ x3 = 0 → Q x2 (upd F 35 (0 : Int32)) A L) ∧ (x3 = 0 → Q x2 (upd F 35 (1 : Int32)) A L))))
set_option maxHeartbeats 4000000 in
theorem snd_X4_number_L67 {p : Program} {l : Launch} {e : Env} {s : State} {m : MethodId} {args : Array Value} {below : List Frame} {meth : Method} {c : Code} {G : GG} {h0 : HH} {ad : Nat → Nat} (hE : hv_E p s m args meth c cX4_number 4 (some FieldType.int) RX4 G h0) (Q : Int32 → (Nat → Int32) → (Nat → Nat → Int32) → (Nat → UInt32) → Prop) : ∀ (F : Nat → Int32) (A : Nat → Nat → Int32) (L : Nat → UInt32) (x2 : Int32) (x3 : Int32), wp_X4_number_L67 Q F A L x2 x3 → ∀ (H : Heap) (locs : List Loc) (ls : Array Slot), ml_I G h0 s.heap ad F A L H locs → lv_has ls 4 [(0, .ref (ad 0)), (2, .int x2), (3, .int x3)] → W p l e (headSpec (ws_ yX4_number cX4_number 4 (some FieldType.int)) rm_X4_number).room s m args below meth c H locs 0 0 (MQ below (hv_Qi G h0 s.heap.size (fun r => ml_Q G h0 ad (Q r))) args s 0 0 (hv_A h0 s.heap.size)) (F0 m 67 ls []) := by
  obtain ⟨⟨hx, hb, hml, hown, hts⟩, hr, hlocks, -⟩ := id hE
  intro F A L x2 x3 hw H locs ls hI hl
  unfold wp_X4_number_L67 at hw
  refine lv_aload_n hx hb dX4_number_67 rfl (lv_at hl 0 rfl) ?_
  refine lv_aload_n hx hb dX4_number_68 rfl (lv_at hl 0 rfl) ?_
  refine ml_get hE hI 35 (by decide) q2020 rfl rfl dX4_number_69 ?_
  refine lv_if_ne (tgt := 79) hx hb dX4_number_72 (by decide) (fun c_72 => ?_) (fun c_72 => ?_)
  · have hw := hw.1 c_72
    refine lv_iconst (v := 1) hx hb dX4_number_79 (by decide) ?_
    refine lv_goto (tgt := 84) hx hb dX4_number_80 (by decide) ?_
    refine ml_put hE hI 35 (by decide) q2020 rfl rfl (ty := .boolean) rfl rfl rfl (fun _ => rfl) dX4_number_84 (fun H locs hI => ?_)
    refine lv_iload_n hx hb dX4_number_87 rfl (lv_at hl 1 rfl) ?_
    exact ml_iret hE hI hw dX4_number_88
  · have hw := hw.2 c_72
    refine lv_iload_n hx hb dX4_number_75 rfl (lv_at hl 2 rfl) ?_
    refine lv_if_ne (tgt := 83) hx hb dX4_number_76 (by decide) (fun c_76 => ?_) (fun c_76 => ?_)
    · have hw := hw.1 c_76
      refine lv_iconst (v := 0) hx hb dX4_number_83 (by decide) ?_
      refine ml_put hE hI 35 (by decide) q2020 rfl rfl (ty := .boolean) rfl rfl rfl (fun _ => rfl) dX4_number_84 (fun H locs hI => ?_)
      refine lv_iload_n hx hb dX4_number_87 rfl (lv_at hl 1 rfl) ?_
      exact ml_iret hE hI hw dX4_number_88
    · have hw := hw.2 c_76
      refine lv_iconst (v := 1) hx hb dX4_number_79 (by decide) ?_
      refine lv_goto (tgt := 84) hx hb dX4_number_80 (by decide) ?_
      refine ml_put hE hI 35 (by decide) q2020 rfl rfl (ty := .boolean) rfl rfl rfl (fun _ => rfl) dX4_number_84 (fun H locs hI => ?_)
      refine lv_iload_n hx hb dX4_number_87 rfl (lv_at hl 1 rfl) ?_
      exact ml_iret hE hI hw dX4_number_88
def wp_X4_number_L38 (Q : Int32 → (Nat → Int32) → (Nat → Nat → Int32) → (Nat → UInt32) → Prop) (k4 : (Nat → Int32) → (Nat → Nat → Int32) → (Nat → UInt32) → (Int32) → (Int32) → (Int32) → Prop) (F : Nat → Int32) (A : Nat → Nat → Int32) (L : Nat → UInt32) (x1 : Int32) (x2 : Int32) (x3 : Int32) : Prop := wp_X4_here F A L (fun r3 F3 A3 L3 => k4 (upd F3 32 ((F3 32) + (1 : Int32))) A3 L3 x1 ((((10 : Int32) * x2) + r3) - (48 : Int32)) (x3 + (1 : Int32)))
set_option maxHeartbeats 4000000 in
theorem snd_X4_number_L38 {p : Program} {l : Launch} {e : Env} {s : State} {m : MethodId} {args : Array Value} {below : List Frame} {meth : Method} {c : Code} {G : GG} {h0 : HH} {ad : Nat → Nat} (hE : hv_E p s m args meth c cX4_number 4 (some FieldType.int) RX4 G h0) (Q : Int32 → (Nat → Int32) → (Nat → Nat → Int32) → (Nat → UInt32) → Prop) (k4 : (Nat → Int32) → (Nat → Nat → Int32) → (Nat → UInt32) → (Int32) → (Int32) → (Int32) → Prop) (hk4 : ∀ (F : Nat → Int32) (A : Nat → Nat → Int32) (L : Nat → UInt32) (x1 : Int32) (x2 : Int32) (x3 : Int32) (H : Heap) (locs : List Loc) (ls : Array Slot), ml_I G h0 s.heap ad F A L H locs → lv_has ls 4 [(0, .ref (ad 0)), (1, .int x1), (2, .int x2), (3, .int x3)] → k4 F A L x1 x2 x3 → W p l e (headSpec (ws_ yX4_number cX4_number 4 (some FieldType.int)) rm_X4_number).room s m args below meth c H locs 0 0 (MQ below (hv_Qi G h0 s.heap.size (fun r => ml_Q G h0 ad (Q r))) args s 0 0 (hv_A h0 s.heap.size)) (F0 m 4 ls [])) : ∀ (F : Nat → Int32) (A : Nat → Nat → Int32) (L : Nat → UInt32) (x1 : Int32) (x2 : Int32) (x3 : Int32), wp_X4_number_L38 Q k4 F A L x1 x2 x3 → ∀ (H : Heap) (locs : List Loc) (ls : Array Slot), ml_I G h0 s.heap ad F A L H locs → lv_has ls 4 [(0, .ref (ad 0)), (1, .int x1), (2, .int x2), (3, .int x3)] → W p l e (headSpec (ws_ yX4_number cX4_number 4 (some FieldType.int)) rm_X4_number).room s m args below meth c H locs 0 0 (MQ below (hv_Qi G h0 s.heap.size (fun r => ml_Q G h0 ad (Q r))) args s 0 0 (hv_A h0 s.heap.size)) (F0 m 38 ls []) := by
  obtain ⟨⟨hx, hb, hml, hown, hts⟩, hr, hlocks, -⟩ := id hE
  intro F A L x1 x2 x3 hw H locs ls hI hl
  unfold wp_X4_number_L38 at hw
  refine lv_bipush (v := 10) hx hb dX4_number_38 (by decide) ?_
  refine lv_iload_n hx hb dX4_number_40 rfl (lv_at hl 2 rfl) ?_
  refine lv_imul hx hb dX4_number_41 ?_
  refine lv_aload_n hx hb dX4_number_42 rfl (lv_at hl 0 rfl) ?_
  refine ml_calli (As := []) (rest := [.int ((10 : Int32) * x2)]) (cells := 0) (slots := 0) hE hI (fun h hS => snd_X4_here l G _ h ad F A L _ hS hw) (cwV 0 hts (lw_V q2126 q2128 qs38 q108 q2129) rfl rfl rfl (by decide +kernel) ⟨Nat.le_of_ble_eq_true rfl, Nat.le_of_ble_eq_true rfl⟩) rfl hl.1 (Nat.le_of_ble_eq_true rfl) dX4_number_43 ⟨Nat.le_of_ble_eq_true rfl, Nat.le_of_ble_eq_true rfl⟩ (fun r3 F3 A3 L3 H locs hw hI => ?_)
  refine lv_iadd hx hb dX4_number_46 ?_
  refine lv_bipush (v := 48) hx hb dX4_number_47 (by decide) ?_
  refine lv_isub hx hb dX4_number_49 ?_
  refine lv_istore_n (lv' := [(2, .int ((((10 : Int32) * x2) + r3) - (48 : Int32))), (0, .ref (ad 0)), (1, .int x1), (3, .int x3)]) hx hb dX4_number_50 rfl hl (by decide) rfl (fun ls hl => ?_)
  refine lv_aload_n hx hb dX4_number_51 rfl (lv_at hl 1 rfl) ?_
  refine lv_dup hx hb dX4_number_52 rfl ?_
  refine ml_get hE hI 32 (by decide) q2017 rfl rfl dX4_number_53 ?_
  refine lv_iconst (v := 1) hx hb dX4_number_56 (by decide) ?_
  refine lv_iadd hx hb dX4_number_57 ?_
  refine ml_put hE hI 32 (by decide) q2017 rfl rfl (ty := .int) rfl rfl rfl (fun _ => rfl) dX4_number_58 (fun H locs hI => ?_)
  refine lv_iinc (v := (x3 + (1 : Int32))) (lv' := [(3, .int (x3 + (1 : Int32))), (2, .int ((((10 : Int32) * x2) + r3) - (48 : Int32))), (0, .ref (ad 0)), (1, .int x1)]) hx hb dX4_number_61 hl (k := 3) rfl rfl (by decide) rfl (fun ls hl => ?_)
  refine lv_goto (tgt := 4) hx hb dX4_number_64 (by decide) ?_
  exact hk4 (upd F3 32 ((F3 32) + (1 : Int32))) A3 L3 x1 ((((10 : Int32) * x2) + r3) - (48 : Int32)) (x3 + (1 : Int32)) _ _ _ hI (lv_sub hl [2, 3, 1, 0] rfl) hw
def wp_X4_number_L4 (Q : Int32 → (Nat → Int32) → (Nat → Nat → Int32) → (Nat → UInt32) → Prop) : Nat → (Nat → Int32) → (Nat → Nat → Int32) → (Nat → UInt32) → (Int32) → (Int32) → (Int32) → Prop
  | 0, _, _, _, _, _, _ => False
  | n + 1, F, A, L, x1, x2, x3 => ((¬ (F 35) = 0 → wp_X4_number_L67 Q F A L x2 x3) ∧ ((F 35) = 0 → ((x1 ≤ x3 → wp_X4_number_L67 Q F A L x2 x3) ∧ (¬ x1 ≤ x3 → wp_X4_here F A L (fun r1 F1 A1 L1 => wp_X4_in r1 (48 : Int32) (57 : Int32) (fun r2 => ((r2 = 0 → wp_X4_number_L67 Q F1 A1 L1 x2 x3) ∧ (¬ r2 = 0 → ((x3 = 0 → wp_X4_number_L38 Q (fun F A L x1 x2 x3 => wp_X4_number_L4 Q n F A L x1 x2 x3) F1 A1 L1 x1 x2 x3) ∧ (¬ x3 = 0 → ((x2 ≤ 0 → wp_X4_number_L67 Q F1 A1 L1 x2 x3) ∧ (¬ x2 ≤ 0 → wp_X4_number_L38 Q (fun F A L x1 x2 x3 => wp_X4_number_L4 Q n F A L x1 x2 x3) F1 A1 L1 x1 x2 x3))))))))))))
set_option maxHeartbeats 4000000 in
theorem snd_X4_number_L4 {p : Program} {l : Launch} {e : Env} {s : State} {m : MethodId} {args : Array Value} {below : List Frame} {meth : Method} {c : Code} {G : GG} {h0 : HH} {ad : Nat → Nat} (hE : hv_E p s m args meth c cX4_number 4 (some FieldType.int) RX4 G h0) (Q : Int32 → (Nat → Int32) → (Nat → Nat → Int32) → (Nat → UInt32) → Prop) : ∀ (n : Nat) (F : Nat → Int32) (A : Nat → Nat → Int32) (L : Nat → UInt32) (x1 : Int32) (x2 : Int32) (x3 : Int32), wp_X4_number_L4 Q n F A L x1 x2 x3 → ∀ (H : Heap) (locs : List Loc) (ls : Array Slot), ml_I G h0 s.heap ad F A L H locs → lv_has ls 4 [(0, .ref (ad 0)), (1, .int x1), (2, .int x2), (3, .int x3)] → W p l e (headSpec (ws_ yX4_number cX4_number 4 (some FieldType.int)) rm_X4_number).room s m args below meth c H locs 0 0 (MQ below (hv_Qi G h0 s.heap.size (fun r => ml_Q G h0 ad (Q r))) args s 0 0 (hv_A h0 s.heap.size)) (F0 m 4 ls []) := by
  obtain ⟨⟨hx, hb, hml, hown, hts⟩, hr, hlocks, -⟩ := id hE
  intro n
  induction n with
  | zero => intro F A L x1 x2 x3 hw; exact hw.elim
  | succ n ih =>
    intro F A L x1 x2 x3 hw H locs ls hI hl
    unfold wp_X4_number_L4 at hw
    refine lv_aload_n hx hb dX4_number_4 rfl (lv_at hl 0 rfl) ?_
    refine ml_get hE hI 35 (by decide) q2020 rfl rfl dX4_number_5 ?_
    refine lv_if_ne (tgt := 67) hx hb dX4_number_8 (by decide) (fun c_8 => ?_) (fun c_8 => ?_)
    · have hw := hw.1 c_8
      exact snd_X4_number_L67 hE Q F A L x2 x3 hw _ _ _ hI (lv_sub hl [0, 2, 3] rfl)
    · have hw := hw.2 c_8
      refine lv_iload_n hx hb dX4_number_11 rfl (lv_at hl 3 rfl) ?_
      refine lv_iload_n hx hb dX4_number_12 rfl (lv_at hl 1 rfl) ?_
      refine lv_icmp_ge (tgt := 67) hx hb dX4_number_13 (by decide) (fun c_13 => ?_) (fun c_13 => ?_)
      · have hw := hw.1 c_13
        exact snd_X4_number_L67 hE Q F A L x2 x3 hw _ _ _ hI (lv_sub hl [0, 2, 3] rfl)
      · have hw := hw.2 c_13
        refine lv_aload_n hx hb dX4_number_16 rfl (lv_at hl 0 rfl) ?_
        refine ml_calli (As := []) (rest := []) (cells := 0) (slots := 0) hE hI (fun h hS => snd_X4_here l G _ h ad F A L _ hS hw) (cwV 0 hts (lw_V q2126 q2128 qs38 q108 q2129) rfl rfl rfl (by decide +kernel) ⟨Nat.le_of_ble_eq_true rfl, Nat.le_of_ble_eq_true rfl⟩) rfl hl.1 (Nat.le_of_ble_eq_true rfl) dX4_number_17 ⟨Nat.le_of_ble_eq_true rfl, Nat.le_of_ble_eq_true rfl⟩ (fun r1 F1 A1 L1 H locs hw hI => ?_)
        refine lv_bipush (v := 48) hx hb dX4_number_20 (by decide) ?_
        refine lv_bipush (v := 57) hx hb dX4_number_22 (by decide) ?_
        refine ml_calls (As := [.int r1, .int (48 : Int32), .int (57 : Int32)]) (rest := []) (cells := 0) (slots := 0) hE hI (fun h => snd_X4_in l G _ h r1 (48 : Int32) (57 : Int32) _ hw) (va_cwS 3 hts (lw_S q2130 q2131 q108 q2132) rfl rfl rfl (by decide +kernel) ⟨Nat.le_of_ble_eq_true rfl, Nat.le_of_ble_eq_true rfl⟩) rfl hl.1 (Nat.le_of_ble_eq_true rfl) dX4_number_24 ⟨Nat.le_of_ble_eq_true rfl, Nat.le_of_ble_eq_true rfl⟩ (fun r2 H locs hw hI => ?_)
        refine lv_if_eq (tgt := 67) hx hb dX4_number_27 (by decide) (fun c_27 => ?_) (fun c_27 => ?_)
        · have hw := hw.1 c_27
          exact snd_X4_number_L67 hE Q F1 A1 L1 x2 x3 hw _ _ _ hI (lv_sub hl [0, 2, 3] rfl)
        · have hw := hw.2 c_27
          refine lv_iload_n hx hb dX4_number_30 rfl (lv_at hl 3 rfl) ?_
          refine lv_if_eq (tgt := 38) hx hb dX4_number_31 (by decide) (fun c_31 => ?_) (fun c_31 => ?_)
          · have hw := hw.1 c_31
            exact snd_X4_number_L38 hE Q (fun F A L x1 x2 x3 => wp_X4_number_L4 Q n F A L x1 x2 x3) (fun F A L x1 x2 x3 H locs ls hI hl hw => ih F A L x1 x2 x3 hw H locs ls hI hl) F1 A1 L1 x1 x2 x3 hw _ _ _ hI (lv_sub hl [0, 1, 2, 3] rfl)
          · have hw := hw.2 c_31
            refine lv_iload_n hx hb dX4_number_34 rfl (lv_at hl 2 rfl) ?_
            refine lv_if_le (tgt := 67) hx hb dX4_number_35 (by decide) (fun c_35 => ?_) (fun c_35 => ?_)
            · have hw := hw.1 c_35
              exact snd_X4_number_L67 hE Q F1 A1 L1 x2 x3 hw _ _ _ hI (lv_sub hl [0, 2, 3] rfl)
            · have hw := hw.2 c_35
              exact snd_X4_number_L38 hE Q (fun F A L x1 x2 x3 => wp_X4_number_L4 Q n F A L x1 x2 x3) (fun F A L x1 x2 x3 H locs ls hI hl hw => ih F A L x1 x2 x3 hw H locs ls hI hl) F1 A1 L1 x1 x2 x3 hw _ _ _ hI (lv_sub hl [0, 1, 2, 3] rfl)
def wp_X4_number (F : Nat → Int32) (A : Nat → Nat → Int32) (L : Nat → UInt32) (x1 : Int32) (Q : Int32 → (Nat → Int32) → (Nat → Nat → Int32) → (Nat → UInt32) → Prop) : Prop := (∃ n4, wp_X4_number_L4 Q n4 F A L x1 (0 : Int32) (0 : Int32))
set_option maxHeartbeats 4000000 in
theorem snd_X4_number (l : Launch) (G : GG) (sz : Nat) (h : HH) (ad : Nat → Nat) (F : Nat → Int32) (A : Nat → Nat → Int32) (L : Nat → UInt32) (x1 : Int32) (Q : Int32 → (Nat → Int32) → (Nat → Nat → Int32) → (Nat → UInt32) → Prop) (hS : ml_S G h ad F A L) (hw : wp_X4_number F A L x1 Q) : Met l yX4_number (ws_ yX4_number cX4_number 4 (some FieldType.int)) rm_X4_number (hv_Pc G h sz [.ref (ad 0), .int x1]) (hv_Qi G h sz (fun r => ml_Q G h ad (Q r))) 0 0 (hv_A h sz) := by
  refine Met.ofW (cc := cX4_number) (maxL := 4) (ret := (some FieldType.int)) (by decide) rfl ?_
  intro p e s m args below meth c s₁ B hml hv
  obtain ⟨rfl, rfl, hE, hI⟩ := hv_open B hml hv
  have hE : hv_E p s m ([.ref (ad 0), .int x1] : List Value).toArray meth c cX4_number 4 (some FieldType.int) RX4 G h := hE
  have hI := ml_I.start hI hS
  obtain ⟨⟨hx, hb, hml, hown, hts⟩, hr, hlocks, -⟩ := id hE
  have hl := lv_entry ([.ref (ad 0), .int x1] : List Value) (n := 4) (Nat.le_of_ble_eq_true rfl)
  rw [lg_entry_eq]
  generalize (lg_sl ([.ref (ad 0), .int x1] : List Value) ++ List.replicate (4 - (lg_sl ([.ref (ad 0), .int x1] : List Value)).length) Slot.unset).toArray = ls at hl ⊢
  have hl : lv_has ls 4 [(0, .ref (ad 0)), (1, .int x1)] := hl
  unfold wp_X4_number at hw
  refine lv_iconst (v := 0) hx hb dX4_number_0 (by decide) ?_
  refine lv_istore_n (lv' := [(2, .int (0 : Int32)), (0, .ref (ad 0)), (1, .int x1)]) hx hb dX4_number_1 rfl hl (by decide) rfl (fun ls hl => ?_)
  refine lv_iconst (v := 0) hx hb dX4_number_2 (by decide) ?_
  refine lv_istore_n (lv' := [(3, .int (0 : Int32)), (2, .int (0 : Int32)), (0, .ref (ad 0)), (1, .int x1)]) hx hb dX4_number_3 rfl hl (by decide) rfl (fun ls hl => ?_)
  obtain ⟨n4, hw⟩ := hw
  exact snd_X4_number_L4 hE Q n4 F A L x1 (0 : Int32) (0 : Int32) hw _ _ _ hI (lv_sub hl [2, 3, 1, 0] rfl)
