/-! the reference's methods, walked (by gen/model.py) -/
set_option maxRecDepth 100000
/-- MatchmakerRulesModel.fire()I -/
abbrev rm_X4_fire : Room := { frames := 5, cells := 0, slots := 0, locals := 114 }
def wp_X4_fire (F : Nat → Int32) (A : Nat → Nat → Int32) (L : Nat → UInt32) (Q : Int32 → (Nat → Int32) → (Nat → Nat → Int32) → (Nat → UInt32) → Prop) : Prop := wp_X4_remembers F A L (fun F1 A1 L1 => wp_X4_looks F1 A1 L1 (fun F2 A2 L2 => ((¬ (F2 31) = 0 → wp_X4_firesFirst F2 A2 L2 (fun r3 F3 A3 L3 => wp_X4_changed F3 A3 L3 r3 (fun r4 F4 A4 L4 => Q r4 F4 A4 L4))) ∧ ((F2 31) = 0 → wp_X4_refused F2 A2 L2 (5 : Int32) (A2 1 3) (fun r5 F5 A5 L5 => wp_X4_ends F5 A5 L5 r5 (1 : Int32) (fun r6 F6 A6 L6 => Q r6 F6 A6 L6))))))
set_option maxHeartbeats 4000000 in
theorem snd_X4_fire (l : Launch) (G : GG) (sz : Nat) (h : HH) (ad : Nat → Nat) (F : Nat → Int32) (A : Nat → Nat → Int32) (L : Nat → UInt32) (Q : Int32 → (Nat → Int32) → (Nat → Nat → Int32) → (Nat → UInt32) → Prop) (hS : ml_S G h ad F A L) (hw : wp_X4_fire F A L Q) : Met l yX4_fire (ws_ yX4_fire cX4_fire 1 (some FieldType.int)) rm_X4_fire (hv_Pc G h sz [.ref (ad 0)]) (hv_Qi G h sz (fun r => ml_Q G h ad (Q r))) 0 0 (hv_A h sz) := by
  refine Met.ofW (cc := cX4_fire) (maxL := 1) (ret := (some FieldType.int)) (by decide) rfl ?_
  intro p e s m args below meth c s₁ B hml hv
  obtain ⟨rfl, rfl, hE, hI⟩ := hv_open B hml hv
  have hE : hv_E p s m ([.ref (ad 0)] : List Value).toArray meth c cX4_fire 1 (some FieldType.int) RX4 G h := hE
  have hI := ml_I.start hI hS
  obtain ⟨⟨hx, hb, hml, hown, hts⟩, hr, hlocks, -⟩ := id hE
  have hl := lv_entry ([.ref (ad 0)] : List Value) (n := 1) (Nat.le_of_ble_eq_true rfl)
  rw [lg_entry_eq]
  generalize (lg_sl ([.ref (ad 0)] : List Value) ++ List.replicate (1 - (lg_sl ([.ref (ad 0)] : List Value)).length) Slot.unset).toArray = ls at hl ⊢
  have hl : lv_has ls 1 [(0, .ref (ad 0))] := hl
  unfold wp_X4_fire at hw
  refine lv_aload_n hx hb dX4_fire_0 rfl (lv_at hl 0 rfl) ?_
  refine ml_callv (As := []) (rest := []) (cells := 0) (slots := 0) hE hI (fun h hS => snd_X4_remembers l G _ h ad F A L _ hS hw) (cwV 0 hts (lw_V q2110 q2112 qs34 q108 q2113) rfl rfl rfl (by decide +kernel) ⟨Nat.le_of_ble_eq_true rfl, Nat.le_of_ble_eq_true rfl⟩) rfl hl.1 (Nat.le_of_ble_eq_true rfl) dX4_fire_1 ⟨Nat.le_of_ble_eq_true rfl, Nat.le_of_ble_eq_true rfl⟩ (fun F1 A1 L1 H locs hw hI => ?_)
  refine lv_aload_n hx hb dX4_fire_4 rfl (lv_at hl 0 rfl) ?_
  refine ml_callv (As := []) (rest := []) (cells := 0) (slots := 0) hE hI (fun h hS => snd_X4_looks l G _ h ad F1 A1 L1 _ hS hw) (cwV 0 hts (lw_V q2296 q2298 qs68 q108 q2299) rfl rfl rfl (by decide +kernel) ⟨Nat.le_of_ble_eq_true rfl, Nat.le_of_ble_eq_true rfl⟩) rfl hl.1 (Nat.le_of_ble_eq_true rfl) dX4_fire_5 ⟨Nat.le_of_ble_eq_true rfl, Nat.le_of_ble_eq_true rfl⟩ (fun F2 A2 L2 H locs hw hI => ?_)
  refine lv_aload_n hx hb dX4_fire_8 rfl (lv_at hl 0 rfl) ?_
  refine ml_get hE hI 31 (by decide) q2016 rfl rfl dX4_fire_9 ?_
  refine lv_if_ne (tgt := 34) hx hb dX4_fire_12 (by decide) (fun c_12 => ?_) (fun c_12 => ?_)
  · have hw := hw.1 c_12
    refine lv_aload_n hx hb dX4_fire_34 rfl (lv_at hl 0 rfl) ?_
    refine lv_aload_n hx hb dX4_fire_35 rfl (lv_at hl 0 rfl) ?_
    refine ml_calli (As := []) (rest := [.ref (ad 0)]) (cells := 0) (slots := 0) hE hI (fun h hS => snd_X4_firesFirst l G _ h ad F2 A2 L2 _ hS hw) (cwV 0 hts (lw_V q2359 q2361 qs80 q108 q2362) rfl rfl rfl (by decide +kernel) ⟨Nat.le_of_ble_eq_true rfl, Nat.le_of_ble_eq_true rfl⟩) rfl hl.1 (Nat.le_of_ble_eq_true rfl) dX4_fire_36 ⟨Nat.le_of_ble_eq_true rfl, Nat.le_of_ble_eq_true rfl⟩ (fun r3 F3 A3 L3 H locs hw hI => ?_)
    refine ml_calli (As := [.int r3]) (rest := []) (cells := 0) (slots := 0) hE hI (fun h hS => snd_X4_changed l G _ h ad F3 A3 L3 r3 _ hS hw) (cwV 1 hts (lw_V q2169 q2171 qs48 q108 q2172) rfl rfl rfl (by decide +kernel) ⟨Nat.le_of_ble_eq_true rfl, Nat.le_of_ble_eq_true rfl⟩) rfl hl.1 (Nat.le_of_ble_eq_true rfl) dX4_fire_39 ⟨Nat.le_of_ble_eq_true rfl, Nat.le_of_ble_eq_true rfl⟩ (fun r4 F4 A4 L4 H locs hw hI => ?_)
    exact ml_iret hE hI hw dX4_fire_42
  · have hw := hw.2 c_12
    refine lv_aload_n hx hb dX4_fire_15 rfl (lv_at hl 0 rfl) ?_
    refine lv_aload_n hx hb dX4_fire_16 rfl (lv_at hl 0 rfl) ?_
    refine lv_iconst (v := 5) hx hb dX4_fire_17 (by decide) ?_
    refine lv_aload_n hx hb dX4_fire_18 rfl (lv_at hl 0 rfl) ?_
    refine ml_get hE hI 1 (by decide) q1986 rfl rfl dX4_fire_19 ?_
    refine lv_iconst (v := 3) hx hb dX4_fire_22 (by decide) ?_
    have hin : vp_in (3 : Int32) 13675 := by unfold vp_in; decide +kernel
    refine ml_iald hE hI 1 rfl rfl (show Int32.toNatClampNeg (3 : Int32) = 3 from by decide +kernel) hin dX4_fire_23 ?_
    refine ml_calli (As := [.int (5 : Int32), .int (A2 1 3)]) (rest := [.ref (ad 0)]) (cells := 0) (slots := 0) hE hI (fun h hS => snd_X4_refused l G _ h ad F2 A2 L2 (5 : Int32) (A2 1 3) _ hS hw) (cwV 2 hts (lw_V q2157 q2159 qs45 q108 q2160) rfl rfl rfl (by decide +kernel) ⟨Nat.le_of_ble_eq_true rfl, Nat.le_of_ble_eq_true rfl⟩) rfl hl.1 (Nat.le_of_ble_eq_true rfl) dX4_fire_24 ⟨Nat.le_of_ble_eq_true rfl, Nat.le_of_ble_eq_true rfl⟩ (fun r5 F5 A5 L5 H locs hw hI => ?_)
    refine lv_iconst (v := 1) hx hb dX4_fire_27 (by decide) ?_
    refine ml_calli (As := [.int r5, .int (1 : Int32)]) (rest := []) (cells := 0) (slots := 0) hE hI (fun h hS => snd_X4_ends l G _ h ad F5 A5 L5 r5 (1 : Int32) _ hS hw) (cwV 2 hts (lw_V q2165 q2167 qs47 q108 q2168) rfl rfl rfl (by decide +kernel) ⟨Nat.le_of_ble_eq_true rfl, Nat.le_of_ble_eq_true rfl⟩) rfl hl.1 (Nat.le_of_ble_eq_true rfl) dX4_fire_28 ⟨Nat.le_of_ble_eq_true rfl, Nat.le_of_ble_eq_true rfl⟩ (fun r6 F6 A6 L6 H locs hw hI => ?_)
    refine lv_goto (tgt := 42) hx hb dX4_fire_31 (by decide) ?_
    exact ml_iret hE hI hw dX4_fire_42

/-- MatchmakerRulesModel.firesOften(I)I -/
abbrev rm_X4_firesOften : Room := { frames := 5, cells := 0, slots := 0, locals := 114 }
def wp_X4_firesOften_L6 (Q : Int32 → (Nat → Int32) → (Nat → Nat → Int32) → (Nat → UInt32) → Prop) : Nat → (Nat → Int32) → (Nat → Nat → Int32) → (Nat → UInt32) → (Int32) → (Int32) → Prop
  | 0, _, _, _, _, _ => False
  | n + 1, F, A, L, x1, x2 => ((x1 ≤ x2 → Q x2 F A L) ∧ (¬ x1 ≤ x2 → (((F 31) ≤ 0 → Q x2 F A L) ∧ (¬ (F 31) ≤ 0 → wp_X4_firesFirst F A L (fun r2 F2 A2 L2 => wp_X4_looks F2 A2 L2 (fun F3 A3 L3 => wp_X4_firesOften_L6 Q n F3 A3 L3 x1 (x2 + (1 : Int32))))))))
set_option maxHeartbeats 4000000 in
theorem snd_X4_firesOften_L6 {p : Program} {l : Launch} {e : Env} {s : State} {m : MethodId} {args : Array Value} {below : List Frame} {meth : Method} {c : Code} {G : GG} {h0 : HH} {ad : Nat → Nat} (hE : hv_E p s m args meth c cX4_firesOften 4 (some FieldType.int) RX4 G h0) (Q : Int32 → (Nat → Int32) → (Nat → Nat → Int32) → (Nat → UInt32) → Prop) : ∀ (n : Nat) (F : Nat → Int32) (A : Nat → Nat → Int32) (L : Nat → UInt32) (x1 : Int32) (x2 : Int32), wp_X4_firesOften_L6 Q n F A L x1 x2 → ∀ (H : Heap) (locs : List Loc) (ls : Array Slot), ml_I G h0 s.heap ad F A L H locs → lv_has ls 4 [(0, .ref (ad 0)), (1, .int x1), (2, .int x2)] → W p l e (headSpec (ws_ yX4_firesOften cX4_firesOften 4 (some FieldType.int)) rm_X4_firesOften).room s m args below meth c H locs 0 0 (MQ below (hv_Qi G h0 s.heap.size (fun r => ml_Q G h0 ad (Q r))) args s 0 0 (hv_A h0 s.heap.size)) (F0 m 6 ls []) := by
  obtain ⟨⟨hx, hb, hml, hown, hts⟩, hr, hlocks, -⟩ := id hE
  intro n
  induction n with
  | zero => intro F A L x1 x2 hw; exact hw.elim
  | succ n ih =>
    intro F A L x1 x2 hw H locs ls hI hl
    unfold wp_X4_firesOften_L6 at hw
    refine lv_iload_n hx hb dX4_firesOften_6 rfl (lv_at hl 2 rfl) ?_
    refine lv_iload_n hx hb dX4_firesOften_7 rfl (lv_at hl 1 rfl) ?_
    refine lv_icmp_ge (tgt := 33) hx hb dX4_firesOften_8 (by decide) (fun c_8 => ?_) (fun c_8 => ?_)
    · have hw := hw.1 c_8
      refine lv_iload_n hx hb dX4_firesOften_33 rfl (lv_at hl 2 rfl) ?_
      exact ml_iret hE hI hw dX4_firesOften_34
    · have hw := hw.2 c_8
      refine lv_aload_n hx hb dX4_firesOften_11 rfl (lv_at hl 0 rfl) ?_
      refine ml_get hE hI 31 (by decide) q2016 rfl rfl dX4_firesOften_12 ?_
      refine lv_if_le (tgt := 33) hx hb dX4_firesOften_15 (by decide) (fun c_15 => ?_) (fun c_15 => ?_)
      · have hw := hw.1 c_15
        refine lv_iload_n hx hb dX4_firesOften_33 rfl (lv_at hl 2 rfl) ?_
        exact ml_iret hE hI hw dX4_firesOften_34
      · have hw := hw.2 c_15
        refine lv_aload_n hx hb dX4_firesOften_18 rfl (lv_at hl 0 rfl) ?_
        refine ml_calli (As := []) (rest := []) (cells := 0) (slots := 0) hE hI (fun h hS => snd_X4_firesFirst l G _ h ad F A L _ hS hw) (cwV 0 hts (lw_V q2359 q2361 qs80 q108 q2362) rfl rfl rfl (by decide +kernel) ⟨Nat.le_of_ble_eq_true rfl, Nat.le_of_ble_eq_true rfl⟩) rfl hl.1 (Nat.le_of_ble_eq_true rfl) dX4_firesOften_19 ⟨Nat.le_of_ble_eq_true rfl, Nat.le_of_ble_eq_true rfl⟩ (fun r2 F2 A2 L2 H locs hw hI => ?_)
        refine lv_istore_n (lv' := [(3, .int r2), (0, .ref (ad 0)), (1, .int x1), (2, .int x2)]) hx hb dX4_firesOften_22 rfl hl (by decide) rfl (fun ls hl => ?_)
        refine lv_iinc (v := (x2 + (1 : Int32))) (lv' := [(2, .int (x2 + (1 : Int32))), (3, .int r2), (0, .ref (ad 0)), (1, .int x1)]) hx hb dX4_firesOften_23 hl (k := 3) rfl rfl (by decide) rfl (fun ls hl => ?_)
        refine lv_aload_n hx hb dX4_firesOften_26 rfl (lv_at hl 2 rfl) ?_
        refine ml_callv (As := []) (rest := []) (cells := 0) (slots := 0) hE hI (fun h hS => snd_X4_looks l G _ h ad F2 A2 L2 _ hS hw) (cwV 0 hts (lw_V q2296 q2298 qs68 q108 q2299) rfl rfl rfl (by decide +kernel) ⟨Nat.le_of_ble_eq_true rfl, Nat.le_of_ble_eq_true rfl⟩) rfl hl.1 (Nat.le_of_ble_eq_true rfl) dX4_firesOften_27 ⟨Nat.le_of_ble_eq_true rfl, Nat.le_of_ble_eq_true rfl⟩ (fun F3 A3 L3 H locs hw hI => ?_)
        refine lv_goto (tgt := 6) hx hb dX4_firesOften_30 (by decide) ?_
        exact ih F3 A3 L3 x1 (x2 + (1 : Int32)) hw _ _ _ hI (lv_sub hl [2, 3, 0] rfl)
def wp_X4_firesOften (F : Nat → Int32) (A : Nat → Nat → Int32) (L : Nat → UInt32) (x1 : Int32) (Q : Int32 → (Nat → Int32) → (Nat → Nat → Int32) → (Nat → UInt32) → Prop) : Prop := wp_X4_looks F A L (fun F1 A1 L1 => (∃ n6, wp_X4_firesOften_L6 Q n6 F1 A1 L1 x1 (0 : Int32)))
set_option maxHeartbeats 4000000 in
theorem snd_X4_firesOften (l : Launch) (G : GG) (sz : Nat) (h : HH) (ad : Nat → Nat) (F : Nat → Int32) (A : Nat → Nat → Int32) (L : Nat → UInt32) (x1 : Int32) (Q : Int32 → (Nat → Int32) → (Nat → Nat → Int32) → (Nat → UInt32) → Prop) (hS : ml_S G h ad F A L) (hw : wp_X4_firesOften F A L x1 Q) : Met l yX4_firesOften (ws_ yX4_firesOften cX4_firesOften 4 (some FieldType.int)) rm_X4_firesOften (hv_Pc G h sz [.ref (ad 0), .int x1]) (hv_Qi G h sz (fun r => ml_Q G h ad (Q r))) 0 0 (hv_A h sz) := by
  refine Met.ofW (cc := cX4_firesOften) (maxL := 4) (ret := (some FieldType.int)) (by decide) rfl ?_
  intro p e s m args below meth c s₁ B hml hv
  obtain ⟨rfl, rfl, hE, hI⟩ := hv_open B hml hv
  have hE : hv_E p s m ([.ref (ad 0), .int x1] : List Value).toArray meth c cX4_firesOften 4 (some FieldType.int) RX4 G h := hE
  have hI := ml_I.start hI hS
  obtain ⟨⟨hx, hb, hml, hown, hts⟩, hr, hlocks, -⟩ := id hE
  have hl := lv_entry ([.ref (ad 0), .int x1] : List Value) (n := 4) (Nat.le_of_ble_eq_true rfl)
  rw [lg_entry_eq]
  generalize (lg_sl ([.ref (ad 0), .int x1] : List Value) ++ List.replicate (4 - (lg_sl ([.ref (ad 0), .int x1] : List Value)).length) Slot.unset).toArray = ls at hl ⊢
  have hl : lv_has ls 4 [(0, .ref (ad 0)), (1, .int x1)] := hl
  unfold wp_X4_firesOften at hw
  refine lv_iconst (v := 0) hx hb dX4_firesOften_0 (by decide) ?_
  refine lv_istore_n (lv' := [(2, .int (0 : Int32)), (0, .ref (ad 0)), (1, .int x1)]) hx hb dX4_firesOften_1 rfl hl (by decide) rfl (fun ls hl => ?_)
  refine lv_aload_n hx hb dX4_firesOften_2 rfl (lv_at hl 1 rfl) ?_
  refine ml_callv (As := []) (rest := []) (cells := 0) (slots := 0) hE hI (fun h hS => snd_X4_looks l G _ h ad F A L _ hS hw) (cwV 0 hts (lw_V q2296 q2298 qs68 q108 q2299) rfl rfl rfl (by decide +kernel) ⟨Nat.le_of_ble_eq_true rfl, Nat.le_of_ble_eq_true rfl⟩) rfl hl.1 (Nat.le_of_ble_eq_true rfl) dX4_firesOften_3 ⟨Nat.le_of_ble_eq_true rfl, Nat.le_of_ble_eq_true rfl⟩ (fun F1 A1 L1 H locs hw hI => ?_)
  obtain ⟨n6, hw⟩ := hw
  exact snd_X4_firesOften_L6 hE Q n6 F1 A1 L1 x1 (0 : Int32) hw _ _ _ hI (lv_sub hl [1, 2, 0] rfl)

/-- MatchmakerRulesModel.runs(I)I -/
abbrev rm_X4_runs : Room := { frames := 6, cells := 0, slots := 0, locals := 137 }
def wp_X4_runs (F : Nat → Int32) (A : Nat → Nat → Int32) (L : Nat → UInt32) (x1 : Int32) (Q : Int32 → (Nat → Int32) → (Nat → Nat → Int32) → (Nat → UInt32) → Prop) : Prop := wp_X4_in x1 (0 : Int32) (30 : Int32) (fun r1 => ((r1 = 0 → Q (-1 : Int32) F A L) ∧ (¬ r1 = 0 → wp_X4_firesOften F A L x1 (fun r2 F2 A2 L2 => wp_X4_done F2 A2 L2 r2 (fun r3 F3 A3 L3 => Q r3 F3 A3 L3)))))
set_option maxHeartbeats 4000000 in
theorem snd_X4_runs (l : Launch) (G : GG) (sz : Nat) (h : HH) (ad : Nat → Nat) (F : Nat → Int32) (A : Nat → Nat → Int32) (L : Nat → UInt32) (x1 : Int32) (Q : Int32 → (Nat → Int32) → (Nat → Nat → Int32) → (Nat → UInt32) → Prop) (hS : ml_S G h ad F A L) (hw : wp_X4_runs F A L x1 Q) : Met l yX4_runs (ws_ yX4_runs cX4_runs 2 (some FieldType.int)) rm_X4_runs (hv_Pc G h sz [.ref (ad 0), .int x1]) (hv_Qi G h sz (fun r => ml_Q G h ad (Q r))) 0 0 (hv_A h sz) := by
  refine Met.ofW (cc := cX4_runs) (maxL := 2) (ret := (some FieldType.int)) (by decide) rfl ?_
  intro p e s m args below meth c s₁ B hml hv
  obtain ⟨rfl, rfl, hE, hI⟩ := hv_open B hml hv
  have hE : hv_E p s m ([.ref (ad 0), .int x1] : List Value).toArray meth c cX4_runs 2 (some FieldType.int) RX4 G h := hE
  have hI := ml_I.start hI hS
  obtain ⟨⟨hx, hb, hml, hown, hts⟩, hr, hlocks, -⟩ := id hE
  have hl := lv_entry ([.ref (ad 0), .int x1] : List Value) (n := 2) (Nat.le_of_ble_eq_true rfl)
  rw [lg_entry_eq]
  generalize (lg_sl ([.ref (ad 0), .int x1] : List Value) ++ List.replicate (2 - (lg_sl ([.ref (ad 0), .int x1] : List Value)).length) Slot.unset).toArray = ls at hl ⊢
  have hl : lv_has ls 2 [(0, .ref (ad 0)), (1, .int x1)] := hl
  unfold wp_X4_runs at hw
  refine lv_iload_n hx hb dX4_runs_0 rfl (lv_at hl 1 rfl) ?_
  refine lv_iconst (v := 0) hx hb dX4_runs_1 (by decide) ?_
  refine lv_bipush (v := 30) hx hb dX4_runs_2 (by decide) ?_
  refine ml_calls (As := [.int x1, .int (0 : Int32), .int (30 : Int32)]) (rest := []) (cells := 0) (slots := 0) hE hI (fun h => snd_X4_in l G _ h x1 (0 : Int32) (30 : Int32) _ hw) (va_cwS 3 hts (lw_S q2130 q2131 q108 q2132) rfl rfl rfl (by decide +kernel) ⟨Nat.le_of_ble_eq_true rfl, Nat.le_of_ble_eq_true rfl⟩) rfl hl.1 (Nat.le_of_ble_eq_true rfl) dX4_runs_4 ⟨Nat.le_of_ble_eq_true rfl, Nat.le_of_ble_eq_true rfl⟩ (fun r1 H locs hw hI => ?_)
  refine lv_if_eq (tgt := 22) hx hb dX4_runs_7 (by decide) (fun c_7 => ?_) (fun c_7 => ?_)
  · have hw := hw.1 c_7
    refine lv_iconst (v := -1) hx hb dX4_runs_22 (by decide) ?_
    exact ml_iret hE hI hw dX4_runs_23
  · have hw := hw.2 c_7
    refine lv_aload_n hx hb dX4_runs_10 rfl (lv_at hl 0 rfl) ?_
    refine lv_aload_n hx hb dX4_runs_11 rfl (lv_at hl 0 rfl) ?_
    refine lv_iload_n hx hb dX4_runs_12 rfl (lv_at hl 1 rfl) ?_
    refine ml_calli (As := [.int x1]) (rest := [.ref (ad 0)]) (cells := 0) (slots := 0) hE hI (fun h hS => snd_X4_firesOften l G _ h ad F A L x1 _ hS hw) (cwV 1 hts (lw_V q2371 q2373 qs82 q108 q2374) rfl rfl rfl (by decide +kernel) ⟨Nat.le_of_ble_eq_true rfl, Nat.le_of_ble_eq_true rfl⟩) rfl hl.1 (Nat.le_of_ble_eq_true rfl) dX4_runs_13 ⟨Nat.le_of_ble_eq_true rfl, Nat.le_of_ble_eq_true rfl⟩ (fun r2 F2 A2 L2 H locs hw hI => ?_)
    refine ml_calli (As := [.int r2]) (rest := []) (cells := 0) (slots := 0) hE hI (fun h hS => snd_X4_done l G _ h ad F2 A2 L2 r2 _ hS hw) (cwV 1 hts (lw_V q2161 q2163 qs46 q108 q2164) rfl rfl rfl (by decide +kernel) ⟨Nat.le_of_ble_eq_true rfl, Nat.le_of_ble_eq_true rfl⟩) rfl hl.1 (Nat.le_of_ble_eq_true rfl) dX4_runs_16 ⟨Nat.le_of_ble_eq_true rfl, Nat.le_of_ble_eq_true rfl⟩ (fun r3 F3 A3 L3 H locs hw hI => ?_)
    refine lv_goto (tgt := 23) hx hb dX4_runs_19 (by decide) ?_
    exact ml_iret hE hI hw dX4_runs_23

/-- MatchmakerRulesModel.run(I)I -/
abbrev rm_X4_run : Room := { frames := 7, cells := 0, slots := 0, locals := 158 }
def wp_X4_run (F : Nat → Int32) (A : Nat → Nat → Int32) (L : Nat → UInt32) (x1 : Int32) (Q : Int32 → (Nat → Int32) → (Nat → Nat → Int32) → (Nat → UInt32) → Prop) : Prop := wp_X4_remembers F A L (fun F1 A1 L1 => wp_X4_runs F1 A1 L1 x1 (fun r2 F2 A2 L2 => wp_X4_ends F2 A2 L2 r2 (1 : Int32) (fun r3 F3 A3 L3 => Q r3 F3 A3 L3)))
set_option maxHeartbeats 4000000 in
theorem snd_X4_run (l : Launch) (G : GG) (sz : Nat) (h : HH) (ad : Nat → Nat) (F : Nat → Int32) (A : Nat → Nat → Int32) (L : Nat → UInt32) (x1 : Int32) (Q : Int32 → (Nat → Int32) → (Nat → Nat → Int32) → (Nat → UInt32) → Prop) (hS : ml_S G h ad F A L) (hw : wp_X4_run F A L x1 Q) : Met l yX4_run (ws_ yX4_run cX4_run 2 (some FieldType.int)) rm_X4_run (hv_Pc G h sz [.ref (ad 0), .int x1]) (hv_Qi G h sz (fun r => ml_Q G h ad (Q r))) 0 0 (hv_A h sz) := by
  refine Met.ofW (cc := cX4_run) (maxL := 2) (ret := (some FieldType.int)) (by decide) rfl ?_
  intro p e s m args below meth c s₁ B hml hv
  obtain ⟨rfl, rfl, hE, hI⟩ := hv_open B hml hv
  have hE : hv_E p s m ([.ref (ad 0), .int x1] : List Value).toArray meth c cX4_run 2 (some FieldType.int) RX4 G h := hE
  have hI := ml_I.start hI hS
  obtain ⟨⟨hx, hb, hml, hown, hts⟩, hr, hlocks, -⟩ := id hE
  have hl := lv_entry ([.ref (ad 0), .int x1] : List Value) (n := 2) (Nat.le_of_ble_eq_true rfl)
  rw [lg_entry_eq]
  generalize (lg_sl ([.ref (ad 0), .int x1] : List Value) ++ List.replicate (2 - (lg_sl ([.ref (ad 0), .int x1] : List Value)).length) Slot.unset).toArray = ls at hl ⊢
  have hl : lv_has ls 2 [(0, .ref (ad 0)), (1, .int x1)] := hl
  unfold wp_X4_run at hw
  refine lv_aload_n hx hb dX4_run_0 rfl (lv_at hl 0 rfl) ?_
  refine ml_callv (As := []) (rest := []) (cells := 0) (slots := 0) hE hI (fun h hS => snd_X4_remembers l G _ h ad F A L _ hS hw) (cwV 0 hts (lw_V q2110 q2112 qs34 q108 q2113) rfl rfl rfl (by decide +kernel) ⟨Nat.le_of_ble_eq_true rfl, Nat.le_of_ble_eq_true rfl⟩) rfl hl.1 (Nat.le_of_ble_eq_true rfl) dX4_run_1 ⟨Nat.le_of_ble_eq_true rfl, Nat.le_of_ble_eq_true rfl⟩ (fun F1 A1 L1 H locs hw hI => ?_)
  refine lv_aload_n hx hb dX4_run_4 rfl (lv_at hl 0 rfl) ?_
  refine lv_aload_n hx hb dX4_run_5 rfl (lv_at hl 0 rfl) ?_
  refine lv_iload_n hx hb dX4_run_6 rfl (lv_at hl 1 rfl) ?_
  refine ml_calli (As := [.int x1]) (rest := [.ref (ad 0)]) (cells := 0) (slots := 0) hE hI (fun h hS => snd_X4_runs l G _ h ad F1 A1 L1 x1 _ hS hw) (cwV 1 hts (lw_V q2367 q2369 qs81 q108 q2370) rfl rfl rfl (by decide +kernel) ⟨Nat.le_of_ble_eq_true rfl, Nat.le_of_ble_eq_true rfl⟩) rfl hl.1 (Nat.le_of_ble_eq_true rfl) dX4_run_7 ⟨Nat.le_of_ble_eq_true rfl, Nat.le_of_ble_eq_true rfl⟩ (fun r2 F2 A2 L2 H locs hw hI => ?_)
  refine lv_iconst (v := 1) hx hb dX4_run_10 (by decide) ?_
  refine ml_calli (As := [.int r2, .int (1 : Int32)]) (rest := []) (cells := 0) (slots := 0) hE hI (fun h hS => snd_X4_ends l G _ h ad F2 A2 L2 r2 (1 : Int32) _ hS hw) (cwV 2 hts (lw_V q2165 q2167 qs47 q108 q2168) rfl rfl rfl (by decide +kernel) ⟨Nat.le_of_ble_eq_true rfl, Nat.le_of_ble_eq_true rfl⟩) rfl hl.1 (Nat.le_of_ble_eq_true rfl) dX4_run_11 ⟨Nat.le_of_ble_eq_true rfl, Nat.le_of_ble_eq_true rfl⟩ (fun r3 F3 A3 L3 H locs hw hI => ?_)
  exact ml_iret hE hI hw dX4_run_14

/-- MatchmakerRulesModel.quietIn()I -/
abbrev rm_X4_quietIn : Room := { frames := 6, cells := 0, slots := 0, locals := 137 }
def wp_X4_quietIn_L58 (Q : Int32 → (Nat → Int32) → (Nat → Nat → Int32) → (Nat → UInt32) → Prop) : Nat → (Nat → Int32) → (Nat → Nat → Int32) → (Nat → UInt32) → (Int32) → (Int32) → (Int32) → Prop
  | 0, _, _, _, _, _, _ => False
  | n + 1, F, A, L, x1, x2, x3 => (((13675 : Int32) ≤ x3 → ((x2 = 0 → wp_X4_fails F A L (1 : Int32) (fun r3 F3 A3 L3 => Q r3 F3 A3 L3)) ∧ (¬ x2 = 0 → Q x1 F A L))) ∧ (¬ (13675 : Int32) ≤ x3 → (vp_in x3 13675 ∧ (vp_in x3 13675 ∧ wp_X4_quietIn_L58 Q n F (ml_up A 1 (Int32.toNatClampNeg x3) (A 4 (Int32.toNatClampNeg x3))) L x1 x2 (x3 + (1 : Int32))))))
set_option maxHeartbeats 4000000 in
theorem snd_X4_quietIn_L58 {p : Program} {l : Launch} {e : Env} {s : State} {m : MethodId} {args : Array Value} {below : List Frame} {meth : Method} {c : Code} {G : GG} {h0 : HH} {ad : Nat → Nat} (hE : hv_E p s m args meth c cX4_quietIn 4 (some FieldType.int) RX4 G h0) (Q : Int32 → (Nat → Int32) → (Nat → Nat → Int32) → (Nat → UInt32) → Prop) : ∀ (n : Nat) (F : Nat → Int32) (A : Nat → Nat → Int32) (L : Nat → UInt32) (x1 : Int32) (x2 : Int32) (x3 : Int32), wp_X4_quietIn_L58 Q n F A L x1 x2 x3 → ∀ (H : Heap) (locs : List Loc) (ls : Array Slot), ml_I G h0 s.heap ad F A L H locs → lv_has ls 4 [(0, .ref (ad 0)), (1, .int x1), (2, .int x2), (3, .int x3)] → W p l e (headSpec (ws_ yX4_quietIn cX4_quietIn 4 (some FieldType.int)) rm_X4_quietIn).room s m args below meth c H locs 0 0 (MQ below (hv_Qi G h0 s.heap.size (fun r => ml_Q G h0 ad (Q r))) args s 0 0 (hv_A h0 s.heap.size)) (F0 m 58 ls []) := by
  obtain ⟨⟨hx, hb, hml, hown, hts⟩, hr, hlocks, -⟩ := id hE
  intro n
  induction n with
  | zero => intro F A L x1 x2 x3 hw; exact hw.elim
  | succ n ih =>
    intro F A L x1 x2 x3 hw H locs ls hI hl
    unfold wp_X4_quietIn_L58 at hw
    refine lv_iload_n hx hb dX4_quietIn_58 rfl (lv_at hl 3 rfl) ?_
    refine lv_sipush (v := 13675) hx hb dX4_quietIn_59 (by decide) ?_
    refine lv_icmp_ge (tgt := 83) hx hb dX4_quietIn_62 (by decide) (fun c_62 => ?_) (fun c_62 => ?_)
    · have hw := hw.1 c_62
      refine lv_iload_n hx hb dX4_quietIn_83 rfl (lv_at hl 2 rfl) ?_
      refine lv_if_eq (tgt := 91) hx hb dX4_quietIn_84 (by decide) (fun c_84 => ?_) (fun c_84 => ?_)
      · have hw := hw.1 c_84
        refine lv_aload_n hx hb dX4_quietIn_91 rfl (lv_at hl 0 rfl) ?_
        refine lv_iconst (v := 1) hx hb dX4_quietIn_92 (by decide) ?_
        refine ml_calli (As := [.int (1 : Int32)]) (rest := []) (cells := 0) (slots := 0) hE hI (fun h hS => snd_X4_fails l G _ h ad F A L (1 : Int32) _ hS hw) (cwV 1 hts (lw_V q2149 q2151 qs43 q108 q2152) rfl rfl rfl (by decide +kernel) ⟨Nat.le_of_ble_eq_true rfl, Nat.le_of_ble_eq_true rfl⟩) rfl hl.1 (Nat.le_of_ble_eq_true rfl) dX4_quietIn_93 ⟨Nat.le_of_ble_eq_true rfl, Nat.le_of_ble_eq_true rfl⟩ (fun r3 F3 A3 L3 H locs hw hI => ?_)
        exact ml_iret hE hI hw dX4_quietIn_96
      · have hw := hw.2 c_84
        refine lv_iload_n hx hb dX4_quietIn_87 rfl (lv_at hl 1 rfl) ?_
        refine lv_goto (tgt := 96) hx hb dX4_quietIn_88 (by decide) ?_
        exact ml_iret hE hI hw dX4_quietIn_96
    · have hw := hw.2 c_62
      refine lv_aload_n hx hb dX4_quietIn_65 rfl (lv_at hl 0 rfl) ?_
      refine ml_get hE hI 1 (by decide) q1986 rfl rfl dX4_quietIn_66 ?_
      refine lv_iload_n hx hb dX4_quietIn_69 rfl (lv_at hl 3 rfl) ?_
      refine lv_aload_n hx hb dX4_quietIn_70 rfl (lv_at hl 0 rfl) ?_
      refine ml_get hE hI 4 (by decide) q1989 rfl rfl dX4_quietIn_71 ?_
      refine lv_iload_n hx hb dX4_quietIn_74 rfl (lv_at hl 3 rfl) ?_
      obtain ⟨hin, hw⟩ := hw
      refine ml_iald hE hI 4 rfl rfl rfl hin dX4_quietIn_75 ?_
      obtain ⟨hin, hw⟩ := hw
      refine ml_iast hE hI 1 rfl rfl rfl hin dX4_quietIn_76 (fun H locs hI => ?_)
      refine lv_iinc (v := (x3 + (1 : Int32))) (lv' := [(3, .int (x3 + (1 : Int32))), (0, .ref (ad 0)), (1, .int x1), (2, .int x2)]) hx hb dX4_quietIn_77 hl (k := 3) rfl rfl (by decide) rfl (fun ls hl => ?_)
      refine lv_goto (tgt := 58) hx hb dX4_quietIn_80 (by decide) ?_
      exact ih F (ml_up A 1 (Int32.toNatClampNeg x3) (A 4 (Int32.toNatClampNeg x3))) L x1 x2 (x3 + (1 : Int32)) hw _ _ _ hI (lv_sub hl [1, 2, 3, 0] rfl)
def wp_X4_quietIn_L7 (Q : Int32 → (Nat → Int32) → (Nat → Nat → Int32) → (Nat → UInt32) → Prop) : Nat → (Nat → Int32) → (Nat → Nat → Int32) → (Nat → UInt32) → (Int32) → Prop
  | 0, _, _, _, _ => False
  | n + 1, F, A, L, x1 => (((13675 : Int32) ≤ x1 → wp_X4_firesOften F A L (60 : Int32) (fun r1 F1 A1 L1 => wp_X4_looks F1 A1 L1 (fun F2 A2 L2 => ((¬ (F2 31) = 0 → (∃ n58, wp_X4_quietIn_L58 Q n58 F2 A2 L2 r1 (0 : Int32) (0 : Int32))) ∧ ((F2 31) = 0 → (∃ n58, wp_X4_quietIn_L58 Q n58 F2 A2 L2 r1 (1 : Int32) (0 : Int32))))))) ∧ (¬ (13675 : Int32) ≤ x1 → (vp_in x1 13675 ∧ (vp_in x1 13675 ∧ wp_X4_quietIn_L7 Q n F (ml_up A 4 (Int32.toNatClampNeg x1) (A 1 (Int32.toNatClampNeg x1))) L (x1 + (1 : Int32))))))
set_option maxHeartbeats 4000000 in
theorem snd_X4_quietIn_L7 {p : Program} {l : Launch} {e : Env} {s : State} {m : MethodId} {args : Array Value} {below : List Frame} {meth : Method} {c : Code} {G : GG} {h0 : HH} {ad : Nat → Nat} (hE : hv_E p s m args meth c cX4_quietIn 4 (some FieldType.int) RX4 G h0) (Q : Int32 → (Nat → Int32) → (Nat → Nat → Int32) → (Nat → UInt32) → Prop) : ∀ (n : Nat) (F : Nat → Int32) (A : Nat → Nat → Int32) (L : Nat → UInt32) (x1 : Int32), wp_X4_quietIn_L7 Q n F A L x1 → ∀ (H : Heap) (locs : List Loc) (ls : Array Slot), ml_I G h0 s.heap ad F A L H locs → lv_has ls 4 [(0, .ref (ad 0)), (1, .int x1)] → W p l e (headSpec (ws_ yX4_quietIn cX4_quietIn 4 (some FieldType.int)) rm_X4_quietIn).room s m args below meth c H locs 0 0 (MQ below (hv_Qi G h0 s.heap.size (fun r => ml_Q G h0 ad (Q r))) args s 0 0 (hv_A h0 s.heap.size)) (F0 m 7 ls []) := by
  obtain ⟨⟨hx, hb, hml, hown, hts⟩, hr, hlocks, -⟩ := id hE
  intro n
  induction n with
  | zero => intro F A L x1 hw; exact hw.elim
  | succ n ih =>
    intro F A L x1 hw H locs ls hI hl
    unfold wp_X4_quietIn_L7 at hw
    refine lv_iload_n hx hb dX4_quietIn_7 rfl (lv_at hl 1 rfl) ?_
    refine lv_sipush (v := 13675) hx hb dX4_quietIn_8 (by decide) ?_
    refine lv_icmp_ge (tgt := 32) hx hb dX4_quietIn_11 (by decide) (fun c_11 => ?_) (fun c_11 => ?_)
    · have hw := hw.1 c_11
      refine lv_aload_n hx hb dX4_quietIn_32 rfl (lv_at hl 0 rfl) ?_
      refine lv_bipush (v := 60) hx hb dX4_quietIn_33 (by decide) ?_
      refine ml_calli (As := [.int (60 : Int32)]) (rest := []) (cells := 0) (slots := 0) hE hI (fun h hS => snd_X4_firesOften l G _ h ad F A L (60 : Int32) _ hS hw) (cwV 1 hts (lw_V q2371 q2373 qs82 q108 q2374) rfl rfl rfl (by decide +kernel) ⟨Nat.le_of_ble_eq_true rfl, Nat.le_of_ble_eq_true rfl⟩) rfl hl.1 (Nat.le_of_ble_eq_true rfl) dX4_quietIn_35 ⟨Nat.le_of_ble_eq_true rfl, Nat.le_of_ble_eq_true rfl⟩ (fun r1 F1 A1 L1 H locs hw hI => ?_)
      refine lv_istore_n (lv' := [(1, .int r1), (0, .ref (ad 0))]) hx hb dX4_quietIn_38 rfl hl (by decide) rfl (fun ls hl => ?_)
      refine lv_aload_n hx hb dX4_quietIn_39 rfl (lv_at hl 1 rfl) ?_
      refine ml_callv (As := []) (rest := []) (cells := 0) (slots := 0) hE hI (fun h hS => snd_X4_looks l G _ h ad F1 A1 L1 _ hS hw) (cwV 0 hts (lw_V q2296 q2298 qs68 q108 q2299) rfl rfl rfl (by decide +kernel) ⟨Nat.le_of_ble_eq_true rfl, Nat.le_of_ble_eq_true rfl⟩) rfl hl.1 (Nat.le_of_ble_eq_true rfl) dX4_quietIn_40 ⟨Nat.le_of_ble_eq_true rfl, Nat.le_of_ble_eq_true rfl⟩ (fun F2 A2 L2 H locs hw hI => ?_)
      refine lv_aload_n hx hb dX4_quietIn_43 rfl (lv_at hl 1 rfl) ?_
      refine ml_get hE hI 31 (by decide) q2016 rfl rfl dX4_quietIn_44 ?_
      refine lv_if_ne (tgt := 54) hx hb dX4_quietIn_47 (by decide) (fun c_47 => ?_) (fun c_47 => ?_)
      · have hw := hw.1 c_47
        refine lv_iconst (v := 0) hx hb dX4_quietIn_54 (by decide) ?_
        refine lv_istore_n (lv' := [(2, .int (0 : Int32)), (1, .int r1), (0, .ref (ad 0))]) hx hb dX4_quietIn_55 rfl hl (by decide) rfl (fun ls hl => ?_)
        refine lv_iconst (v := 0) hx hb dX4_quietIn_56 (by decide) ?_
        refine lv_istore_n (lv' := [(3, .int (0 : Int32)), (2, .int (0 : Int32)), (1, .int r1), (0, .ref (ad 0))]) hx hb dX4_quietIn_57 rfl hl (by decide) rfl (fun ls hl => ?_)
        obtain ⟨n58, hw⟩ := hw
        exact snd_X4_quietIn_L58 hE Q n58 F2 A2 L2 r1 (0 : Int32) (0 : Int32) hw _ _ _ hI (lv_sub hl [3, 2, 1, 0] rfl)
      · have hw := hw.2 c_47
        refine lv_iconst (v := 1) hx hb dX4_quietIn_50 (by decide) ?_
        refine lv_goto (tgt := 55) hx hb dX4_quietIn_51 (by decide) ?_
        refine lv_istore_n (lv' := [(2, .int (1 : Int32)), (1, .int r1), (0, .ref (ad 0))]) hx hb dX4_quietIn_55 rfl hl (by decide) rfl (fun ls hl => ?_)
        refine lv_iconst (v := 0) hx hb dX4_quietIn_56 (by decide) ?_
        refine lv_istore_n (lv' := [(3, .int (0 : Int32)), (2, .int (1 : Int32)), (1, .int r1), (0, .ref (ad 0))]) hx hb dX4_quietIn_57 rfl hl (by decide) rfl (fun ls hl => ?_)
        obtain ⟨n58, hw⟩ := hw
        exact snd_X4_quietIn_L58 hE Q n58 F2 A2 L2 r1 (1 : Int32) (0 : Int32) hw _ _ _ hI (lv_sub hl [3, 2, 1, 0] rfl)
    · have hw := hw.2 c_11
      refine lv_aload_n hx hb dX4_quietIn_14 rfl (lv_at hl 0 rfl) ?_
      refine ml_get hE hI 4 (by decide) q1989 rfl rfl dX4_quietIn_15 ?_
      refine lv_iload_n hx hb dX4_quietIn_18 rfl (lv_at hl 1 rfl) ?_
      refine lv_aload_n hx hb dX4_quietIn_19 rfl (lv_at hl 0 rfl) ?_
      refine ml_get hE hI 1 (by decide) q1986 rfl rfl dX4_quietIn_20 ?_
      refine lv_iload_n hx hb dX4_quietIn_23 rfl (lv_at hl 1 rfl) ?_
      obtain ⟨hin, hw⟩ := hw
      refine ml_iald hE hI 1 rfl rfl rfl hin dX4_quietIn_24 ?_
      obtain ⟨hin, hw⟩ := hw
      refine ml_iast hE hI 4 rfl rfl rfl hin dX4_quietIn_25 (fun H locs hI => ?_)
      refine lv_iinc (v := (x1 + (1 : Int32))) (lv' := [(1, .int (x1 + (1 : Int32))), (0, .ref (ad 0))]) hx hb dX4_quietIn_26 hl (k := 1) rfl rfl (by decide) rfl (fun ls hl => ?_)
      refine lv_goto (tgt := 7) hx hb dX4_quietIn_29 (by decide) ?_
      exact ih F (ml_up A 4 (Int32.toNatClampNeg x1) (A 1 (Int32.toNatClampNeg x1))) L (x1 + (1 : Int32)) hw _ _ _ hI (lv_sub hl [1, 0] rfl)
def wp_X4_quietIn (F : Nat → Int32) (A : Nat → Nat → Int32) (L : Nat → UInt32) (Q : Int32 → (Nat → Int32) → (Nat → Nat → Int32) → (Nat → UInt32) → Prop) : Prop := (∃ n7, wp_X4_quietIn_L7 Q n7 (upd F 0 (0 : Int32)) A L (0 : Int32))
set_option maxHeartbeats 4000000 in
theorem snd_X4_quietIn (l : Launch) (G : GG) (sz : Nat) (h : HH) (ad : Nat → Nat) (F : Nat → Int32) (A : Nat → Nat → Int32) (L : Nat → UInt32) (Q : Int32 → (Nat → Int32) → (Nat → Nat → Int32) → (Nat → UInt32) → Prop) (hS : ml_S G h ad F A L) (hw : wp_X4_quietIn F A L Q) : Met l yX4_quietIn (ws_ yX4_quietIn cX4_quietIn 4 (some FieldType.int)) rm_X4_quietIn (hv_Pc G h sz [.ref (ad 0)]) (hv_Qi G h sz (fun r => ml_Q G h ad (Q r))) 0 0 (hv_A h sz) := by
  refine Met.ofW (cc := cX4_quietIn) (maxL := 4) (ret := (some FieldType.int)) (by decide) rfl ?_
  intro p e s m args below meth c s₁ B hml hv
  obtain ⟨rfl, rfl, hE, hI⟩ := hv_open B hml hv
  have hE : hv_E p s m ([.ref (ad 0)] : List Value).toArray meth c cX4_quietIn 4 (some FieldType.int) RX4 G h := hE
  have hI := ml_I.start hI hS
  obtain ⟨⟨hx, hb, hml, hown, hts⟩, hr, hlocks, -⟩ := id hE
  have hl := lv_entry ([.ref (ad 0)] : List Value) (n := 4) (Nat.le_of_ble_eq_true rfl)
  rw [lg_entry_eq]
  generalize (lg_sl ([.ref (ad 0)] : List Value) ++ List.replicate (4 - (lg_sl ([.ref (ad 0)] : List Value)).length) Slot.unset).toArray = ls at hl ⊢
  have hl : lv_has ls 4 [(0, .ref (ad 0))] := hl
  unfold wp_X4_quietIn at hw
  refine lv_aload_n hx hb dX4_quietIn_0 rfl (lv_at hl 0 rfl) ?_
  refine lv_iconst (v := 0) hx hb dX4_quietIn_1 (by decide) ?_
  refine ml_put hE hI 0 (by decide) q1985 rfl rfl (ty := .int) rfl rfl rfl (fun _ => rfl) dX4_quietIn_2 (fun H locs hI => ?_)
  refine lv_iconst (v := 0) hx hb dX4_quietIn_5 (by decide) ?_
  refine lv_istore_n (lv' := [(1, .int (0 : Int32)), (0, .ref (ad 0))]) hx hb dX4_quietIn_6 rfl hl (by decide) rfl (fun ls hl => ?_)
  obtain ⟨n7, hw⟩ := hw
  exact snd_X4_quietIn_L7 hE Q n7 (upd F 0 (0 : Int32)) A L (0 : Int32) hw _ _ _ hI (lv_sub hl [1, 0] rfl)

/-- MatchmakerRulesModel.why(III)I -/
abbrev rm_X4_why : Room := { frames := 3, cells := 0, slots := 0, locals := 56 }
def wp_X4_why_L30 (Q : Int32 → (Nat → Int32) → (Nat → Nat → Int32) → (Nat → UInt32) → Prop) : Nat → (Nat → Int32) → (Nat → Nat → Int32) → (Nat → UInt32) → (Int32) → (Int32) → (Int32) → (Int32) → Prop
  | 0, _, _, _, _, _, _, _ => False
  | n + 1, F, A, L, x1, x3, x4, x5 => (((A 1 6) ≤ x5 → wp_X4_fails F A L (1 : Int32) (fun r3 F3 A3 L3 => Q r3 F3 A3 L3)) ∧ (¬ (A 1 6) ≤ x5 → wp_X4_isReasonOf F A L x5 x1 (fun r4 F4 A4 L4 => ((¬ r4 = 0 → ((¬ x4 = 0 → wp_X4_why_L30 Q n F4 A4 L4 x1 x3 (x4 + (-1 : Int32)) (x5 + (1 : Int32))) ∧ (x4 = 0 → wp_X4_in x3 (0 : Int32) (2 : Int32) (fun r5 => ((r5 = 0 → wp_X4_fails F4 A4 L4 (2 : Int32) (fun r6 F6 A6 L6 => Q r6 F6 A6 L6)) ∧ (¬ r5 = 0 → wp_X4_firing F4 A4 L4 x5 x3 (fun r7 F7 A7 L7 => Q r7 F7 A7 L7))))))) ∧ (r4 = 0 → wp_X4_why_L30 Q n F4 A4 L4 x1 x3 x4 (x5 + (1 : Int32)))))))
set_option maxHeartbeats 4000000 in
theorem snd_X4_why_L30 {p : Program} {l : Launch} {e : Env} {s : State} {m : MethodId} {args : Array Value} {below : List Frame} {meth : Method} {c : Code} {G : GG} {h0 : HH} {ad : Nat → Nat} (hE : hv_E p s m args meth c cX4_why 6 (some FieldType.int) RX4 G h0) (Q : Int32 → (Nat → Int32) → (Nat → Nat → Int32) → (Nat → UInt32) → Prop) : ∀ (n : Nat) (F : Nat → Int32) (A : Nat → Nat → Int32) (L : Nat → UInt32) (x1 : Int32) (x3 : Int32) (x4 : Int32) (x5 : Int32), wp_X4_why_L30 Q n F A L x1 x3 x4 x5 → ∀ (H : Heap) (locs : List Loc) (ls : Array Slot), ml_I G h0 s.heap ad F A L H locs → lv_has ls 6 [(0, .ref (ad 0)), (1, .int x1), (3, .int x3), (4, .int x4), (5, .int x5)] → W p l e (headSpec (ws_ yX4_why cX4_why 6 (some FieldType.int)) rm_X4_why).room s m args below meth c H locs 0 0 (MQ below (hv_Qi G h0 s.heap.size (fun r => ml_Q G h0 ad (Q r))) args s 0 0 (hv_A h0 s.heap.size)) (F0 m 30 ls []) := by
  obtain ⟨⟨hx, hb, hml, hown, hts⟩, hr, hlocks, -⟩ := id hE
  intro n
  induction n with
  | zero => intro F A L x1 x3 x4 x5 hw; exact hw.elim
  | succ n ih =>
    intro F A L x1 x3 x4 x5 hw H locs ls hI hl
    unfold wp_X4_why_L30 at hw
    refine lv_iload hx hb dX4_why_30 (lv_at hl 4 rfl) ?_
    refine lv_aload_n hx hb dX4_why_32 rfl (lv_at hl 0 rfl) ?_
    refine ml_get hE hI 1 (by decide) q1986 rfl rfl dX4_why_33 ?_
    refine lv_bipush (v := 6) hx hb dX4_why_36 (by decide) ?_
    have hin : vp_in (6 : Int32) 13675 := by unfold vp_in; decide +kernel
    refine ml_iald hE hI 1 rfl rfl (show Int32.toNatClampNeg (6 : Int32) = 6 from by decide +kernel) hin dX4_why_38 ?_
    refine lv_icmp_ge (tgt := 94) hx hb dX4_why_39 (by decide) (fun c_39 => ?_) (fun c_39 => ?_)
    · have hw := hw.1 c_39
      refine lv_aload_n hx hb dX4_why_94 rfl (lv_at hl 0 rfl) ?_
      refine lv_iconst (v := 1) hx hb dX4_why_95 (by decide) ?_
      refine ml_calli (As := [.int (1 : Int32)]) (rest := []) (cells := 0) (slots := 0) hE hI (fun h hS => snd_X4_fails l G _ h ad F A L (1 : Int32) _ hS hw) (cwV 1 hts (lw_V q2149 q2151 qs43 q108 q2152) rfl rfl rfl (by decide +kernel) ⟨Nat.le_of_ble_eq_true rfl, Nat.le_of_ble_eq_true rfl⟩) rfl hl.1 (Nat.le_of_ble_eq_true rfl) dX4_why_96 ⟨Nat.le_of_ble_eq_true rfl, Nat.le_of_ble_eq_true rfl⟩ (fun r3 F3 A3 L3 H locs hw hI => ?_)
      exact ml_iret hE hI hw dX4_why_99
    · have hw := hw.2 c_39
      refine lv_aload_n hx hb dX4_why_42 rfl (lv_at hl 0 rfl) ?_
      refine lv_iload hx hb dX4_why_43 (lv_at hl 4 rfl) ?_
      refine lv_iload_n hx hb dX4_why_45 rfl (lv_at hl 1 rfl) ?_
      refine ml_calli (As := [.int x5, .int x1]) (rest := []) (cells := 0) (slots := 0) hE hI (fun h hS => snd_X4_isReasonOf l G _ h ad F A L x5 x1 _ hS hw) (cwV 2 hts (lw_V q2244 q2246 qs63 q108 q2247) rfl rfl rfl (by decide +kernel) ⟨Nat.le_of_ble_eq_true rfl, Nat.le_of_ble_eq_true rfl⟩) rfl hl.1 (Nat.le_of_ble_eq_true rfl) dX4_why_46 ⟨Nat.le_of_ble_eq_true rfl, Nat.le_of_ble_eq_true rfl⟩ (fun r4 F4 A4 L4 H locs hw hI => ?_)
      refine lv_if_ne (tgt := 55) hx hb dX4_why_49 (by decide) (fun c_49 => ?_) (fun c_49 => ?_)
      · have hw := hw.1 c_49
        refine lv_iload hx hb dX4_why_55 (lv_at hl 3 rfl) ?_
        refine lv_if_ne (tgt := 85) hx hb dX4_why_57 (by decide) (fun c_57 => ?_) (fun c_57 => ?_)
        · have hw := hw.1 c_57
          refine lv_iinc (v := (x4 + (-1 : Int32))) (lv' := [(4, .int (x4 + (-1 : Int32))), (0, .ref (ad 0)), (1, .int x1), (3, .int x3), (5, .int x5)]) hx hb dX4_why_85 hl (k := 3) rfl rfl (by decide) rfl (fun ls hl => ?_)
          refine lv_iinc (v := (x5 + (1 : Int32))) (lv' := [(5, .int (x5 + (1 : Int32))), (4, .int (x4 + (-1 : Int32))), (0, .ref (ad 0)), (1, .int x1), (3, .int x3)]) hx hb dX4_why_88 hl (k := 4) rfl rfl (by decide) rfl (fun ls hl => ?_)
          refine lv_goto (tgt := 30) hx hb dX4_why_91 (by decide) ?_
          exact ih F4 A4 L4 x1 x3 (x4 + (-1 : Int32)) (x5 + (1 : Int32)) hw _ _ _ hI (lv_sub hl [2, 3, 4, 1, 0] rfl)
        · have hw := hw.2 c_57
          refine lv_iload_n hx hb dX4_why_60 rfl (lv_at hl 2 rfl) ?_
          refine lv_iconst (v := 0) hx hb dX4_why_61 (by decide) ?_
          refine lv_iconst (v := 2) hx hb dX4_why_62 (by decide) ?_
          refine ml_calls (As := [.int x3, .int (0 : Int32), .int (2 : Int32)]) (rest := []) (cells := 0) (slots := 0) hE hI (fun h => snd_X4_in l G _ h x3 (0 : Int32) (2 : Int32) _ hw) (va_cwS 3 hts (lw_S q2130 q2131 q108 q2132) rfl rfl rfl (by decide +kernel) ⟨Nat.le_of_ble_eq_true rfl, Nat.le_of_ble_eq_true rfl⟩) rfl hl.1 (Nat.le_of_ble_eq_true rfl) dX4_why_63 ⟨Nat.le_of_ble_eq_true rfl, Nat.le_of_ble_eq_true rfl⟩ (fun r5 H locs hw hI => ?_)
          refine lv_if_eq (tgt := 79) hx hb dX4_why_66 (by decide) (fun c_66 => ?_) (fun c_66 => ?_)
          · have hw := hw.1 c_66
            refine lv_aload_n hx hb dX4_why_79 rfl (lv_at hl 0 rfl) ?_
            refine lv_iconst (v := 2) hx hb dX4_why_80 (by decide) ?_
            refine ml_calli (As := [.int (2 : Int32)]) (rest := []) (cells := 0) (slots := 0) hE hI (fun h hS => snd_X4_fails l G _ h ad F4 A4 L4 (2 : Int32) _ hS hw) (cwV 1 hts (lw_V q2149 q2151 qs43 q108 q2152) rfl rfl rfl (by decide +kernel) ⟨Nat.le_of_ble_eq_true rfl, Nat.le_of_ble_eq_true rfl⟩) rfl hl.1 (Nat.le_of_ble_eq_true rfl) dX4_why_81 ⟨Nat.le_of_ble_eq_true rfl, Nat.le_of_ble_eq_true rfl⟩ (fun r6 F6 A6 L6 H locs hw hI => ?_)
            exact ml_iret hE hI hw dX4_why_84
          · have hw := hw.2 c_66
            refine lv_aload_n hx hb dX4_why_69 rfl (lv_at hl 0 rfl) ?_
            refine lv_iload hx hb dX4_why_70 (lv_at hl 4 rfl) ?_
            refine lv_iload_n hx hb dX4_why_72 rfl (lv_at hl 2 rfl) ?_
            refine ml_calli (As := [.int x5, .int x3]) (rest := []) (cells := 0) (slots := 0) hE hI (fun h hS => snd_X4_firing l G _ h ad F4 A4 L4 x5 x3 _ hS hw) (cwV 2 hts (lw_V q2182 q2184 qs50 q108 q2185) rfl rfl rfl (by decide +kernel) ⟨Nat.le_of_ble_eq_true rfl, Nat.le_of_ble_eq_true rfl⟩) rfl hl.1 (Nat.le_of_ble_eq_true rfl) dX4_why_73 ⟨Nat.le_of_ble_eq_true rfl, Nat.le_of_ble_eq_true rfl⟩ (fun r7 F7 A7 L7 H locs hw hI => ?_)
            refine lv_goto (tgt := 84) hx hb dX4_why_76 (by decide) ?_
            exact ml_iret hE hI hw dX4_why_84
      · have hw := hw.2 c_49
        refine lv_goto (tgt := 88) hx hb dX4_why_52 (by decide) ?_
        refine lv_iinc (v := (x5 + (1 : Int32))) (lv' := [(5, .int (x5 + (1 : Int32))), (0, .ref (ad 0)), (1, .int x1), (3, .int x3), (4, .int x4)]) hx hb dX4_why_88 hl (k := 4) rfl rfl (by decide) rfl (fun ls hl => ?_)
        refine lv_goto (tgt := 30) hx hb dX4_why_91 (by decide) ?_
        exact ih F4 A4 L4 x1 x3 x4 (x5 + (1 : Int32)) hw _ _ _ hI (lv_sub hl [1, 2, 3, 4, 0] rfl)
def wp_X4_why (F : Nat → Int32) (A : Nat → Nat → Int32) (L : Nat → UInt32) (x1 : Int32) (x2 : Int32) (x3 : Int32) (Q : Int32 → (Nat → Int32) → (Nat → Nat → Int32) → (Nat → UInt32) → Prop) : Prop := wp_X4_slotOf (upd F 0 (0 : Int32)) A L x1 (fun r1 F1 A1 L1 => ((r1 = (-1 : Int32) → wp_X4_fails F1 A1 L1 (1 : Int32) (fun r2 F2 A2 L2 => Q r2 F2 A2 L2)) ∧ (¬ r1 = (-1 : Int32) → ((0 ≤ x2 → (∃ n30, wp_X4_why_L30 Q n30 F1 A1 L1 x1 x3 x2 (0 : Int32))) ∧ (¬ 0 ≤ x2 → wp_X4_fails F1 A1 L1 (1 : Int32) (fun r8 F8 A8 L8 => Q r8 F8 A8 L8))))))
set_option maxHeartbeats 4000000 in
theorem snd_X4_why (l : Launch) (G : GG) (sz : Nat) (h : HH) (ad : Nat → Nat) (F : Nat → Int32) (A : Nat → Nat → Int32) (L : Nat → UInt32) (x1 : Int32) (x2 : Int32) (x3 : Int32) (Q : Int32 → (Nat → Int32) → (Nat → Nat → Int32) → (Nat → UInt32) → Prop) (hS : ml_S G h ad F A L) (hw : wp_X4_why F A L x1 x2 x3 Q) : Met l yX4_why (ws_ yX4_why cX4_why 6 (some FieldType.int)) rm_X4_why (hv_Pc G h sz [.ref (ad 0), .int x1, .int x2, .int x3]) (hv_Qi G h sz (fun r => ml_Q G h ad (Q r))) 0 0 (hv_A h sz) := by
  refine Met.ofW (cc := cX4_why) (maxL := 6) (ret := (some FieldType.int)) (by decide) rfl ?_
  intro p e s m args below meth c s₁ B hml hv
  obtain ⟨rfl, rfl, hE, hI⟩ := hv_open B hml hv
  have hE : hv_E p s m ([.ref (ad 0), .int x1, .int x2, .int x3] : List Value).toArray meth c cX4_why 6 (some FieldType.int) RX4 G h := hE
  have hI := ml_I.start hI hS
  obtain ⟨⟨hx, hb, hml, hown, hts⟩, hr, hlocks, -⟩ := id hE
  have hl := lv_entry ([.ref (ad 0), .int x1, .int x2, .int x3] : List Value) (n := 6) (Nat.le_of_ble_eq_true rfl)
  rw [lg_entry_eq]
  generalize (lg_sl ([.ref (ad 0), .int x1, .int x2, .int x3] : List Value) ++ List.replicate (6 - (lg_sl ([.ref (ad 0), .int x1, .int x2, .int x3] : List Value)).length) Slot.unset).toArray = ls at hl ⊢
  have hl : lv_has ls 6 [(0, .ref (ad 0)), (1, .int x1), (2, .int x2), (3, .int x3)] := hl
  unfold wp_X4_why at hw
  refine lv_aload_n hx hb dX4_why_0 rfl (lv_at hl 0 rfl) ?_
  refine lv_iconst (v := 0) hx hb dX4_why_1 (by decide) ?_
  refine ml_put hE hI 0 (by decide) q1985 rfl rfl (ty := .int) rfl rfl rfl (fun _ => rfl) dX4_why_2 (fun H locs hI => ?_)
  refine lv_aload_n hx hb dX4_why_5 rfl (lv_at hl 0 rfl) ?_
  refine lv_iload_n hx hb dX4_why_6 rfl (lv_at hl 1 rfl) ?_
  refine ml_calli (As := [.int x1]) (rest := []) (cells := 0) (slots := 0) hE hI (fun h hS => snd_X4_slotOf l G _ h ad (upd F 0 (0 : Int32)) A L x1 _ hS hw) (cwV 1 hts (lw_V q2198 q2200 qs54 q108 q2201) rfl rfl rfl (by decide +kernel) ⟨Nat.le_of_ble_eq_true rfl, Nat.le_of_ble_eq_true rfl⟩) rfl hl.1 (Nat.le_of_ble_eq_true rfl) dX4_why_7 ⟨Nat.le_of_ble_eq_true rfl, Nat.le_of_ble_eq_true rfl⟩ (fun r1 F1 A1 L1 H locs hw hI => ?_)
  refine lv_iconst (v := -1) hx hb dX4_why_10 (by decide) ?_
  refine lv_icmp_eq (tgt := 18) hx hb dX4_why_11 (by decide) (fun c_11 => ?_) (fun c_11 => ?_)
  · have hw := hw.1 c_11
    refine lv_aload_n hx hb dX4_why_18 rfl (lv_at hl 0 rfl) ?_
    refine lv_iconst (v := 1) hx hb dX4_why_19 (by decide) ?_
    refine ml_calli (As := [.int (1 : Int32)]) (rest := []) (cells := 0) (slots := 0) hE hI (fun h hS => snd_X4_fails l G _ h ad F1 A1 L1 (1 : Int32) _ hS hw) (cwV 1 hts (lw_V q2149 q2151 qs43 q108 q2152) rfl rfl rfl (by decide +kernel) ⟨Nat.le_of_ble_eq_true rfl, Nat.le_of_ble_eq_true rfl⟩) rfl hl.1 (Nat.le_of_ble_eq_true rfl) dX4_why_20 ⟨Nat.le_of_ble_eq_true rfl, Nat.le_of_ble_eq_true rfl⟩ (fun r2 F2 A2 L2 H locs hw hI => ?_)
    exact ml_iret hE hI hw dX4_why_23
  · have hw := hw.2 c_11
    refine lv_iload_n hx hb dX4_why_14 rfl (lv_at hl 2 rfl) ?_
    refine lv_if_ge (tgt := 24) hx hb dX4_why_15 (by decide) (fun c_15 => ?_) (fun c_15 => ?_)
    · have hw := hw.1 c_15
      refine lv_iload_n hx hb dX4_why_24 rfl (lv_at hl 2 rfl) ?_
      refine lv_istore (lv' := [(4, .int x2), (0, .ref (ad 0)), (1, .int x1), (2, .int x2), (3, .int x3)]) hx hb dX4_why_25 hl (by decide) rfl (fun ls hl => ?_)
      refine lv_iconst (v := 0) hx hb dX4_why_27 (by decide) ?_
      refine lv_istore (lv' := [(5, .int (0 : Int32)), (4, .int x2), (0, .ref (ad 0)), (1, .int x1), (2, .int x2), (3, .int x3)]) hx hb dX4_why_28 hl (by decide) rfl (fun ls hl => ?_)
      obtain ⟨n30, hw⟩ := hw
      exact snd_X4_why_L30 hE Q n30 F1 A1 L1 x1 x3 x2 (0 : Int32) hw _ _ _ hI (lv_sub hl [2, 3, 5, 1, 0] rfl)
    · have hw := hw.2 c_15
      refine lv_aload_n hx hb dX4_why_18 rfl (lv_at hl 0 rfl) ?_
      refine lv_iconst (v := 1) hx hb dX4_why_19 (by decide) ?_
      refine ml_calli (As := [.int (1 : Int32)]) (rest := []) (cells := 0) (slots := 0) hE hI (fun h hS => snd_X4_fails l G _ h ad F1 A1 L1 (1 : Int32) _ hS hw) (cwV 1 hts (lw_V q2149 q2151 qs43 q108 q2152) rfl rfl rfl (by decide +kernel) ⟨Nat.le_of_ble_eq_true rfl, Nat.le_of_ble_eq_true rfl⟩) rfl hl.1 (Nat.le_of_ble_eq_true rfl) dX4_why_20 ⟨Nat.le_of_ble_eq_true rfl, Nat.le_of_ble_eq_true rfl⟩ (fun r8 F8 A8 L8 H locs hw hI => ?_)
      exact ml_iret hE hI hw dX4_why_23

/-- MatchmakerRulesModel.wouldGo(I)I -/
abbrev rm_X4_wouldGo : Room := { frames := 4, cells := 0, slots := 0, locals := 78 }
def wp_X4_wouldGo (F : Nat → Int32) (A : Nat → Nat → Int32) (L : Nat → UInt32) (x1 : Int32) (Q : Int32 → (Nat → Int32) → (Nat → Nat → Int32) → (Nat → UInt32) → Prop) : Prop := wp_X4_slotOf (upd F 0 (0 : Int32)) A L x1 (fun r1 F1 A1 L1 => ((¬ r1 = (-1 : Int32) → (vp_in ((175 : Int32) + r1) 13675 ∧ ((¬ (A1 1 (Int32.toNatClampNeg ((175 : Int32) + r1))) = 0 → (vp_in ((175 : Int32) + r1) 13675 ∧ wp_X4_grounds F1 (ml_up A1 1 (Int32.toNatClampNeg ((175 : Int32) + r1)) (0 : Int32)) L1 (fun r2 F2 A2 L2 => (vp_in ((175 : Int32) + r1) 13675 ∧ Q r2 F2 (ml_up A2 1 (Int32.toNatClampNeg ((175 : Int32) + r1)) (1 : Int32)) L2)))) ∧ ((A1 1 (Int32.toNatClampNeg ((175 : Int32) + r1))) = 0 → Q (0 : Int32) F1 A1 L1)))) ∧ (r1 = (-1 : Int32) → wp_X4_fails F1 A1 L1 (1 : Int32) (fun r3 F3 A3 L3 => Q r3 F3 A3 L3))))
set_option maxHeartbeats 4000000 in
theorem snd_X4_wouldGo (l : Launch) (G : GG) (sz : Nat) (h : HH) (ad : Nat → Nat) (F : Nat → Int32) (A : Nat → Nat → Int32) (L : Nat → UInt32) (x1 : Int32) (Q : Int32 → (Nat → Int32) → (Nat → Nat → Int32) → (Nat → UInt32) → Prop) (hS : ml_S G h ad F A L) (hw : wp_X4_wouldGo F A L x1 Q) : Met l yX4_wouldGo (ws_ yX4_wouldGo cX4_wouldGo 4 (some FieldType.int)) rm_X4_wouldGo (hv_Pc G h sz [.ref (ad 0), .int x1]) (hv_Qi G h sz (fun r => ml_Q G h ad (Q r))) 0 0 (hv_A h sz) := by
  refine Met.ofW (cc := cX4_wouldGo) (maxL := 4) (ret := (some FieldType.int)) (by decide) rfl ?_
  intro p e s m args below meth c s₁ B hml hv
  obtain ⟨rfl, rfl, hE, hI⟩ := hv_open B hml hv
  have hE : hv_E p s m ([.ref (ad 0), .int x1] : List Value).toArray meth c cX4_wouldGo 4 (some FieldType.int) RX4 G h := hE
  have hI := ml_I.start hI hS
  obtain ⟨⟨hx, hb, hml, hown, hts⟩, hr, hlocks, -⟩ := id hE
  have hl := lv_entry ([.ref (ad 0), .int x1] : List Value) (n := 4) (Nat.le_of_ble_eq_true rfl)
  rw [lg_entry_eq]
  generalize (lg_sl ([.ref (ad 0), .int x1] : List Value) ++ List.replicate (4 - (lg_sl ([.ref (ad 0), .int x1] : List Value)).length) Slot.unset).toArray = ls at hl ⊢
  have hl : lv_has ls 4 [(0, .ref (ad 0)), (1, .int x1)] := hl
  unfold wp_X4_wouldGo at hw
  refine lv_aload_n hx hb dX4_wouldGo_0 rfl (lv_at hl 0 rfl) ?_
  refine lv_iconst (v := 0) hx hb dX4_wouldGo_1 (by decide) ?_
  refine ml_put hE hI 0 (by decide) q1985 rfl rfl (ty := .int) rfl rfl rfl (fun _ => rfl) dX4_wouldGo_2 (fun H locs hI => ?_)
  refine lv_aload_n hx hb dX4_wouldGo_5 rfl (lv_at hl 0 rfl) ?_
  refine lv_iload_n hx hb dX4_wouldGo_6 rfl (lv_at hl 1 rfl) ?_
  refine ml_calli (As := [.int x1]) (rest := []) (cells := 0) (slots := 0) hE hI (fun h hS => snd_X4_slotOf l G _ h ad (upd F 0 (0 : Int32)) A L x1 _ hS hw) (cwV 1 hts (lw_V q2198 q2200 qs54 q108 q2201) rfl rfl rfl (by decide +kernel) ⟨Nat.le_of_ble_eq_true rfl, Nat.le_of_ble_eq_true rfl⟩) rfl hl.1 (Nat.le_of_ble_eq_true rfl) dX4_wouldGo_7 ⟨Nat.le_of_ble_eq_true rfl, Nat.le_of_ble_eq_true rfl⟩ (fun r1 F1 A1 L1 H locs hw hI => ?_)
  refine lv_istore_n (lv' := [(2, .int r1), (0, .ref (ad 0)), (1, .int x1)]) hx hb dX4_wouldGo_10 rfl hl (by decide) rfl (fun ls hl => ?_)
  refine lv_iload_n hx hb dX4_wouldGo_11 rfl (lv_at hl 0 rfl) ?_
  refine lv_iconst (v := -1) hx hb dX4_wouldGo_12 (by decide) ?_
  refine lv_icmp_ne (tgt := 22) hx hb dX4_wouldGo_13 (by decide) (fun c_13 => ?_) (fun c_13 => ?_)
  · have hw := hw.1 c_13
    refine lv_aload_n hx hb dX4_wouldGo_22 rfl (lv_at hl 1 rfl) ?_
    refine ml_get hE hI 1 (by decide) q1986 rfl rfl dX4_wouldGo_23 ?_
    refine lv_sipush (v := 175) hx hb dX4_wouldGo_26 (by decide) ?_
    refine lv_iload_n hx hb dX4_wouldGo_29 rfl (lv_at hl 0 rfl) ?_
    refine lv_iadd hx hb dX4_wouldGo_30 ?_
    obtain ⟨hin, hw⟩ := hw
    refine ml_iald hE hI 1 rfl rfl rfl hin dX4_wouldGo_31 ?_
    refine lv_if_ne (tgt := 37) hx hb dX4_wouldGo_32 (by decide) (fun c_32 => ?_) (fun c_32 => ?_)
    · have hw := hw.1 c_32
      refine lv_aload_n hx hb dX4_wouldGo_37 rfl (lv_at hl 1 rfl) ?_
      refine ml_get hE hI 1 (by decide) q1986 rfl rfl dX4_wouldGo_38 ?_
      refine lv_sipush (v := 175) hx hb dX4_wouldGo_41 (by decide) ?_
      refine lv_iload_n hx hb dX4_wouldGo_44 rfl (lv_at hl 0 rfl) ?_
      refine lv_iadd hx hb dX4_wouldGo_45 ?_
      refine lv_iconst (v := 0) hx hb dX4_wouldGo_46 (by decide) ?_
      obtain ⟨hin, hw⟩ := hw
      refine ml_iast hE hI 1 rfl rfl rfl hin dX4_wouldGo_47 (fun H locs hI => ?_)
      refine lv_aload_n hx hb dX4_wouldGo_48 rfl (lv_at hl 1 rfl) ?_
      refine ml_calli (As := []) (rest := []) (cells := 0) (slots := 0) hE hI (fun h hS => snd_X4_grounds l G _ h ad F1 (ml_up A1 1 (Int32.toNatClampNeg ((175 : Int32) + r1)) (0 : Int32)) L1 _ hS hw) (cwV 0 hts (lw_V q2194 q2196 qs53 q108 q2197) rfl rfl rfl (by decide +kernel) ⟨Nat.le_of_ble_eq_true rfl, Nat.le_of_ble_eq_true rfl⟩) rfl hl.1 (Nat.le_of_ble_eq_true rfl) dX4_wouldGo_49 ⟨Nat.le_of_ble_eq_true rfl, Nat.le_of_ble_eq_true rfl⟩ (fun r2 F2 A2 L2 H locs hw hI => ?_)
      refine lv_istore_n (lv' := [(3, .int r2), (2, .int r1), (0, .ref (ad 0)), (1, .int x1)]) hx hb dX4_wouldGo_52 rfl hl (by decide) rfl (fun ls hl => ?_)
      refine lv_aload_n hx hb dX4_wouldGo_53 rfl (lv_at hl 2 rfl) ?_
      refine ml_get hE hI 1 (by decide) q1986 rfl rfl dX4_wouldGo_54 ?_
      refine lv_sipush (v := 175) hx hb dX4_wouldGo_57 (by decide) ?_
      refine lv_iload_n hx hb dX4_wouldGo_60 rfl (lv_at hl 1 rfl) ?_
      refine lv_iadd hx hb dX4_wouldGo_61 ?_
      refine lv_iconst (v := 1) hx hb dX4_wouldGo_62 (by decide) ?_
      obtain ⟨hin, hw⟩ := hw
      refine ml_iast hE hI 1 rfl rfl rfl hin dX4_wouldGo_63 (fun H locs hI => ?_)
      refine lv_iload_n hx hb dX4_wouldGo_64 rfl (lv_at hl 0 rfl) ?_
      exact ml_iret hE hI hw dX4_wouldGo_65
    · have hw := hw.2 c_32
      refine lv_iconst (v := 0) hx hb dX4_wouldGo_35 (by decide) ?_
      exact ml_iret hE hI hw dX4_wouldGo_36
  · have hw := hw.2 c_13
    refine lv_aload_n hx hb dX4_wouldGo_16 rfl (lv_at hl 1 rfl) ?_
    refine lv_iconst (v := 1) hx hb dX4_wouldGo_17 (by decide) ?_
    refine ml_calli (As := [.int (1 : Int32)]) (rest := []) (cells := 0) (slots := 0) hE hI (fun h hS => snd_X4_fails l G _ h ad F1 A1 L1 (1 : Int32) _ hS hw) (cwV 1 hts (lw_V q2149 q2151 qs43 q108 q2152) rfl rfl rfl (by decide +kernel) ⟨Nat.le_of_ble_eq_true rfl, Nat.le_of_ble_eq_true rfl⟩) rfl hl.1 (Nat.le_of_ble_eq_true rfl) dX4_wouldGo_18 ⟨Nat.le_of_ble_eq_true rfl, Nat.le_of_ble_eq_true rfl⟩ (fun r3 F3 A3 L3 H locs hw hI => ?_)
    exact ml_iret hE hI hw dX4_wouldGo_21

/-- MatchmakerRulesModel.isTwice(I)Z -/
abbrev rm_X4_isTwice : Room := { frames := 2, cells := 0, slots := 0, locals := 34 }
def wp_X4_isTwice_L2 (Q : Int32 → (Nat → Int32) → (Nat → Nat → Int32) → (Nat → UInt32) → Prop) : Nat → (Nat → Int32) → (Nat → Nat → Int32) → (Nat → UInt32) → (Int32) → (Int32) → Prop
  | 0, _, _, _, _, _ => False
  | n + 1, F, A, L, x1, x2 => ((x1 ≤ x2 → Q (0 : Int32) F A L) ∧ (¬ x1 ≤ x2 → wp_X4_firing F A L x2 (0 : Int32) (fun r1 F1 A1 L1 => wp_X4_firing F1 A1 L1 x1 (0 : Int32) (fun r2 F2 A2 L2 => ((¬ r1 = r2 → wp_X4_isTwice_L2 Q n F2 A2 L2 x1 (x2 + (1 : Int32))) ∧ (r1 = r2 → wp_X4_firing F2 A2 L2 x2 (1 : Int32) (fun r3 F3 A3 L3 => wp_X4_firing F3 A3 L3 x1 (1 : Int32) (fun r4 F4 A4 L4 => ((¬ r3 = r4 → wp_X4_isTwice_L2 Q n F4 A4 L4 x1 (x2 + (1 : Int32))) ∧ (r3 = r4 → wp_X4_firing F4 A4 L4 x2 (2 : Int32) (fun r5 F5 A5 L5 => wp_X4_firing F5 A5 L5 x1 (2 : Int32) (fun r6 F6 A6 L6 => ((¬ r5 = r6 → wp_X4_isTwice_L2 Q n F6 A6 L6 x1 (x2 + (1 : Int32))) ∧ (r5 = r6 → Q (1 : Int32) F6 A6 L6))))))))))))))
set_option maxHeartbeats 4000000 in
theorem snd_X4_isTwice_L2 {p : Program} {l : Launch} {e : Env} {s : State} {m : MethodId} {args : Array Value} {below : List Frame} {meth : Method} {c : Code} {G : GG} {h0 : HH} {ad : Nat → Nat} (hE : hv_E p s m args meth c cX4_isTwice 3 (some FieldType.boolean) RX4 G h0) (Q : Int32 → (Nat → Int32) → (Nat → Nat → Int32) → (Nat → UInt32) → Prop) : ∀ (n : Nat) (F : Nat → Int32) (A : Nat → Nat → Int32) (L : Nat → UInt32) (x1 : Int32) (x2 : Int32), wp_X4_isTwice_L2 Q n F A L x1 x2 → ∀ (H : Heap) (locs : List Loc) (ls : Array Slot), ml_I G h0 s.heap ad F A L H locs → lv_has ls 3 [(0, .ref (ad 0)), (1, .int x1), (2, .int x2)] → W p l e (headSpec (ws_ yX4_isTwice cX4_isTwice 3 (some FieldType.boolean)) rm_X4_isTwice).room s m args below meth c H locs 0 0 (MQ below (hv_Qi G h0 s.heap.size (fun r => ml_Q G h0 ad (Q r))) args s 0 0 (hv_A h0 s.heap.size)) (F0 m 2 ls []) := by
  obtain ⟨⟨hx, hb, hml, hown, hts⟩, hr, hlocks, -⟩ := id hE
  intro n
  induction n with
  | zero => intro F A L x1 x2 hw; exact hw.elim
  | succ n ih =>
    intro F A L x1 x2 hw H locs ls hI hl
    unfold wp_X4_isTwice_L2 at hw
    refine lv_iload_n hx hb dX4_isTwice_2 rfl (lv_at hl 2 rfl) ?_
    refine lv_iload_n hx hb dX4_isTwice_3 rfl (lv_at hl 1 rfl) ?_
    refine lv_icmp_ge (tgt := 60) hx hb dX4_isTwice_4 (by decide) (fun c_4 => ?_) (fun c_4 => ?_)
    · have hw := hw.1 c_4
      refine lv_iconst (v := 0) hx hb dX4_isTwice_60 (by decide) ?_
      exact ml_zret hE hI rfl hw dX4_isTwice_61
    · have hw := hw.2 c_4
      refine lv_aload_n hx hb dX4_isTwice_7 rfl (lv_at hl 0 rfl) ?_
      refine lv_iload_n hx hb dX4_isTwice_8 rfl (lv_at hl 2 rfl) ?_
      refine lv_iconst (v := 0) hx hb dX4_isTwice_9 (by decide) ?_
      refine ml_calli (As := [.int x2, .int (0 : Int32)]) (rest := []) (cells := 0) (slots := 0) hE hI (fun h hS => snd_X4_firing l G _ h ad F A L x2 (0 : Int32) _ hS hw) (cwV 2 hts (lw_V q2182 q2184 qs50 q108 q2185) rfl rfl rfl (by decide +kernel) ⟨Nat.le_of_ble_eq_true rfl, Nat.le_of_ble_eq_true rfl⟩) rfl hl.1 (Nat.le_of_ble_eq_true rfl) dX4_isTwice_10 ⟨Nat.le_of_ble_eq_true rfl, Nat.le_of_ble_eq_true rfl⟩ (fun r1 F1 A1 L1 H locs hw hI => ?_)
      refine lv_aload_n hx hb dX4_isTwice_13 rfl (lv_at hl 0 rfl) ?_
      refine lv_iload_n hx hb dX4_isTwice_14 rfl (lv_at hl 1 rfl) ?_
      refine lv_iconst (v := 0) hx hb dX4_isTwice_15 (by decide) ?_
      refine ml_calli (As := [.int x1, .int (0 : Int32)]) (rest := [.int r1]) (cells := 0) (slots := 0) hE hI (fun h hS => snd_X4_firing l G _ h ad F1 A1 L1 x1 (0 : Int32) _ hS hw) (cwV 2 hts (lw_V q2182 q2184 qs50 q108 q2185) rfl rfl rfl (by decide +kernel) ⟨Nat.le_of_ble_eq_true rfl, Nat.le_of_ble_eq_true rfl⟩) rfl hl.1 (Nat.le_of_ble_eq_true rfl) dX4_isTwice_16 ⟨Nat.le_of_ble_eq_true rfl, Nat.le_of_ble_eq_true rfl⟩ (fun r2 F2 A2 L2 H locs hw hI => ?_)
      refine lv_icmp_ne (tgt := 54) hx hb dX4_isTwice_19 (by decide) (fun c_19 => ?_) (fun c_19 => ?_)
      · have hw := hw.1 c_19
        refine lv_iinc (v := (x2 + (1 : Int32))) (lv' := [(2, .int (x2 + (1 : Int32))), (0, .ref (ad 0)), (1, .int x1)]) hx hb dX4_isTwice_54 hl (k := 2) rfl rfl (by decide) rfl (fun ls hl => ?_)
        refine lv_goto (tgt := 2) hx hb dX4_isTwice_57 (by decide) ?_
        exact ih F2 A2 L2 x1 (x2 + (1 : Int32)) hw _ _ _ hI (lv_sub hl [1, 2, 0] rfl)
      · have hw := hw.2 c_19
        refine lv_aload_n hx hb dX4_isTwice_22 rfl (lv_at hl 0 rfl) ?_
        refine lv_iload_n hx hb dX4_isTwice_23 rfl (lv_at hl 2 rfl) ?_
        refine lv_iconst (v := 1) hx hb dX4_isTwice_24 (by decide) ?_
        refine ml_calli (As := [.int x2, .int (1 : Int32)]) (rest := []) (cells := 0) (slots := 0) hE hI (fun h hS => snd_X4_firing l G _ h ad F2 A2 L2 x2 (1 : Int32) _ hS hw) (cwV 2 hts (lw_V q2182 q2184 qs50 q108 q2185) rfl rfl rfl (by decide +kernel) ⟨Nat.le_of_ble_eq_true rfl, Nat.le_of_ble_eq_true rfl⟩) rfl hl.1 (Nat.le_of_ble_eq_true rfl) dX4_isTwice_25 ⟨Nat.le_of_ble_eq_true rfl, Nat.le_of_ble_eq_true rfl⟩ (fun r3 F3 A3 L3 H locs hw hI => ?_)
        refine lv_aload_n hx hb dX4_isTwice_28 rfl (lv_at hl 0 rfl) ?_
        refine lv_iload_n hx hb dX4_isTwice_29 rfl (lv_at hl 1 rfl) ?_
        refine lv_iconst (v := 1) hx hb dX4_isTwice_30 (by decide) ?_
        refine ml_calli (As := [.int x1, .int (1 : Int32)]) (rest := [.int r3]) (cells := 0) (slots := 0) hE hI (fun h hS => snd_X4_firing l G _ h ad F3 A3 L3 x1 (1 : Int32) _ hS hw) (cwV 2 hts (lw_V q2182 q2184 qs50 q108 q2185) rfl rfl rfl (by decide +kernel) ⟨Nat.le_of_ble_eq_true rfl, Nat.le_of_ble_eq_true rfl⟩) rfl hl.1 (Nat.le_of_ble_eq_true rfl) dX4_isTwice_31 ⟨Nat.le_of_ble_eq_true rfl, Nat.le_of_ble_eq_true rfl⟩ (fun r4 F4 A4 L4 H locs hw hI => ?_)
        refine lv_icmp_ne (tgt := 54) hx hb dX4_isTwice_34 (by decide) (fun c_34 => ?_) (fun c_34 => ?_)
        · have hw := hw.1 c_34
          refine lv_iinc (v := (x2 + (1 : Int32))) (lv' := [(2, .int (x2 + (1 : Int32))), (0, .ref (ad 0)), (1, .int x1)]) hx hb dX4_isTwice_54 hl (k := 2) rfl rfl (by decide) rfl (fun ls hl => ?_)
          refine lv_goto (tgt := 2) hx hb dX4_isTwice_57 (by decide) ?_
          exact ih F4 A4 L4 x1 (x2 + (1 : Int32)) hw _ _ _ hI (lv_sub hl [1, 2, 0] rfl)
        · have hw := hw.2 c_34
          refine lv_aload_n hx hb dX4_isTwice_37 rfl (lv_at hl 0 rfl) ?_
          refine lv_iload_n hx hb dX4_isTwice_38 rfl (lv_at hl 2 rfl) ?_
          refine lv_iconst (v := 2) hx hb dX4_isTwice_39 (by decide) ?_
          refine ml_calli (As := [.int x2, .int (2 : Int32)]) (rest := []) (cells := 0) (slots := 0) hE hI (fun h hS => snd_X4_firing l G _ h ad F4 A4 L4 x2 (2 : Int32) _ hS hw) (cwV 2 hts (lw_V q2182 q2184 qs50 q108 q2185) rfl rfl rfl (by decide +kernel) ⟨Nat.le_of_ble_eq_true rfl, Nat.le_of_ble_eq_true rfl⟩) rfl hl.1 (Nat.le_of_ble_eq_true rfl) dX4_isTwice_40 ⟨Nat.le_of_ble_eq_true rfl, Nat.le_of_ble_eq_true rfl⟩ (fun r5 F5 A5 L5 H locs hw hI => ?_)
          refine lv_aload_n hx hb dX4_isTwice_43 rfl (lv_at hl 0 rfl) ?_
          refine lv_iload_n hx hb dX4_isTwice_44 rfl (lv_at hl 1 rfl) ?_
          refine lv_iconst (v := 2) hx hb dX4_isTwice_45 (by decide) ?_
          refine ml_calli (As := [.int x1, .int (2 : Int32)]) (rest := [.int r5]) (cells := 0) (slots := 0) hE hI (fun h hS => snd_X4_firing l G _ h ad F5 A5 L5 x1 (2 : Int32) _ hS hw) (cwV 2 hts (lw_V q2182 q2184 qs50 q108 q2185) rfl rfl rfl (by decide +kernel) ⟨Nat.le_of_ble_eq_true rfl, Nat.le_of_ble_eq_true rfl⟩) rfl hl.1 (Nat.le_of_ble_eq_true rfl) dX4_isTwice_46 ⟨Nat.le_of_ble_eq_true rfl, Nat.le_of_ble_eq_true rfl⟩ (fun r6 F6 A6 L6 H locs hw hI => ?_)
          refine lv_icmp_ne (tgt := 54) hx hb dX4_isTwice_49 (by decide) (fun c_49 => ?_) (fun c_49 => ?_)
          · have hw := hw.1 c_49
            refine lv_iinc (v := (x2 + (1 : Int32))) (lv' := [(2, .int (x2 + (1 : Int32))), (0, .ref (ad 0)), (1, .int x1)]) hx hb dX4_isTwice_54 hl (k := 2) rfl rfl (by decide) rfl (fun ls hl => ?_)
            refine lv_goto (tgt := 2) hx hb dX4_isTwice_57 (by decide) ?_
            exact ih F6 A6 L6 x1 (x2 + (1 : Int32)) hw _ _ _ hI (lv_sub hl [1, 2, 0] rfl)
          · have hw := hw.2 c_49
            refine lv_iconst (v := 1) hx hb dX4_isTwice_52 (by decide) ?_
            exact ml_zret hE hI rfl hw dX4_isTwice_53
def wp_X4_isTwice (F : Nat → Int32) (A : Nat → Nat → Int32) (L : Nat → UInt32) (x1 : Int32) (Q : Int32 → (Nat → Int32) → (Nat → Nat → Int32) → (Nat → UInt32) → Prop) : Prop := (∃ n2, wp_X4_isTwice_L2 Q n2 F A L x1 (0 : Int32))
set_option maxHeartbeats 4000000 in
theorem snd_X4_isTwice (l : Launch) (G : GG) (sz : Nat) (h : HH) (ad : Nat → Nat) (F : Nat → Int32) (A : Nat → Nat → Int32) (L : Nat → UInt32) (x1 : Int32) (Q : Int32 → (Nat → Int32) → (Nat → Nat → Int32) → (Nat → UInt32) → Prop) (hS : ml_S G h ad F A L) (hw : wp_X4_isTwice F A L x1 Q) : Met l yX4_isTwice (ws_ yX4_isTwice cX4_isTwice 3 (some FieldType.boolean)) rm_X4_isTwice (hv_Pc G h sz [.ref (ad 0), .int x1]) (hv_Qi G h sz (fun r => ml_Q G h ad (Q r))) 0 0 (hv_A h sz) := by
  refine Met.ofW (cc := cX4_isTwice) (maxL := 3) (ret := (some FieldType.boolean)) (by decide) rfl ?_
  intro p e s m args below meth c s₁ B hml hv
  obtain ⟨rfl, rfl, hE, hI⟩ := hv_open B hml hv
  have hE : hv_E p s m ([.ref (ad 0), .int x1] : List Value).toArray meth c cX4_isTwice 3 (some FieldType.boolean) RX4 G h := hE
  have hI := ml_I.start hI hS
  obtain ⟨⟨hx, hb, hml, hown, hts⟩, hr, hlocks, -⟩ := id hE
  have hl := lv_entry ([.ref (ad 0), .int x1] : List Value) (n := 3) (Nat.le_of_ble_eq_true rfl)
  rw [lg_entry_eq]
  generalize (lg_sl ([.ref (ad 0), .int x1] : List Value) ++ List.replicate (3 - (lg_sl ([.ref (ad 0), .int x1] : List Value)).length) Slot.unset).toArray = ls at hl ⊢
  have hl : lv_has ls 3 [(0, .ref (ad 0)), (1, .int x1)] := hl
  unfold wp_X4_isTwice at hw
  refine lv_iconst (v := 0) hx hb dX4_isTwice_0 (by decide) ?_
  refine lv_istore_n (lv' := [(2, .int (0 : Int32)), (0, .ref (ad 0)), (1, .int x1)]) hx hb dX4_isTwice_1 rfl hl (by decide) rfl (fun ls hl => ?_)
  obtain ⟨n2, hw⟩ := hw
  exact snd_X4_isTwice_L2 hE Q n2 F A L x1 (0 : Int32) hw _ _ _ hI (lv_sub hl [1, 2, 0] rfl)
