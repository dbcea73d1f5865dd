/-! walks over a world (by gen/hvrun.py) -/
set_option maxRecDepth 100000
/-- java/util/ArrayList.indexOf(Ljava/lang/Object;)I -/
abbrev rm_J2_indexOf : Room := { frames := 4, cells := 0, slots := 0, locals := 89 }
def wp_J2_indexOf (G : GG) (h : HH) (a0 : Nat) (x1 : Option Nat) (Q : Int32 → HH → Prop) : Prop := w_geti h a0 4 2 (fun r1 => w_is h a0 4 (wp_J2_indexOfRange G h a0 x1 (0 : Int32) r1 (fun r2 h3 => Q r2 h3)))
set_option maxHeartbeats 4000000 in
theorem snd_J2_indexOf (l : Launch) (G : GG) (sz : Nat) (h : HH) (a0 : Nat) (x1 : Option Nat) (Q : Int32 → HH → Prop) (hw : wp_J2_indexOf G h a0 x1 Q) : Met l yJ2_indexOf (ws_ yJ2_indexOf cJ2_indexOf 2 (some FieldType.int)) rm_J2_indexOf (hv_Pc G h sz [.ref a0, va_rf x1]) (hv_Qi G h sz Q) 0 0 (hv_A h sz) := by
  refine Met.ofW (cc := cJ2_indexOf) (maxL := 2) (ret := (some FieldType.int)) (by decide) rfl ?_
  intro p e s m args below meth c s₁ B hml hv
  obtain ⟨rfl, rfl, hE, hI⟩ := hv_open B hml hv
  have hE : hv_E p s m ([.ref a0, va_rf x1] : List Value).toArray meth c cJ2_indexOf 2 (some FieldType.int) RJ2 G h := hE
  obtain ⟨⟨hx, hb, hml, hown, hts⟩, hr, hlocks, hXX⟩ := id hE
  have hl := lv_entry ([.ref a0, va_rf x1] : List Value) (n := 2) (by cases x1 <;> exact Nat.le_of_ble_eq_true rfl)
  rw [lg_entry_eq]
  generalize (lg_sl ([.ref a0, va_rf x1] : List Value) ++ List.replicate (2 - (lg_sl ([.ref a0, va_rf x1] : List Value)).length) Slot.unset).toArray = ls at hl ⊢
  have hl : lv_has ls 2 [(0, .ref a0), (1, va_rf x1)] := (by cases x1 <;> exact hl)
  unfold wp_J2_indexOf at hw
  refine lv_aload_n hx hb dJ2_indexOf_0 rfl (lv_at hl 0 rfl) ?_
  refine lv_aload_nq hx hb dJ2_indexOf_1 rfl (lv_at hl 1 rfl) ?_
  refine lv_iconst (v := 0) hx hb dJ2_indexOf_2 (by decide) ?_
  refine lv_aload_n hx hb dJ2_indexOf_3 rfl (lv_at hl 0 rfl) ?_
  refine hv_wgeti hE hI in_J2 (ci := 4) rfl 2 (by decide) (hts _ q206) (fun _ hx => hx) hw dJ2_indexOf_4 (fun r1 hw => ?_)
  obtain ⟨⟨fs, hre⟩, hw⟩ := hw
  refine hv_rci hI (va_runV (As := [va_rf x1, .int (0 : Int32), .int r1]) (b := a0) (rest := []) hE.1 (snd_J2_indexOfRange l G _ h a0 x1 (0 : Int32) r1 _ hw) (cwV 3 hts (lw_V q573 q574 q575 q102 q576) rfl rfl rfl (by decide +kernel) ⟨Nat.le_of_ble_eq_true rfl, Nat.le_of_ble_eq_true rfl⟩) (hv_preV hE hI (ci := 4) rfl hre) rfl rfl hl.1 rfl (lv_room (Nat.le_of_ble_eq_true rfl)) dJ2_indexOf_7 ⟨Nat.le_of_ble_eq_true rfl, Nat.le_of_ble_eq_true rfl⟩) (fun r2 h3 H locs hw hI => ?_)
  exact hv_iret hE hI (Nat.le_refl _) (Nat.le_refl _) hw dJ2_indexOf_10

/-- MatchmakerRules$Book.depth(I[I)I -/
abbrev rm_X2_depth (mc ms : Nat) : Room := { frames := 5, cells := mc, slots := ms, locals := 110 }
def wp_X2_depth (G : GG) (mc : Nat) (ms : Nat) (h : HH) (a0 : Nat) (x1 : Int32) (x2 : Option Nat) (Q : Int32 → HH → Prop) : Prop := ((¬ x1 = (-1 : Int32) → w_getq h a0 2 2 (fun r1 => (∃ mc2 ms2, 0 + mc2 ≤ mc ∧ 0 + ms2 ≤ ms ∧ w_is h a0 2 (wp_X2_find G mc2 ms2 h a0 x1 (fun r3 h4 => w_nn r1 (fun a5 => w_is h4 a5 4 (wp_J2_indexOf G h4 a5 r3 (fun r6 h7 => w_nn x2 (fun a8 => w_ild G h7 a8 r6 (fun r9 => Q r9 h7)))))))))) ∧ (x1 = (-1 : Int32) → Q (0 : Int32) h))
set_option maxHeartbeats 4000000 in
theorem snd_X2_depth (l : Launch) (G : GG) (sz : Nat) (mc : Nat) (ms : Nat) (h : HH) (a0 : Nat) (x1 : Int32) (x2 : Option Nat) (Q : Int32 → HH → Prop) (hw : wp_X2_depth G mc ms h a0 x1 x2 Q) : Met l yX2_depth (ws_ yX2_depth cX2_depth 3 (some FieldType.int)) (rm_X2_depth mc ms) (hv_Pc G h sz [.ref a0, .int x1, va_rf x2]) (hv_Qi G h sz Q) mc ms (hv_A h sz) := by
  refine Met.ofW (cc := cX2_depth) (maxL := 3) (ret := (some FieldType.int)) (by decide) rfl ?_
  intro p e s m args below meth c s₁ B hml hv
  obtain ⟨rfl, rfl, hE, hI⟩ := hv_open B hml hv
  have hE : hv_E p s m ([.ref a0, .int x1, va_rf x2] : List Value).toArray meth c cX2_depth 3 (some FieldType.int) RX2 G h := hE
  obtain ⟨⟨hx, hb, hml, hown, hts⟩, hr, hlocks, hXX⟩ := id hE
  have hl := lv_entry ([.ref a0, .int x1, va_rf x2] : List Value) (n := 3) (by cases x2 <;> exact Nat.le_of_ble_eq_true rfl)
  rw [lg_entry_eq]
  generalize (lg_sl ([.ref a0, .int x1, va_rf x2] : List Value) ++ List.replicate (3 - (lg_sl ([.ref a0, .int x1, va_rf x2] : List Value)).length) Slot.unset).toArray = ls at hl ⊢
  have hl : lv_has ls 3 [(0, .ref a0), (1, .int x1), (2, va_rf x2)] := (by cases x2 <;> exact hl)
  have hc : 0 ≤ mc := Nat.zero_le _
  have hs : 0 ≤ ms := Nat.zero_le _
  unfold wp_X2_depth at hw
  refine lv_iload_n hx hb dX2_depth_0 rfl (lv_at hl 1 rfl) ?_
  refine lv_iconst (v := -1) hx hb dX2_depth_1 (by decide) ?_
  refine lv_icmp_ne (tgt := 9) hx hb dX2_depth_2 (by decide) (fun c_2 => ?_) (fun c_2 => ?_)
  · have hw := hw.1 c_2
    refine lv_aload_nq hx hb dX2_depth_9 rfl (lv_at hl 2 rfl) ?_
    refine lv_aload_n hx hb dX2_depth_10 rfl (lv_at hl 0 rfl) ?_
    refine hv_wgetq hE hI in_X2 (ci := 2) rfl 2 (by decide) (hts _ q222) (fun _ hx => hx) hw dX2_depth_11 (fun r1 hw => ?_)
    refine lv_aload_n hx hb dX2_depth_14 rfl (lv_at hl 0 rfl) ?_
    refine lv_iload_n hx hb dX2_depth_15 rfl (lv_at hl 1 rfl) ?_
    obtain ⟨mc2, ms2, hc, hs, hw⟩ := hw
    obtain ⟨⟨fs, hre⟩, hw⟩ := hw
    refine hv_rcq hI (va_runV (As := [.int x1]) (b := a0) (rest := [va_rf r1, va_rf x2]) hE.1 (snd_X2_find l G _ mc2 ms2 h a0 x1 _ hw) (cwV 1 hts (lw_V q565 q566 q567 q98 q568) rfl rfl rfl (by decide +kernel) ⟨Nat.le_of_ble_eq_true rfl, Nat.le_of_ble_eq_true rfl⟩) (hv_preV hE hI (ci := 2) rfl hre) rfl rfl hl.1 rfl (lv_room (by cases x2 <;> cases r1 <;> exact Nat.le_of_ble_eq_true rfl)) dX2_depth_16 ⟨hc, hs⟩) (fun r3 h4 H locs hw hI => ?_)
    obtain ⟨a5, hz, hwa5⟩ := hw; have hla5 := hl; subst hz; have hw := hwa5; have hl := hla5
    obtain ⟨⟨fs, hre⟩, hw⟩ := hw
    refine hv_rci hI (va_runV (As := [va_rf r3]) (b := a5) (rest := [va_rf x2]) hE.1 (snd_J2_indexOf l G _ h4 a5 r3 _ hw) (cwV 1 hts (lw_V q569 q570 q571 q102 q572) rfl rfl rfl (by decide +kernel) ⟨Nat.le_of_ble_eq_true rfl, Nat.le_of_ble_eq_true rfl⟩) (hv_preV hE hI (ci := 4) rfl hre) rfl rfl hl.1 rfl (lv_room (by cases x2 <;> exact Nat.le_of_ble_eq_true rfl)) dX2_depth_19 ⟨hc, hs⟩) (fun r6 h7 H locs hw hI => ?_)
    obtain ⟨a8, hz, hwa8⟩ := hw; have hla8 := hl; subst hz; have hw := hwa8; have hl := hla8
    refine hv_wild hE hI hw dX2_depth_22 (fun r9 hw => ?_)
    exact hv_iret hE hI hc hs hw dX2_depth_23
  · have hw := hw.2 c_2
    refine lv_iconst (v := 0) hx hb dX2_depth_5 (by decide) ?_
    refine lv_goto (tgt := 23) hx hb dX2_depth_6 (by decide) ?_
    exact hv_iret hE hI hc hs hw dX2_depth_23

/-- java/lang/Math.min(II)I -/
abbrev rm_J10_min : Room := { frames := 1, cells := 0, slots := 0, locals := 12 }
def wp_J10_min (G : GG) (h : HH) (x0 : Int32) (x1 : Int32) (Q : Int32 → HH → Prop) : Prop := ((x1 < x0 → Q x1 h) ∧ (¬ x1 < x0 → Q x0 h))
set_option maxHeartbeats 4000000 in
theorem snd_J10_min (l : Launch) (G : GG) (sz : Nat) (h : HH) (x0 : Int32) (x1 : Int32) (Q : Int32 → HH → Prop) (hw : wp_J10_min G h x0 x1 Q) : Met l yJ10_min (ws_ yJ10_min cJ10_min 2 (some FieldType.int)) rm_J10_min (hv_Pc G h sz [.int x0, .int x1]) (hv_Qi G h sz Q) 0 0 (hv_A h sz) := by
  refine hv_ofW (cc := cJ10_min) (maxL := 2) (ret := (some FieldType.int)) (by decide +kernel) rfl ?_
  intro p e s m args below meth c s₁ B hml hv
  obtain ⟨rfl, rfl, hE, hI⟩ := hv_open B hml hv
  have hE : hv_E p s m ([.int x0, .int x1] : List Value).toArray meth c cJ10_min 2 (some FieldType.int) RJ10 G h := hE
  obtain ⟨⟨hx, hb, hml, hown, hts⟩, hr, hlocks, hXX⟩ := id hE
  have hl := lv_entry ([.int x0, .int x1] : List Value) (n := 2) (Nat.le_of_ble_eq_true rfl)
  rw [lg_entry_eq]
  generalize (lg_sl ([.int x0, .int x1] : List Value) ++ List.replicate (2 - (lg_sl ([.int x0, .int x1] : List Value)).length) Slot.unset).toArray = ls at hl ⊢
  have hl : lv_has ls 2 [(0, .int x0), (1, .int x1)] := hl
  unfold wp_J10_min at hw
  refine lv_iload_n hx hb dJ10_min_0 rfl (lv_at hl 0 rfl) ?_
  refine lv_iload_n hx hb dJ10_min_1 rfl (lv_at hl 1 rfl) ?_
  refine lv_icmp_gt (tgt := 9) hx hb dJ10_min_2 (by decide) (fun c_2 => ?_) (fun c_2 => ?_)
  · have hw := hw.1 c_2
    refine lv_iload_n hx hb dJ10_min_9 rfl (lv_at hl 1 rfl) ?_
    exact hv_iret hE hI (Nat.le_refl _) (Nat.le_refl _) hw dJ10_min_10
  · have hw := hw.2 c_2
    refine lv_iload_n hx hb dJ10_min_5 rfl (lv_at hl 0 rfl) ?_
    refine lv_goto (tgt := 10) hx hb dJ10_min_6 (by decide) ?_
    exact hv_iret hE hI (Nat.le_refl _) (Nat.le_refl _) hw dJ10_min_10

/-- MatchmakerRules$Book.depths()[I -/
abbrev rm_X2_depths (mc ms : Nat) : Room := { frames := 6, cells := mc, slots := ms, locals := 132 }
def wp_X2_depths_L149 (G : GG) (mc : Nat) (ms : Nat) (a0 : Nat) (Q : Option Nat → HH → Prop) (k86 : (HH) → (Nat) → (Nat) → (Nat) → (Int32) → (Int32) → (Option Nat) → Prop) (h : HH) (nc : Nat) (nk : Nat) (x1 : Nat) (x3 : Int32) (x4 : Nat) (x6 : Int32) (t0 : Int32) (t1 : Int32) : Prop := w_ild G h x1 x3 (fun r34 => w_ist G h x1 x3 (if x6 < r34 then x6 else r34) (fun h35 => k86 h35 nc nk x1 (t0 ||| t1) x3 (some x4)))
set_option maxHeartbeats 4000000 in
theorem snd_X2_depths_L149 {p : Program} {l : Launch} {e : Env} {s : State} {m : MethodId} {args : Array Value} {below : List Frame} {meth : Method} {c : Code} {h0 : HH} (G : GG) (mc : Nat) (ms : Nat) (a0 : Nat) (Q : Option Nat → HH → Prop) (hE : hv_E p s m args meth c cX2_depths 7 (some (FieldType.array FieldType.int)) RX2 G h0) (k86 : (HH) → (Nat) → (Nat) → (Nat) → (Int32) → (Int32) → (Option Nat) → Prop) (hk86 : ∀ (h : HH) (nc : Nat) (nk : Nat) (x1 : Nat) (x2 : Int32) (x3 : Int32) (x4 : Option Nat), k86 h nc nk x1 x2 x3 x4 → nc ≤ mc → nk ≤ ms → ∀ (H : Heap) (locs : List Loc) (ls : Array Slot), hv_I G h0 s.heap h H locs → lv_has ls 7 [(0, .ref a0), (1, .ref x1), (2, .int x2), (3, .int x3), (4, va_rf x4)] → W p l e (headSpec (ws_ yX2_depths cX2_depths 7 (some (FieldType.array FieldType.int))) (rm_X2_depths mc ms)).room s m args below meth c H locs nc nk (MQ below (hv_Qq G h0 s.heap.size Q) args s mc ms (hv_A h0 s.heap.size)) (F0 m 86 ls [])) : ∀ (h : HH) (nc : Nat) (nk : Nat) (x1 : Nat) (x3 : Int32) (x4 : Nat) (x6 : Int32) (t0 : Int32) (t1 : Int32), wp_X2_depths_L149 G mc ms a0 Q k86 h nc nk x1 x3 x4 x6 t0 t1 → nc ≤ mc → nk ≤ ms → ∀ (H : Heap) (locs : List Loc) (ls : Array Slot), hv_I G h0 s.heap h H locs → lv_has ls 7 [(0, .ref a0), (1, .ref x1), (3, .int x3), (4, .ref x4), (6, .int x6)] → W p l e (headSpec (ws_ yX2_depths cX2_depths 7 (some (FieldType.array FieldType.int))) (rm_X2_depths mc ms)).room s m args below meth c H locs nc nk (MQ below (hv_Qq G h0 s.heap.size Q) args s mc ms (hv_A h0 s.heap.size)) (F0 m 149 ls [.int t1, .int t0]) := by
  obtain ⟨⟨hx, hb, hml, hown, hts⟩, hr, hlocks, hXX⟩ := id hE
  intro h nc nk x1 x3 x4 x6 t0 t1 hw hc hs H locs ls hI hl
  unfold wp_X2_depths_L149 at hw
  refine lv_ior hx hb dX2_depths_149 ?_
  refine lv_istore_n (lv' := [(2, .int (t0 ||| t1)), (0, .ref a0), (1, .ref x1), (3, .int x3), (4, .ref x4), (6, .int x6)]) hx hb dX2_depths_150 rfl hl (by decide) rfl (fun ls hl => ?_)
  refine lv_aload_n hx hb dX2_depths_151 rfl (lv_at hl 2 rfl) ?_
  refine lv_iload_n hx hb dX2_depths_152 rfl (lv_at hl 3 rfl) ?_
  refine lv_aload_n hx hb dX2_depths_153 rfl (lv_at hl 2 rfl) ?_
  refine lv_iload_n hx hb dX2_depths_154 rfl (lv_at hl 3 rfl) ?_
  refine hv_wild hE hI hw dX2_depths_155 (fun r34 hw => ?_)
  refine lv_iload hx hb dX2_depths_156 (lv_at hl 5 rfl) ?_
  refine va_mmin (rest := [.int x3, .ref x1]) hx hb (hml.trans hl.1.symm) hown (hts _ q611) (hts _ q612) (hts _ q113) (hts _ q613) (Nat.le_of_ble_eq_true rfl) (Nat.le_of_ble_eq_true rfl) hc hs dX2_depths_158 ?_
  refine hv_wist hE hI hw dX2_depths_161 (fun h35 H locs hw hI => ?_)
  refine lv_goto (tgt := 86) hx hb dX2_depths_162 (by decide) ?_
  exact hk86 h35 nc nk x1 (t0 ||| t1) x3 (some x4) hw hc hs _ _ _ hI (lv_sub hl [1, 2, 0, 3, 4] rfl)
def wp_X2_depths_L86 (G : GG) (mc : Nat) (ms : Nat) (a0 : Nat) (Q : Option Nat → HH → Prop) (k61 : (HH) → (Nat) → (Nat) → (Nat) → (Int32) → (Int32) → Prop) : Nat → (HH) → (Nat) → (Nat) → (Nat) → (Int32) → (Int32) → (Option Nat) → Prop
  | 0, _, _, _, _, _, _, _ => False
  | n + 1, h, nc, nk, x1, x2, x3, x4 => w_nn x4 (fun a19 => w_is h a19 13 (wp_J15_hasNext G h a19 (fun r20 h21 => ((r20 = 0 → k61 h21 nc nk x1 x2 (x3 + (1 : Int32))) ∧ (¬ r20 = 0 → w_is h21 a19 13 (wp_J15_next G h21 a19 (fun r22 h23 => w_nn r22 (fun a24 => w_cast h23 a24 16 (w_geti h23 a24 16 1 (fun r25 => (∃ mc26 ms26, nc + mc26 ≤ mc ∧ nk + ms26 ≤ ms ∧ w_is h23 a0 2 (wp_X2_depth G mc26 ms26 h23 a0 r25 (some x1) (fun r27 h28 => w_geti h28 a24 16 2 (fun r29 => (∃ mc30 ms30, (nc + mc26) + mc30 ≤ mc ∧ (nk + ms26) + ms30 ≤ ms ∧ w_is h28 a0 2 (wp_X2_depth G mc30 ms30 h28 a0 r29 (some x1) (fun r31 h32 => w_ild G h32 x1 x3 (fun r33 => ((r33 ≤ ((1 : Int32) + (if r27 < r31 then r31 else r27)) → wp_X2_depths_L149 G mc ms a0 Q (fun h nc nk x1 x2 x3 x4 => wp_X2_depths_L86 G mc ms a0 Q k61 n h nc nk x1 x2 x3 x4) h32 ((nc + mc26) + mc30) ((nk + ms26) + ms30) x1 x3 a19 ((1 : Int32) + (if r27 < r31 then r31 else r27)) x2 (0 : Int32)) ∧ (¬ r33 ≤ ((1 : Int32) + (if r27 < r31 then r31 else r27)) → wp_X2_depths_L149 G mc ms a0 Q (fun h nc nk x1 x2 x3 x4 => wp_X2_depths_L86 G mc ms a0 Q k61 n h nc nk x1 x2 x3 x4) h32 ((nc + mc26) + mc30) ((nk + ms26) + ms30) x1 x3 a19 ((1 : Int32) + (if r27 < r31 then r31 else r27)) x2 (1 : Int32)))))))))))))))))))))
set_option maxHeartbeats 4000000 in
theorem snd_X2_depths_L86 {p : Program} {l : Launch} {e : Env} {s : State} {m : MethodId} {args : Array Value} {below : List Frame} {meth : Method} {c : Code} {h0 : HH} (G : GG) (mc : Nat) (ms : Nat) (a0 : Nat) (Q : Option Nat → HH → Prop) (hE : hv_E p s m args meth c cX2_depths 7 (some (FieldType.array FieldType.int)) RX2 G h0) (k61 : (HH) → (Nat) → (Nat) → (Nat) → (Int32) → (Int32) → Prop) (hk61 : ∀ (h : HH) (nc : Nat) (nk : Nat) (x1 : Nat) (x2 : Int32) (x3 : Int32), k61 h nc nk x1 x2 x3 → nc ≤ mc → nk ≤ ms → ∀ (H : Heap) (locs : List Loc) (ls : Array Slot), hv_I G h0 s.heap h H locs → lv_has ls 7 [(0, .ref a0), (1, .ref x1), (2, .int x2), (3, .int x3)] → W p l e (headSpec (ws_ yX2_depths cX2_depths 7 (some (FieldType.array FieldType.int))) (rm_X2_depths mc ms)).room s m args below meth c H locs nc nk (MQ below (hv_Qq G h0 s.heap.size Q) args s mc ms (hv_A h0 s.heap.size)) (F0 m 61 ls [])) : ∀ (n : Nat) (h : HH) (nc : Nat) (nk : Nat) (x1 : Nat) (x2 : Int32) (x3 : Int32) (x4 : Option Nat), wp_X2_depths_L86 G mc ms a0 Q k61 n h nc nk x1 x2 x3 x4 → nc ≤ mc → nk ≤ ms → ∀ (H : Heap) (locs : List Loc) (ls : Array Slot), hv_I G h0 s.heap h H locs → lv_has ls 7 [(0, .ref a0), (1, .ref x1), (2, .int x2), (3, .int x3), (4, va_rf x4)] → W p l e (headSpec (ws_ yX2_depths cX2_depths 7 (some (FieldType.array FieldType.int))) (rm_X2_depths mc ms)).room s m args below meth c H locs nc nk (MQ below (hv_Qq G h0 s.heap.size Q) args s mc ms (hv_A h0 s.heap.size)) (F0 m 86 ls []) := by
  obtain ⟨⟨hx, hb, hml, hown, hts⟩, hr, hlocks, hXX⟩ := id hE
  intro n
  induction n with
  | zero => intro h nc nk x1 x2 x3 x4 hw; exact hw.elim
  | succ n ih =>
    intro h nc nk x1 x2 x3 x4 hw hc hs H locs ls hI hl
    unfold wp_X2_depths_L86 at hw
    refine lv_aloadq hx hb dX2_depths_86 (lv_at hl 4 rfl) ?_
    obtain ⟨a19, hz, hwa19⟩ := hw; have hla19 := hl; subst hz; have hw := hwa19; have hl := hla19
    obtain ⟨⟨fs, hre⟩, hw⟩ := hw
    refine hv_rFi hI (va_runF (As := []) (b := a19) (rest := []) (hXX.1.1 13 _ rfl).2 hE.1 (snd_J15_hasNext l G _ h a19 _ hw) (va_cwF 0 hts (lw_F q375 q379 q381 q121 q383) rfl rfl rfl (hv_fw0 hE.2.2.2.2.1) (by decide +kernel) ⟨Nat.le_of_ble_eq_true rfl, Nat.le_of_ble_eq_true rfl⟩) (hv_preV hE hI (ci := 13) rfl hre) rfl rfl hl.1 rfl (lv_room (Nat.le_of_ble_eq_true rfl)) dX2_depths_88 ⟨hc, hs⟩) (fun r20 h21 H locs hw hI => ?_)
    refine lv_if_eq (tgt := 165) hx hb dX2_depths_93 (by decide) (fun c_93 => ?_) (fun c_93 => ?_)
    · have hw := hw.1 c_93
      refine lv_iinc (v := (x3 + (1 : Int32))) (lv' := [(3, .int (x3 + (1 : Int32))), (0, .ref a0), (1, .ref x1), (2, .int x2), (4, .ref a19)]) hx hb dX2_depths_165 hl (k := 3) rfl rfl (by decide) rfl (fun ls hl => ?_)
      refine lv_goto (tgt := 61) hx hb dX2_depths_168 (by decide) ?_
      exact hk61 h21 nc nk x1 x2 (x3 + (1 : Int32)) hw hc hs _ _ _ hI (lv_sub hl [1, 2, 3, 0] rfl)
    · have hw := hw.2 c_93
      refine lv_aload hx hb dX2_depths_96 (lv_at hl 4 rfl) ?_
      obtain ⟨⟨fs, hre⟩, hw⟩ := hw
      refine hv_rFq hI (va_runF (As := []) (b := a19) (rest := []) (hXX.1.1 13 _ rfl).2 hE.1 (snd_J15_next l G _ h21 a19 _ hw) (va_cwF 0 hts (lw_F q385 q388 q390 q121 q392) rfl rfl rfl (hv_fw1 hE.2.2.2.2.1) (by decide +kernel) ⟨Nat.le_of_ble_eq_true rfl, Nat.le_of_ble_eq_true rfl⟩) (hv_preV hE hI (ci := 13) rfl hre) rfl rfl hl.1 rfl (lv_room (Nat.le_of_ble_eq_true rfl)) dX2_depths_98 ⟨hc, hs⟩) (fun r22 h23 H locs hw hI => ?_)
      obtain ⟨a24, hz, hwa24⟩ := hw; have hla24 := hl; subst hz; have hw := hwa24; have hl := hla24
      refine hv_wcast (ci := 16) hE hI (hts _ q560) rfl hw dX2_depths_103 (fun hw => ?_)
      refine lv_astore (lv' := [(5, .ref a24), (0, .ref a0), (1, .ref x1), (2, .int x2), (3, .int x3), (4, .ref a19)]) hx hb dX2_depths_106 hl (by decide) rfl (fun ls hl => ?_)
      refine lv_iconst (v := 1) hx hb dX2_depths_108 (by decide) ?_
      refine lv_aload_n hx hb dX2_depths_109 rfl (lv_at hl 1 rfl) ?_
      refine lv_aload hx hb dX2_depths_110 (lv_at hl 0 rfl) ?_
      refine hv_wgetiN hE hI in_X12 (ci := 16) rfl 1 (by decide) (hE.2.2.2.2.1.F 33 rfl) (fun _ hx => hx) hw dX2_depths_112 (fun r25 hw => ?_)
      refine lv_aload_n hx hb dX2_depths_115 rfl (lv_at hl 2 rfl) ?_
      obtain ⟨mc26, ms26, hc, hs, hw⟩ := hw
      obtain ⟨⟨fs, hre⟩, hw⟩ := hw
      refine hv_rci hI (va_runV (As := [.int r25, .ref x1]) (b := a0) (rest := [.int (1 : Int32)]) hE.1 (snd_X2_depth l G _ mc26 ms26 h23 a0 r25 (some x1) _ hw) (cwV 2 hts (lw_V q561 q563 qs5 q98 q564) rfl rfl rfl (by decide +kernel) ⟨Nat.le_of_ble_eq_true rfl, Nat.le_of_ble_eq_true rfl⟩) (hv_preV hE hI (ci := 2) rfl hre) rfl rfl hl.1 rfl (lv_room (Nat.le_of_ble_eq_true rfl)) dX2_depths_116 ⟨hc, hs⟩) (fun r27 h28 H locs hw hI => ?_)
      refine lv_aload_n hx hb dX2_depths_119 rfl (lv_at hl 1 rfl) ?_
      refine lv_aload hx hb dX2_depths_120 (lv_at hl 0 rfl) ?_
      refine hv_wgetiN hE hI in_X12 (ci := 16) rfl 2 (by decide) (hE.2.2.2.2.1.F 34 rfl) (fun _ hx => hx) hw dX2_depths_122 (fun r29 hw => ?_)
      refine lv_aload_n hx hb dX2_depths_125 rfl (lv_at hl 2 rfl) ?_
      obtain ⟨mc30, ms30, hc, hs, hw⟩ := hw
      obtain ⟨⟨fs, hre⟩, hw⟩ := hw
      refine hv_rci hI (va_runV (As := [.int r29, .ref x1]) (b := a0) (rest := [.int r27, .int (1 : Int32)]) hE.1 (snd_X2_depth l G _ mc30 ms30 h28 a0 r29 (some x1) _ hw) (cwV 2 hts (lw_V q561 q563 qs5 q98 q564) rfl rfl rfl (by decide +kernel) ⟨Nat.le_of_ble_eq_true rfl, Nat.le_of_ble_eq_true rfl⟩) (hv_preV hE hI (ci := 2) rfl hre) rfl rfl hl.1 rfl (lv_room (Nat.le_of_ble_eq_true rfl)) dX2_depths_126 ⟨hc, hs⟩) (fun r31 h32 H locs hw hI => ?_)
      refine va_mmax (rest := [.int (1 : Int32)]) hx hb (hml.trans hl.1.symm) hown (hts _ q610) (hts _ q533) (hts _ q113) (hts _ q534) (Nat.le_of_ble_eq_true rfl) (Nat.le_of_ble_eq_true rfl) hc hs dX2_depths_129 ?_
      refine lv_iadd hx hb dX2_depths_132 ?_
      refine lv_istore (lv' := [(6, .int ((1 : Int32) + (if r27 < r31 then r31 else r27))), (5, .ref a24), (0, .ref a0), (1, .ref x1), (2, .int x2), (3, .int x3), (4, .ref a19)]) hx hb dX2_depths_133 hl (by decide) rfl (fun ls hl => ?_)
      refine lv_iload_n hx hb dX2_depths_135 rfl (lv_at hl 4 rfl) ?_
      refine lv_iload hx hb dX2_depths_136 (lv_at hl 0 rfl) ?_
      refine lv_aload_n hx hb dX2_depths_138 rfl (lv_at hl 3 rfl) ?_
      refine lv_iload_n hx hb dX2_depths_139 rfl (lv_at hl 5 rfl) ?_
      refine hv_wild hE hI hw dX2_depths_140 (fun r33 hw => ?_)
      refine lv_icmp_ge (tgt := 148) hx hb dX2_depths_141 (by decide) (fun c_141 => ?_) (fun c_141 => ?_)
      · have hw := hw.1 c_141
        refine lv_iconst (v := 0) hx hb dX2_depths_148 (by decide) ?_
        exact snd_X2_depths_L149 G mc ms a0 Q hE (fun h nc nk x1 x2 x3 x4 => wp_X2_depths_L86 G mc ms a0 Q k61 n h nc nk x1 x2 x3 x4) (fun h nc nk x1 x2 x3 x4 => ih h nc nk x1 x2 x3 x4) h32 ((nc + mc26) + mc30) ((nk + ms26) + ms30) x1 x3 a19 ((1 : Int32) + (if r27 < r31 then r31 else r27)) x2 (0 : Int32) hw hc hs _ _ _ hI (lv_sub hl [2, 3, 5, 6, 0] rfl)
      · have hw := hw.2 c_141
        refine lv_iconst (v := 1) hx hb dX2_depths_144 (by decide) ?_
        refine lv_goto (tgt := 149) hx hb dX2_depths_145 (by decide) ?_
        exact snd_X2_depths_L149 G mc ms a0 Q hE (fun h nc nk x1 x2 x3 x4 => wp_X2_depths_L86 G mc ms a0 Q k61 n h nc nk x1 x2 x3 x4) (fun h nc nk x1 x2 x3 x4 => ih h nc nk x1 x2 x3 x4) h32 ((nc + mc26) + mc30) ((nk + ms26) + ms30) x1 x3 a19 ((1 : Int32) + (if r27 < r31 then r31 else r27)) x2 (1 : Int32) hw hc hs _ _ _ hI (lv_sub hl [2, 3, 5, 6, 0] rfl)
def wp_X2_depths_L61 (G : GG) (mc : Nat) (ms : Nat) (a0 : Nat) (Q : Option Nat → HH → Prop) (k53 : (HH) → (Nat) → (Nat) → (Nat) → (Int32) → Prop) : Nat → (HH) → (Nat) → (Nat) → (Nat) → (Int32) → (Int32) → Prop
  | 0, _, _, _, _, _, _ => False
  | n + 1, h, nc, nk, x1, x2, x3 => w_len G h x1 (fun r8 => ((r8 ≤ x3 → k53 h nc nk x1 x2) ∧ (¬ r8 ≤ x3 → w_getq h a0 2 2 (fun r9 => w_nn r9 (fun a10 => w_is h a10 4 (wp_J2_get G h a10 x3 (fun r11 h12 => w_nn r11 (fun a13 => w_cast h12 a13 14 (w_getq h12 a13 14 7 (fun r14 => w_nn r14 (fun a15 => (∃ mc16 ms16, nc + mc16 ≤ mc ∧ nk + ms16 ≤ ms ∧ w_is h12 a15 4 (wp_J2_iterator G mc16 ms16 h12 a15 (fun r17 h18 => (∃ n86, wp_X2_depths_L86 G mc ms a0 Q (fun h nc nk x1 x2 x3 => wp_X2_depths_L61 G mc ms a0 Q k53 n h nc nk x1 x2 x3) n86 h18 (nc + mc16) (nk + ms16) x1 x2 x3 r17)))))))))))))))
set_option maxHeartbeats 4000000 in
theorem snd_X2_depths_L61 {p : Program} {l : Launch} {e : Env} {s : State} {m : MethodId} {args : Array Value} {below : List Frame} {meth : Method} {c : Code} {h0 : HH} (G : GG) (mc : Nat) (ms : Nat) (a0 : Nat) (Q : Option Nat → HH → Prop) (hE : hv_E p s m args meth c cX2_depths 7 (some (FieldType.array FieldType.int)) RX2 G h0) (k53 : (HH) → (Nat) → (Nat) → (Nat) → (Int32) → Prop) (hk53 : ∀ (h : HH) (nc : Nat) (nk : Nat) (x1 : Nat) (x2 : Int32), k53 h nc nk x1 x2 → nc ≤ mc → nk ≤ ms → ∀ (H : Heap) (locs : List Loc) (ls : Array Slot), hv_I G h0 s.heap h H locs → lv_has ls 7 [(0, .ref a0), (1, .ref x1), (2, .int x2)] → W p l e (headSpec (ws_ yX2_depths cX2_depths 7 (some (FieldType.array FieldType.int))) (rm_X2_depths mc ms)).room s m args below meth c H locs nc nk (MQ below (hv_Qq G h0 s.heap.size Q) args s mc ms (hv_A h0 s.heap.size)) (F0 m 53 ls [])) : ∀ (n : Nat) (h : HH) (nc : Nat) (nk : Nat) (x1 : Nat) (x2 : Int32) (x3 : Int32), wp_X2_depths_L61 G mc ms a0 Q k53 n h nc nk x1 x2 x3 → nc ≤ mc → nk ≤ ms → ∀ (H : Heap) (locs : List Loc) (ls : Array Slot), hv_I G h0 s.heap h H locs → lv_has ls 7 [(0, .ref a0), (1, .ref x1), (2, .int x2), (3, .int x3)] → W p l e (headSpec (ws_ yX2_depths cX2_depths 7 (some (FieldType.array FieldType.int))) (rm_X2_depths mc ms)).room s m args below meth c H locs nc nk (MQ below (hv_Qq G h0 s.heap.size Q) args s mc ms (hv_A h0 s.heap.size)) (F0 m 61 ls []) := by
  obtain ⟨⟨hx, hb, hml, hown, hts⟩, hr, hlocks, hXX⟩ := id hE
  intro n
  induction n with
  | zero => intro h nc nk x1 x2 x3 hw; exact hw.elim
  | succ n ih =>
    intro h nc nk x1 x2 x3 hw hc hs H locs ls hI hl
    unfold wp_X2_depths_L61 at hw
    refine lv_iload_n hx hb dX2_depths_61 rfl (lv_at hl 3 rfl) ?_
    refine lv_aload_n hx hb dX2_depths_62 rfl (lv_at hl 1 rfl) ?_
    refine hv_len hE hI hw dX2_depths_63 (fun r8 hw => ?_)
    refine lv_icmp_ge (tgt := 171) hx hb dX2_depths_64 (by decide) (fun c_64 => ?_) (fun c_64 => ?_)
    · have hw := hw.1 c_64
      refine lv_goto (tgt := 53) hx hb dX2_depths_171 (by decide) ?_
      exact hk53 h nc nk x1 x2 hw hc hs _ _ _ hI (lv_sub hl [0, 1, 2] rfl)
    · have hw := hw.2 c_64
      refine lv_aload_n hx hb dX2_depths_67 rfl (lv_at hl 0 rfl) ?_
      refine hv_wgetq hE hI in_X2 (ci := 2) rfl 2 (by decide) (hts _ q222) (fun _ hx => hx) hw dX2_depths_68 (fun r9 hw => ?_)
      refine lv_iload_n hx hb dX2_depths_71 rfl (lv_at hl 3 rfl) ?_
      obtain ⟨a10, hz, hwa10⟩ := hw; have hla10 := hl; subst hz; have hw := hwa10; have hl := hla10
      obtain ⟨⟨fs, hre⟩, hw⟩ := hw
      refine hv_rcq hI (va_runV (As := [.int x3]) (b := a10) (rest := []) hE.1 (snd_J2_get l G _ h a10 x3 _ hw) (cwV 1 hts (lw_V q471 q472 q473 q102 q474) rfl rfl rfl (by decide +kernel) ⟨Nat.le_of_ble_eq_true rfl, Nat.le_of_ble_eq_true rfl⟩) (hv_preV hE hI (ci := 4) rfl hre) rfl rfl hl.1 rfl (lv_room (Nat.le_of_ble_eq_true rfl)) dX2_depths_72 ⟨hc, hs⟩) (fun r11 h12 H locs hw hI => ?_)
      obtain ⟨a13, hz, hwa13⟩ := hw; have hla13 := hl; subst hz; have hw := hwa13; have hl := hla13
      refine hv_wcast (ci := 14) hE hI (hts _ q469) rfl hw dX2_depths_75 (fun hw => ?_)
      refine hv_wgetqN hE hI in_X10 (ci := 14) rfl 7 (by decide) (hE.2.2.2.2.1.F 30 rfl) (fun _ hx => hx) hw dX2_depths_78 (fun r14 hw => ?_)
      obtain ⟨a15, hz, hwa15⟩ := hw; have hla15 := hl; subst hz; have hw := hwa15; have hl := hla15
      obtain ⟨mc16, ms16, hc, hs, hw⟩ := hw
      obtain ⟨⟨fs, hre⟩, hw⟩ := hw
      refine hv_rcq hI (va_runV (As := []) (b := a15) (rest := []) hE.1 (snd_J2_iterator l G _ mc16 ms16 h12 a15 _ hw) (cwV 0 hts (lw_V q351 q352 q353 q102 q354) rfl rfl rfl (by decide +kernel) ⟨Nat.le_of_ble_eq_true rfl, Nat.le_of_ble_eq_true rfl⟩) (hv_preV hE hI (ci := 4) rfl hre) rfl rfl hl.1 rfl (lv_room (Nat.le_of_ble_eq_true rfl)) dX2_depths_81 ⟨hc, hs⟩) (fun r17 h18 H locs hw hI => ?_)
      refine lv_astoreq (lv' := [(4, va_rf r17), (0, .ref a0), (1, .ref x1), (2, .int x2), (3, .int x3)]) hx hb dX2_depths_84 hl (by decide) rfl (fun ls hl => ?_)
      obtain ⟨n86, hw⟩ := hw
      exact snd_X2_depths_L86 G mc ms a0 Q hE (fun h nc nk x1 x2 x3 => wp_X2_depths_L61 G mc ms a0 Q k53 n h nc nk x1 x2 x3) (fun h nc nk x1 x2 x3 => ih h nc nk x1 x2 x3) n86 h18 (nc + mc16) (nk + ms16) x1 x2 x3 r17 hw hc hs _ _ _ hI (lv_sub hl [1, 2, 3, 4, 0] rfl)
def wp_X2_depths_L53 (G : GG) (mc : Nat) (ms : Nat) (a0 : Nat) (Q : Option Nat → HH → Prop) : Nat → (HH) → (Nat) → (Nat) → (Nat) → (Int32) → Prop
  | 0, _, _, _, _, _ => False
  | n + 1, h, nc, nk, x1, x2 => ((x2 = 0 → Q (some x1) h) ∧ (¬ x2 = 0 → (∃ n61, wp_X2_depths_L61 G mc ms a0 Q (fun h nc nk x1 x2 => wp_X2_depths_L53 G mc ms a0 Q n h nc nk x1 x2) n61 h nc nk x1 (0 : Int32) (0 : Int32))))
set_option maxHeartbeats 4000000 in
theorem snd_X2_depths_L53 {p : Program} {l : Launch} {e : Env} {s : State} {m : MethodId} {args : Array Value} {below : List Frame} {meth : Method} {c : Code} {h0 : HH} (G : GG) (mc : Nat) (ms : Nat) (a0 : Nat) (Q : Option Nat → HH → Prop) (hE : hv_E p s m args meth c cX2_depths 7 (some (FieldType.array FieldType.int)) RX2 G h0) : ∀ (n : Nat) (h : HH) (nc : Nat) (nk : Nat) (x1 : Nat) (x2 : Int32), wp_X2_depths_L53 G mc ms a0 Q n h nc nk x1 x2 → nc ≤ mc → nk ≤ ms → ∀ (H : Heap) (locs : List Loc) (ls : Array Slot), hv_I G h0 s.heap h H locs → lv_has ls 7 [(0, .ref a0), (1, .ref x1), (2, .int x2)] → W p l e (headSpec (ws_ yX2_depths cX2_depths 7 (some (FieldType.array FieldType.int))) (rm_X2_depths mc ms)).room s m args below meth c H locs nc nk (MQ below (hv_Qq G h0 s.heap.size Q) args s mc ms (hv_A h0 s.heap.size)) (F0 m 53 ls []) := by
  obtain ⟨⟨hx, hb, hml, hown, hts⟩, hr, hlocks, hXX⟩ := id hE
  intro n
  induction n with
  | zero => intro h nc nk x1 x2 hw; exact hw.elim
  | succ n ih =>
    intro h nc nk x1 x2 hw hc hs H locs ls hI hl
    unfold wp_X2_depths_L53 at hw
    refine lv_iload_n hx hb dX2_depths_53 rfl (lv_at hl 2 rfl) ?_
    refine lv_if_eq (tgt := 174) hx hb dX2_depths_54 (by decide) (fun c_54 => ?_) (fun c_54 => ?_)
    · have hw := hw.1 c_54
      refine lv_aload_n hx hb dX2_depths_174 rfl (lv_at hl 1 rfl) ?_
      exact hv_qret (v := (some x1)) hE (Or.inr ⟨_, rfl⟩) hI hc hs hw dX2_depths_175
    · have hw := hw.2 c_54
      refine lv_iconst (v := 0) hx hb dX2_depths_57 (by decide) ?_
      refine lv_istore_n (lv' := [(2, .int (0 : Int32)), (0, .ref a0), (1, .ref x1)]) hx hb dX2_depths_58 rfl hl (by decide) rfl (fun ls hl => ?_)
      refine lv_iconst (v := 0) hx hb dX2_depths_59 (by decide) ?_
      refine lv_istore_n (lv' := [(3, .int (0 : Int32)), (2, .int (0 : Int32)), (0, .ref a0), (1, .ref x1)]) hx hb dX2_depths_60 rfl hl (by decide) rfl (fun ls hl => ?_)
      obtain ⟨n61, hw⟩ := hw
      exact snd_X2_depths_L61 G mc ms a0 Q hE (fun h nc nk x1 x2 => wp_X2_depths_L53 G mc ms a0 Q n h nc nk x1 x2) (fun h nc nk x1 x2 => ih h nc nk x1 x2) n61 h nc nk x1 (0 : Int32) (0 : Int32) hw hc hs _ _ _ hI (lv_sub hl [2, 3, 1, 0] rfl)
def wp_X2_depths_L12 (G : GG) (mc : Nat) (ms : Nat) (a0 : Nat) (Q : Option Nat → HH → Prop) : Nat → (HH) → (Nat) → (Nat) → (Nat) → (Int32) → Prop
  | 0, _, _, _, _, _ => False
  | n + 1, h, nc, nk, x1, x2 => w_len G h x1 (fun r7 => ((r7 ≤ x2 → (∃ n53, wp_X2_depths_L53 G mc ms a0 Q n53 h nc nk x1 (1 : Int32))) ∧ (¬ r7 ≤ x2 → w_getq h a0 2 2 (fun r36 => w_nn r36 (fun a37 => w_is h a37 4 (wp_J2_get G h a37 x2 (fun r38 h39 => w_nn r38 (fun a40 => w_cast h39 a40 14 (w_geti h39 a40 14 6 (fun r41 => ((r41 = 0 → w_ist G h39 x1 x2 (1000 : Int32) (fun h42 => wp_X2_depths_L12 G mc ms a0 Q n h42 nc nk x1 (x2 + (1 : Int32)))) ∧ (¬ r41 = 0 → w_ist G h39 x1 x2 (0 : Int32) (fun h43 => wp_X2_depths_L12 G mc ms a0 Q n h43 nc nk x1 (x2 + (1 : Int32)))))))))))))))
set_option maxHeartbeats 4000000 in
theorem snd_X2_depths_L12 {p : Program} {l : Launch} {e : Env} {s : State} {m : MethodId} {args : Array Value} {below : List Frame} {meth : Method} {c : Code} {h0 : HH} (G : GG) (mc : Nat) (ms : Nat) (a0 : Nat) (Q : Option Nat → HH → Prop) (hE : hv_E p s m args meth c cX2_depths 7 (some (FieldType.array FieldType.int)) RX2 G h0) : ∀ (n : Nat) (h : HH) (nc : Nat) (nk : Nat) (x1 : Nat) (x2 : Int32), wp_X2_depths_L12 G mc ms a0 Q n h nc nk x1 x2 → nc ≤ mc → nk ≤ ms → ∀ (H : Heap) (locs : List Loc) (ls : Array Slot), hv_I G h0 s.heap h H locs → lv_has ls 7 [(0, .ref a0), (1, .ref x1), (2, .int x2)] → W p l e (headSpec (ws_ yX2_depths cX2_depths 7 (some (FieldType.array FieldType.int))) (rm_X2_depths mc ms)).room s m args below meth c H locs nc nk (MQ below (hv_Qq G h0 s.heap.size Q) args s mc ms (hv_A h0 s.heap.size)) (F0 m 12 ls []) := by
  obtain ⟨⟨hx, hb, hml, hown, hts⟩, hr, hlocks, hXX⟩ := id hE
  intro n
  induction n with
  | zero => intro h nc nk x1 x2 hw; exact hw.elim
  | succ n ih =>
    intro h nc nk x1 x2 hw hc hs H locs ls hI hl
    unfold wp_X2_depths_L12 at hw
    refine lv_iload_n hx hb dX2_depths_12 rfl (lv_at hl 2 rfl) ?_
    refine lv_aload_n hx hb dX2_depths_13 rfl (lv_at hl 1 rfl) ?_
    refine hv_len hE hI hw dX2_depths_14 (fun r7 hw => ?_)
    refine lv_icmp_ge (tgt := 51) hx hb dX2_depths_15 (by decide) (fun c_15 => ?_) (fun c_15 => ?_)
    · have hw := hw.1 c_15
      refine lv_iconst (v := 1) hx hb dX2_depths_51 (by decide) ?_
      refine lv_istore_n (lv' := [(2, .int (1 : Int32)), (0, .ref a0), (1, .ref x1)]) hx hb dX2_depths_52 rfl hl (by decide) rfl (fun ls hl => ?_)
      obtain ⟨n53, hw⟩ := hw
      exact snd_X2_depths_L53 G mc ms a0 Q hE n53 h nc nk x1 (1 : Int32) hw hc hs _ _ _ hI (lv_sub hl [1, 2, 0] rfl)
    · have hw := hw.2 c_15
      refine lv_aload_n hx hb dX2_depths_18 rfl (lv_at hl 1 rfl) ?_
      refine lv_iload_n hx hb dX2_depths_19 rfl (lv_at hl 2 rfl) ?_
      refine lv_aload_n hx hb dX2_depths_20 rfl (lv_at hl 0 rfl) ?_
      refine hv_wgetq hE hI in_X2 (ci := 2) rfl 2 (by decide) (hts _ q222) (fun _ hx => hx) hw dX2_depths_21 (fun r36 hw => ?_)
      refine lv_iload_n hx hb dX2_depths_24 rfl (lv_at hl 2 rfl) ?_
      obtain ⟨a37, hz, hwa37⟩ := hw; have hla37 := hl; subst hz; have hw := hwa37; have hl := hla37
      obtain ⟨⟨fs, hre⟩, hw⟩ := hw
      refine hv_rcq hI (va_runV (As := [.int x2]) (b := a37) (rest := [.int x2, .ref x1]) hE.1 (snd_J2_get l G _ h a37 x2 _ hw) (cwV 1 hts (lw_V q471 q472 q473 q102 q474) rfl rfl rfl (by decide +kernel) ⟨Nat.le_of_ble_eq_true rfl, Nat.le_of_ble_eq_true rfl⟩) (hv_preV hE hI (ci := 4) rfl hre) rfl rfl hl.1 rfl (lv_room (Nat.le_of_ble_eq_true rfl)) dX2_depths_25 ⟨hc, hs⟩) (fun r38 h39 H locs hw hI => ?_)
      obtain ⟨a40, hz, hwa40⟩ := hw; have hla40 := hl; subst hz; have hw := hwa40; have hl := hla40
      refine hv_wcast (ci := 14) hE hI (hts _ q469) rfl hw dX2_depths_28 (fun hw => ?_)
      refine hv_wgetiN hE hI in_X10 (ci := 14) rfl 6 (by decide) (hE.2.2.2.2.1.F 29 rfl) (fun _ hx => hx) hw dX2_depths_31 (fun r41 hw => ?_)
      refine lv_if_eq (tgt := 41) hx hb dX2_depths_34 (by decide) (fun c_34 => ?_) (fun c_34 => ?_)
      · have hw := hw.1 c_34
        refine lv_sipush (v := 1000) hx hb dX2_depths_41 (by decide) ?_
        refine hv_wist hE hI hw dX2_depths_44 (fun h42 H locs hw hI => ?_)
        refine lv_iinc (v := (x2 + (1 : Int32))) (lv' := [(2, .int (x2 + (1 : Int32))), (0, .ref a0), (1, .ref x1)]) hx hb dX2_depths_45 hl (k := 2) rfl rfl (by decide) rfl (fun ls hl => ?_)
        refine lv_goto (tgt := 12) hx hb dX2_depths_48 (by decide) ?_
        exact ih h42 nc nk x1 (x2 + (1 : Int32)) hw hc hs _ _ _ hI (lv_sub hl [1, 2, 0] rfl)
      · have hw := hw.2 c_34
        refine lv_iconst (v := 0) hx hb dX2_depths_37 (by decide) ?_
        refine lv_goto (tgt := 44) hx hb dX2_depths_38 (by decide) ?_
        refine hv_wist hE hI hw dX2_depths_44 (fun h43 H locs hw hI => ?_)
        refine lv_iinc (v := (x2 + (1 : Int32))) (lv' := [(2, .int (x2 + (1 : Int32))), (0, .ref a0), (1, .ref x1)]) hx hb dX2_depths_45 hl (k := 2) rfl rfl (by decide) rfl (fun ls hl => ?_)
        refine lv_goto (tgt := 12) hx hb dX2_depths_48 (by decide) ?_
        exact ih h43 nc nk x1 (x2 + (1 : Int32)) hw hc hs _ _ _ hI (lv_sub hl [1, 2, 0] rfl)
def wp_X2_depths (G : GG) (mc : Nat) (ms : Nat) (h : HH) (a0 : Nat) (Q : Option Nat → HH → Prop) : Prop := w_getq h a0 2 2 (fun r1 => w_nn r1 (fun a2 => w_is h a2 4 (wp_J2_size G h a2 (fun r3 h4 => (¬ r3 < 0 ∧ (Int32.toNatClampNeg r3) ≤ 1000000 ∧ (0 + 1 ≤ mc ∧ 0 + (Int32.toNatClampNeg r3) ≤ ms ∧ w_new h4 (.inl (G.2.1 0, (Int32.toNatClampNeg r3), .inl (fun _ => 0))) (fun a5 h6 => (∃ n12, wp_X2_depths_L12 G mc ms a0 Q n12 h6 (0 + 1) (0 + (Int32.toNatClampNeg r3)) a5 (0 : Int32)))))))))
set_option maxHeartbeats 4000000 in
theorem snd_X2_depths (l : Launch) (G : GG) (sz : Nat) (mc : Nat) (ms : Nat) (h : HH) (a0 : Nat) (Q : Option Nat → HH → Prop) (hw : wp_X2_depths G mc ms h a0 Q) : Met l yX2_depths (ws_ yX2_depths cX2_depths 7 (some (FieldType.array FieldType.int))) (rm_X2_depths mc ms) (hv_Pc G h sz [.ref a0]) (hv_Qq G h sz Q) mc ms (hv_A h sz) := by
  refine Met.ofW (cc := cX2_depths) (maxL := 7) (ret := (some (FieldType.array FieldType.int))) (by decide) rfl ?_
  intro p e s m args below meth c s₁ B hml hv
  obtain ⟨rfl, rfl, hE, hI⟩ := hv_open B hml hv
  have hE : hv_E p s m ([.ref a0] : List Value).toArray meth c cX2_depths 7 (some (FieldType.array FieldType.int)) RX2 G h := hE
  obtain ⟨⟨hx, hb, hml, hown, hts⟩, hr, hlocks, hXX⟩ := id hE
  have hl := lv_entry ([.ref a0] : List Value) (n := 7) (Nat.le_of_ble_eq_true rfl)
  rw [lg_entry_eq]
  generalize (lg_sl ([.ref a0] : List Value) ++ List.replicate (7 - (lg_sl ([.ref a0] : List Value)).length) Slot.unset).toArray = ls at hl ⊢
  have hl : lv_has ls 7 [(0, .ref a0)] := hl
  have hc : 0 ≤ mc := Nat.zero_le _
  have hs : 0 ≤ ms := Nat.zero_le _
  unfold wp_X2_depths at hw
  refine lv_aload_n hx hb dX2_depths_0 rfl (lv_at hl 0 rfl) ?_
  refine hv_wgetq hE hI in_X2 (ci := 2) rfl 2 (by decide) (hts _ q222) (fun _ hx => hx) hw dX2_depths_1 (fun r1 hw => ?_)
  obtain ⟨a2, hz, hwa2⟩ := hw; have hla2 := hl; subst hz; have hw := hwa2; have hl := hla2
  obtain ⟨⟨fs, hre⟩, hw⟩ := hw
  refine hv_rci hI (va_runV (As := []) (b := a2) (rest := []) hE.1 (snd_J2_size l G _ h a2 _ hw) (cwV 0 hts (lw_V q470 q333 q334 q102 q335) rfl rfl rfl (by decide +kernel) ⟨Nat.le_of_ble_eq_true rfl, Nat.le_of_ble_eq_true rfl⟩) (hv_preV hE hI (ci := 4) rfl hre) rfl rfl hl.1 rfl (lv_room (Nat.le_of_ble_eq_true rfl)) dX2_depths_4 ⟨hc, hs⟩) (fun r3 h4 H locs hw hI => ?_)
  obtain ⟨hneg, hby, hw⟩ := hw
  obtain ⟨hc, hs, hw⟩ := hw
  refine hv_wnewa_int (N' := (Int32.toNatClampNeg r3)) hE hI (hts _ q188) rfl hneg hby hw hc hs dX2_depths_7 (fun a5 h6 H hw hI => ?_)
  refine lv_astore_n (lv' := [(1, .ref a5), (0, .ref a0)]) hx hb dX2_depths_9 rfl hl (by decide) rfl (fun ls hl => ?_)
  refine lv_iconst (v := 0) hx hb dX2_depths_10 (by decide) ?_
  refine lv_istore_n (lv' := [(2, .int (0 : Int32)), (1, .ref a5), (0, .ref a0)]) hx hb dX2_depths_11 rfl hl (by decide) rfl (fun ls hl => ?_)
  obtain ⟨n12, hw⟩ := hw
  exact snd_X2_depths_L12 G mc ms a0 Q hE n12 h6 (0 + 1) (0 + (Int32.toNatClampNeg r3)) a5 (0 : Int32) hw hc hs _ _ _ hI (lv_sub hl [2, 1, 0] rfl)

/-- MatchmakerRules$Book.greatestDepth()I -/
abbrev rm_X2_greatestDepth (mc ms : Nat) : Room := { frames := 7, cells := mc, slots := ms, locals := 158 }
def wp_X2_greatestDepth_L13 (G : GG) (mc : Nat) (ms : Nat) (a0 : Nat) (Q : Int32 → HH → Prop) : Nat → (HH) → (Nat) → (Nat) → (Int32) → (Nat) → (Int32) → (Int32) → Prop
  | 0, _, _, _, _, _, _, _ => False
  | n + 1, h, nc, nk, x1, x2, x3, x4 => ((x3 ≤ x4 → Q x1 h) ∧ (¬ x3 ≤ x4 → w_ild G h x2 x4 (fun r6 => wp_X2_greatestDepth_L13 G mc ms a0 Q n h nc nk (if x1 < r6 then r6 else x1) x2 x3 (x4 + (1 : Int32)))))
set_option maxHeartbeats 4000000 in
theorem snd_X2_greatestDepth_L13 {p : Program} {l : Launch} {e : Env} {s : State} {m : MethodId} {args : Array Value} {below : List Frame} {meth : Method} {c : Code} {h0 : HH} (G : GG) (mc : Nat) (ms : Nat) (a0 : Nat) (Q : Int32 → HH → Prop) (hE : hv_E p s m args meth c cX2_greatestDepth 6 (some FieldType.int) RX2 G h0) : ∀ (n : Nat) (h : HH) (nc : Nat) (nk : Nat) (x1 : Int32) (x2 : Nat) (x3 : Int32) (x4 : Int32), wp_X2_greatestDepth_L13 G mc ms a0 Q n h nc nk x1 x2 x3 x4 → nc ≤ mc → nk ≤ ms → ∀ (H : Heap) (locs : List Loc) (ls : Array Slot), hv_I G h0 s.heap h H locs → lv_has ls 6 [(1, .int x1), (2, .ref x2), (3, .int x3), (4, .int x4)] → W p l e (headSpec (ws_ yX2_greatestDepth cX2_greatestDepth 6 (some FieldType.int)) (rm_X2_greatestDepth mc ms)).room s m args below meth c H locs nc nk (MQ below (hv_Qi G h0 s.heap.size Q) args s mc ms (hv_A h0 s.heap.size)) (F0 m 13 ls []) := by
  obtain ⟨⟨hx, hb, hml, hown, hts⟩, hr, hlocks, hXX⟩ := id hE
  intro n
  induction n with
  | zero => intro h nc nk x1 x2 x3 x4 hw; exact hw.elim
  | succ n ih =>
    intro h nc nk x1 x2 x3 x4 hw hc hs H locs ls hI hl
    unfold wp_X2_greatestDepth_L13 at hw
    refine lv_iload hx hb dX2_greatestDepth_13 (lv_at hl 3 rfl) ?_
    refine lv_iload_n hx hb dX2_greatestDepth_15 rfl (lv_at hl 2 rfl) ?_
    refine lv_icmp_ge (tgt := 38) hx hb dX2_greatestDepth_16 (by decide) (fun c_16 => ?_) (fun c_16 => ?_)
    · have hw := hw.1 c_16
      refine lv_iload_n hx hb dX2_greatestDepth_38 rfl (lv_at hl 0 rfl) ?_
      exact hv_iret hE hI hc hs hw dX2_greatestDepth_39
    · have hw := hw.2 c_16
      refine lv_aload_n hx hb dX2_greatestDepth_19 rfl (lv_at hl 1 rfl) ?_
      refine lv_iload hx hb dX2_greatestDepth_20 (lv_at hl 3 rfl) ?_
      refine hv_wild hE hI hw dX2_greatestDepth_22 (fun r6 hw => ?_)
      refine lv_istore (lv' := [(5, .int r6), (1, .int x1), (2, .ref x2), (3, .int x3), (4, .int x4)]) hx hb dX2_greatestDepth_23 hl (by decide) rfl (fun ls hl => ?_)
      refine lv_iload_n hx hb dX2_greatestDepth_25 rfl (lv_at hl 1 rfl) ?_
      refine lv_iload hx hb dX2_greatestDepth_26 (lv_at hl 0 rfl) ?_
      refine va_mmax (rest := []) hx hb (hml.trans hl.1.symm) hown (hts _ q610) (hts _ q533) (hts _ q113) (hts _ q534) (Nat.le_of_ble_eq_true rfl) (Nat.le_of_ble_eq_true rfl) hc hs dX2_greatestDepth_28 ?_
      refine lv_istore_n (lv' := [(1, .int (if x1 < r6 then r6 else x1)), (5, .int r6), (2, .ref x2), (3, .int x3), (4, .int x4)]) hx hb dX2_greatestDepth_31 rfl hl (by decide) rfl (fun ls hl => ?_)
      refine lv_iinc (v := (x4 + (1 : Int32))) (lv' := [(4, .int (x4 + (1 : Int32))), (1, .int (if x1 < r6 then r6 else x1)), (5, .int r6), (2, .ref x2), (3, .int x3)]) hx hb dX2_greatestDepth_32 hl (k := 4) rfl rfl (by decide) rfl (fun ls hl => ?_)
      refine lv_goto (tgt := 13) hx hb dX2_greatestDepth_35 (by decide) ?_
      exact ih h nc nk (if x1 < r6 then r6 else x1) x2 x3 (x4 + (1 : Int32)) hw hc hs _ _ _ hI (lv_sub hl [1, 3, 4, 0] rfl)
def wp_X2_greatestDepth (G : GG) (mc : Nat) (ms : Nat) (h : HH) (a0 : Nat) (Q : Int32 → HH → Prop) : Prop := (∃ mc1 ms1, 0 + mc1 ≤ mc ∧ 0 + ms1 ≤ ms ∧ w_is h a0 2 (wp_X2_depths G mc1 ms1 h a0 (fun r2 h3 => w_nn r2 (fun a4 => w_len G h3 a4 (fun r5 => (∃ n13, wp_X2_greatestDepth_L13 G mc ms a0 Q n13 h3 (0 + mc1) (0 + ms1) (0 : Int32) a4 r5 (0 : Int32)))))))
set_option maxHeartbeats 4000000 in
theorem snd_X2_greatestDepth (l : Launch) (G : GG) (sz : Nat) (mc : Nat) (ms : Nat) (h : HH) (a0 : Nat) (Q : Int32 → HH → Prop) (hw : wp_X2_greatestDepth G mc ms h a0 Q) : Met l yX2_greatestDepth (ws_ yX2_greatestDepth cX2_greatestDepth 6 (some FieldType.int)) (rm_X2_greatestDepth mc ms) (hv_Pc G h sz [.ref a0]) (hv_Qi G h sz Q) mc ms (hv_A h sz) := by
  refine Met.ofW (cc := cX2_greatestDepth) (maxL := 6) (ret := (some FieldType.int)) (by decide) rfl ?_
  intro p e s m args below meth c s₁ B hml hv
  obtain ⟨rfl, rfl, hE, hI⟩ := hv_open B hml hv
  have hE : hv_E p s m ([.ref a0] : List Value).toArray meth c cX2_greatestDepth 6 (some FieldType.int) RX2 G h := hE
  obtain ⟨⟨hx, hb, hml, hown, hts⟩, hr, hlocks, hXX⟩ := id hE
  have hl := lv_entry ([.ref a0] : List Value) (n := 6) (Nat.le_of_ble_eq_true rfl)
  rw [lg_entry_eq]
  generalize (lg_sl ([.ref a0] : List Value) ++ List.replicate (6 - (lg_sl ([.ref a0] : List Value)).length) Slot.unset).toArray = ls at hl ⊢
  have hl : lv_has ls 6 [(0, .ref a0)] := hl
  have hc : 0 ≤ mc := Nat.zero_le _
  have hs : 0 ≤ ms := Nat.zero_le _
  unfold wp_X2_greatestDepth at hw
  refine lv_iconst (v := 0) hx hb dX2_greatestDepth_0 (by decide) ?_
  refine lv_istore_n (lv' := [(1, .int (0 : Int32)), (0, .ref a0)]) hx hb dX2_greatestDepth_1 rfl hl (by decide) rfl (fun ls hl => ?_)
  refine lv_aload_n hx hb dX2_greatestDepth_2 rfl (lv_at hl 1 rfl) ?_
  obtain ⟨mc1, ms1, hc, hs, hw⟩ := hw
  obtain ⟨⟨fs, hre⟩, hw⟩ := hw
  refine hv_rcq hI (va_runV (As := []) (b := a0) (rest := []) hE.1 (snd_X2_depths l G _ mc1 ms1 h a0 _ hw) (cwV 0 hts (lw_V q556 q557 q558 q98 q559) rfl rfl rfl (by decide +kernel) ⟨Nat.le_of_ble_eq_true rfl, Nat.le_of_ble_eq_true rfl⟩) (hv_preV hE hI (ci := 2) rfl hre) rfl rfl hl.1 rfl (lv_room (Nat.le_of_ble_eq_true rfl)) dX2_greatestDepth_3 ⟨hc, hs⟩) (fun r2 h3 H locs hw hI => ?_)
  refine lv_astore_nq (lv' := [(2, va_rf r2), (1, .int (0 : Int32)), (0, .ref a0)]) hx hb dX2_greatestDepth_6 rfl hl (by decide) rfl (fun ls hl => ?_)
  refine lv_aload_nq hx hb dX2_greatestDepth_7 rfl (lv_at hl 0 rfl) ?_
  obtain ⟨a4, hz, hwa4⟩ := hw; have hla4 := hl; subst hz; have hw := hwa4; have hl := hla4
  refine hv_len hE hI hw dX2_greatestDepth_8 (fun r5 hw => ?_)
  refine lv_istore_n (lv' := [(3, .int r5), (2, .ref a4), (1, .int (0 : Int32)), (0, .ref a0)]) hx hb dX2_greatestDepth_9 rfl hl (by decide) rfl (fun ls hl => ?_)
  refine lv_iconst (v := 0) hx hb dX2_greatestDepth_10 (by decide) ?_
  refine lv_istore (lv' := [(4, .int (0 : Int32)), (3, .int r5), (2, .ref a4), (1, .int (0 : Int32)), (0, .ref a0)]) hx hb dX2_greatestDepth_11 hl (by decide) rfl (fun ls hl => ?_)
  obtain ⟨n13, hw⟩ := hw
  exact snd_X2_greatestDepth_L13 G mc ms a0 Q hE n13 h3 (0 + mc1) (0 + ms1) (0 : Int32) a4 r5 (0 : Int32) hw hc hs _ _ _ hI (lv_sub hl [3, 2, 1, 0] rfl)

/-- MatchmakerRules$Fact.is(CII)Z -/
abbrev rm_X10_is : Room := { frames := 1, cells := 0, slots := 0, locals := 12 }
def wp_X10_is (G : GG) (h : HH) (a0 : Nat) (x1 : Int32) (x2 : Int32) (x3 : Int32) (Q : Int32 → HH → Prop) : Prop := w_geti h a0 14 1 (fun r1 => ((¬ r1 = x1 → Q (0 : Int32) h) ∧ (r1 = x1 → w_geti h a0 14 2 (fun r2 => ((¬ r2 = x2 → Q (0 : Int32) h) ∧ (r2 = x2 → w_geti h a0 14 3 (fun r3 => ((¬ r3 = x3 → Q (0 : Int32) h) ∧ (r3 = x3 → Q (1 : Int32) h)))))))))
set_option maxHeartbeats 4000000 in
theorem snd_X10_is (l : Launch) (G : GG) (sz : Nat) (h : HH) (a0 : Nat) (x1 : Int32) (x2 : Int32) (x3 : Int32) (Q : Int32 → HH → Prop) (hw : wp_X10_is G h a0 x1 x2 x3 Q) : Met l yX10_is (ws_ yX10_is cX10_is 4 (some FieldType.boolean)) rm_X10_is (hv_Pc G h sz [.ref a0, .int x1, .int x2, .int x3]) (hv_Qi G h sz Q) 0 0 (hv_A h sz) := by
  refine Met.ofW (cc := cX10_is) (maxL := 4) (ret := (some FieldType.boolean)) (by decide) rfl ?_
  intro p e s m args below meth c s₁ B hml hv
  obtain ⟨rfl, rfl, hE, hI⟩ := hv_open B hml hv
  have hE : hv_E p s m ([.ref a0, .int x1, .int x2, .int x3] : List Value).toArray meth c cX10_is 4 (some FieldType.boolean) RX10 G h := hE
  obtain ⟨⟨hx, hb, hml, hown, hts⟩, hr, hlocks, hXX⟩ := id hE
  have hl := lv_entry ([.ref a0, .int x1, .int x2, .int x3] : List Value) (n := 4) (Nat.le_of_ble_eq_true rfl)
  rw [lg_entry_eq]
  generalize (lg_sl ([.ref a0, .int x1, .int x2, .int x3] : List Value) ++ List.replicate (4 - (lg_sl ([.ref a0, .int x1, .int x2, .int x3] : List Value)).length) Slot.unset).toArray = ls at hl ⊢
  have hl : lv_has ls 4 [(0, .ref a0), (1, .int x1), (2, .int x2), (3, .int x3)] := hl
  unfold wp_X10_is at hw
  refine lv_aload_n hx hb dX10_is_0 rfl (lv_at hl 0 rfl) ?_
  refine hv_wgeti hE hI in_X10 (ci := 14) rfl 1 (by decide) (hts _ q991) (fun _ hx => hx) hw dX10_is_1 (fun r1 hw => ?_)
  refine lv_iload_n hx hb dX10_is_4 rfl (lv_at hl 1 rfl) ?_
  refine lv_icmp_ne (tgt := 28) hx hb dX10_is_5 (by decide) (fun c_5 => ?_) (fun c_5 => ?_)
  · have hw := hw.1 c_5
    refine lv_iconst (v := 0) hx hb dX10_is_28 (by decide) ?_
    exact hv_zret hE hI (Nat.le_refl _) (Nat.le_refl _) rfl hw dX10_is_29
  · have hw := hw.2 c_5
    refine lv_aload_n hx hb dX10_is_8 rfl (lv_at hl 0 rfl) ?_
    refine hv_wgeti hE hI in_X10 (ci := 14) rfl 2 (by decide) (hts _ q995) (fun _ hx => hx) hw dX10_is_9 (fun r2 hw => ?_)
    refine lv_iload_n hx hb dX10_is_12 rfl (lv_at hl 2 rfl) ?_
    refine lv_icmp_ne (tgt := 28) hx hb dX10_is_13 (by decide) (fun c_13 => ?_) (fun c_13 => ?_)
    · have hw := hw.1 c_13
      refine lv_iconst (v := 0) hx hb dX10_is_28 (by decide) ?_
      exact hv_zret hE hI (Nat.le_refl _) (Nat.le_refl _) rfl hw dX10_is_29
    · have hw := hw.2 c_13
      refine lv_aload_n hx hb dX10_is_16 rfl (lv_at hl 0 rfl) ?_
      refine hv_wgeti hE hI in_X10 (ci := 14) rfl 3 (by decide) (hts _ q999) (fun _ hx => hx) hw dX10_is_17 (fun r3 hw => ?_)
      refine lv_iload_n hx hb dX10_is_20 rfl (lv_at hl 3 rfl) ?_
      refine lv_icmp_ne (tgt := 28) hx hb dX10_is_21 (by decide) (fun c_21 => ?_) (fun c_21 => ?_)
      · have hw := hw.1 c_21
        refine lv_iconst (v := 0) hx hb dX10_is_28 (by decide) ?_
        exact hv_zret hE hI (Nat.le_refl _) (Nat.le_refl _) rfl hw dX10_is_29
      · have hw := hw.2 c_21
        refine lv_iconst (v := 1) hx hb dX10_is_24 (by decide) ?_
        refine lv_goto (tgt := 29) hx hb dX10_is_25 (by decide) ?_
        exact hv_zret hE hI (Nat.le_refl _) (Nat.le_refl _) rfl hw dX10_is_29

/-- MatchmakerRules$Book.find(CII)LMatchmakerRules$Fact; -/
abbrev rm_X2_find_2 (mc ms : Nat) : Room := { frames := 3, cells := mc, slots := ms, locals := 73 }
def wp_X2_find_2_L9 (G : GG) (mc : Nat) (ms : Nat) (a0 : Nat) (Q : Option Nat → HH → Prop) : Nat → (HH) → (Nat) → (Nat) → (Int32) → (Int32) → (Int32) → (Option Nat) → Prop
  | 0, _, _, _, _, _, _, _ => False
  | n + 1, h, nc, nk, x1, x2, x3, x4 => w_nn x4 (fun a6 => w_is h a6 13 (wp_J15_hasNext G h a6 (fun r7 h8 => ((r7 = 0 → Q none h8) ∧ (¬ r7 = 0 → w_is h8 a6 13 (wp_J15_next G h8 a6 (fun r9 h10 => w_nn r9 (fun a11 => w_cast h10 a11 14 (w_is h10 a11 14 (wp_X10_is G h10 a11 x1 x2 x3 (fun r12 h13 => ((r12 = 0 → wp_X2_find_2_L9 G mc ms a0 Q n h13 nc nk x1 x2 x3 (some a6)) ∧ (¬ r12 = 0 → Q (some a11) h13)))))))))))))
set_option maxHeartbeats 4000000 in
theorem snd_X2_find_2_L9 {p : Program} {l : Launch} {e : Env} {s : State} {m : MethodId} {args : Array Value} {below : List Frame} {meth : Method} {c : Code} {h0 : HH} (G : GG) (mc : Nat) (ms : Nat) (a0 : Nat) (Q : Option Nat → HH → Prop) (hE : hv_E p s m args meth c cX2_find_2 6 (some (FieldType.object "MatchmakerRules$Fact")) RX2 G h0) : ∀ (n : Nat) (h : HH) (nc : Nat) (nk : Nat) (x1 : Int32) (x2 : Int32) (x3 : Int32) (x4 : Option Nat), wp_X2_find_2_L9 G mc ms a0 Q n h nc nk x1 x2 x3 x4 → nc ≤ mc → nk ≤ ms → ∀ (H : Heap) (locs : List Loc) (ls : Array Slot), hv_I G h0 s.heap h H locs → lv_has ls 6 [(1, .int x1), (2, .int x2), (3, .int x3), (4, va_rf x4)] → W p l e (headSpec (ws_ yX2_find_2 cX2_find_2 6 (some (FieldType.object "MatchmakerRules$Fact"))) (rm_X2_find_2 mc ms)).room s m args below meth c H locs nc nk (MQ below (hv_Qq G h0 s.heap.size Q) args s mc ms (hv_A h0 s.heap.size)) (F0 m 9 ls []) := by
  obtain ⟨⟨hx, hb, hml, hown, hts⟩, hr, hlocks, hXX⟩ := id hE
  intro n
  induction n with
  | zero => intro h nc nk x1 x2 x3 x4 hw; exact hw.elim
  | succ n ih =>
    intro h nc nk x1 x2 x3 x4 hw hc hs H locs ls hI hl
    unfold wp_X2_find_2_L9 at hw
    refine lv_aloadq hx hb dX2_find_2_9 (lv_at hl 3 rfl) ?_
    obtain ⟨a6, hz, hwa6⟩ := hw; have hla6 := hl; subst hz; have hw := hwa6; have hl := hla6
    obtain ⟨⟨fs, hre⟩, hw⟩ := hw
    refine hv_rFi hI (va_runF (As := []) (b := a6) (rest := []) (hXX.1.1 13 _ rfl).2 hE.1 (snd_J15_hasNext l G _ h a6 _ hw) (va_cwF 0 hts (lw_F q375 q379 q381 q121 q383) rfl rfl rfl (hv_fw0 hE.2.2.2.2.1) (by decide +kernel) ⟨Nat.le_of_ble_eq_true rfl, Nat.le_of_ble_eq_true rfl⟩) (hv_preV hE hI (ci := 13) rfl hre) rfl rfl hl.1 rfl (lv_room (Nat.le_of_ble_eq_true rfl)) dX2_find_2_11 ⟨hc, hs⟩) (fun r7 h8 H locs hw hI => ?_)
    refine lv_if_eq (tgt := 48) hx hb dX2_find_2_16 (by decide) (fun c_16 => ?_) (fun c_16 => ?_)
    · have hw := hw.1 c_16
      refine lv_null hx hb dX2_find_2_48 ?_
      exact hv_qret (v := none) hE (Or.inl ⟨_, rfl⟩) hI hc hs hw dX2_find_2_49
    · have hw := hw.2 c_16
      refine lv_aload hx hb dX2_find_2_19 (lv_at hl 3 rfl) ?_
      obtain ⟨⟨fs, hre⟩, hw⟩ := hw
      refine hv_rFq hI (va_runF (As := []) (b := a6) (rest := []) (hXX.1.1 13 _ rfl).2 hE.1 (snd_J15_next l G _ h8 a6 _ hw) (va_cwF 0 hts (lw_F q385 q388 q390 q121 q392) rfl rfl rfl (hv_fw1 hE.2.2.2.2.1) (by decide +kernel) ⟨Nat.le_of_ble_eq_true rfl, Nat.le_of_ble_eq_true rfl⟩) (hv_preV hE hI (ci := 13) rfl hre) rfl rfl hl.1 rfl (lv_room (Nat.le_of_ble_eq_true rfl)) dX2_find_2_21 ⟨hc, hs⟩) (fun r9 h10 H locs hw hI => ?_)
      obtain ⟨a11, hz, hwa11⟩ := hw; have hla11 := hl; subst hz; have hw := hwa11; have hl := hla11
      refine hv_wcast (ci := 14) hE hI (hts _ q469) rfl hw dX2_find_2_26 (fun hw => ?_)
      refine lv_astore (lv' := [(5, .ref a11), (1, .int x1), (2, .int x2), (3, .int x3), (4, .ref a6)]) hx hb dX2_find_2_29 hl (by decide) rfl (fun ls hl => ?_)
      refine lv_aload hx hb dX2_find_2_31 (lv_at hl 0 rfl) ?_
      refine lv_iload_n hx hb dX2_find_2_33 rfl (lv_at hl 1 rfl) ?_
      refine lv_iload_n hx hb dX2_find_2_34 rfl (lv_at hl 2 rfl) ?_
      refine lv_iload_n hx hb dX2_find_2_35 rfl (lv_at hl 3 rfl) ?_
      obtain ⟨⟨fs, hre⟩, hw⟩ := hw
      refine hv_rci hI (va_runV (As := [.int x1, .int x2, .int x3]) (b := a11) (rest := []) hE.1 (snd_X10_is l G _ h10 a11 x1 x2 x3 _ hw) (cwV 3 hts (lw_V q618 q619 q620 q126 q621) rfl rfl rfl (by decide +kernel) ⟨Nat.le_of_ble_eq_true rfl, Nat.le_of_ble_eq_true rfl⟩) (hv_preV hE hI (ci := 14) rfl hre) rfl rfl hl.1 rfl (lv_room (Nat.le_of_ble_eq_true rfl)) dX2_find_2_36 ⟨hc, hs⟩) (fun r12 h13 H locs hw hI => ?_)
      refine lv_if_eq (tgt := 45) hx hb dX2_find_2_39 (by decide) (fun c_39 => ?_) (fun c_39 => ?_)
      · have hw := hw.1 c_39
        refine lv_goto (tgt := 9) hx hb dX2_find_2_45 (by decide) ?_
        exact ih h13 nc nk x1 x2 x3 (some a6) hw hc hs _ _ _ hI (lv_sub hl [1, 2, 3, 4] rfl)
      · have hw := hw.2 c_39
        refine lv_aload hx hb dX2_find_2_42 (lv_at hl 0 rfl) ?_
        exact hv_qret (v := (some a11)) hE (Or.inl ⟨_, rfl⟩) hI hc hs hw dX2_find_2_44
def wp_X2_find_2 (G : GG) (mc : Nat) (ms : Nat) (h : HH) (a0 : Nat) (x1 : Int32) (x2 : Int32) (x3 : Int32) (Q : Option Nat → HH → Prop) : Prop := w_getq h a0 2 2 (fun r1 => w_nn r1 (fun a2 => (∃ mc3 ms3, 0 + mc3 ≤ mc ∧ 0 + ms3 ≤ ms ∧ w_is h a2 4 (wp_J2_iterator G mc3 ms3 h a2 (fun r4 h5 => (∃ n9, wp_X2_find_2_L9 G mc ms a0 Q n9 h5 (0 + mc3) (0 + ms3) x1 x2 x3 r4))))))
set_option maxHeartbeats 4000000 in
theorem snd_X2_find_2 (l : Launch) (G : GG) (sz : Nat) (mc : Nat) (ms : Nat) (h : HH) (a0 : Nat) (x1 : Int32) (x2 : Int32) (x3 : Int32) (Q : Option Nat → HH → Prop) (hw : wp_X2_find_2 G mc ms h a0 x1 x2 x3 Q) : Met l yX2_find_2 (ws_ yX2_find_2 cX2_find_2 6 (some (FieldType.object "MatchmakerRules$Fact"))) (rm_X2_find_2 mc ms) (hv_Pc G h sz [.ref a0, .int x1, .int x2, .int x3]) (hv_Qq G h sz Q) mc ms (hv_A h sz) := by
  refine Met.ofW (cc := cX2_find_2) (maxL := 6) (ret := (some (FieldType.object "MatchmakerRules$Fact"))) (by decide) rfl ?_
  intro p e s m args below meth c s₁ B hml hv
  obtain ⟨rfl, rfl, hE, hI⟩ := hv_open B hml hv
  have hE : hv_E p s m ([.ref a0, .int x1, .int x2, .int x3] : List Value).toArray meth c cX2_find_2 6 (some (FieldType.object "MatchmakerRules$Fact")) RX2 G h := hE
  obtain ⟨⟨hx, hb, hml, hown, hts⟩, hr, hlocks, hXX⟩ := id hE
  have hl := lv_entry ([.ref a0, .int x1, .int x2, .int x3] : List Value) (n := 6) (Nat.le_of_ble_eq_true rfl)
  rw [lg_entry_eq]
  generalize (lg_sl ([.ref a0, .int x1, .int x2, .int x3] : List Value) ++ List.replicate (6 - (lg_sl ([.ref a0, .int x1, .int x2, .int x3] : List Value)).length) Slot.unset).toArray = ls at hl ⊢
  have hl : lv_has ls 6 [(0, .ref a0), (1, .int x1), (2, .int x2), (3, .int x3)] := hl
  have hc : 0 ≤ mc := Nat.zero_le _
  have hs : 0 ≤ ms := Nat.zero_le _
  unfold wp_X2_find_2 at hw
  refine lv_aload_n hx hb dX2_find_2_0 rfl (lv_at hl 0 rfl) ?_
  refine hv_wgetq hE hI in_X2 (ci := 2) rfl 2 (by decide) (hts _ q222) (fun _ hx => hx) hw dX2_find_2_1 (fun r1 hw => ?_)
  obtain ⟨a2, hz, hwa2⟩ := hw; have hla2 := hl; subst hz; have hw := hwa2; have hl := hla2
  obtain ⟨mc3, ms3, hc, hs, hw⟩ := hw
  obtain ⟨⟨fs, hre⟩, hw⟩ := hw
  refine hv_rcq hI (va_runV (As := []) (b := a2) (rest := []) hE.1 (snd_J2_iterator l G _ mc3 ms3 h a2 _ hw) (cwV 0 hts (lw_V q351 q352 q353 q102 q354) rfl rfl rfl (by decide +kernel) ⟨Nat.le_of_ble_eq_true rfl, Nat.le_of_ble_eq_true rfl⟩) (hv_preV hE hI (ci := 4) rfl hre) rfl rfl hl.1 rfl (lv_room (Nat.le_of_ble_eq_true rfl)) dX2_find_2_4 ⟨hc, hs⟩) (fun r4 h5 H locs hw hI => ?_)
  refine lv_astoreq (lv' := [(4, va_rf r4), (0, .ref a0), (1, .int x1), (2, .int x2), (3, .int x3)]) hx hb dX2_find_2_7 hl (by decide) rfl (fun ls hl => ?_)
  obtain ⟨n9, hw⟩ := hw
  exact snd_X2_find_2_L9 G mc ms a0 Q hE n9 h5 (0 + mc3) (0 + ms3) x1 x2 x3 r4 hw hc hs _ _ _ hI (lv_sub hl [2, 3, 4, 0] rfl)

/-- MatchmakerRules$Book.isThere(I)Z -/
abbrev rm_X2_isThere (mc ms : Nat) : Room := { frames := 4, cells := mc, slots := ms, locals := 96 }
def wp_X2_isThere (G : GG) (mc : Nat) (ms : Nat) (h : HH) (a0 : Nat) (x1 : Int32) (Q : Int32 → HH → Prop) : Prop := ((x1 = (-1 : Int32) → Q (1 : Int32) h) ∧ (¬ x1 = (-1 : Int32) → (∃ mc1 ms1, 0 + mc1 ≤ mc ∧ 0 + ms1 ≤ ms ∧ w_is h a0 2 (wp_X2_find G mc1 ms1 h a0 x1 (fun r2 h3 => ((r2 = none → Q (0 : Int32) h3) ∧ (∀ a4, r2 = some a4 → Q (1 : Int32) h3)))))))
set_option maxHeartbeats 4000000 in
theorem snd_X2_isThere (l : Launch) (G : GG) (sz : Nat) (mc : Nat) (ms : Nat) (h : HH) (a0 : Nat) (x1 : Int32) (Q : Int32 → HH → Prop) (hw : wp_X2_isThere G mc ms h a0 x1 Q) : Met l yX2_isThere (ws_ yX2_isThere cX2_isThere 2 (some FieldType.boolean)) (rm_X2_isThere mc ms) (hv_Pc G h sz [.ref a0, .int x1]) (hv_Qi G h sz Q) mc ms (hv_A h sz) := by
  refine Met.ofW (cc := cX2_isThere) (maxL := 2) (ret := (some FieldType.boolean)) (by decide) rfl ?_
  intro p e s m args below meth c s₁ B hml hv
  obtain ⟨rfl, rfl, hE, hI⟩ := hv_open B hml hv
  have hE : hv_E p s m ([.ref a0, .int x1] : List Value).toArray meth c cX2_isThere 2 (some FieldType.boolean) RX2 G h := hE
  obtain ⟨⟨hx, hb, hml, hown, hts⟩, hr, hlocks, hXX⟩ := id hE
  have hl := lv_entry ([.ref a0, .int x1] : List Value) (n := 2) (Nat.le_of_ble_eq_true rfl)
  rw [lg_entry_eq]
  generalize (lg_sl ([.ref a0, .int x1] : List Value) ++ List.replicate (2 - (lg_sl ([.ref a0, .int x1] : List Value)).length) Slot.unset).toArray = ls at hl ⊢
  have hl : lv_has ls 2 [(0, .ref a0), (1, .int x1)] := hl
  have hc : 0 ≤ mc := Nat.zero_le _
  have hs : 0 ≤ ms := Nat.zero_le _
  unfold wp_X2_isThere at hw
  refine lv_iload_n hx hb dX2_isThere_0 rfl (lv_at hl 1 rfl) ?_
  refine lv_iconst (v := -1) hx hb dX2_isThere_1 (by decide) ?_
  refine lv_icmp_eq (tgt := 13) hx hb dX2_isThere_2 (by decide) (fun c_2 => ?_) (fun c_2 => ?_)
  · have hw := hw.1 c_2
    refine lv_iconst (v := 1) hx hb dX2_isThere_13 (by decide) ?_
    refine lv_goto (tgt := 18) hx hb dX2_isThere_14 (by decide) ?_
    exact hv_zret hE hI hc hs rfl hw dX2_isThere_18
  · have hw := hw.2 c_2
    refine lv_aload_n hx hb dX2_isThere_5 rfl (lv_at hl 0 rfl) ?_
    refine lv_iload_n hx hb dX2_isThere_6 rfl (lv_at hl 1 rfl) ?_
    obtain ⟨mc1, ms1, hc, hs, hw⟩ := hw
    obtain ⟨⟨fs, hre⟩, hw⟩ := hw
    refine hv_rcq hI (va_runV (As := [.int x1]) (b := a0) (rest := []) hE.1 (snd_X2_find l G _ mc1 ms1 h a0 x1 _ hw) (cwV 1 hts (lw_V q565 q566 q567 q98 q568) rfl rfl rfl (by decide +kernel) ⟨Nat.le_of_ble_eq_true rfl, Nat.le_of_ble_eq_true rfl⟩) (hv_preV hE hI (ci := 2) rfl hre) rfl rfl hl.1 rfl (lv_room (Nat.le_of_ble_eq_true rfl)) dX2_isThere_7 ⟨hc, hs⟩) (fun r2 h3 H locs hw hI => ?_)
    refine lv_ifnullq (tgt := 17) hx hb dX2_isThere_10 (by decide) (fun c_10 => ?_) (fun c_10 => ?_)
    · have hwa4 := hw.1 c_10; have hla4 := hl; subst c_10; have hw := hwa4; have hl := hla4
      refine lv_iconst (v := 0) hx hb dX2_isThere_17 (by decide) ?_
      exact hv_zret hE hI hc hs rfl hw dX2_isThere_18
    · obtain ⟨a4, hz⟩ := Option.ne_none_iff_exists.mp c_10
      have hwa4 := hw.2 a4 hz.symm; have hla4 := hl; subst hz; have hw := hwa4; have hl := hla4
      refine lv_iconst (v := 1) hx hb dX2_isThere_13 (by decide) ?_
      refine lv_goto (tgt := 18) hx hb dX2_isThere_14 (by decide) ?_
      exact hv_zret hE hI hc hs rfl hw dX2_isThere_18

/-- MatchmakerRules$Firing.isLike(LMatchmakerRules$Firing;)Z -/
abbrev rm_X12_isLike : Room := { frames := 1, cells := 0, slots := 0, locals := 12 }
def wp_X12_isLike (G : GG) (h : HH) (a0 : Nat) (x1 : Option Nat) (Q : Int32 → HH → Prop) : Prop := w_getq h a0 16 0 (fun r1 => w_nn x1 (fun a2 => w_getq h a2 16 0 (fun r3 => ((¬ r1 = r3 → Q (0 : Int32) h) ∧ (r1 = r3 → w_geti h a0 16 1 (fun r4 => w_geti h a2 16 1 (fun r5 => ((¬ r4 = r5 → Q (0 : Int32) h) ∧ (r4 = r5 → w_geti h a0 16 2 (fun r6 => w_geti h a2 16 2 (fun r7 => ((¬ r6 = r7 → Q (0 : Int32) h) ∧ (r6 = r7 → Q (1 : Int32) h)))))))))))))
set_option maxHeartbeats 4000000 in
theorem snd_X12_isLike (l : Launch) (G : GG) (sz : Nat) (h : HH) (a0 : Nat) (x1 : Option Nat) (Q : Int32 → HH → Prop) (hw : wp_X12_isLike G h a0 x1 Q) : Met l yX12_isLike (ws_ yX12_isLike cX12_isLike 2 (some FieldType.boolean)) rm_X12_isLike (hv_Pc G h sz [.ref a0, va_rf x1]) (hv_Qi G h sz Q) 0 0 (hv_A h sz) := by
  refine Met.ofW (cc := cX12_isLike) (maxL := 2) (ret := (some FieldType.boolean)) (by decide) rfl ?_
  intro p e s m args below meth c s₁ B hml hv
  obtain ⟨rfl, rfl, hE, hI⟩ := hv_open B hml hv
  have hE : hv_E p s m ([.ref a0, va_rf x1] : List Value).toArray meth c cX12_isLike 2 (some FieldType.boolean) RX12 G h := hE
  obtain ⟨⟨hx, hb, hml, hown, hts⟩, hr, hlocks, hXX⟩ := id hE
  have hl := lv_entry ([.ref a0, va_rf x1] : List Value) (n := 2) (by cases x1 <;> exact Nat.le_of_ble_eq_true rfl)
  rw [lg_entry_eq]
  generalize (lg_sl ([.ref a0, va_rf x1] : List Value) ++ List.replicate (2 - (lg_sl ([.ref a0, va_rf x1] : List Value)).length) Slot.unset).toArray = ls at hl ⊢
  have hl : lv_has ls 2 [(0, .ref a0), (1, va_rf x1)] := (by cases x1 <;> exact hl)
  unfold wp_X12_isLike at hw
  refine lv_aload_n hx hb dX12_isLike_0 rfl (lv_at hl 0 rfl) ?_
  refine hv_wgetq hE hI in_X12 (ci := 16) rfl 0 (by decide) (hts _ q1185) (fun _ hx => hx) hw dX12_isLike_1 (fun r1 hw => ?_)
  refine lv_aload_nq hx hb dX12_isLike_4 rfl (lv_at hl 1 rfl) ?_
  obtain ⟨a2, hz, hwa2⟩ := hw; have hla2 := hl; subst hz; have hw := hwa2; have hl := hla2
  refine hv_wgetq hE hI in_X12 (ci := 16) rfl 0 (by decide) (hts _ q1185) (fun _ hx => hx) hw dX12_isLike_5 (fun r3 hw => ?_)
  refine lv_acmp_ne (rx := r1) (ry := r3) (tgt := 37) hx hb dX12_isLike_8 (by decide) (fun c_8 => ?_) (fun c_8 => ?_)
  · have hw := hw.1 c_8
    refine lv_iconst (v := 0) hx hb dX12_isLike_37 (by decide) ?_
    exact hv_zret hE hI (Nat.le_refl _) (Nat.le_refl _) rfl hw dX12_isLike_38
  · have hw := hw.2 c_8
    refine lv_aload_n hx hb dX12_isLike_11 rfl (lv_at hl 0 rfl) ?_
    refine hv_wgeti hE hI in_X12 (ci := 16) rfl 1 (by decide) (hts _ q1188) (fun _ hx => hx) hw dX12_isLike_12 (fun r4 hw => ?_)
    refine lv_aload_n hx hb dX12_isLike_15 rfl (lv_at hl 1 rfl) ?_
    refine hv_wgeti hE hI in_X12 (ci := 16) rfl 1 (by decide) (hts _ q1188) (fun _ hx => hx) hw dX12_isLike_16 (fun r5 hw => ?_)
    refine lv_icmp_ne (tgt := 37) hx hb dX12_isLike_19 (by decide) (fun c_19 => ?_) (fun c_19 => ?_)
    · have hw := hw.1 c_19
      refine lv_iconst (v := 0) hx hb dX12_isLike_37 (by decide) ?_
      exact hv_zret hE hI (Nat.le_refl _) (Nat.le_refl _) rfl hw dX12_isLike_38
    · have hw := hw.2 c_19
      refine lv_aload_n hx hb dX12_isLike_22 rfl (lv_at hl 0 rfl) ?_
      refine hv_wgeti hE hI in_X12 (ci := 16) rfl 2 (by decide) (hts _ q1191) (fun _ hx => hx) hw dX12_isLike_23 (fun r6 hw => ?_)
      refine lv_aload_n hx hb dX12_isLike_26 rfl (lv_at hl 1 rfl) ?_
      refine hv_wgeti hE hI in_X12 (ci := 16) rfl 2 (by decide) (hts _ q1191) (fun _ hx => hx) hw dX12_isLike_27 (fun r7 hw => ?_)
      refine lv_icmp_ne (tgt := 37) hx hb dX12_isLike_30 (by decide) (fun c_30 => ?_) (fun c_30 => ?_)
      · have hw := hw.1 c_30
        refine lv_iconst (v := 0) hx hb dX12_isLike_37 (by decide) ?_
        exact hv_zret hE hI (Nat.le_refl _) (Nat.le_refl _) rfl hw dX12_isLike_38
      · have hw := hw.2 c_30
        refine lv_iconst (v := 1) hx hb dX12_isLike_33 (by decide) ?_
        refine lv_goto (tgt := 38) hx hb dX12_isLike_34 (by decide) ?_
        exact hv_zret hE hI (Nat.le_refl _) (Nat.le_refl _) rfl hw dX12_isLike_38
