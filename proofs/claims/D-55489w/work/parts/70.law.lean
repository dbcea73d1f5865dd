/-! THE LAW'S BODY, walked (by gen/lawgen.py) -/
set_option maxRecDepth 100000
def R_law : String := "MatchmakerRulesLaw"
/-- the law's end: with 1 -/
def la_Ret (p : Program) (l : Launch) (e : Env) (s : State) (m : MethodId) (below : List Frame) (meth : Method) (c : Code) (b : Nat) (h0 : HH) (Q9 : State → Prop) : Prop :=
  ∀ (G : GG) (h : HH) (H : Heap) (locs : List Loc) (nc nk pc : Nat) {ls : Array Slot}, hv_I G h0 s.heap h H locs → nc ≤ 1200144 → nk ≤ 5494714 → decode code pc = .ok (.ireturn, 1) → W p l e room_1 s m #[.ref b] below meth c H locs nc nk Q9 (F0 m pc ls [.int 1])
/-- a reference in the world -/
def w_ml (G : GG) (h : HH) (a : Nat) (P : (Nat → Nat) → (Nat → Int32) → (Nat → Nat → Int32) → (Nat → UInt32) → Prop) : Prop := ∃ ad F A U, ml_S G h ad F A U ∧ ad 0 = a ∧ P ad F A U
def wp_L_law_L2191 (G : GG) (L : Nat) (xs : Nat → Int32) (k28 : (HH) → (Nat) → (Nat) → (Nat) → (Nat) → (Nat) → (Nat) → (Int32) → Prop) (h : HH) (nc : Nat) (nk : Nat) (x1 : Nat) (x2 : Nat) (x3 : Nat) (x4 : Nat) (x5 : Int32) : Prop := k28 h nc nk x1 x2 x3 x4 (x5 + (5 : Int32))
set_option maxHeartbeats 4000000 in
theorem snd_L_law_L2191 {p : Program} {l : Launch} {e : Env} {s : State} {m : MethodId} {below : List Frame} {meth : Method} {c : Code} {h0 : HH} {b : Nat} {Q9 : State → Prop} (G : GG) (L : Nat) (xs : Nat → Int32) (hl0 : l.stackTraces = false) (hX0 : va_X b L xs s s.heap) (hbl : b < s.heap.size) (hbA : ¬ hv_A h0 s.heap.size b) (hret : la_Ret p l e s m below meth c b h0 Q9) (hE : hv_E p s m #[.ref b] meth c cL_law 9 ret R_law G h0) (k28 : (HH) → (Nat) → (Nat) → (Nat) → (Nat) → (Nat) → (Nat) → (Int32) → Prop) (hk28 : ∀ (h : HH) (nc : Nat) (nk : Nat) (x1 : Nat) (x2 : Nat) (x3 : Nat) (x4 : Nat) (x5 : Int32), k28 h nc nk x1 x2 x3 x4 x5 → nc ≤ 1200144 → nk ≤ 5494714 → ∀ (H : Heap) (locs : List Loc) (ls : Array Slot), hv_I G h0 s.heap h H locs → lv_has ls 9 [(0, .ref b), (1, .ref x1), (2, .ref x2), (3, .ref x3), (4, .ref x4), (5, .int x5)] → W p l e room_1 s m #[.ref b] below meth c H locs nc nk Q9 (F0 m 28 ls [])) : ∀ (h : HH) (nc : Nat) (nk : Nat) (x1 : Nat) (x2 : Nat) (x3 : Nat) (x4 : Nat) (x5 : Int32), wp_L_law_L2191 G L xs k28 h nc nk x1 x2 x3 x4 x5 → nc ≤ 1200144 → nk ≤ 5494714 → ∀ (H : Heap) (locs : List Loc) (ls : Array Slot), hv_I G h0 s.heap h H locs → lv_has ls 9 [(0, .ref b), (1, .ref x1), (2, .ref x2), (3, .ref x3), (4, .ref x4), (5, .int x5)] → W p l e room_1 s m #[.ref b] below meth c H locs nc nk Q9 (F0 m 2191 ls []) := by
  obtain ⟨⟨hx, hb, hml, hown, hts⟩, hr, hlocks, hXX⟩ := id hE
  intro h nc nk x1 x2 x3 x4 x5 hw hc hs H locs ls hI hl
  unfold wp_L_law_L2191 at hw
  refine lv_iinc (v := (x5 + (5 : Int32))) (lv' := [(5, .int (x5 + (5 : Int32))), (0, .ref b), (1, .ref x1), (2, .ref x2), (3, .ref x3), (4, .ref x4)]) hx hb dL_law_2191 hl (k := 5) rfl rfl (by decide) rfl (fun ls hl => ?_)
  refine lv_goto (tgt := 28) hx hb dL_law_2194 (by decide) ?_
  exact hk28 h nc nk x1 x2 x3 x4 (x5 + (5 : Int32)) hw hc hs _ _ _ hI (lv_sub hl [1, 2, 3, 4, 5, 0] rfl)
def wp_L_law_L204 (G : GG) (L : Nat) (xs : Nat → Int32) (k28 : (HH) → (Nat) → (Nat) → (Nat) → (Nat) → (Nat) → (Nat) → (Int32) → Prop) (h : HH) (nc : Nat) (nk : Nat) (x1 : Nat) (x2 : Nat) (x3 : Nat) (x4 : Nat) (x5 : Int32) : Prop := (∃ mc13 ms13, nc + mc13 ≤ 1200144 ∧ nk + ms13 ≤ 5494714 ∧ w_is h x1 1 (wp_X1_clear G mc13 ms13 h x1 (fun r14 h15 => w_ml G h15 x2 (fun ad16 F16 A16 U16 => wp_X4_clear F16 A16 U16 (fun r17 F19 A19 U19 => ∀ h18, ml_S G h18 ad16 F19 A19 U19 → ml_O ad16 h15 h18 → ((r14 = r17 → wp_L_law_L2191 G L xs k28 h18 (nc + mc13) (nk + ms13) x1 x2 x3 x4 x5) ∧ (¬ r14 = r17 → False)))))))
set_option maxHeartbeats 4000000 in
theorem snd_L_law_L204 {p : Program} {l : Launch} {e : Env} {s : State} {m : MethodId} {below : List Frame} {meth : Method} {c : Code} {h0 : HH} {b : Nat} {Q9 : State → Prop} (G : GG) (L : Nat) (xs : Nat → Int32) (hl0 : l.stackTraces = false) (hX0 : va_X b L xs s s.heap) (hbl : b < s.heap.size) (hbA : ¬ hv_A h0 s.heap.size b) (hret : la_Ret p l e s m below meth c b h0 Q9) (hE : hv_E p s m #[.ref b] meth c cL_law 9 ret R_law G h0) (k28 : (HH) → (Nat) → (Nat) → (Nat) → (Nat) → (Nat) → (Nat) → (Int32) → Prop) (hk28 : ∀ (h : HH) (nc : Nat) (nk : Nat) (x1 : Nat) (x2 : Nat) (x3 : Nat) (x4 : Nat) (x5 : Int32), k28 h nc nk x1 x2 x3 x4 x5 → nc ≤ 1200144 → nk ≤ 5494714 → ∀ (H : Heap) (locs : List Loc) (ls : Array Slot), hv_I G h0 s.heap h H locs → lv_has ls 9 [(0, .ref b), (1, .ref x1), (2, .ref x2), (3, .ref x3), (4, .ref x4), (5, .int x5)] → W p l e room_1 s m #[.ref b] below meth c H locs nc nk Q9 (F0 m 28 ls [])) : ∀ (h : HH) (nc : Nat) (nk : Nat) (x1 : Nat) (x2 : Nat) (x3 : Nat) (x4 : Nat) (x5 : Int32), wp_L_law_L204 G L xs k28 h nc nk x1 x2 x3 x4 x5 → nc ≤ 1200144 → nk ≤ 5494714 → ∀ (H : Heap) (locs : List Loc) (ls : Array Slot), hv_I G h0 s.heap h H locs → lv_has ls 9 [(0, .ref b), (1, .ref x1), (2, .ref x2), (3, .ref x3), (4, .ref x4), (5, .int x5)] → W p l e room_1 s m #[.ref b] below meth c H locs nc nk Q9 (F0 m 204 ls []) := by
  obtain ⟨⟨hx, hb, hml, hown, hts⟩, hr, hlocks, hXX⟩ := id hE
  intro h nc nk x1 x2 x3 x4 x5 hw hc hs H locs ls hI hl
  unfold wp_L_law_L204 at hw
  refine lv_aload_n hx hb dL_law_204 rfl (lv_at hl 1 rfl) ?_
  obtain ⟨mc13, ms13, hc, hs, hw⟩ := hw
  obtain ⟨⟨fs, hre⟩, hw⟩ := hw
  refine hv_rci hI (va_runV (As := []) (b := x1) (rest := []) hE.1 (snd_X1_clear l G _ mc13 ms13 h x1 _ hw) (cwV 0 hts (lw_V q328 q329 q330 q97 q331) rfl rfl rfl (by decide +kernel) ⟨Nat.le_of_ble_eq_true rfl, Nat.le_of_ble_eq_true rfl⟩) (hv_preV hE hI (ci := 1) rfl hre) rfl rfl hl.1 rfl (lv_room (Nat.le_of_ble_eq_true rfl)) dL_law_205 ⟨hc, hs⟩) (fun r14 h15 H locs hw hI => ?_)
  refine lv_aload_n hx hb dL_law_208 rfl (lv_at hl 2 rfl) ?_
  obtain ⟨ad16, F16, A16, U16, hS16, hz, hw⟩ := hw
  have hM := snd_X4_clear l G H.size h15 ad16 F16 A16 U16 _ hS16 hw
  have hre := hS16.2.1
  rw [hz] at hM hre
  refine hv_rci hI (va_runV (As := []) (b := x2) (rest := [.int r14]) hE.1 hM (cwV 0 hts (lw_V q2102 q2103 q2104 q108 q2105) rfl rfl rfl (by decide +kernel) ⟨Nat.le_of_ble_eq_true rfl, Nat.le_of_ble_eq_true rfl⟩) (hv_preV hE hI (ci := 0) rfl hre) rfl rfl hl.1 rfl (lv_room (Nat.le_of_ble_eq_true rfl)) dL_law_209 ⟨hc, hs⟩) (fun r17 h18 H locs hw hI => ?_)
  obtain ⟨F19, A19, U19, hS19, hO19, hw⟩ := hw
  have hw := hw h18 hS19 hO19
  refine lv_icmp_eq (tgt := 2191) hx hb dL_law_212 (by decide) (fun c_212 => ?_) (fun c_212 => ?_)
  · have hw := hw.1 c_212
    exact snd_L_law_L2191 G L xs hl0 hX0 hbl hbA hret hE k28 hk28 h18 (nc + mc13) (nk + ms13) x1 x2 x3 x4 x5 hw hc hs _ _ _ hI (lv_sub hl [0, 1, 2, 3, 4, 5] rfl)
  · have hw := hw.2 c_212
    refine lv_iconst (v := 0) hx hb dL_law_215 (by decide) ?_
    exact hw.elim
def wp_L_law_L217 (G : GG) (L : Nat) (xs : Nat → Int32) (k28 : (HH) → (Nat) → (Nat) → (Nat) → (Nat) → (Nat) → (Nat) → (Int32) → Prop) (h : HH) (nc : Nat) (nk : Nat) (x1 : Nat) (x2 : Nat) (x3 : Nat) (x4 : Nat) (x5 : Int32) : Prop := (∃ mc20 ms20, nc + mc20 ≤ 1200144 ∧ nk + ms20 ≤ 5494714 ∧ wp_X0_rule G mc20 ms20 h (some x1) (some x3) (fun r21 h22 => w_ml G h22 x2 (fun ad23 F23 A23 U23 => wp_X4_rule F23 A23 U23 (fun r24 F26 A26 U26 => ∀ h25, ml_S G h25 ad23 F26 A26 U26 → ml_O ad23 h22 h25 → w_ml G h25 x2 (fun ad27 F27 A27 U27 => wp_X4_thrown F27 A27 U27 (fun r28 F30 A30 U30 => ∀ h29, ml_S G h29 ad27 F30 A30 U30 → ml_O ad27 h25 h29 → ((r28 = r21 → ((¬ r21 = 0 → wp_L_law_L2191 G L xs k28 h29 (nc + mc20) (nk + ms20) x1 x2 x3 x4 x5) ∧ (r21 = 0 → w_lld G h29 x3 (0 : Int32) (fun r31 => (((lg_cmp r31 (Int32.toInt64 r24)) = 0 → wp_L_law_L2191 G L xs k28 h29 (nc + mc20) (nk + ms20) x1 x2 x3 x4 x5) ∧ (¬ (lg_cmp r31 (Int32.toInt64 r24)) = 0 → False)))))) ∧ (¬ r28 = r21 → False))))))))
set_option maxHeartbeats 4000000 in
theorem snd_L_law_L217 {p : Program} {l : Launch} {e : Env} {s : State} {m : MethodId} {below : List Frame} {meth : Method} {c : Code} {h0 : HH} {b : Nat} {Q9 : State → Prop} (G : GG) (L : Nat) (xs : Nat → Int32) (hl0 : l.stackTraces = false) (hX0 : va_X b L xs s s.heap) (hbl : b < s.heap.size) (hbA : ¬ hv_A h0 s.heap.size b) (hret : la_Ret p l e s m below meth c b h0 Q9) (hE : hv_E p s m #[.ref b] meth c cL_law 9 ret R_law G h0) (k28 : (HH) → (Nat) → (Nat) → (Nat) → (Nat) → (Nat) → (Nat) → (Int32) → Prop) (hk28 : ∀ (h : HH) (nc : Nat) (nk : Nat) (x1 : Nat) (x2 : Nat) (x3 : Nat) (x4 : Nat) (x5 : Int32), k28 h nc nk x1 x2 x3 x4 x5 → nc ≤ 1200144 → nk ≤ 5494714 → ∀ (H : Heap) (locs : List Loc) (ls : Array Slot), hv_I G h0 s.heap h H locs → lv_has ls 9 [(0, .ref b), (1, .ref x1), (2, .ref x2), (3, .ref x3), (4, .ref x4), (5, .int x5)] → W p l e room_1 s m #[.ref b] below meth c H locs nc nk Q9 (F0 m 28 ls [])) : ∀ (h : HH) (nc : Nat) (nk : Nat) (x1 : Nat) (x2 : Nat) (x3 : Nat) (x4 : Nat) (x5 : Int32), wp_L_law_L217 G L xs k28 h nc nk x1 x2 x3 x4 x5 → nc ≤ 1200144 → nk ≤ 5494714 → ∀ (H : Heap) (locs : List Loc) (ls : Array Slot), hv_I G h0 s.heap h H locs → lv_has ls 9 [(0, .ref b), (1, .ref x1), (2, .ref x2), (3, .ref x3), (4, .ref x4), (5, .int x5)] → W p l e room_1 s m #[.ref b] below meth c H locs nc nk Q9 (F0 m 217 ls []) := by
  obtain ⟨⟨hx, hb, hml, hown, hts⟩, hr, hlocks, hXX⟩ := id hE
  intro h nc nk x1 x2 x3 x4 x5 hw hc hs H locs ls hI hl
  unfold wp_L_law_L217 at hw
  refine lv_aload_n hx hb dL_law_217 rfl (lv_at hl 1 rfl) ?_
  refine lv_aload_n hx hb dL_law_218 rfl (lv_at hl 3 rfl) ?_
  obtain ⟨mc20, ms20, hc, hs, hw⟩ := hw
  refine hv_rci hI (vx_runSW (As := [.ref x1, .ref x3]) (rest := []) hE.1 (snd_X0_rule l hl0 G _ mc20 ms20 h (some x1) (some x3) _ hw) (vx_cwSW 2 hts (lw_SW q649 q650 q96 q651) rfl rfl rfl (by decide +kernel) ⟨Nat.le_of_ble_eq_true rfl, Nat.le_of_ble_eq_true rfl⟩) (hv_preS hE hI) rfl rfl hl.1 rfl (lv_room (Nat.le_of_ble_eq_true rfl)) dL_law_219 ⟨hc, hs⟩) (fun r21 h22 H locs hw hI => ?_)
  refine lv_istore (lv' := [(6, .int r21), (0, .ref b), (1, .ref x1), (2, .ref x2), (3, .ref x3), (4, .ref x4), (5, .int x5)]) hx hb dL_law_222 hl (by decide) rfl (fun ls hl => ?_)
  refine lv_aload_n hx hb dL_law_224 rfl (lv_at hl 3 rfl) ?_
  obtain ⟨ad23, F23, A23, U23, hS23, hz, hw⟩ := hw
  have hM := snd_X4_rule l G H.size h22 ad23 F23 A23 U23 _ hS23 hw
  have hre := hS23.2.1
  rw [hz] at hM hre
  refine hv_rci hI (va_runV (As := []) (b := x2) (rest := []) hE.1 hM (cwV 0 hts (lw_V q2106 q2107 q2108 q108 q2109) rfl rfl rfl (by decide +kernel) ⟨Nat.le_of_ble_eq_true rfl, Nat.le_of_ble_eq_true rfl⟩) (hv_preV hE hI (ci := 0) rfl hre) rfl rfl hl.1 rfl (lv_room (Nat.le_of_ble_eq_true rfl)) dL_law_225 ⟨hc, hs⟩) (fun r24 h25 H locs hw hI => ?_)
  obtain ⟨F26, A26, U26, hS26, hO26, hw⟩ := hw
  have hw := hw h25 hS26 hO26
  refine lv_istore (lv' := [(7, .int r24), (6, .int r21), (0, .ref b), (1, .ref x1), (2, .ref x2), (3, .ref x3), (4, .ref x4), (5, .int x5)]) hx hb dL_law_228 hl (by decide) rfl (fun ls hl => ?_)
  refine lv_aload_n hx hb dL_law_230 rfl (lv_at hl 4 rfl) ?_
  obtain ⟨ad27, F27, A27, U27, hS27, hz, hw⟩ := hw
  have hM := snd_X4_thrown l G H.size h25 ad27 F27 A27 U27 _ hS27 hw
  have hre := hS27.2.1
  rw [hz] at hM hre
  refine hv_rci hI (va_runV (As := []) (b := x2) (rest := []) hE.1 hM (cwV 0 hts (lw_V q2098 q2099 q2100 q108 q2101) rfl rfl rfl (by decide +kernel) ⟨Nat.le_of_ble_eq_true rfl, Nat.le_of_ble_eq_true rfl⟩) (hv_preV hE hI (ci := 0) rfl hre) rfl rfl hl.1 rfl (lv_room (Nat.le_of_ble_eq_true rfl)) dL_law_231 ⟨hc, hs⟩) (fun r28 h29 H locs hw hI => ?_)
  obtain ⟨F30, A30, U30, hS30, hO30, hw⟩ := hw
  have hw := hw h29 hS30 hO30
  refine lv_iload hx hb dL_law_234 (lv_at hl 1 rfl) ?_
  refine lv_icmp_eq (tgt := 241) hx hb dL_law_236 (by decide) (fun c_236 => ?_) (fun c_236 => ?_)
  · have hw := hw.1 c_236
    refine lv_iload hx hb dL_law_241 (lv_at hl 1 rfl) ?_
    refine lv_if_ne (tgt := 258) hx hb dL_law_243 (by decide) (fun c_243 => ?_) (fun c_243 => ?_)
    · have hw := hw.1 c_243
      refine lv_goto (tgt := 2191) hx hb dL_law_258 (by decide) ?_
      exact snd_L_law_L2191 G L xs hl0 hX0 hbl hbA hret hE k28 hk28 h29 (nc + mc20) (nk + ms20) x1 x2 x3 x4 x5 hw hc hs _ _ _ hI (lv_sub hl [2, 3, 4, 5, 6, 7] rfl)
    · have hw := hw.2 c_243
      refine lv_aload_n hx hb dL_law_246 rfl (lv_at hl 5 rfl) ?_
      refine lv_iconst (v := 0) hx hb dL_law_247 (by decide) ?_
      refine hv_wlld hE hI hw dL_law_248 (fun r31 hw => ?_)
      refine lv_iload hx hb dL_law_249 (lv_at hl 0 rfl) ?_
      refine lv_i2l (v := (Int32.toInt64 r24)) hx hb dL_law_251 rfl ?_
      refine W.lcmp hx hb dL_law_252 ?_
      refine lv_if_eq (tgt := 258) hx hb dL_law_253 (by decide) (fun c_253 => ?_) (fun c_253 => ?_)
      · have hw := hw.1 c_253
        refine lv_goto (tgt := 2191) hx hb dL_law_258 (by decide) ?_
        exact snd_L_law_L2191 G L xs hl0 hX0 hbl hbA hret hE k28 hk28 h29 (nc + mc20) (nk + ms20) x1 x2 x3 x4 x5 hw hc hs _ _ _ hI (lv_sub hl [2, 3, 4, 5, 6, 7] rfl)
      · have hw := hw.2 c_253
        refine lv_iconst (v := 0) hx hb dL_law_256 (by decide) ?_
        exact hw.elim
  · have hw := hw.2 c_236
    refine lv_iconst (v := 0) hx hb dL_law_239 (by decide) ?_
    exact hw.elim
def wp_L_law_L261 (G : GG) (L : Nat) (xs : Nat → Int32) (k28 : (HH) → (Nat) → (Nat) → (Nat) → (Nat) → (Nat) → (Nat) → (Int32) → Prop) (h : HH) (nc : Nat) (nk : Nat) (x1 : Nat) (x2 : Nat) (x3 : Nat) (x4 : Nat) (x5 : Int32) : Prop := (vp_in (x5 + (1 : Int32)) L ∧ (∃ mc32 ms32, nc + mc32 ≤ 1200144 ∧ nk + ms32 ≤ 5494714 ∧ wp_X0_drop G mc32 ms32 h (some x1) (xs (Int32.toNatClampNeg (x5 + (1 : Int32)))) (some x3) (fun r33 h34 => (vp_in (x5 + (1 : Int32)) L ∧ w_ml G h34 x2 (fun ad37 F37 A37 U37 => wp_X4_drop F37 A37 U37 (xs (Int32.toNatClampNeg (x5 + (1 : Int32)))) (fun r38 F40 A40 U40 => ∀ h39, ml_S G h39 ad37 F40 A40 U40 → ml_O ad37 h34 h39 → w_ml G h39 x2 (fun ad41 F41 A41 U41 => wp_X4_thrown F41 A41 U41 (fun r42 F44 A44 U44 => ∀ h43, ml_S G h43 ad41 F44 A44 U44 → ml_O ad41 h39 h43 → ((r42 = r33 → ((¬ r33 = 0 → wp_L_law_L2191 G L xs k28 h43 (nc + mc32) (nk + ms32) x1 x2 x3 x4 x5) ∧ (r33 = 0 → w_lld G h43 x3 (0 : Int32) (fun r45 => (((lg_cmp r45 (Int32.toInt64 r38)) = 0 → wp_L_law_L2191 G L xs k28 h43 (nc + mc32) (nk + ms32) x1 x2 x3 x4 x5) ∧ (¬ (lg_cmp r45 (Int32.toInt64 r38)) = 0 → False)))))) ∧ (¬ r42 = r33 → False)))))))) (fun E q35 h36 => False)))
set_option maxHeartbeats 4000000 in
theorem snd_L_law_L261 {p : Program} {l : Launch} {e : Env} {s : State} {m : MethodId} {below : List Frame} {meth : Method} {c : Code} {h0 : HH} {b : Nat} {Q9 : State → Prop} (G : GG) (L : Nat) (xs : Nat → Int32) (hl0 : l.stackTraces = false) (hX0 : va_X b L xs s s.heap) (hbl : b < s.heap.size) (hbA : ¬ hv_A h0 s.heap.size b) (hret : la_Ret p l e s m below meth c b h0 Q9) (hE : hv_E p s m #[.ref b] meth c cL_law 9 ret R_law G h0) (k28 : (HH) → (Nat) → (Nat) → (Nat) → (Nat) → (Nat) → (Nat) → (Int32) → Prop) (hk28 : ∀ (h : HH) (nc : Nat) (nk : Nat) (x1 : Nat) (x2 : Nat) (x3 : Nat) (x4 : Nat) (x5 : Int32), k28 h nc nk x1 x2 x3 x4 x5 → nc ≤ 1200144 → nk ≤ 5494714 → ∀ (H : Heap) (locs : List Loc) (ls : Array Slot), hv_I G h0 s.heap h H locs → lv_has ls 9 [(0, .ref b), (1, .ref x1), (2, .ref x2), (3, .ref x3), (4, .ref x4), (5, .int x5)] → W p l e room_1 s m #[.ref b] below meth c H locs nc nk Q9 (F0 m 28 ls [])) : ∀ (h : HH) (nc : Nat) (nk : Nat) (x1 : Nat) (x2 : Nat) (x3 : Nat) (x4 : Nat) (x5 : Int32), wp_L_law_L261 G L xs k28 h nc nk x1 x2 x3 x4 x5 → nc ≤ 1200144 → nk ≤ 5494714 → ∀ (H : Heap) (locs : List Loc) (ls : Array Slot), hv_I G h0 s.heap h H locs → lv_has ls 9 [(0, .ref b), (1, .ref x1), (2, .ref x2), (3, .ref x3), (4, .ref x4), (5, .int x5)] → W p l e room_1 s m #[.ref b] below meth c H locs nc nk Q9 (F0 m 261 ls []) := by
  obtain ⟨⟨hx, hb, hml, hown, hts⟩, hr, hlocks, hXX⟩ := id hE
  intro h nc nk x1 x2 x3 x4 x5 hw hc hs H locs ls hI hl
  unfold wp_L_law_L261 at hw
  refine lv_aload_n hx hb dL_law_261 rfl (lv_at hl 1 rfl) ?_
  refine lv_aload_n hx hb dL_law_262 rfl (lv_at hl 0 rfl) ?_
  refine lv_iload hx hb dL_law_263 (lv_at hl 5 rfl) ?_
  refine lv_iconst (v := 1) hx hb dL_law_265 (by decide) ?_
  refine lv_iadd hx hb dL_law_266 ?_
  obtain ⟨hin, hw⟩ := hw
  refine va_sld hx hb hX0 hbl hbA hI.2.1 hin dL_law_267 ?_
  refine lv_aload_n hx hb dL_law_268 rfl (lv_at hl 3 rfl) ?_
  obtain ⟨mc32, ms32, hc, hs, hw⟩ := hw
  refine hx_rci hI (vx_runSX (As := [.ref x1, .int (xs (Int32.toNatClampNeg (x5 + (1 : Int32)))), .ref x3]) (rest := []) hE.1 (snd_X0_drop l hl0 G _ mc32 ms32 h (some x1) (xs (Int32.toNatClampNeg (x5 + (1 : Int32)))) (some x3) _ _ hw) (vx_cwSW 3 hts (lw_SW q1310 q1311 q96 q1312) rfl rfl rfl (by decide +kernel) ⟨Nat.le_of_ble_eq_true rfl, Nat.le_of_ble_eq_true rfl⟩) (hv_preS hE hI) rfl rfl hl.1 rfl (lv_room (Nat.le_of_ble_eq_true rfl)) dL_law_269 ⟨hc, hs⟩) ?_ (fun r33 h34 H locs hw hI => ?_)
  · intro E q35 h36 H locs hw hI hT
    exact hw.elim
  refine lv_istore (lv' := [(6, .int r33), (0, .ref b), (1, .ref x1), (2, .ref x2), (3, .ref x3), (4, .ref x4), (5, .int x5)]) hx hb dL_law_272 hl (by decide) rfl (fun ls hl => ?_)
  refine lv_aload_n hx hb dL_law_274 rfl (lv_at hl 3 rfl) ?_
  refine lv_aload_n hx hb dL_law_275 rfl (lv_at hl 1 rfl) ?_
  refine lv_iload hx hb dL_law_276 (lv_at hl 6 rfl) ?_
  refine lv_iconst (v := 1) hx hb dL_law_278 (by decide) ?_
  refine lv_iadd hx hb dL_law_279 ?_
  obtain ⟨hin, hw⟩ := hw
  refine va_sld hx hb hX0 hbl hbA hI.2.1 hin dL_law_280 ?_
  obtain ⟨ad37, F37, A37, U37, hS37, hz, hw⟩ := hw
  have hM := snd_X4_drop l G H.size h34 ad37 F37 A37 U37 (xs (Int32.toNatClampNeg (x5 + (1 : Int32)))) _ hS37 hw
  have hre := hS37.2.1
  rw [hz] at hM hre
  refine hv_rci hI (va_runV (As := [.int (xs (Int32.toNatClampNeg (x5 + (1 : Int32))))]) (b := x2) (rest := []) hE.1 hM (cwV 1 hts (lw_V q2174 q2175 q2176 q108 q2177) rfl rfl rfl (by decide +kernel) ⟨Nat.le_of_ble_eq_true rfl, Nat.le_of_ble_eq_true rfl⟩) (hv_preV hE hI (ci := 0) rfl hre) rfl rfl hl.1 rfl (lv_room (Nat.le_of_ble_eq_true rfl)) dL_law_281 ⟨hc, hs⟩) (fun r38 h39 H locs hw hI => ?_)
  obtain ⟨F40, A40, U40, hS40, hO40, hw⟩ := hw
  have hw := hw h39 hS40 hO40
  refine lv_istore (lv' := [(7, .int r38), (6, .int r33), (0, .ref b), (1, .ref x1), (2, .ref x2), (3, .ref x3), (4, .ref x4), (5, .int x5)]) hx hb dL_law_284 hl (by decide) rfl (fun ls hl => ?_)
  refine lv_aload_n hx hb dL_law_286 rfl (lv_at hl 4 rfl) ?_
  obtain ⟨ad41, F41, A41, U41, hS41, hz, hw⟩ := hw
  have hM := snd_X4_thrown l G H.size h39 ad41 F41 A41 U41 _ hS41 hw
  have hre := hS41.2.1
  rw [hz] at hM hre
  refine hv_rci hI (va_runV (As := []) (b := x2) (rest := []) hE.1 hM (cwV 0 hts (lw_V q2098 q2099 q2100 q108 q2101) rfl rfl rfl (by decide +kernel) ⟨Nat.le_of_ble_eq_true rfl, Nat.le_of_ble_eq_true rfl⟩) (hv_preV hE hI (ci := 0) rfl hre) rfl rfl hl.1 rfl (lv_room (Nat.le_of_ble_eq_true rfl)) dL_law_287 ⟨hc, hs⟩) (fun r42 h43 H locs hw hI => ?_)
  obtain ⟨F44, A44, U44, hS44, hO44, hw⟩ := hw
  have hw := hw h43 hS44 hO44
  refine lv_iload hx hb dL_law_290 (lv_at hl 1 rfl) ?_
  refine lv_icmp_eq (tgt := 297) hx hb dL_law_292 (by decide) (fun c_292 => ?_) (fun c_292 => ?_)
  · have hw := hw.1 c_292
    refine lv_iload hx hb dL_law_297 (lv_at hl 1 rfl) ?_
    refine lv_if_ne (tgt := 314) hx hb dL_law_299 (by decide) (fun c_299 => ?_) (fun c_299 => ?_)
    · have hw := hw.1 c_299
      refine lv_goto (tgt := 2191) hx hb dL_law_314 (by decide) ?_
      exact snd_L_law_L2191 G L xs hl0 hX0 hbl hbA hret hE k28 hk28 h43 (nc + mc32) (nk + ms32) x1 x2 x3 x4 x5 hw hc hs _ _ _ hI (lv_sub hl [2, 3, 4, 5, 6, 7] rfl)
    · have hw := hw.2 c_299
      refine lv_aload_n hx hb dL_law_302 rfl (lv_at hl 5 rfl) ?_
      refine lv_iconst (v := 0) hx hb dL_law_303 (by decide) ?_
      refine hv_wlld hE hI hw dL_law_304 (fun r45 hw => ?_)
      refine lv_iload hx hb dL_law_305 (lv_at hl 0 rfl) ?_
      refine lv_i2l (v := (Int32.toInt64 r38)) hx hb dL_law_307 rfl ?_
      refine W.lcmp hx hb dL_law_308 ?_
      refine lv_if_eq (tgt := 314) hx hb dL_law_309 (by decide) (fun c_309 => ?_) (fun c_309 => ?_)
      · have hw := hw.1 c_309
        refine lv_goto (tgt := 2191) hx hb dL_law_314 (by decide) ?_
        exact snd_L_law_L2191 G L xs hl0 hX0 hbl hbA hret hE k28 hk28 h43 (nc + mc32) (nk + ms32) x1 x2 x3 x4 x5 hw hc hs _ _ _ hI (lv_sub hl [2, 3, 4, 5, 6, 7] rfl)
      · have hw := hw.2 c_309
        refine lv_iconst (v := 0) hx hb dL_law_312 (by decide) ?_
        exact hw.elim
  · have hw := hw.2 c_292
    refine lv_iconst (v := 0) hx hb dL_law_295 (by decide) ?_
    exact hw.elim
def wp_L_law_L317 (G : GG) (L : Nat) (xs : Nat → Int32) (k28 : (HH) → (Nat) → (Nat) → (Nat) → (Nat) → (Nat) → (Nat) → (Int32) → Prop) (h : HH) (nc : Nat) (nk : Nat) (x1 : Nat) (x2 : Nat) (x3 : Nat) (x4 : Nat) (x5 : Int32) : Prop := (vp_in (x5 + (1 : Int32)) L ∧ (vp_in (x5 + (2 : Int32)) L ∧ (vp_in (x5 + (3 : Int32)) L ∧ (vp_in (x5 + (4 : Int32)) L ∧ (∃ mc46 ms46, nc + mc46 ≤ 1200144 ∧ nk + ms46 ≤ 5494714 ∧ wp_X0_tell G mc46 ms46 h (some x1) (((Int32.toUInt32 (xs (Int32.toNatClampNeg (x5 + (1 : Int32))))) % 65536).toInt32) (xs (Int32.toNatClampNeg (x5 + (2 : Int32)))) (xs (Int32.toNatClampNeg (x5 + (3 : Int32)))) (xs (Int32.toNatClampNeg (x5 + (4 : Int32)))) (some x3) (fun r47 h48 => (vp_in (x5 + (1 : Int32)) L ∧ (vp_in (x5 + (2 : Int32)) L ∧ (vp_in (x5 + (3 : Int32)) L ∧ (vp_in (x5 + (4 : Int32)) L ∧ w_ml G h48 x2 (fun ad49 F49 A49 U49 => wp_X4_tell F49 A49 U49 (((Int32.toUInt32 (xs (Int32.toNatClampNeg (x5 + (1 : Int32))))) % 65536).toInt32) (xs (Int32.toNatClampNeg (x5 + (2 : Int32)))) (xs (Int32.toNatClampNeg (x5 + (3 : Int32)))) (xs (Int32.toNatClampNeg (x5 + (4 : Int32)))) (fun r50 F52 A52 U52 => ∀ h51, ml_S G h51 ad49 F52 A52 U52 → ml_O ad49 h48 h51 → w_ml G h51 x2 (fun ad53 F53 A53 U53 => wp_X4_thrown F53 A53 U53 (fun r54 F56 A56 U56 => ∀ h55, ml_S G h55 ad53 F56 A56 U56 → ml_O ad53 h51 h55 → ((r54 = r47 → ((¬ r47 = 0 → wp_L_law_L2191 G L xs k28 h55 (nc + mc46) (nk + ms46) x1 x2 x3 x4 x5) ∧ (r47 = 0 → w_lld G h55 x3 (0 : Int32) (fun r57 => (((lg_cmp r57 (Int32.toInt64 r50)) = 0 → wp_L_law_L2191 G L xs k28 h55 (nc + mc46) (nk + ms46) x1 x2 x3 x4 x5) ∧ (¬ (lg_cmp r57 (Int32.toInt64 r50)) = 0 → False)))))) ∧ (¬ r54 = r47 → False))))))))))))))))
set_option maxHeartbeats 4000000 in
theorem snd_L_law_L317 {p : Program} {l : Launch} {e : Env} {s : State} {m : MethodId} {below : List Frame} {meth : Method} {c : Code} {h0 : HH} {b : Nat} {Q9 : State → Prop} (G : GG) (L : Nat) (xs : Nat → Int32) (hl0 : l.stackTraces = false) (hX0 : va_X b L xs s s.heap) (hbl : b < s.heap.size) (hbA : ¬ hv_A h0 s.heap.size b) (hret : la_Ret p l e s m below meth c b h0 Q9) (hE : hv_E p s m #[.ref b] meth c cL_law 9 ret R_law G h0) (k28 : (HH) → (Nat) → (Nat) → (Nat) → (Nat) → (Nat) → (Nat) → (Int32) → Prop) (hk28 : ∀ (h : HH) (nc : Nat) (nk : Nat) (x1 : Nat) (x2 : Nat) (x3 : Nat) (x4 : Nat) (x5 : Int32), k28 h nc nk x1 x2 x3 x4 x5 → nc ≤ 1200144 → nk ≤ 5494714 → ∀ (H : Heap) (locs : List Loc) (ls : Array Slot), hv_I G h0 s.heap h H locs → lv_has ls 9 [(0, .ref b), (1, .ref x1), (2, .ref x2), (3, .ref x3), (4, .ref x4), (5, .int x5)] → W p l e room_1 s m #[.ref b] below meth c H locs nc nk Q9 (F0 m 28 ls [])) : ∀ (h : HH) (nc : Nat) (nk : Nat) (x1 : Nat) (x2 : Nat) (x3 : Nat) (x4 : Nat) (x5 : Int32), wp_L_law_L317 G L xs k28 h nc nk x1 x2 x3 x4 x5 → nc ≤ 1200144 → nk ≤ 5494714 → ∀ (H : Heap) (locs : List Loc) (ls : Array Slot), hv_I G h0 s.heap h H locs → lv_has ls 9 [(0, .ref b), (1, .ref x1), (2, .ref x2), (3, .ref x3), (4, .ref x4), (5, .int x5)] → W p l e room_1 s m #[.ref b] below meth c H locs nc nk Q9 (F0 m 317 ls []) := by
  obtain ⟨⟨hx, hb, hml, hown, hts⟩, hr, hlocks, hXX⟩ := id hE
  intro h nc nk x1 x2 x3 x4 x5 hw hc hs H locs ls hI hl
  unfold wp_L_law_L317 at hw
  refine lv_aload_n hx hb dL_law_317 rfl (lv_at hl 1 rfl) ?_
  refine lv_aload_n hx hb dL_law_318 rfl (lv_at hl 0 rfl) ?_
  refine lv_iload hx hb dL_law_319 (lv_at hl 5 rfl) ?_
  refine lv_iconst (v := 1) hx hb dL_law_321 (by decide) ?_
  refine lv_iadd hx hb dL_law_322 ?_
  obtain ⟨hin, hw⟩ := hw
  refine va_sld hx hb hX0 hbl hbA hI.2.1 hin dL_law_323 ?_
  refine lv_i2c (v := ((Int32.toUInt32 (xs (Int32.toNatClampNeg (x5 + (1 : Int32))))) % 65536).toInt32) hx hb dL_law_324 rfl ?_
  refine lv_aload_n hx hb dL_law_325 rfl (lv_at hl 0 rfl) ?_
  refine lv_iload hx hb dL_law_326 (lv_at hl 5 rfl) ?_
  refine lv_iconst (v := 2) hx hb dL_law_328 (by decide) ?_
  refine lv_iadd hx hb dL_law_329 ?_
  obtain ⟨hin, hw⟩ := hw
  refine va_sld hx hb hX0 hbl hbA hI.2.1 hin dL_law_330 ?_
  refine lv_aload_n hx hb dL_law_331 rfl (lv_at hl 0 rfl) ?_
  refine lv_iload hx hb dL_law_332 (lv_at hl 5 rfl) ?_
  refine lv_iconst (v := 3) hx hb dL_law_334 (by decide) ?_
  refine lv_iadd hx hb dL_law_335 ?_
  obtain ⟨hin, hw⟩ := hw
  refine va_sld hx hb hX0 hbl hbA hI.2.1 hin dL_law_336 ?_
  refine lv_aload_n hx hb dL_law_337 rfl (lv_at hl 0 rfl) ?_
  refine lv_iload hx hb dL_law_338 (lv_at hl 5 rfl) ?_
  refine lv_iconst (v := 4) hx hb dL_law_340 (by decide) ?_
  refine lv_iadd hx hb dL_law_341 ?_
  obtain ⟨hin, hw⟩ := hw
  refine va_sld hx hb hX0 hbl hbA hI.2.1 hin dL_law_342 ?_
  refine lv_aload_n hx hb dL_law_343 rfl (lv_at hl 3 rfl) ?_
  obtain ⟨mc46, ms46, hc, hs, hw⟩ := hw
  refine hv_rci hI (vx_runSW (As := [.ref x1, .int (((Int32.toUInt32 (xs (Int32.toNatClampNeg (x5 + (1 : Int32))))) % 65536).toInt32), .int (xs (Int32.toNatClampNeg (x5 + (2 : Int32)))), .int (xs (Int32.toNatClampNeg (x5 + (3 : Int32)))), .int (xs (Int32.toNatClampNeg (x5 + (4 : Int32)))), .ref x3]) (rest := []) hE.1 (snd_X0_tell l hl0 G _ mc46 ms46 h (some x1) (((Int32.toUInt32 (xs (Int32.toNatClampNeg (x5 + (1 : Int32))))) % 65536).toInt32) (xs (Int32.toNatClampNeg (x5 + (2 : Int32)))) (xs (Int32.toNatClampNeg (x5 + (3 : Int32)))) (xs (Int32.toNatClampNeg (x5 + (4 : Int32)))) (some x3) _ hw) (vx_cwSW 6 hts (lw_SW q1320 q1321 q96 q1322) rfl rfl rfl (by decide +kernel) ⟨Nat.le_of_ble_eq_true rfl, Nat.le_of_ble_eq_true rfl⟩) (hv_preS hE hI) rfl rfl hl.1 rfl (lv_room (Nat.le_of_ble_eq_true rfl)) dL_law_344 ⟨hc, hs⟩) (fun r47 h48 H locs hw hI => ?_)
  refine lv_istore (lv' := [(6, .int r47), (0, .ref b), (1, .ref x1), (2, .ref x2), (3, .ref x3), (4, .ref x4), (5, .int x5)]) hx hb dL_law_347 hl (by decide) rfl (fun ls hl => ?_)
  refine lv_aload_n hx hb dL_law_349 rfl (lv_at hl 3 rfl) ?_
  refine lv_aload_n hx hb dL_law_350 rfl (lv_at hl 1 rfl) ?_
  refine lv_iload hx hb dL_law_351 (lv_at hl 6 rfl) ?_
  refine lv_iconst (v := 1) hx hb dL_law_353 (by decide) ?_
  refine lv_iadd hx hb dL_law_354 ?_
  obtain ⟨hin, hw⟩ := hw
  refine va_sld hx hb hX0 hbl hbA hI.2.1 hin dL_law_355 ?_
  refine lv_i2c (v := ((Int32.toUInt32 (xs (Int32.toNatClampNeg (x5 + (1 : Int32))))) % 65536).toInt32) hx hb dL_law_356 rfl ?_
  refine lv_aload_n hx hb dL_law_357 rfl (lv_at hl 1 rfl) ?_
  refine lv_iload hx hb dL_law_358 (lv_at hl 6 rfl) ?_
  refine lv_iconst (v := 2) hx hb dL_law_360 (by decide) ?_
  refine lv_iadd hx hb dL_law_361 ?_
  obtain ⟨hin, hw⟩ := hw
  refine va_sld hx hb hX0 hbl hbA hI.2.1 hin dL_law_362 ?_
  refine lv_aload_n hx hb dL_law_363 rfl (lv_at hl 1 rfl) ?_
  refine lv_iload hx hb dL_law_364 (lv_at hl 6 rfl) ?_
  refine lv_iconst (v := 3) hx hb dL_law_366 (by decide) ?_
  refine lv_iadd hx hb dL_law_367 ?_
  obtain ⟨hin, hw⟩ := hw
  refine va_sld hx hb hX0 hbl hbA hI.2.1 hin dL_law_368 ?_
  refine lv_aload_n hx hb dL_law_369 rfl (lv_at hl 1 rfl) ?_
  refine lv_iload hx hb dL_law_370 (lv_at hl 6 rfl) ?_
  refine lv_iconst (v := 4) hx hb dL_law_372 (by decide) ?_
  refine lv_iadd hx hb dL_law_373 ?_
  obtain ⟨hin, hw⟩ := hw
  refine va_sld hx hb hX0 hbl hbA hI.2.1 hin dL_law_374 ?_
  obtain ⟨ad49, F49, A49, U49, hS49, hz, hw⟩ := hw
  have hM := snd_X4_tell l G H.size h48 ad49 F49 A49 U49 (((Int32.toUInt32 (xs (Int32.toNatClampNeg (x5 + (1 : Int32))))) % 65536).toInt32) (xs (Int32.toNatClampNeg (x5 + (2 : Int32)))) (xs (Int32.toNatClampNeg (x5 + (3 : Int32)))) (xs (Int32.toNatClampNeg (x5 + (4 : Int32)))) _ hS49 hw
  have hre := hS49.2.1
  rw [hz] at hM hre
  refine hv_rci hI (va_runV (As := [.int (((Int32.toUInt32 (xs (Int32.toNatClampNeg (x5 + (1 : Int32))))) % 65536).toInt32), .int (xs (Int32.toNatClampNeg (x5 + (2 : Int32)))), .int (xs (Int32.toNatClampNeg (x5 + (3 : Int32)))), .int (xs (Int32.toNatClampNeg (x5 + (4 : Int32))))]) (b := x2) (rest := []) hE.1 hM (cwV 4 hts (lw_V q2214 q2215 q2216 q108 q2217) rfl rfl rfl (by decide +kernel) ⟨Nat.le_of_ble_eq_true rfl, Nat.le_of_ble_eq_true rfl⟩) (hv_preV hE hI (ci := 0) rfl hre) rfl rfl hl.1 rfl (lv_room (Nat.le_of_ble_eq_true rfl)) dL_law_375 ⟨hc, hs⟩) (fun r50 h51 H locs hw hI => ?_)
  obtain ⟨F52, A52, U52, hS52, hO52, hw⟩ := hw
  have hw := hw h51 hS52 hO52
  refine lv_istore (lv' := [(7, .int r50), (6, .int r47), (0, .ref b), (1, .ref x1), (2, .ref x2), (3, .ref x3), (4, .ref x4), (5, .int x5)]) hx hb dL_law_378 hl (by decide) rfl (fun ls hl => ?_)
  refine lv_aload_n hx hb dL_law_380 rfl (lv_at hl 4 rfl) ?_
  obtain ⟨ad53, F53, A53, U53, hS53, hz, hw⟩ := hw
  have hM := snd_X4_thrown l G H.size h51 ad53 F53 A53 U53 _ hS53 hw
  have hre := hS53.2.1
  rw [hz] at hM hre
  refine hv_rci hI (va_runV (As := []) (b := x2) (rest := []) hE.1 hM (cwV 0 hts (lw_V q2098 q2099 q2100 q108 q2101) rfl rfl rfl (by decide +kernel) ⟨Nat.le_of_ble_eq_true rfl, Nat.le_of_ble_eq_true rfl⟩) (hv_preV hE hI (ci := 0) rfl hre) rfl rfl hl.1 rfl (lv_room (Nat.le_of_ble_eq_true rfl)) dL_law_381 ⟨hc, hs⟩) (fun r54 h55 H locs hw hI => ?_)
  obtain ⟨F56, A56, U56, hS56, hO56, hw⟩ := hw
  have hw := hw h55 hS56 hO56
  refine lv_iload hx hb dL_law_384 (lv_at hl 1 rfl) ?_
  refine lv_icmp_eq (tgt := 391) hx hb dL_law_386 (by decide) (fun c_386 => ?_) (fun c_386 => ?_)
  · have hw := hw.1 c_386
    refine lv_iload hx hb dL_law_391 (lv_at hl 1 rfl) ?_
    refine lv_if_ne (tgt := 408) hx hb dL_law_393 (by decide) (fun c_393 => ?_) (fun c_393 => ?_)
    · have hw := hw.1 c_393
      refine lv_goto (tgt := 2191) hx hb dL_law_408 (by decide) ?_
      exact snd_L_law_L2191 G L xs hl0 hX0 hbl hbA hret hE k28 hk28 h55 (nc + mc46) (nk + ms46) x1 x2 x3 x4 x5 hw hc hs _ _ _ hI (lv_sub hl [2, 3, 4, 5, 6, 7] rfl)
    · have hw := hw.2 c_393
      refine lv_aload_n hx hb dL_law_396 rfl (lv_at hl 5 rfl) ?_
      refine lv_iconst (v := 0) hx hb dL_law_397 (by decide) ?_
      refine hv_wlld hE hI hw dL_law_398 (fun r57 hw => ?_)
      refine lv_iload hx hb dL_law_399 (lv_at hl 0 rfl) ?_
      refine lv_i2l (v := (Int32.toInt64 r50)) hx hb dL_law_401 rfl ?_
      refine W.lcmp hx hb dL_law_402 ?_
      refine lv_if_eq (tgt := 408) hx hb dL_law_403 (by decide) (fun c_403 => ?_) (fun c_403 => ?_)
      · have hw := hw.1 c_403
        refine lv_goto (tgt := 2191) hx hb dL_law_408 (by decide) ?_
        exact snd_L_law_L2191 G L xs hl0 hX0 hbl hbA hret hE k28 hk28 h55 (nc + mc46) (nk + ms46) x1 x2 x3 x4 x5 hw hc hs _ _ _ hI (lv_sub hl [2, 3, 4, 5, 6, 7] rfl)
      · have hw := hw.2 c_403
        refine lv_iconst (v := 0) hx hb dL_law_406 (by decide) ?_
        exact hw.elim
  · have hw := hw.2 c_386
    refine lv_iconst (v := 0) hx hb dL_law_389 (by decide) ?_
    exact hw.elim
def wp_L_law_L411 (G : GG) (L : Nat) (xs : Nat → Int32) (k28 : (HH) → (Nat) → (Nat) → (Nat) → (Nat) → (Nat) → (Nat) → (Int32) → Prop) (h : HH) (nc : Nat) (nk : Nat) (x1 : Nat) (x2 : Nat) (x3 : Nat) (x4 : Nat) (x5 : Int32) : Prop := (vp_in (x5 + (1 : Int32)) L ∧ (∃ mc58 ms58, nc + mc58 ≤ 1200144 ∧ nk + ms58 ≤ 5494714 ∧ wp_X0_untell G mc58 ms58 h (some x1) (xs (Int32.toNatClampNeg (x5 + (1 : Int32)))) (some x3) (fun r59 h60 => (vp_in (x5 + (1 : Int32)) L ∧ w_ml G h60 x2 (fun ad63 F63 A63 U63 => wp_X4_untell F63 A63 U63 (xs (Int32.toNatClampNeg (x5 + (1 : Int32)))) (fun r64 F66 A66 U66 => ∀ h65, ml_S G h65 ad63 F66 A66 U66 → ml_O ad63 h60 h65 → w_ml G h65 x2 (fun ad67 F67 A67 U67 => wp_X4_thrown F67 A67 U67 (fun r68 F70 A70 U70 => ∀ h69, ml_S G h69 ad67 F70 A70 U70 → ml_O ad67 h65 h69 → ((r68 = r59 → ((¬ r59 = 0 → wp_L_law_L2191 G L xs k28 h69 (nc + mc58) (nk + ms58) x1 x2 x3 x4 x5) ∧ (r59 = 0 → w_lld G h69 x3 (0 : Int32) (fun r71 => (((lg_cmp r71 (Int32.toInt64 r64)) = 0 → wp_L_law_L2191 G L xs k28 h69 (nc + mc58) (nk + ms58) x1 x2 x3 x4 x5) ∧ (¬ (lg_cmp r71 (Int32.toInt64 r64)) = 0 → False)))))) ∧ (¬ r68 = r59 → False)))))))) (fun E q61 h62 => False)))
set_option maxHeartbeats 4000000 in
theorem snd_L_law_L411 {p : Program} {l : Launch} {e : Env} {s : State} {m : MethodId} {below : List Frame} {meth : Method} {c : Code} {h0 : HH} {b : Nat} {Q9 : State → Prop} (G : GG) (L : Nat) (xs : Nat → Int32) (hl0 : l.stackTraces = false) (hX0 : va_X b L xs s s.heap) (hbl : b < s.heap.size) (hbA : ¬ hv_A h0 s.heap.size b) (hret : la_Ret p l e s m below meth c b h0 Q9) (hE : hv_E p s m #[.ref b] meth c cL_law 9 ret R_law G h0) (k28 : (HH) → (Nat) → (Nat) → (Nat) → (Nat) → (Nat) → (Nat) → (Int32) → Prop) (hk28 : ∀ (h : HH) (nc : Nat) (nk : Nat) (x1 : Nat) (x2 : Nat) (x3 : Nat) (x4 : Nat) (x5 : Int32), k28 h nc nk x1 x2 x3 x4 x5 → nc ≤ 1200144 → nk ≤ 5494714 → ∀ (H : Heap) (locs : List Loc) (ls : Array Slot), hv_I G h0 s.heap h H locs → lv_has ls 9 [(0, .ref b), (1, .ref x1), (2, .ref x2), (3, .ref x3), (4, .ref x4), (5, .int x5)] → W p l e room_1 s m #[.ref b] below meth c H locs nc nk Q9 (F0 m 28 ls [])) : ∀ (h : HH) (nc : Nat) (nk : Nat) (x1 : Nat) (x2 : Nat) (x3 : Nat) (x4 : Nat) (x5 : Int32), wp_L_law_L411 G L xs k28 h nc nk x1 x2 x3 x4 x5 → nc ≤ 1200144 → nk ≤ 5494714 → ∀ (H : Heap) (locs : List Loc) (ls : Array Slot), hv_I G h0 s.heap h H locs → lv_has ls 9 [(0, .ref b), (1, .ref x1), (2, .ref x2), (3, .ref x3), (4, .ref x4), (5, .int x5)] → W p l e room_1 s m #[.ref b] below meth c H locs nc nk Q9 (F0 m 411 ls []) := by
  obtain ⟨⟨hx, hb, hml, hown, hts⟩, hr, hlocks, hXX⟩ := id hE
  intro h nc nk x1 x2 x3 x4 x5 hw hc hs H locs ls hI hl
  unfold wp_L_law_L411 at hw
  refine lv_aload_n hx hb dL_law_411 rfl (lv_at hl 1 rfl) ?_
  refine lv_aload_n hx hb dL_law_412 rfl (lv_at hl 0 rfl) ?_
  refine lv_iload hx hb dL_law_413 (lv_at hl 5 rfl) ?_
  refine lv_iconst (v := 1) hx hb dL_law_415 (by decide) ?_
  refine lv_iadd hx hb dL_law_416 ?_
  obtain ⟨hin, hw⟩ := hw
  refine va_sld hx hb hX0 hbl hbA hI.2.1 hin dL_law_417 ?_
  refine lv_aload_n hx hb dL_law_418 rfl (lv_at hl 3 rfl) ?_
  obtain ⟨mc58, ms58, hc, hs, hw⟩ := hw
  refine hx_rci hI (vx_runSX (As := [.ref x1, .int (xs (Int32.toNatClampNeg (x5 + (1 : Int32)))), .ref x3]) (rest := []) hE.1 (snd_X0_untell l hl0 G _ mc58 ms58 h (some x1) (xs (Int32.toNatClampNeg (x5 + (1 : Int32)))) (some x3) _ _ hw) (vx_cwSW 3 hts (lw_SW q1327 q1328 q96 q1329) rfl rfl rfl (by decide +kernel) ⟨Nat.le_of_ble_eq_true rfl, Nat.le_of_ble_eq_true rfl⟩) (hv_preS hE hI) rfl rfl hl.1 rfl (lv_room (Nat.le_of_ble_eq_true rfl)) dL_law_419 ⟨hc, hs⟩) ?_ (fun r59 h60 H locs hw hI => ?_)
  · intro E q61 h62 H locs hw hI hT
    exact hw.elim
  refine lv_istore (lv' := [(6, .int r59), (0, .ref b), (1, .ref x1), (2, .ref x2), (3, .ref x3), (4, .ref x4), (5, .int x5)]) hx hb dL_law_422 hl (by decide) rfl (fun ls hl => ?_)
  refine lv_aload_n hx hb dL_law_424 rfl (lv_at hl 3 rfl) ?_
  refine lv_aload_n hx hb dL_law_425 rfl (lv_at hl 1 rfl) ?_
  refine lv_iload hx hb dL_law_426 (lv_at hl 6 rfl) ?_
  refine lv_iconst (v := 1) hx hb dL_law_428 (by decide) ?_
  refine lv_iadd hx hb dL_law_429 ?_
  obtain ⟨hin, hw⟩ := hw
  refine va_sld hx hb hX0 hbl hbA hI.2.1 hin dL_law_430 ?_
  obtain ⟨ad63, F63, A63, U63, hS63, hz, hw⟩ := hw
  have hM := snd_X4_untell l G H.size h60 ad63 F63 A63 U63 (xs (Int32.toNatClampNeg (x5 + (1 : Int32)))) _ hS63 hw
  have hre := hS63.2.1
  rw [hz] at hM hre
  refine hv_rci hI (va_runV (As := [.int (xs (Int32.toNatClampNeg (x5 + (1 : Int32))))]) (b := x2) (rest := []) hE.1 hM (cwV 1 hts (lw_V q2232 q2233 q2234 q108 q2235) rfl rfl rfl (by decide +kernel) ⟨Nat.le_of_ble_eq_true rfl, Nat.le_of_ble_eq_true rfl⟩) (hv_preV hE hI (ci := 0) rfl hre) rfl rfl hl.1 rfl (lv_room (Nat.le_of_ble_eq_true rfl)) dL_law_431 ⟨hc, hs⟩) (fun r64 h65 H locs hw hI => ?_)
  obtain ⟨F66, A66, U66, hS66, hO66, hw⟩ := hw
  have hw := hw h65 hS66 hO66
  refine lv_istore (lv' := [(7, .int r64), (6, .int r59), (0, .ref b), (1, .ref x1), (2, .ref x2), (3, .ref x3), (4, .ref x4), (5, .int x5)]) hx hb dL_law_434 hl (by decide) rfl (fun ls hl => ?_)
  refine lv_aload_n hx hb dL_law_436 rfl (lv_at hl 4 rfl) ?_
  obtain ⟨ad67, F67, A67, U67, hS67, hz, hw⟩ := hw
  have hM := snd_X4_thrown l G H.size h65 ad67 F67 A67 U67 _ hS67 hw
  have hre := hS67.2.1
  rw [hz] at hM hre
  refine hv_rci hI (va_runV (As := []) (b := x2) (rest := []) hE.1 hM (cwV 0 hts (lw_V q2098 q2099 q2100 q108 q2101) rfl rfl rfl (by decide +kernel) ⟨Nat.le_of_ble_eq_true rfl, Nat.le_of_ble_eq_true rfl⟩) (hv_preV hE hI (ci := 0) rfl hre) rfl rfl hl.1 rfl (lv_room (Nat.le_of_ble_eq_true rfl)) dL_law_437 ⟨hc, hs⟩) (fun r68 h69 H locs hw hI => ?_)
  obtain ⟨F70, A70, U70, hS70, hO70, hw⟩ := hw
  have hw := hw h69 hS70 hO70
  refine lv_iload hx hb dL_law_440 (lv_at hl 1 rfl) ?_
  refine lv_icmp_eq (tgt := 447) hx hb dL_law_442 (by decide) (fun c_442 => ?_) (fun c_442 => ?_)
  · have hw := hw.1 c_442
    refine lv_iload hx hb dL_law_447 (lv_at hl 1 rfl) ?_
    refine lv_if_ne (tgt := 464) hx hb dL_law_449 (by decide) (fun c_449 => ?_) (fun c_449 => ?_)
    · have hw := hw.1 c_449
      refine lv_goto (tgt := 2191) hx hb dL_law_464 (by decide) ?_
      exact snd_L_law_L2191 G L xs hl0 hX0 hbl hbA hret hE k28 hk28 h69 (nc + mc58) (nk + ms58) x1 x2 x3 x4 x5 hw hc hs _ _ _ hI (lv_sub hl [2, 3, 4, 5, 6, 7] rfl)
    · have hw := hw.2 c_449
      refine lv_aload_n hx hb dL_law_452 rfl (lv_at hl 5 rfl) ?_
      refine lv_iconst (v := 0) hx hb dL_law_453 (by decide) ?_
      refine hv_wlld hE hI hw dL_law_454 (fun r71 hw => ?_)
      refine lv_iload hx hb dL_law_455 (lv_at hl 0 rfl) ?_
      refine lv_i2l (v := (Int32.toInt64 r64)) hx hb dL_law_457 rfl ?_
      refine W.lcmp hx hb dL_law_458 ?_
      refine lv_if_eq (tgt := 464) hx hb dL_law_459 (by decide) (fun c_459 => ?_) (fun c_459 => ?_)
      · have hw := hw.1 c_459
        refine lv_goto (tgt := 2191) hx hb dL_law_464 (by decide) ?_
        exact snd_L_law_L2191 G L xs hl0 hX0 hbl hbA hret hE k28 hk28 h69 (nc + mc58) (nk + ms58) x1 x2 x3 x4 x5 hw hc hs _ _ _ hI (lv_sub hl [2, 3, 4, 5, 6, 7] rfl)
      · have hw := hw.2 c_459
        refine lv_iconst (v := 0) hx hb dL_law_462 (by decide) ?_
        exact hw.elim
  · have hw := hw.2 c_442
    refine lv_iconst (v := 0) hx hb dL_law_445 (by decide) ?_
    exact hw.elim
def wp_L_law_L467 (G : GG) (L : Nat) (xs : Nat → Int32) (k28 : (HH) → (Nat) → (Nat) → (Nat) → (Nat) → (Nat) → (Nat) → (Int32) → Prop) (h : HH) (nc : Nat) (nk : Nat) (x1 : Nat) (x2 : Nat) (x3 : Nat) (x4 : Nat) (x5 : Int32) : Prop := (vp_in (x5 + (1 : Int32)) L ∧ (vp_in (x5 + (2 : Int32)) L ∧ (vp_in (x5 + (3 : Int32)) L ∧ (∃ mc72 ms72, nc + mc72 ≤ 1200144 ∧ nk + ms72 ≤ 5494714 ∧ wp_X0_find G mc72 ms72 h (some x1) (((Int32.toUInt32 (xs (Int32.toNatClampNeg (x5 + (1 : Int32))))) % 65536).toInt32) (xs (Int32.toNatClampNeg (x5 + (2 : Int32)))) (xs (Int32.toNatClampNeg (x5 + (3 : Int32)))) (some x3) (fun r73 h74 => (vp_in (x5 + (1 : Int32)) L ∧ (vp_in (x5 + (2 : Int32)) L ∧ (vp_in (x5 + (3 : Int32)) L ∧ w_ml G h74 x2 (fun ad75 F75 A75 U75 => wp_X4_find F75 A75 U75 (((Int32.toUInt32 (xs (Int32.toNatClampNeg (x5 + (1 : Int32))))) % 65536).toInt32) (xs (Int32.toNatClampNeg (x5 + (2 : Int32)))) (xs (Int32.toNatClampNeg (x5 + (3 : Int32)))) (fun r76 F78 A78 U78 => ∀ h77, ml_S G h77 ad75 F78 A78 U78 → ml_O ad75 h74 h77 → w_ml G h77 x2 (fun ad79 F79 A79 U79 => wp_X4_thrown F79 A79 U79 (fun r80 F82 A82 U82 => ∀ h81, ml_S G h81 ad79 F82 A82 U82 → ml_O ad79 h77 h81 → ((r80 = r73 → ((¬ r73 = 0 → wp_L_law_L2191 G L xs k28 h81 (nc + mc72) (nk + ms72) x1 x2 x3 x4 x5) ∧ (r73 = 0 → w_lld G h81 x3 (0 : Int32) (fun r83 => (((lg_cmp r83 (Int32.toInt64 r76)) = 0 → wp_L_law_L2191 G L xs k28 h81 (nc + mc72) (nk + ms72) x1 x2 x3 x4 x5) ∧ (¬ (lg_cmp r83 (Int32.toInt64 r76)) = 0 → False)))))) ∧ (¬ r80 = r73 → False))))))))))))))
set_option maxHeartbeats 4000000 in
theorem snd_L_law_L467 {p : Program} {l : Launch} {e : Env} {s : State} {m : MethodId} {below : List Frame} {meth : Method} {c : Code} {h0 : HH} {b : Nat} {Q9 : State → Prop} (G : GG) (L : Nat) (xs : Nat → Int32) (hl0 : l.stackTraces = false) (hX0 : va_X b L xs s s.heap) (hbl : b < s.heap.size) (hbA : ¬ hv_A h0 s.heap.size b) (hret : la_Ret p l e s m below meth c b h0 Q9) (hE : hv_E p s m #[.ref b] meth c cL_law 9 ret R_law G h0) (k28 : (HH) → (Nat) → (Nat) → (Nat) → (Nat) → (Nat) → (Nat) → (Int32) → Prop) (hk28 : ∀ (h : HH) (nc : Nat) (nk : Nat) (x1 : Nat) (x2 : Nat) (x3 : Nat) (x4 : Nat) (x5 : Int32), k28 h nc nk x1 x2 x3 x4 x5 → nc ≤ 1200144 → nk ≤ 5494714 → ∀ (H : Heap) (locs : List Loc) (ls : Array Slot), hv_I G h0 s.heap h H locs → lv_has ls 9 [(0, .ref b), (1, .ref x1), (2, .ref x2), (3, .ref x3), (4, .ref x4), (5, .int x5)] → W p l e room_1 s m #[.ref b] below meth c H locs nc nk Q9 (F0 m 28 ls [])) : ∀ (h : HH) (nc : Nat) (nk : Nat) (x1 : Nat) (x2 : Nat) (x3 : Nat) (x4 : Nat) (x5 : Int32), wp_L_law_L467 G L xs k28 h nc nk x1 x2 x3 x4 x5 → nc ≤ 1200144 → nk ≤ 5494714 → ∀ (H : Heap) (locs : List Loc) (ls : Array Slot), hv_I G h0 s.heap h H locs → lv_has ls 9 [(0, .ref b), (1, .ref x1), (2, .ref x2), (3, .ref x3), (4, .ref x4), (5, .int x5)] → W p l e room_1 s m #[.ref b] below meth c H locs nc nk Q9 (F0 m 467 ls []) := by
  obtain ⟨⟨hx, hb, hml, hown, hts⟩, hr, hlocks, hXX⟩ := id hE
  intro h nc nk x1 x2 x3 x4 x5 hw hc hs H locs ls hI hl
  unfold wp_L_law_L467 at hw
  refine lv_aload_n hx hb dL_law_467 rfl (lv_at hl 1 rfl) ?_
  refine lv_aload_n hx hb dL_law_468 rfl (lv_at hl 0 rfl) ?_
  refine lv_iload hx hb dL_law_469 (lv_at hl 5 rfl) ?_
  refine lv_iconst (v := 1) hx hb dL_law_471 (by decide) ?_
  refine lv_iadd hx hb dL_law_472 ?_
  obtain ⟨hin, hw⟩ := hw
  refine va_sld hx hb hX0 hbl hbA hI.2.1 hin dL_law_473 ?_
  refine lv_i2c (v := ((Int32.toUInt32 (xs (Int32.toNatClampNeg (x5 + (1 : Int32))))) % 65536).toInt32) hx hb dL_law_474 rfl ?_
  refine lv_aload_n hx hb dL_law_475 rfl (lv_at hl 0 rfl) ?_
  refine lv_iload hx hb dL_law_476 (lv_at hl 5 rfl) ?_
  refine lv_iconst (v := 2) hx hb dL_law_478 (by decide) ?_
  refine lv_iadd hx hb dL_law_479 ?_
  obtain ⟨hin, hw⟩ := hw
  refine va_sld hx hb hX0 hbl hbA hI.2.1 hin dL_law_480 ?_
  refine lv_aload_n hx hb dL_law_481 rfl (lv_at hl 0 rfl) ?_
  refine lv_iload hx hb dL_law_482 (lv_at hl 5 rfl) ?_
  refine lv_iconst (v := 3) hx hb dL_law_484 (by decide) ?_
  refine lv_iadd hx hb dL_law_485 ?_
  obtain ⟨hin, hw⟩ := hw
  refine va_sld hx hb hX0 hbl hbA hI.2.1 hin dL_law_486 ?_
  refine lv_aload_n hx hb dL_law_487 rfl (lv_at hl 3 rfl) ?_
  obtain ⟨mc72, ms72, hc, hs, hw⟩ := hw
  refine hv_rci hI (vx_runSW (As := [.ref x1, .int (((Int32.toUInt32 (xs (Int32.toNatClampNeg (x5 + (1 : Int32))))) % 65536).toInt32), .int (xs (Int32.toNatClampNeg (x5 + (2 : Int32)))), .int (xs (Int32.toNatClampNeg (x5 + (3 : Int32)))), .ref x3]) (rest := []) hE.1 (snd_X0_find l hl0 G _ mc72 ms72 h (some x1) (((Int32.toUInt32 (xs (Int32.toNatClampNeg (x5 + (1 : Int32))))) % 65536).toInt32) (xs (Int32.toNatClampNeg (x5 + (2 : Int32)))) (xs (Int32.toNatClampNeg (x5 + (3 : Int32)))) (some x3) _ hw) (vx_cwSW 5 hts (lw_SW q1334 q1335 q96 q1336) rfl rfl rfl (by decide +kernel) ⟨Nat.le_of_ble_eq_true rfl, Nat.le_of_ble_eq_true rfl⟩) (hv_preS hE hI) rfl rfl hl.1 rfl (lv_room (Nat.le_of_ble_eq_true rfl)) dL_law_488 ⟨hc, hs⟩) (fun r73 h74 H locs hw hI => ?_)
  refine lv_istore (lv' := [(6, .int r73), (0, .ref b), (1, .ref x1), (2, .ref x2), (3, .ref x3), (4, .ref x4), (5, .int x5)]) hx hb dL_law_491 hl (by decide) rfl (fun ls hl => ?_)
  refine lv_aload_n hx hb dL_law_493 rfl (lv_at hl 3 rfl) ?_
  refine lv_aload_n hx hb dL_law_494 rfl (lv_at hl 1 rfl) ?_
  refine lv_iload hx hb dL_law_495 (lv_at hl 6 rfl) ?_
  refine lv_iconst (v := 1) hx hb dL_law_497 (by decide) ?_
  refine lv_iadd hx hb dL_law_498 ?_
  obtain ⟨hin, hw⟩ := hw
  refine va_sld hx hb hX0 hbl hbA hI.2.1 hin dL_law_499 ?_
  refine lv_i2c (v := ((Int32.toUInt32 (xs (Int32.toNatClampNeg (x5 + (1 : Int32))))) % 65536).toInt32) hx hb dL_law_500 rfl ?_
  refine lv_aload_n hx hb dL_law_501 rfl (lv_at hl 1 rfl) ?_
  refine lv_iload hx hb dL_law_502 (lv_at hl 6 rfl) ?_
  refine lv_iconst (v := 2) hx hb dL_law_504 (by decide) ?_
  refine lv_iadd hx hb dL_law_505 ?_
  obtain ⟨hin, hw⟩ := hw
  refine va_sld hx hb hX0 hbl hbA hI.2.1 hin dL_law_506 ?_
  refine lv_aload_n hx hb dL_law_507 rfl (lv_at hl 1 rfl) ?_
  refine lv_iload hx hb dL_law_508 (lv_at hl 6 rfl) ?_
  refine lv_iconst (v := 3) hx hb dL_law_510 (by decide) ?_
  refine lv_iadd hx hb dL_law_511 ?_
  obtain ⟨hin, hw⟩ := hw
  refine va_sld hx hb hX0 hbl hbA hI.2.1 hin dL_law_512 ?_
  obtain ⟨ad75, F75, A75, U75, hS75, hz, hw⟩ := hw
  have hM := snd_X4_find l G H.size h74 ad75 F75 A75 U75 (((Int32.toUInt32 (xs (Int32.toNatClampNeg (x5 + (1 : Int32))))) % 65536).toInt32) (xs (Int32.toNatClampNeg (x5 + (2 : Int32)))) (xs (Int32.toNatClampNeg (x5 + (3 : Int32)))) _ hS75 hw
  have hre := hS75.2.1
  rw [hz] at hM hre
  refine hv_rci hI (va_runV (As := [.int (((Int32.toUInt32 (xs (Int32.toNatClampNeg (x5 + (1 : Int32))))) % 65536).toInt32), .int (xs (Int32.toNatClampNeg (x5 + (2 : Int32)))), .int (xs (Int32.toNatClampNeg (x5 + (3 : Int32))))]) (b := x2) (rest := []) hE.1 hM (cwV 3 hts (lw_V q2248 q2249 q2250 q108 q2251) rfl rfl rfl (by decide +kernel) ⟨Nat.le_of_ble_eq_true rfl, Nat.le_of_ble_eq_true rfl⟩) (hv_preV hE hI (ci := 0) rfl hre) rfl rfl hl.1 rfl (lv_room (Nat.le_of_ble_eq_true rfl)) dL_law_513 ⟨hc, hs⟩) (fun r76 h77 H locs hw hI => ?_)
  obtain ⟨F78, A78, U78, hS78, hO78, hw⟩ := hw
  have hw := hw h77 hS78 hO78
  refine lv_istore (lv' := [(7, .int r76), (6, .int r73), (0, .ref b), (1, .ref x1), (2, .ref x2), (3, .ref x3), (4, .ref x4), (5, .int x5)]) hx hb dL_law_516 hl (by decide) rfl (fun ls hl => ?_)
  refine lv_aload_n hx hb dL_law_518 rfl (lv_at hl 4 rfl) ?_
  obtain ⟨ad79, F79, A79, U79, hS79, hz, hw⟩ := hw
  have hM := snd_X4_thrown l G H.size h77 ad79 F79 A79 U79 _ hS79 hw
  have hre := hS79.2.1
  rw [hz] at hM hre
  refine hv_rci hI (va_runV (As := []) (b := x2) (rest := []) hE.1 hM (cwV 0 hts (lw_V q2098 q2099 q2100 q108 q2101) rfl rfl rfl (by decide +kernel) ⟨Nat.le_of_ble_eq_true rfl, Nat.le_of_ble_eq_true rfl⟩) (hv_preV hE hI (ci := 0) rfl hre) rfl rfl hl.1 rfl (lv_room (Nat.le_of_ble_eq_true rfl)) dL_law_519 ⟨hc, hs⟩) (fun r80 h81 H locs hw hI => ?_)
  obtain ⟨F82, A82, U82, hS82, hO82, hw⟩ := hw
  have hw := hw h81 hS82 hO82
  refine lv_iload hx hb dL_law_522 (lv_at hl 1 rfl) ?_
  refine lv_icmp_eq (tgt := 529) hx hb dL_law_524 (by decide) (fun c_524 => ?_) (fun c_524 => ?_)
  · have hw := hw.1 c_524
    refine lv_iload hx hb dL_law_529 (lv_at hl 1 rfl) ?_
    refine lv_if_ne (tgt := 546) hx hb dL_law_531 (by decide) (fun c_531 => ?_) (fun c_531 => ?_)
    · have hw := hw.1 c_531
      refine lv_goto (tgt := 2191) hx hb dL_law_546 (by decide) ?_
      exact snd_L_law_L2191 G L xs hl0 hX0 hbl hbA hret hE k28 hk28 h81 (nc + mc72) (nk + ms72) x1 x2 x3 x4 x5 hw hc hs _ _ _ hI (lv_sub hl [2, 3, 4, 5, 6, 7] rfl)
    · have hw := hw.2 c_531
      refine lv_aload_n hx hb dL_law_534 rfl (lv_at hl 5 rfl) ?_
      refine lv_iconst (v := 0) hx hb dL_law_535 (by decide) ?_
      refine hv_wlld hE hI hw dL_law_536 (fun r83 hw => ?_)
      refine lv_iload hx hb dL_law_537 (lv_at hl 0 rfl) ?_
      refine lv_i2l (v := (Int32.toInt64 r76)) hx hb dL_law_539 rfl ?_
      refine W.lcmp hx hb dL_law_540 ?_
      refine lv_if_eq (tgt := 546) hx hb dL_law_541 (by decide) (fun c_541 => ?_) (fun c_541 => ?_)
      · have hw := hw.1 c_541
        refine lv_goto (tgt := 2191) hx hb dL_law_546 (by decide) ?_
        exact snd_L_law_L2191 G L xs hl0 hX0 hbl hbA hret hE k28 hk28 h81 (nc + mc72) (nk + ms72) x1 x2 x3 x4 x5 hw hc hs _ _ _ hI (lv_sub hl [2, 3, 4, 5, 6, 7] rfl)
      · have hw := hw.2 c_541
        refine lv_iconst (v := 0) hx hb dL_law_544 (by decide) ?_
        exact hw.elim
  · have hw := hw.2 c_524
    refine lv_iconst (v := 0) hx hb dL_law_527 (by decide) ?_
    exact hw.elim
def wp_L_law_L549 (G : GG) (L : Nat) (xs : Nat → Int32) (k28 : (HH) → (Nat) → (Nat) → (Nat) → (Nat) → (Nat) → (Nat) → (Int32) → Prop) (h : HH) (nc : Nat) (nk : Nat) (x1 : Nat) (x2 : Nat) (x3 : Nat) (x4 : Nat) (x5 : Int32) : Prop := (vp_in (x5 + (1 : Int32)) L ∧ (∃ mc84 ms84, nc + mc84 ≤ 1200144 ∧ nk + ms84 ≤ 5494714 ∧ wp_X0_factAt G mc84 ms84 h (some x1) (xs (Int32.toNatClampNeg (x5 + (1 : Int32)))) (some x3) (fun r85 h86 => (vp_in (x5 + (1 : Int32)) L ∧ w_ml G h86 x2 (fun ad87 F87 A87 U87 => wp_X4_factAt F87 A87 U87 (xs (Int32.toNatClampNeg (x5 + (1 : Int32)))) (fun r88 F90 A90 U90 => ∀ h89, ml_S G h89 ad87 F90 A90 U90 → ml_O ad87 h86 h89 → w_ml G h89 x2 (fun ad91 F91 A91 U91 => wp_X4_thrown F91 A91 U91 (fun r92 F94 A94 U94 => ∀ h93, ml_S G h93 ad91 F94 A94 U94 → ml_O ad91 h89 h93 → ((r92 = r85 → ((¬ r85 = 0 → wp_L_law_L2191 G L xs k28 h93 (nc + mc84) (nk + ms84) x1 x2 x3 x4 x5) ∧ (r85 = 0 → w_lld G h93 x3 (0 : Int32) (fun r95 => (((lg_cmp r95 (Int32.toInt64 r88)) = 0 → wp_L_law_L2191 G L xs k28 h93 (nc + mc84) (nk + ms84) x1 x2 x3 x4 x5) ∧ (¬ (lg_cmp r95 (Int32.toInt64 r88)) = 0 → False)))))) ∧ (¬ r92 = r85 → False))))))))))
set_option maxHeartbeats 4000000 in
theorem snd_L_law_L549 {p : Program} {l : Launch} {e : Env} {s : State} {m : MethodId} {below : List Frame} {meth : Method} {c : Code} {h0 : HH} {b : Nat} {Q9 : State → Prop} (G : GG) (L : Nat) (xs : Nat → Int32) (hl0 : l.stackTraces = false) (hX0 : va_X b L xs s s.heap) (hbl : b < s.heap.size) (hbA : ¬ hv_A h0 s.heap.size b) (hret : la_Ret p l e s m below meth c b h0 Q9) (hE : hv_E p s m #[.ref b] meth c cL_law 9 ret R_law G h0) (k28 : (HH) → (Nat) → (Nat) → (Nat) → (Nat) → (Nat) → (Nat) → (Int32) → Prop) (hk28 : ∀ (h : HH) (nc : Nat) (nk : Nat) (x1 : Nat) (x2 : Nat) (x3 : Nat) (x4 : Nat) (x5 : Int32), k28 h nc nk x1 x2 x3 x4 x5 → nc ≤ 1200144 → nk ≤ 5494714 → ∀ (H : Heap) (locs : List Loc) (ls : Array Slot), hv_I G h0 s.heap h H locs → lv_has ls 9 [(0, .ref b), (1, .ref x1), (2, .ref x2), (3, .ref x3), (4, .ref x4), (5, .int x5)] → W p l e room_1 s m #[.ref b] below meth c H locs nc nk Q9 (F0 m 28 ls [])) : ∀ (h : HH) (nc : Nat) (nk : Nat) (x1 : Nat) (x2 : Nat) (x3 : Nat) (x4 : Nat) (x5 : Int32), wp_L_law_L549 G L xs k28 h nc nk x1 x2 x3 x4 x5 → nc ≤ 1200144 → nk ≤ 5494714 → ∀ (H : Heap) (locs : List Loc) (ls : Array Slot), hv_I G h0 s.heap h H locs → lv_has ls 9 [(0, .ref b), (1, .ref x1), (2, .ref x2), (3, .ref x3), (4, .ref x4), (5, .int x5)] → W p l e room_1 s m #[.ref b] below meth c H locs nc nk Q9 (F0 m 549 ls []) := by
  obtain ⟨⟨hx, hb, hml, hown, hts⟩, hr, hlocks, hXX⟩ := id hE
  intro h nc nk x1 x2 x3 x4 x5 hw hc hs H locs ls hI hl
  unfold wp_L_law_L549 at hw
  refine lv_aload_n hx hb dL_law_549 rfl (lv_at hl 1 rfl) ?_
  refine lv_aload_n hx hb dL_law_550 rfl (lv_at hl 0 rfl) ?_
  refine lv_iload hx hb dL_law_551 (lv_at hl 5 rfl) ?_
  refine lv_iconst (v := 1) hx hb dL_law_553 (by decide) ?_
  refine lv_iadd hx hb dL_law_554 ?_
  obtain ⟨hin, hw⟩ := hw
  refine va_sld hx hb hX0 hbl hbA hI.2.1 hin dL_law_555 ?_
  refine lv_aload_n hx hb dL_law_556 rfl (lv_at hl 3 rfl) ?_
  obtain ⟨mc84, ms84, hc, hs, hw⟩ := hw
  refine hv_rci hI (vx_runSW (As := [.ref x1, .int (xs (Int32.toNatClampNeg (x5 + (1 : Int32)))), .ref x3]) (rest := []) hE.1 (snd_X0_factAt l hl0 G _ mc84 ms84 h (some x1) (xs (Int32.toNatClampNeg (x5 + (1 : Int32)))) (some x3) _ hw) (vx_cwSW 3 hts (lw_SW q1351 q1352 q96 q1353) rfl rfl rfl (by decide +kernel) ⟨Nat.le_of_ble_eq_true rfl, Nat.le_of_ble_eq_true rfl⟩) (hv_preS hE hI) rfl rfl hl.1 rfl (lv_room (Nat.le_of_ble_eq_true rfl)) dL_law_557 ⟨hc, hs⟩) (fun r85 h86 H locs hw hI => ?_)
  refine lv_istore (lv' := [(6, .int r85), (0, .ref b), (1, .ref x1), (2, .ref x2), (3, .ref x3), (4, .ref x4), (5, .int x5)]) hx hb dL_law_560 hl (by decide) rfl (fun ls hl => ?_)
  refine lv_aload_n hx hb dL_law_562 rfl (lv_at hl 3 rfl) ?_
  refine lv_aload_n hx hb dL_law_563 rfl (lv_at hl 1 rfl) ?_
  refine lv_iload hx hb dL_law_564 (lv_at hl 6 rfl) ?_
  refine lv_iconst (v := 1) hx hb dL_law_566 (by decide) ?_
  refine lv_iadd hx hb dL_law_567 ?_
  obtain ⟨hin, hw⟩ := hw
  refine va_sld hx hb hX0 hbl hbA hI.2.1 hin dL_law_568 ?_
  obtain ⟨ad87, F87, A87, U87, hS87, hz, hw⟩ := hw
  have hM := snd_X4_factAt l G H.size h86 ad87 F87 A87 U87 (xs (Int32.toNatClampNeg (x5 + (1 : Int32)))) _ hS87 hw
  have hre := hS87.2.1
  rw [hz] at hM hre
  refine hv_rci hI (va_runV (As := [.int (xs (Int32.toNatClampNeg (x5 + (1 : Int32))))]) (b := x2) (rest := []) hE.1 hM (cwV 1 hts (lw_V q2252 q2253 q2254 q108 q2255) rfl rfl rfl (by decide +kernel) ⟨Nat.le_of_ble_eq_true rfl, Nat.le_of_ble_eq_true rfl⟩) (hv_preV hE hI (ci := 0) rfl hre) rfl rfl hl.1 rfl (lv_room (Nat.le_of_ble_eq_true rfl)) dL_law_569 ⟨hc, hs⟩) (fun r88 h89 H locs hw hI => ?_)
  obtain ⟨F90, A90, U90, hS90, hO90, hw⟩ := hw
  have hw := hw h89 hS90 hO90
  refine lv_istore (lv' := [(7, .int r88), (6, .int r85), (0, .ref b), (1, .ref x1), (2, .ref x2), (3, .ref x3), (4, .ref x4), (5, .int x5)]) hx hb dL_law_572 hl (by decide) rfl (fun ls hl => ?_)
  refine lv_aload_n hx hb dL_law_574 rfl (lv_at hl 4 rfl) ?_
  obtain ⟨ad91, F91, A91, U91, hS91, hz, hw⟩ := hw
  have hM := snd_X4_thrown l G H.size h89 ad91 F91 A91 U91 _ hS91 hw
  have hre := hS91.2.1
  rw [hz] at hM hre
  refine hv_rci hI (va_runV (As := []) (b := x2) (rest := []) hE.1 hM (cwV 0 hts (lw_V q2098 q2099 q2100 q108 q2101) rfl rfl rfl (by decide +kernel) ⟨Nat.le_of_ble_eq_true rfl, Nat.le_of_ble_eq_true rfl⟩) (hv_preV hE hI (ci := 0) rfl hre) rfl rfl hl.1 rfl (lv_room (Nat.le_of_ble_eq_true rfl)) dL_law_575 ⟨hc, hs⟩) (fun r92 h93 H locs hw hI => ?_)
  obtain ⟨F94, A94, U94, hS94, hO94, hw⟩ := hw
  have hw := hw h93 hS94 hO94
  refine lv_iload hx hb dL_law_578 (lv_at hl 1 rfl) ?_
  refine lv_icmp_eq (tgt := 585) hx hb dL_law_580 (by decide) (fun c_580 => ?_) (fun c_580 => ?_)
  · have hw := hw.1 c_580
    refine lv_iload hx hb dL_law_585 (lv_at hl 1 rfl) ?_
    refine lv_if_ne (tgt := 602) hx hb dL_law_587 (by decide) (fun c_587 => ?_) (fun c_587 => ?_)
    · have hw := hw.1 c_587
      refine lv_goto (tgt := 2191) hx hb dL_law_602 (by decide) ?_
      exact snd_L_law_L2191 G L xs hl0 hX0 hbl hbA hret hE k28 hk28 h93 (nc + mc84) (nk + ms84) x1 x2 x3 x4 x5 hw hc hs _ _ _ hI (lv_sub hl [2, 3, 4, 5, 6, 7] rfl)
    · have hw := hw.2 c_587
      refine lv_aload_n hx hb dL_law_590 rfl (lv_at hl 5 rfl) ?_
      refine lv_iconst (v := 0) hx hb dL_law_591 (by decide) ?_
      refine hv_wlld hE hI hw dL_law_592 (fun r95 hw => ?_)
      refine lv_iload hx hb dL_law_593 (lv_at hl 0 rfl) ?_
      refine lv_i2l (v := (Int32.toInt64 r88)) hx hb dL_law_595 rfl ?_
      refine W.lcmp hx hb dL_law_596 ?_
      refine lv_if_eq (tgt := 602) hx hb dL_law_597 (by decide) (fun c_597 => ?_) (fun c_597 => ?_)
      · have hw := hw.1 c_597
        refine lv_goto (tgt := 2191) hx hb dL_law_602 (by decide) ?_
        exact snd_L_law_L2191 G L xs hl0 hX0 hbl hbA hret hE k28 hk28 h93 (nc + mc84) (nk + ms84) x1 x2 x3 x4 x5 hw hc hs _ _ _ hI (lv_sub hl [2, 3, 4, 5, 6, 7] rfl)
      · have hw := hw.2 c_597
        refine lv_iconst (v := 0) hx hb dL_law_600 (by decide) ?_
        exact hw.elim
  · have hw := hw.2 c_580
    refine lv_iconst (v := 0) hx hb dL_law_583 (by decide) ?_
    exact hw.elim
def wp_L_law_L605 (G : GG) (L : Nat) (xs : Nat → Int32) (k28 : (HH) → (Nat) → (Nat) → (Nat) → (Nat) → (Nat) → (Nat) → (Int32) → Prop) (h : HH) (nc : Nat) (nk : Nat) (x1 : Nat) (x2 : Nat) (x3 : Nat) (x4 : Nat) (x5 : Int32) : Prop := (vp_in (x5 + (1 : Int32)) L ∧ (vp_in (x5 + (2 : Int32)) L ∧ (∃ mc96 ms96, nc + mc96 ≤ 1200144 ∧ nk + ms96 ≤ 5494714 ∧ wp_X0_factOf G mc96 ms96 h (some x1) (xs (Int32.toNatClampNeg (x5 + (1 : Int32)))) (xs (Int32.toNatClampNeg (x5 + (2 : Int32)))) (some x3) (fun r97 h98 => (vp_in (x5 + (1 : Int32)) L ∧ (vp_in (x5 + (2 : Int32)) L ∧ w_ml G h98 x2 (fun ad99 F99 A99 U99 => wp_X4_factOf F99 A99 U99 (xs (Int32.toNatClampNeg (x5 + (1 : Int32)))) (xs (Int32.toNatClampNeg (x5 + (2 : Int32)))) (fun r100 F102 A102 U102 => ∀ h101, ml_S G h101 ad99 F102 A102 U102 → ml_O ad99 h98 h101 → w_ml G h101 x2 (fun ad103 F103 A103 U103 => wp_X4_thrown F103 A103 U103 (fun r104 F106 A106 U106 => ∀ h105, ml_S G h105 ad103 F106 A106 U106 → ml_O ad103 h101 h105 → ((r104 = r97 → ((¬ r97 = 0 → wp_L_law_L2191 G L xs k28 h105 (nc + mc96) (nk + ms96) x1 x2 x3 x4 x5) ∧ (r97 = 0 → w_lld G h105 x3 (0 : Int32) (fun r107 => (((lg_cmp r107 (Int32.toInt64 r100)) = 0 → wp_L_law_L2191 G L xs k28 h105 (nc + mc96) (nk + ms96) x1 x2 x3 x4 x5) ∧ (¬ (lg_cmp r107 (Int32.toInt64 r100)) = 0 → False)))))) ∧ (¬ r104 = r97 → False))))))))))))
set_option maxHeartbeats 4000000 in
theorem snd_L_law_L605 {p : Program} {l : Launch} {e : Env} {s : State} {m : MethodId} {below : List Frame} {meth : Method} {c : Code} {h0 : HH} {b : Nat} {Q9 : State → Prop} (G : GG) (L : Nat) (xs : Nat → Int32) (hl0 : l.stackTraces = false) (hX0 : va_X b L xs s s.heap) (hbl : b < s.heap.size) (hbA : ¬ hv_A h0 s.heap.size b) (hret : la_Ret p l e s m below meth c b h0 Q9) (hE : hv_E p s m #[.ref b] meth c cL_law 9 ret R_law G h0) (k28 : (HH) → (Nat) → (Nat) → (Nat) → (Nat) → (Nat) → (Nat) → (Int32) → Prop) (hk28 : ∀ (h : HH) (nc : Nat) (nk : Nat) (x1 : Nat) (x2 : Nat) (x3 : Nat) (x4 : Nat) (x5 : Int32), k28 h nc nk x1 x2 x3 x4 x5 → nc ≤ 1200144 → nk ≤ 5494714 → ∀ (H : Heap) (locs : List Loc) (ls : Array Slot), hv_I G h0 s.heap h H locs → lv_has ls 9 [(0, .ref b), (1, .ref x1), (2, .ref x2), (3, .ref x3), (4, .ref x4), (5, .int x5)] → W p l e room_1 s m #[.ref b] below meth c H locs nc nk Q9 (F0 m 28 ls [])) : ∀ (h : HH) (nc : Nat) (nk : Nat) (x1 : Nat) (x2 : Nat) (x3 : Nat) (x4 : Nat) (x5 : Int32), wp_L_law_L605 G L xs k28 h nc nk x1 x2 x3 x4 x5 → nc ≤ 1200144 → nk ≤ 5494714 → ∀ (H : Heap) (locs : List Loc) (ls : Array Slot), hv_I G h0 s.heap h H locs → lv_has ls 9 [(0, .ref b), (1, .ref x1), (2, .ref x2), (3, .ref x3), (4, .ref x4), (5, .int x5)] → W p l e room_1 s m #[.ref b] below meth c H locs nc nk Q9 (F0 m 605 ls []) := by
  obtain ⟨⟨hx, hb, hml, hown, hts⟩, hr, hlocks, hXX⟩ := id hE
  intro h nc nk x1 x2 x3 x4 x5 hw hc hs H locs ls hI hl
  unfold wp_L_law_L605 at hw
  refine lv_aload_n hx hb dL_law_605 rfl (lv_at hl 1 rfl) ?_
  refine lv_aload_n hx hb dL_law_606 rfl (lv_at hl 0 rfl) ?_
  refine lv_iload hx hb dL_law_607 (lv_at hl 5 rfl) ?_
  refine lv_iconst (v := 1) hx hb dL_law_609 (by decide) ?_
  refine lv_iadd hx hb dL_law_610 ?_
  obtain ⟨hin, hw⟩ := hw
  refine va_sld hx hb hX0 hbl hbA hI.2.1 hin dL_law_611 ?_
  refine lv_aload_n hx hb dL_law_612 rfl (lv_at hl 0 rfl) ?_
  refine lv_iload hx hb dL_law_613 (lv_at hl 5 rfl) ?_
  refine lv_iconst (v := 2) hx hb dL_law_615 (by decide) ?_
  refine lv_iadd hx hb dL_law_616 ?_
  obtain ⟨hin, hw⟩ := hw
  refine va_sld hx hb hX0 hbl hbA hI.2.1 hin dL_law_617 ?_
  refine lv_aload_n hx hb dL_law_618 rfl (lv_at hl 3 rfl) ?_
  obtain ⟨mc96, ms96, hc, hs, hw⟩ := hw
  refine hv_rci hI (vx_runSW (As := [.ref x1, .int (xs (Int32.toNatClampNeg (x5 + (1 : Int32)))), .int (xs (Int32.toNatClampNeg (x5 + (2 : Int32)))), .ref x3]) (rest := []) hE.1 (snd_X0_factOf l hl0 G _ mc96 ms96 h (some x1) (xs (Int32.toNatClampNeg (x5 + (1 : Int32)))) (xs (Int32.toNatClampNeg (x5 + (2 : Int32)))) (some x3) _ hw) (vx_cwSW 4 hts (lw_SW q1361 q1362 q96 q1363) rfl rfl rfl (by decide +kernel) ⟨Nat.le_of_ble_eq_true rfl, Nat.le_of_ble_eq_true rfl⟩) (hv_preS hE hI) rfl rfl hl.1 rfl (lv_room (Nat.le_of_ble_eq_true rfl)) dL_law_619 ⟨hc, hs⟩) (fun r97 h98 H locs hw hI => ?_)
  refine lv_istore (lv' := [(6, .int r97), (0, .ref b), (1, .ref x1), (2, .ref x2), (3, .ref x3), (4, .ref x4), (5, .int x5)]) hx hb dL_law_622 hl (by decide) rfl (fun ls hl => ?_)
  refine lv_aload_n hx hb dL_law_624 rfl (lv_at hl 3 rfl) ?_
  refine lv_aload_n hx hb dL_law_625 rfl (lv_at hl 1 rfl) ?_
  refine lv_iload hx hb dL_law_626 (lv_at hl 6 rfl) ?_
  refine lv_iconst (v := 1) hx hb dL_law_628 (by decide) ?_
  refine lv_iadd hx hb dL_law_629 ?_
  obtain ⟨hin, hw⟩ := hw
  refine va_sld hx hb hX0 hbl hbA hI.2.1 hin dL_law_630 ?_
  refine lv_aload_n hx hb dL_law_631 rfl (lv_at hl 1 rfl) ?_
  refine lv_iload hx hb dL_law_632 (lv_at hl 6 rfl) ?_
  refine lv_iconst (v := 2) hx hb dL_law_634 (by decide) ?_
  refine lv_iadd hx hb dL_law_635 ?_
  obtain ⟨hin, hw⟩ := hw
  refine va_sld hx hb hX0 hbl hbA hI.2.1 hin dL_law_636 ?_
  obtain ⟨ad99, F99, A99, U99, hS99, hz, hw⟩ := hw
  have hM := snd_X4_factOf l G H.size h98 ad99 F99 A99 U99 (xs (Int32.toNatClampNeg (x5 + (1 : Int32)))) (xs (Int32.toNatClampNeg (x5 + (2 : Int32)))) _ hS99 hw
  have hre := hS99.2.1
  rw [hz] at hM hre
  refine hv_rci hI (va_runV (As := [.int (xs (Int32.toNatClampNeg (x5 + (1 : Int32)))), .int (xs (Int32.toNatClampNeg (x5 + (2 : Int32))))]) (b := x2) (rest := []) hE.1 hM (cwV 2 hts (lw_V q2256 q2257 q2258 q108 q2259) rfl rfl rfl (by decide +kernel) ⟨Nat.le_of_ble_eq_true rfl, Nat.le_of_ble_eq_true rfl⟩) (hv_preV hE hI (ci := 0) rfl hre) rfl rfl hl.1 rfl (lv_room (Nat.le_of_ble_eq_true rfl)) dL_law_637 ⟨hc, hs⟩) (fun r100 h101 H locs hw hI => ?_)
  obtain ⟨F102, A102, U102, hS102, hO102, hw⟩ := hw
  have hw := hw h101 hS102 hO102
  refine lv_istore (lv' := [(7, .int r100), (6, .int r97), (0, .ref b), (1, .ref x1), (2, .ref x2), (3, .ref x3), (4, .ref x4), (5, .int x5)]) hx hb dL_law_640 hl (by decide) rfl (fun ls hl => ?_)
  refine lv_aload_n hx hb dL_law_642 rfl (lv_at hl 4 rfl) ?_
  obtain ⟨ad103, F103, A103, U103, hS103, hz, hw⟩ := hw
  have hM := snd_X4_thrown l G H.size h101 ad103 F103 A103 U103 _ hS103 hw
  have hre := hS103.2.1
  rw [hz] at hM hre
  refine hv_rci hI (va_runV (As := []) (b := x2) (rest := []) hE.1 hM (cwV 0 hts (lw_V q2098 q2099 q2100 q108 q2101) rfl rfl rfl (by decide +kernel) ⟨Nat.le_of_ble_eq_true rfl, Nat.le_of_ble_eq_true rfl⟩) (hv_preV hE hI (ci := 0) rfl hre) rfl rfl hl.1 rfl (lv_room (Nat.le_of_ble_eq_true rfl)) dL_law_643 ⟨hc, hs⟩) (fun r104 h105 H locs hw hI => ?_)
  obtain ⟨F106, A106, U106, hS106, hO106, hw⟩ := hw
  have hw := hw h105 hS106 hO106
  refine lv_iload hx hb dL_law_646 (lv_at hl 1 rfl) ?_
  refine lv_icmp_eq (tgt := 653) hx hb dL_law_648 (by decide) (fun c_648 => ?_) (fun c_648 => ?_)
  · have hw := hw.1 c_648
    refine lv_iload hx hb dL_law_653 (lv_at hl 1 rfl) ?_
    refine lv_if_ne (tgt := 670) hx hb dL_law_655 (by decide) (fun c_655 => ?_) (fun c_655 => ?_)
    · have hw := hw.1 c_655
      refine lv_goto (tgt := 2191) hx hb dL_law_670 (by decide) ?_
      exact snd_L_law_L2191 G L xs hl0 hX0 hbl hbA hret hE k28 hk28 h105 (nc + mc96) (nk + ms96) x1 x2 x3 x4 x5 hw hc hs _ _ _ hI (lv_sub hl [2, 3, 4, 5, 6, 7] rfl)
    · have hw := hw.2 c_655
      refine lv_aload_n hx hb dL_law_658 rfl (lv_at hl 5 rfl) ?_
      refine lv_iconst (v := 0) hx hb dL_law_659 (by decide) ?_
      refine hv_wlld hE hI hw dL_law_660 (fun r107 hw => ?_)
      refine lv_iload hx hb dL_law_661 (lv_at hl 0 rfl) ?_
      refine lv_i2l (v := (Int32.toInt64 r100)) hx hb dL_law_663 rfl ?_
      refine W.lcmp hx hb dL_law_664 ?_
      refine lv_if_eq (tgt := 670) hx hb dL_law_665 (by decide) (fun c_665 => ?_) (fun c_665 => ?_)
      · have hw := hw.1 c_665
        refine lv_goto (tgt := 2191) hx hb dL_law_670 (by decide) ?_
        exact snd_L_law_L2191 G L xs hl0 hX0 hbl hbA hret hE k28 hk28 h105 (nc + mc96) (nk + ms96) x1 x2 x3 x4 x5 hw hc hs _ _ _ hI (lv_sub hl [2, 3, 4, 5, 6, 7] rfl)
      · have hw := hw.2 c_665
        refine lv_iconst (v := 0) hx hb dL_law_668 (by decide) ?_
        exact hw.elim
  · have hw := hw.2 c_648
    refine lv_iconst (v := 0) hx hb dL_law_651 (by decide) ?_
    exact hw.elim
def wp_L_law_L673 (G : GG) (L : Nat) (xs : Nat → Int32) (k28 : (HH) → (Nat) → (Nat) → (Nat) → (Nat) → (Nat) → (Nat) → (Int32) → Prop) (h : HH) (nc : Nat) (nk : Nat) (x1 : Nat) (x2 : Nat) (x3 : Nat) (x4 : Nat) (x5 : Int32) : Prop := (vp_in (x5 + (1 : Int32)) L ∧ (∃ mc108 ms108, nc + mc108 ≤ 1200144 ∧ nk + ms108 ≤ 5494714 ∧ wp_X0_trust G mc108 ms108 h (some x1) (xs (Int32.toNatClampNeg (x5 + (1 : Int32)))) (some x4) (fun r109 h110 => (vp_in (x5 + (1 : Int32)) L ∧ w_ml G h110 x2 (fun ad111 F111 A111 U111 => wp_X4_trust F111 A111 U111 (xs (Int32.toNatClampNeg (x5 + (1 : Int32)))) (fun r112 F114 A114 U114 => ∀ h113, ml_S G h113 ad111 F114 A114 U114 → ml_O ad111 h110 h113 → w_ml G h113 x2 (fun ad115 F115 A115 U115 => wp_X4_thrown F115 A115 U115 (fun r116 F118 A118 U118 => ∀ h117, ml_S G h117 ad115 F118 A118 U118 → ml_O ad115 h113 h117 → ((r116 = r109 → ((¬ r109 = 0 → wp_L_law_L2191 G L xs k28 h117 (nc + mc108) (nk + ms108) x1 x2 x3 x4 x5) ∧ (r109 = 0 → w_dld G h117 x4 (0 : Int32) (fun r119 => (vf_n64 (FP.f2d r112) ∧ (((Op.cmpValue (FP.dcmp r119 (FP.f2d r112)) .l) = 0 → wp_L_law_L2191 G L xs k28 h117 (nc + mc108) (nk + ms108) x1 x2 x3 x4 x5) ∧ (¬ (Op.cmpValue (FP.dcmp r119 (FP.f2d r112)) .l) = 0 → w_dld G h117 x4 (0 : Int32) (fun r120 => w_dld G h117 x4 (0 : Int32) (fun r121 => (((Op.cmpValue (FP.dcmp r120 r121) .l) = 0 → False) ∧ (¬ (Op.cmpValue (FP.dcmp r120 r121) .l) = 0 → ((¬ (Op.cmpValue (FP.fcmp r112 r112) .l) = 0 → wp_L_law_L2191 G L xs k28 h117 (nc + mc108) (nk + ms108) x1 x2 x3 x4 x5) ∧ ((Op.cmpValue (FP.fcmp r112 r112) .l) = 0 → False))))))))))))) ∧ (¬ r116 = r109 → False))))))))))
set_option maxHeartbeats 4000000 in
theorem snd_L_law_L673 {p : Program} {l : Launch} {e : Env} {s : State} {m : MethodId} {below : List Frame} {meth : Method} {c : Code} {h0 : HH} {b : Nat} {Q9 : State → Prop} (G : GG) (L : Nat) (xs : Nat → Int32) (hl0 : l.stackTraces = false) (hX0 : va_X b L xs s s.heap) (hbl : b < s.heap.size) (hbA : ¬ hv_A h0 s.heap.size b) (hret : la_Ret p l e s m below meth c b h0 Q9) (hE : hv_E p s m #[.ref b] meth c cL_law 9 ret R_law G h0) (k28 : (HH) → (Nat) → (Nat) → (Nat) → (Nat) → (Nat) → (Nat) → (Int32) → Prop) (hk28 : ∀ (h : HH) (nc : Nat) (nk : Nat) (x1 : Nat) (x2 : Nat) (x3 : Nat) (x4 : Nat) (x5 : Int32), k28 h nc nk x1 x2 x3 x4 x5 → nc ≤ 1200144 → nk ≤ 5494714 → ∀ (H : Heap) (locs : List Loc) (ls : Array Slot), hv_I G h0 s.heap h H locs → lv_has ls 9 [(0, .ref b), (1, .ref x1), (2, .ref x2), (3, .ref x3), (4, .ref x4), (5, .int x5)] → W p l e room_1 s m #[.ref b] below meth c H locs nc nk Q9 (F0 m 28 ls [])) : ∀ (h : HH) (nc : Nat) (nk : Nat) (x1 : Nat) (x2 : Nat) (x3 : Nat) (x4 : Nat) (x5 : Int32), wp_L_law_L673 G L xs k28 h nc nk x1 x2 x3 x4 x5 → nc ≤ 1200144 → nk ≤ 5494714 → ∀ (H : Heap) (locs : List Loc) (ls : Array Slot), hv_I G h0 s.heap h H locs → lv_has ls 9 [(0, .ref b), (1, .ref x1), (2, .ref x2), (3, .ref x3), (4, .ref x4), (5, .int x5)] → W p l e room_1 s m #[.ref b] below meth c H locs nc nk Q9 (F0 m 673 ls []) := by
  obtain ⟨⟨hx, hb, hml, hown, hts⟩, hr, hlocks, hXX⟩ := id hE
  intro h nc nk x1 x2 x3 x4 x5 hw hc hs H locs ls hI hl
  unfold wp_L_law_L673 at hw
  refine lv_aload_n hx hb dL_law_673 rfl (lv_at hl 1 rfl) ?_
  refine lv_aload_n hx hb dL_law_674 rfl (lv_at hl 0 rfl) ?_
  refine lv_iload hx hb dL_law_675 (lv_at hl 5 rfl) ?_
  refine lv_iconst (v := 1) hx hb dL_law_677 (by decide) ?_
  refine lv_iadd hx hb dL_law_678 ?_
  obtain ⟨hin, hw⟩ := hw
  refine va_sld hx hb hX0 hbl hbA hI.2.1 hin dL_law_679 ?_
  refine lv_aload hx hb dL_law_680 (lv_at hl 4 rfl) ?_
  obtain ⟨mc108, ms108, hc, hs, hw⟩ := hw
  refine hv_rci hI (vx_runSW (As := [.ref x1, .int (xs (Int32.toNatClampNeg (x5 + (1 : Int32)))), .ref x4]) (rest := []) hE.1 (snd_X0_trust l hl0 G _ mc108 ms108 h (some x1) (xs (Int32.toNatClampNeg (x5 + (1 : Int32)))) (some x4) _ hw) (vx_cwSW 3 hts (lw_SW q1383 q1384 q96 q1385) rfl rfl rfl (by decide +kernel) ⟨Nat.le_of_ble_eq_true rfl, Nat.le_of_ble_eq_true rfl⟩) (hv_preS hE hI) rfl rfl hl.1 rfl (lv_room (Nat.le_of_ble_eq_true rfl)) dL_law_682 ⟨hc, hs⟩) (fun r109 h110 H locs hw hI => ?_)
  refine lv_istore (lv' := [(6, .int r109), (0, .ref b), (1, .ref x1), (2, .ref x2), (3, .ref x3), (4, .ref x4), (5, .int x5)]) hx hb dL_law_685 hl (by decide) rfl (fun ls hl => ?_)
  refine lv_aload_n hx hb dL_law_687 rfl (lv_at hl 3 rfl) ?_
  refine lv_aload_n hx hb dL_law_688 rfl (lv_at hl 1 rfl) ?_
  refine lv_iload hx hb dL_law_689 (lv_at hl 6 rfl) ?_
  refine lv_iconst (v := 1) hx hb dL_law_691 (by decide) ?_
  refine lv_iadd hx hb dL_law_692 ?_
  obtain ⟨hin, hw⟩ := hw
  refine va_sld hx hb hX0 hbl hbA hI.2.1 hin dL_law_693 ?_
  obtain ⟨ad111, F111, A111, U111, hS111, hz, hw⟩ := hw
  have hM := snd_X4_trust l G H.size h110 ad111 F111 A111 U111 (xs (Int32.toNatClampNeg (x5 + (1 : Int32)))) _ hS111 hw
  have hre := hS111.2.1
  rw [hz] at hM hre
  refine hv_rcf hI (va_runV (As := [.int (xs (Int32.toNatClampNeg (x5 + (1 : Int32))))]) (b := x2) (rest := []) hE.1 hM (cwV 1 hts (lw_V q2273 q2274 q2275 q108 q2276) rfl rfl rfl (by decide +kernel) ⟨Nat.le_of_ble_eq_true rfl, Nat.le_of_ble_eq_true rfl⟩) (hv_preV hE hI (ci := 0) rfl hre) rfl rfl hl.1 rfl (lv_room (Nat.le_of_ble_eq_true rfl)) dL_law_694 ⟨hc, hs⟩) (fun r112 h113 H locs hw hI => ?_)
  obtain ⟨F114, A114, U114, hS114, hO114, hw⟩ := hw
  have hw := hw h113 hS114 hO114
  refine lv_fstore (lv' := [(7, .float r112), (6, .int r109), (0, .ref b), (1, .ref x1), (2, .ref x2), (3, .ref x3), (4, .ref x4), (5, .int x5)]) hx hb dL_law_697 hl (by decide) rfl (fun ls hl => ?_)
  refine lv_aload_n hx hb dL_law_699 rfl (lv_at hl 4 rfl) ?_
  obtain ⟨ad115, F115, A115, U115, hS115, hz, hw⟩ := hw
  have hM := snd_X4_thrown l G H.size h113 ad115 F115 A115 U115 _ hS115 hw
  have hre := hS115.2.1
  rw [hz] at hM hre
  refine hv_rci hI (va_runV (As := []) (b := x2) (rest := []) hE.1 hM (cwV 0 hts (lw_V q2098 q2099 q2100 q108 q2101) rfl rfl rfl (by decide +kernel) ⟨Nat.le_of_ble_eq_true rfl, Nat.le_of_ble_eq_true rfl⟩) (hv_preV hE hI (ci := 0) rfl hre) rfl rfl hl.1 rfl (lv_room (Nat.le_of_ble_eq_true rfl)) dL_law_700 ⟨hc, hs⟩) (fun r116 h117 H locs hw hI => ?_)
  obtain ⟨F118, A118, U118, hS118, hO118, hw⟩ := hw
  have hw := hw h117 hS118 hO118
  refine lv_iload hx hb dL_law_703 (lv_at hl 1 rfl) ?_
  refine lv_icmp_eq (tgt := 710) hx hb dL_law_705 (by decide) (fun c_705 => ?_) (fun c_705 => ?_)
  · have hw := hw.1 c_705
    refine lv_iload hx hb dL_law_710 (lv_at hl 1 rfl) ?_
    refine lv_if_ne (tgt := 748) hx hb dL_law_712 (by decide) (fun c_712 => ?_) (fun c_712 => ?_)
    · have hw := hw.1 c_712
      refine lv_goto (tgt := 2191) hx hb dL_law_748 (by decide) ?_
      exact snd_L_law_L2191 G L xs hl0 hX0 hbl hbA hret hE k28 hk28 h117 (nc + mc108) (nk + ms108) x1 x2 x3 x4 x5 hw hc hs _ _ _ hI (lv_sub hl [2, 3, 4, 5, 6, 7] rfl)
    · have hw := hw.2 c_712
      refine lv_aload hx hb dL_law_715 (lv_at hl 6 rfl) ?_
      refine lv_iconst (v := 0) hx hb dL_law_717 (by decide) ?_
      refine hv_wdld hE hI hw dL_law_718 (fun r119 hw => ?_)
      refine lv_fload hx hb dL_law_719 (lv_at hl 0 rfl) ?_
      obtain ⟨hne, hw⟩ := hw
      refine lv_f2d hx hb dL_law_721 hne ?_
      refine lv_dcmp hx hb dL_law_722 ?_
      refine lv_if_eq (tgt := 748) hx hb dL_law_723 (by decide) (fun c_723 => ?_) (fun c_723 => ?_)
      · have hw := hw.1 c_723
        refine lv_goto (tgt := 2191) hx hb dL_law_748 (by decide) ?_
        exact snd_L_law_L2191 G L xs hl0 hX0 hbl hbA hret hE k28 hk28 h117 (nc + mc108) (nk + ms108) x1 x2 x3 x4 x5 hw hc hs _ _ _ hI (lv_sub hl [2, 3, 4, 5, 6, 7] rfl)
      · have hw := hw.2 c_723
        refine lv_aload hx hb dL_law_726 (lv_at hl 6 rfl) ?_
        refine lv_iconst (v := 0) hx hb dL_law_728 (by decide) ?_
        refine hv_wdld hE hI hw dL_law_729 (fun r120 hw => ?_)
        refine lv_aload hx hb dL_law_730 (lv_at hl 6 rfl) ?_
        refine lv_iconst (v := 0) hx hb dL_law_732 (by decide) ?_
        refine hv_wdld hE hI hw dL_law_733 (fun r121 hw => ?_)
        refine lv_dcmp hx hb dL_law_734 ?_
        refine lv_if_eq (tgt := 746) hx hb dL_law_735 (by decide) (fun c_735 => ?_) (fun c_735 => ?_)
        · have hw := hw.1 c_735
          refine lv_iconst (v := 0) hx hb dL_law_746 (by decide) ?_
          exact hw.elim
        · have hw := hw.2 c_735
          refine lv_fload hx hb dL_law_738 (lv_at hl 0 rfl) ?_
          refine lv_fload hx hb dL_law_740 (lv_at hl 0 rfl) ?_
          refine lv_fcmp hx hb dL_law_742 ?_
          refine lv_if_ne (tgt := 748) hx hb dL_law_743 (by decide) (fun c_743 => ?_) (fun c_743 => ?_)
          · have hw := hw.1 c_743
            refine lv_goto (tgt := 2191) hx hb dL_law_748 (by decide) ?_
            exact snd_L_law_L2191 G L xs hl0 hX0 hbl hbA hret hE k28 hk28 h117 (nc + mc108) (nk + ms108) x1 x2 x3 x4 x5 hw hc hs _ _ _ hI (lv_sub hl [2, 3, 4, 5, 6, 7] rfl)
          · have hw := hw.2 c_743
            refine lv_iconst (v := 0) hx hb dL_law_746 (by decide) ?_
            exact hw.elim
  · have hw := hw.2 c_705
    refine lv_iconst (v := 0) hx hb dL_law_708 (by decide) ?_
    exact hw.elim
def wp_L_law_L751 (G : GG) (L : Nat) (xs : Nat → Int32) (k28 : (HH) → (Nat) → (Nat) → (Nat) → (Nat) → (Nat) → (Nat) → (Int32) → Prop) (h : HH) (nc : Nat) (nk : Nat) (x1 : Nat) (x2 : Nat) (x3 : Nat) (x4 : Nat) (x5 : Int32) : Prop := (vp_in (x5 + (1 : Int32)) L ∧ (∃ mc122 ms122, nc + mc122 ≤ 1200144 ∧ nk + ms122 ≤ 5494714 ∧ wp_X0_trustBits G mc122 ms122 h (some x1) (xs (Int32.toNatClampNeg (x5 + (1 : Int32)))) (some x3) (fun r123 h124 => (vp_in (x5 + (1 : Int32)) L ∧ w_ml G h124 x2 (fun ad125 F125 A125 U125 => wp_X4_trustBits F125 A125 U125 (xs (Int32.toNatClampNeg (x5 + (1 : Int32)))) (fun r126 F128 A128 U128 => ∀ h127, ml_S G h127 ad125 F128 A128 U128 → ml_O ad125 h124 h127 → w_ml G h127 x2 (fun ad129 F129 A129 U129 => wp_X4_thrown F129 A129 U129 (fun r130 F132 A132 U132 => ∀ h131, ml_S G h131 ad129 F132 A132 U132 → ml_O ad129 h127 h131 → ((r130 = r123 → ((¬ r123 = 0 → wp_L_law_L2191 G L xs k28 h131 (nc + mc122) (nk + ms122) x1 x2 x3 x4 x5) ∧ (r123 = 0 → w_lld G h131 x3 (0 : Int32) (fun r133 => (((lg_cmp r133 (Int32.toInt64 r126)) = 0 → wp_L_law_L2191 G L xs k28 h131 (nc + mc122) (nk + ms122) x1 x2 x3 x4 x5) ∧ (¬ (lg_cmp r133 (Int32.toInt64 r126)) = 0 → False)))))) ∧ (¬ r130 = r123 → False))))))))))
set_option maxHeartbeats 4000000 in
theorem snd_L_law_L751 {p : Program} {l : Launch} {e : Env} {s : State} {m : MethodId} {below : List Frame} {meth : Method} {c : Code} {h0 : HH} {b : Nat} {Q9 : State → Prop} (G : GG) (L : Nat) (xs : Nat → Int32) (hl0 : l.stackTraces = false) (hX0 : va_X b L xs s s.heap) (hbl : b < s.heap.size) (hbA : ¬ hv_A h0 s.heap.size b) (hret : la_Ret p l e s m below meth c b h0 Q9) (hE : hv_E p s m #[.ref b] meth c cL_law 9 ret R_law G h0) (k28 : (HH) → (Nat) → (Nat) → (Nat) → (Nat) → (Nat) → (Nat) → (Int32) → Prop) (hk28 : ∀ (h : HH) (nc : Nat) (nk : Nat) (x1 : Nat) (x2 : Nat) (x3 : Nat) (x4 : Nat) (x5 : Int32), k28 h nc nk x1 x2 x3 x4 x5 → nc ≤ 1200144 → nk ≤ 5494714 → ∀ (H : Heap) (locs : List Loc) (ls : Array Slot), hv_I G h0 s.heap h H locs → lv_has ls 9 [(0, .ref b), (1, .ref x1), (2, .ref x2), (3, .ref x3), (4, .ref x4), (5, .int x5)] → W p l e room_1 s m #[.ref b] below meth c H locs nc nk Q9 (F0 m 28 ls [])) : ∀ (h : HH) (nc : Nat) (nk : Nat) (x1 : Nat) (x2 : Nat) (x3 : Nat) (x4 : Nat) (x5 : Int32), wp_L_law_L751 G L xs k28 h nc nk x1 x2 x3 x4 x5 → nc ≤ 1200144 → nk ≤ 5494714 → ∀ (H : Heap) (locs : List Loc) (ls : Array Slot), hv_I G h0 s.heap h H locs → lv_has ls 9 [(0, .ref b), (1, .ref x1), (2, .ref x2), (3, .ref x3), (4, .ref x4), (5, .int x5)] → W p l e room_1 s m #[.ref b] below meth c H locs nc nk Q9 (F0 m 751 ls []) := by
  obtain ⟨⟨hx, hb, hml, hown, hts⟩, hr, hlocks, hXX⟩ := id hE
  intro h nc nk x1 x2 x3 x4 x5 hw hc hs H locs ls hI hl
  unfold wp_L_law_L751 at hw
  refine lv_aload_n hx hb dL_law_751 rfl (lv_at hl 1 rfl) ?_
  refine lv_aload_n hx hb dL_law_752 rfl (lv_at hl 0 rfl) ?_
  refine lv_iload hx hb dL_law_753 (lv_at hl 5 rfl) ?_
  refine lv_iconst (v := 1) hx hb dL_law_755 (by decide) ?_
  refine lv_iadd hx hb dL_law_756 ?_
  obtain ⟨hin, hw⟩ := hw
  refine va_sld hx hb hX0 hbl hbA hI.2.1 hin dL_law_757 ?_
  refine lv_aload_n hx hb dL_law_758 rfl (lv_at hl 3 rfl) ?_
  obtain ⟨mc122, ms122, hc, hs, hw⟩ := hw
  refine hv_rci hI (vx_runSW (As := [.ref x1, .int (xs (Int32.toNatClampNeg (x5 + (1 : Int32)))), .ref x3]) (rest := []) hE.1 (snd_X0_trustBits l hl0 G _ mc122 ms122 h (some x1) (xs (Int32.toNatClampNeg (x5 + (1 : Int32)))) (some x3) _ hw) (vx_cwSW 3 hts (lw_SW q1390 q1391 q96 q1392) rfl rfl rfl (by decide +kernel) ⟨Nat.le_of_ble_eq_true rfl, Nat.le_of_ble_eq_true rfl⟩) (hv_preS hE hI) rfl rfl hl.1 rfl (lv_room (Nat.le_of_ble_eq_true rfl)) dL_law_759 ⟨hc, hs⟩) (fun r123 h124 H locs hw hI => ?_)
  refine lv_istore (lv' := [(6, .int r123), (0, .ref b), (1, .ref x1), (2, .ref x2), (3, .ref x3), (4, .ref x4), (5, .int x5)]) hx hb dL_law_762 hl (by decide) rfl (fun ls hl => ?_)
  refine lv_aload_n hx hb dL_law_764 rfl (lv_at hl 3 rfl) ?_
  refine lv_aload_n hx hb dL_law_765 rfl (lv_at hl 1 rfl) ?_
  refine lv_iload hx hb dL_law_766 (lv_at hl 6 rfl) ?_
  refine lv_iconst (v := 1) hx hb dL_law_768 (by decide) ?_
  refine lv_iadd hx hb dL_law_769 ?_
  obtain ⟨hin, hw⟩ := hw
  refine va_sld hx hb hX0 hbl hbA hI.2.1 hin dL_law_770 ?_
  obtain ⟨ad125, F125, A125, U125, hS125, hz, hw⟩ := hw
  have hM := snd_X4_trustBits l G H.size h124 ad125 F125 A125 U125 (xs (Int32.toNatClampNeg (x5 + (1 : Int32)))) _ hS125 hw
  have hre := hS125.2.1
  rw [hz] at hM hre
  refine hv_rci hI (va_runV (As := [.int (xs (Int32.toNatClampNeg (x5 + (1 : Int32))))]) (b := x2) (rest := []) hE.1 hM (cwV 1 hts (lw_V q2284 q2285 q2286 q108 q2287) rfl rfl rfl (by decide +kernel) ⟨Nat.le_of_ble_eq_true rfl, Nat.le_of_ble_eq_true rfl⟩) (hv_preV hE hI (ci := 0) rfl hre) rfl rfl hl.1 rfl (lv_room (Nat.le_of_ble_eq_true rfl)) dL_law_771 ⟨hc, hs⟩) (fun r126 h127 H locs hw hI => ?_)
  obtain ⟨F128, A128, U128, hS128, hO128, hw⟩ := hw
  have hw := hw h127 hS128 hO128
  refine lv_istore (lv' := [(7, .int r126), (6, .int r123), (0, .ref b), (1, .ref x1), (2, .ref x2), (3, .ref x3), (4, .ref x4), (5, .int x5)]) hx hb dL_law_774 hl (by decide) rfl (fun ls hl => ?_)
  refine lv_aload_n hx hb dL_law_776 rfl (lv_at hl 4 rfl) ?_
  obtain ⟨ad129, F129, A129, U129, hS129, hz, hw⟩ := hw
  have hM := snd_X4_thrown l G H.size h127 ad129 F129 A129 U129 _ hS129 hw
  have hre := hS129.2.1
  rw [hz] at hM hre
  refine hv_rci hI (va_runV (As := []) (b := x2) (rest := []) hE.1 hM (cwV 0 hts (lw_V q2098 q2099 q2100 q108 q2101) rfl rfl rfl (by decide +kernel) ⟨Nat.le_of_ble_eq_true rfl, Nat.le_of_ble_eq_true rfl⟩) (hv_preV hE hI (ci := 0) rfl hre) rfl rfl hl.1 rfl (lv_room (Nat.le_of_ble_eq_true rfl)) dL_law_777 ⟨hc, hs⟩) (fun r130 h131 H locs hw hI => ?_)
  obtain ⟨F132, A132, U132, hS132, hO132, hw⟩ := hw
  have hw := hw h131 hS132 hO132
  refine lv_iload hx hb dL_law_780 (lv_at hl 1 rfl) ?_
  refine lv_icmp_eq (tgt := 787) hx hb dL_law_782 (by decide) (fun c_782 => ?_) (fun c_782 => ?_)
  · have hw := hw.1 c_782
    refine lv_iload hx hb dL_law_787 (lv_at hl 1 rfl) ?_
    refine lv_if_ne (tgt := 804) hx hb dL_law_789 (by decide) (fun c_789 => ?_) (fun c_789 => ?_)
    · have hw := hw.1 c_789
      refine lv_goto (tgt := 2191) hx hb dL_law_804 (by decide) ?_
      exact snd_L_law_L2191 G L xs hl0 hX0 hbl hbA hret hE k28 hk28 h131 (nc + mc122) (nk + ms122) x1 x2 x3 x4 x5 hw hc hs _ _ _ hI (lv_sub hl [2, 3, 4, 5, 6, 7] rfl)
    · have hw := hw.2 c_789
      refine lv_aload_n hx hb dL_law_792 rfl (lv_at hl 5 rfl) ?_
      refine lv_iconst (v := 0) hx hb dL_law_793 (by decide) ?_
      refine hv_wlld hE hI hw dL_law_794 (fun r133 hw => ?_)
      refine lv_iload hx hb dL_law_795 (lv_at hl 0 rfl) ?_
      refine lv_i2l (v := (Int32.toInt64 r126)) hx hb dL_law_797 rfl ?_
      refine W.lcmp hx hb dL_law_798 ?_
      refine lv_if_eq (tgt := 804) hx hb dL_law_799 (by decide) (fun c_799 => ?_) (fun c_799 => ?_)
      · have hw := hw.1 c_799
        refine lv_goto (tgt := 2191) hx hb dL_law_804 (by decide) ?_
        exact snd_L_law_L2191 G L xs hl0 hX0 hbl hbA hret hE k28 hk28 h131 (nc + mc122) (nk + ms122) x1 x2 x3 x4 x5 hw hc hs _ _ _ hI (lv_sub hl [2, 3, 4, 5, 6, 7] rfl)
      · have hw := hw.2 c_799
        refine lv_iconst (v := 0) hx hb dL_law_802 (by decide) ?_
        exact hw.elim
  · have hw := hw.2 c_782
    refine lv_iconst (v := 0) hx hb dL_law_785 (by decide) ?_
    exact hw.elim
def wp_L_law_L807 (G : GG) (L : Nat) (xs : Nat → Int32) (k28 : (HH) → (Nat) → (Nat) → (Nat) → (Nat) → (Nat) → (Nat) → (Int32) → Prop) (h : HH) (nc : Nat) (nk : Nat) (x1 : Nat) (x2 : Nat) (x3 : Nat) (x4 : Nat) (x5 : Int32) : Prop := (vp_in (x5 + (1 : Int32)) L ∧ (∃ mc134 ms134, nc + mc134 ≤ 1200144 ∧ nk + ms134 ≤ 5494714 ∧ wp_X0_trusted G mc134 ms134 h (some x1) (xs (Int32.toNatClampNeg (x5 + (1 : Int32)))) (some x3) (fun r135 h136 => (vp_in (x5 + (1 : Int32)) L ∧ w_ml G h136 x2 (fun ad137 F137 A137 U137 => wp_X4_trusted F137 A137 U137 (xs (Int32.toNatClampNeg (x5 + (1 : Int32)))) (fun r138 F140 A140 U140 => ∀ h139, ml_S G h139 ad137 F140 A140 U140 → ml_O ad137 h136 h139 → w_ml G h139 x2 (fun ad141 F141 A141 U141 => wp_X4_thrown F141 A141 U141 (fun r142 F144 A144 U144 => ∀ h143, ml_S G h143 ad141 F144 A144 U144 → ml_O ad141 h139 h143 → ((r142 = r135 → ((¬ r135 = 0 → wp_L_law_L2191 G L xs k28 h143 (nc + mc134) (nk + ms134) x1 x2 x3 x4 x5) ∧ (r135 = 0 → w_lld G h143 x3 (0 : Int32) (fun r145 => (((lg_cmp r145 (Int32.toInt64 r138)) = 0 → wp_L_law_L2191 G L xs k28 h143 (nc + mc134) (nk + ms134) x1 x2 x3 x4 x5) ∧ (¬ (lg_cmp r145 (Int32.toInt64 r138)) = 0 → False)))))) ∧ (¬ r142 = r135 → False))))))))))
set_option maxHeartbeats 4000000 in
theorem snd_L_law_L807 {p : Program} {l : Launch} {e : Env} {s : State} {m : MethodId} {below : List Frame} {meth : Method} {c : Code} {h0 : HH} {b : Nat} {Q9 : State → Prop} (G : GG) (L : Nat) (xs : Nat → Int32) (hl0 : l.stackTraces = false) (hX0 : va_X b L xs s s.heap) (hbl : b < s.heap.size) (hbA : ¬ hv_A h0 s.heap.size b) (hret : la_Ret p l e s m below meth c b h0 Q9) (hE : hv_E p s m #[.ref b] meth c cL_law 9 ret R_law G h0) (k28 : (HH) → (Nat) → (Nat) → (Nat) → (Nat) → (Nat) → (Nat) → (Int32) → Prop) (hk28 : ∀ (h : HH) (nc : Nat) (nk : Nat) (x1 : Nat) (x2 : Nat) (x3 : Nat) (x4 : Nat) (x5 : Int32), k28 h nc nk x1 x2 x3 x4 x5 → nc ≤ 1200144 → nk ≤ 5494714 → ∀ (H : Heap) (locs : List Loc) (ls : Array Slot), hv_I G h0 s.heap h H locs → lv_has ls 9 [(0, .ref b), (1, .ref x1), (2, .ref x2), (3, .ref x3), (4, .ref x4), (5, .int x5)] → W p l e room_1 s m #[.ref b] below meth c H locs nc nk Q9 (F0 m 28 ls [])) : ∀ (h : HH) (nc : Nat) (nk : Nat) (x1 : Nat) (x2 : Nat) (x3 : Nat) (x4 : Nat) (x5 : Int32), wp_L_law_L807 G L xs k28 h nc nk x1 x2 x3 x4 x5 → nc ≤ 1200144 → nk ≤ 5494714 → ∀ (H : Heap) (locs : List Loc) (ls : Array Slot), hv_I G h0 s.heap h H locs → lv_has ls 9 [(0, .ref b), (1, .ref x1), (2, .ref x2), (3, .ref x3), (4, .ref x4), (5, .int x5)] → W p l e room_1 s m #[.ref b] below meth c H locs nc nk Q9 (F0 m 807 ls []) := by
  obtain ⟨⟨hx, hb, hml, hown, hts⟩, hr, hlocks, hXX⟩ := id hE
  intro h nc nk x1 x2 x3 x4 x5 hw hc hs H locs ls hI hl
  unfold wp_L_law_L807 at hw
  refine lv_aload_n hx hb dL_law_807 rfl (lv_at hl 1 rfl) ?_
  refine lv_aload_n hx hb dL_law_808 rfl (lv_at hl 0 rfl) ?_
  refine lv_iload hx hb dL_law_809 (lv_at hl 5 rfl) ?_
  refine lv_iconst (v := 1) hx hb dL_law_811 (by decide) ?_
  refine lv_iadd hx hb dL_law_812 ?_
  obtain ⟨hin, hw⟩ := hw
  refine va_sld hx hb hX0 hbl hbA hI.2.1 hin dL_law_813 ?_
  refine lv_aload_n hx hb dL_law_814 rfl (lv_at hl 3 rfl) ?_
  obtain ⟨mc134, ms134, hc, hs, hw⟩ := hw
  refine hv_rci hI (vx_runSW (As := [.ref x1, .int (xs (Int32.toNatClampNeg (x5 + (1 : Int32)))), .ref x3]) (rest := []) hE.1 (snd_X0_trusted l hl0 G _ mc134 ms134 h (some x1) (xs (Int32.toNatClampNeg (x5 + (1 : Int32)))) (some x3) _ hw) (vx_cwSW 3 hts (lw_SW q1407 q1408 q96 q1409) rfl rfl rfl (by decide +kernel) ⟨Nat.le_of_ble_eq_true rfl, Nat.le_of_ble_eq_true rfl⟩) (hv_preS hE hI) rfl rfl hl.1 rfl (lv_room (Nat.le_of_ble_eq_true rfl)) dL_law_815 ⟨hc, hs⟩) (fun r135 h136 H locs hw hI => ?_)
  refine lv_istore (lv' := [(6, .int r135), (0, .ref b), (1, .ref x1), (2, .ref x2), (3, .ref x3), (4, .ref x4), (5, .int x5)]) hx hb dL_law_818 hl (by decide) rfl (fun ls hl => ?_)
  refine lv_aload_n hx hb dL_law_820 rfl (lv_at hl 3 rfl) ?_
  refine lv_aload_n hx hb dL_law_821 rfl (lv_at hl 1 rfl) ?_
  refine lv_iload hx hb dL_law_822 (lv_at hl 6 rfl) ?_
  refine lv_iconst (v := 1) hx hb dL_law_824 (by decide) ?_
  refine lv_iadd hx hb dL_law_825 ?_
  obtain ⟨hin, hw⟩ := hw
  refine va_sld hx hb hX0 hbl hbA hI.2.1 hin dL_law_826 ?_
  obtain ⟨ad137, F137, A137, U137, hS137, hz, hw⟩ := hw
  have hM := snd_X4_trusted l G H.size h136 ad137 F137 A137 U137 (xs (Int32.toNatClampNeg (x5 + (1 : Int32)))) _ hS137 hw
  have hre := hS137.2.1
  rw [hz] at hM hre
  refine hv_rci hI (va_runV (As := [.int (xs (Int32.toNatClampNeg (x5 + (1 : Int32))))]) (b := x2) (rest := []) hE.1 hM (cwV 1 hts (lw_V q2288 q2289 q2290 q108 q2291) rfl rfl rfl (by decide +kernel) ⟨Nat.le_of_ble_eq_true rfl, Nat.le_of_ble_eq_true rfl⟩) (hv_preV hE hI (ci := 0) rfl hre) rfl rfl hl.1 rfl (lv_room (Nat.le_of_ble_eq_true rfl)) dL_law_827 ⟨hc, hs⟩) (fun r138 h139 H locs hw hI => ?_)
  obtain ⟨F140, A140, U140, hS140, hO140, hw⟩ := hw
  have hw := hw h139 hS140 hO140
  refine lv_istore (lv' := [(7, .int r138), (6, .int r135), (0, .ref b), (1, .ref x1), (2, .ref x2), (3, .ref x3), (4, .ref x4), (5, .int x5)]) hx hb dL_law_830 hl (by decide) rfl (fun ls hl => ?_)
  refine lv_aload_n hx hb dL_law_832 rfl (lv_at hl 4 rfl) ?_
  obtain ⟨ad141, F141, A141, U141, hS141, hz, hw⟩ := hw
  have hM := snd_X4_thrown l G H.size h139 ad141 F141 A141 U141 _ hS141 hw
  have hre := hS141.2.1
  rw [hz] at hM hre
  refine hv_rci hI (va_runV (As := []) (b := x2) (rest := []) hE.1 hM (cwV 0 hts (lw_V q2098 q2099 q2100 q108 q2101) rfl rfl rfl (by decide +kernel) ⟨Nat.le_of_ble_eq_true rfl, Nat.le_of_ble_eq_true rfl⟩) (hv_preV hE hI (ci := 0) rfl hre) rfl rfl hl.1 rfl (lv_room (Nat.le_of_ble_eq_true rfl)) dL_law_833 ⟨hc, hs⟩) (fun r142 h143 H locs hw hI => ?_)
  obtain ⟨F144, A144, U144, hS144, hO144, hw⟩ := hw
  have hw := hw h143 hS144 hO144
  refine lv_iload hx hb dL_law_836 (lv_at hl 1 rfl) ?_
  refine lv_icmp_eq (tgt := 843) hx hb dL_law_838 (by decide) (fun c_838 => ?_) (fun c_838 => ?_)
  · have hw := hw.1 c_838
    refine lv_iload hx hb dL_law_843 (lv_at hl 1 rfl) ?_
    refine lv_if_ne (tgt := 860) hx hb dL_law_845 (by decide) (fun c_845 => ?_) (fun c_845 => ?_)
    · have hw := hw.1 c_845
      refine lv_goto (tgt := 2191) hx hb dL_law_860 (by decide) ?_
      exact snd_L_law_L2191 G L xs hl0 hX0 hbl hbA hret hE k28 hk28 h143 (nc + mc134) (nk + ms134) x1 x2 x3 x4 x5 hw hc hs _ _ _ hI (lv_sub hl [2, 3, 4, 5, 6, 7] rfl)
    · have hw := hw.2 c_845
      refine lv_aload_n hx hb dL_law_848 rfl (lv_at hl 5 rfl) ?_
      refine lv_iconst (v := 0) hx hb dL_law_849 (by decide) ?_
      refine hv_wlld hE hI hw dL_law_850 (fun r145 hw => ?_)
      refine lv_iload hx hb dL_law_851 (lv_at hl 0 rfl) ?_
      refine lv_i2l (v := (Int32.toInt64 r138)) hx hb dL_law_853 rfl ?_
      refine W.lcmp hx hb dL_law_854 ?_
      refine lv_if_eq (tgt := 860) hx hb dL_law_855 (by decide) (fun c_855 => ?_) (fun c_855 => ?_)
      · have hw := hw.1 c_855
        refine lv_goto (tgt := 2191) hx hb dL_law_860 (by decide) ?_
        exact snd_L_law_L2191 G L xs hl0 hX0 hbl hbA hret hE k28 hk28 h143 (nc + mc134) (nk + ms134) x1 x2 x3 x4 x5 hw hc hs _ _ _ hI (lv_sub hl [2, 3, 4, 5, 6, 7] rfl)
      · have hw := hw.2 c_855
        refine lv_iconst (v := 0) hx hb dL_law_858 (by decide) ?_
        exact hw.elim
  · have hw := hw.2 c_838
    refine lv_iconst (v := 0) hx hb dL_law_841 (by decide) ?_
    exact hw.elim
def wp_L_law_L896 (G : GG) (L : Nat) (xs : Nat → Int32) (k28 : (HH) → (Nat) → (Nat) → (Nat) → (Nat) → (Nat) → (Nat) → (Int32) → Prop) (h : HH) (nc : Nat) (nk : Nat) (x1 : Nat) (x2 : Nat) (x3 : Nat) (x4 : Nat) (x5 : Int32) (t0 : Int32) (t1 : Nat) (t2 : Int32) : Prop := w_ml G h t1 (fun ad149 F149 A149 U149 => wp_X4_due F149 A149 U149 t2 (fun r150 F152 A152 U152 => ∀ h151, ml_S G h151 ad149 F152 A152 U152 → ml_O ad149 h h151 → ((t0 = r150 → wp_L_law_L2191 G L xs k28 h151 nc nk x1 x2 x3 x4 x5) ∧ (¬ t0 = r150 → False))))
set_option maxHeartbeats 4000000 in
theorem snd_L_law_L896 {p : Program} {l : Launch} {e : Env} {s : State} {m : MethodId} {below : List Frame} {meth : Method} {c : Code} {h0 : HH} {b : Nat} {Q9 : State → Prop} (G : GG) (L : Nat) (xs : Nat → Int32) (hl0 : l.stackTraces = false) (hX0 : va_X b L xs s s.heap) (hbl : b < s.heap.size) (hbA : ¬ hv_A h0 s.heap.size b) (hret : la_Ret p l e s m below meth c b h0 Q9) (hE : hv_E p s m #[.ref b] meth c cL_law 9 ret R_law G h0) (k28 : (HH) → (Nat) → (Nat) → (Nat) → (Nat) → (Nat) → (Nat) → (Int32) → Prop) (hk28 : ∀ (h : HH) (nc : Nat) (nk : Nat) (x1 : Nat) (x2 : Nat) (x3 : Nat) (x4 : Nat) (x5 : Int32), k28 h nc nk x1 x2 x3 x4 x5 → nc ≤ 1200144 → nk ≤ 5494714 → ∀ (H : Heap) (locs : List Loc) (ls : Array Slot), hv_I G h0 s.heap h H locs → lv_has ls 9 [(0, .ref b), (1, .ref x1), (2, .ref x2), (3, .ref x3), (4, .ref x4), (5, .int x5)] → W p l e room_1 s m #[.ref b] below meth c H locs nc nk Q9 (F0 m 28 ls [])) : ∀ (h : HH) (nc : Nat) (nk : Nat) (x1 : Nat) (x2 : Nat) (x3 : Nat) (x4 : Nat) (x5 : Int32) (t0 : Int32) (t1 : Nat) (t2 : Int32), wp_L_law_L896 G L xs k28 h nc nk x1 x2 x3 x4 x5 t0 t1 t2 → nc ≤ 1200144 → nk ≤ 5494714 → ∀ (H : Heap) (locs : List Loc) (ls : Array Slot), hv_I G h0 s.heap h H locs → lv_has ls 9 [(0, .ref b), (1, .ref x1), (2, .ref x2), (3, .ref x3), (4, .ref x4), (5, .int x5)] → W p l e room_1 s m #[.ref b] below meth c H locs nc nk Q9 (F0 m 896 ls [.int t2, .ref t1, .int t0]) := by
  obtain ⟨⟨hx, hb, hml, hown, hts⟩, hr, hlocks, hXX⟩ := id hE
  intro h nc nk x1 x2 x3 x4 x5 t0 t1 t2 hw hc hs H locs ls hI hl
  unfold wp_L_law_L896 at hw
  obtain ⟨ad149, F149, A149, U149, hS149, hz, hw⟩ := hw
  have hM := snd_X4_due l G H.size h ad149 F149 A149 U149 t2 _ hS149 hw
  have hre := hS149.2.1
  rw [hz] at hM hre
  refine hv_rci hI (va_runV (As := [.int t2]) (b := t1) (rest := [.int t0]) hE.1 hM (cwV 1 hts (lw_V q2292 q2293 q2294 q108 q2295) rfl rfl rfl (by decide +kernel) ⟨Nat.le_of_ble_eq_true rfl, Nat.le_of_ble_eq_true rfl⟩) (hv_preV hE hI (ci := 0) rfl hre) rfl rfl hl.1 rfl (lv_room (Nat.le_of_ble_eq_true rfl)) dL_law_896 ⟨hc, hs⟩) (fun r150 h151 H locs hw hI => ?_)
  obtain ⟨F152, A152, U152, hS152, hO152, hw⟩ := hw
  have hw := hw h151 hS152 hO152
  refine lv_icmp_eq (tgt := 2191) hx hb dL_law_899 (by decide) (fun c_899 => ?_) (fun c_899 => ?_)
  · have hw := hw.1 c_899
    exact snd_L_law_L2191 G L xs hl0 hX0 hbl hbA hret hE k28 hk28 h151 nc nk x1 x2 x3 x4 x5 hw hc hs _ _ _ hI (lv_sub hl [0, 1, 2, 3, 4, 5] rfl)
  · have hw := hw.2 c_899
    refine lv_iconst (v := 0) hx hb dL_law_902 (by decide) ?_
    exact hw.elim
def wp_L_law_L878 (G : GG) (L : Nat) (xs : Nat → Int32) (k28 : (HH) → (Nat) → (Nat) → (Nat) → (Nat) → (Nat) → (Nat) → (Int32) → Prop) (h : HH) (nc : Nat) (nk : Nat) (x1 : Nat) (x2 : Nat) (x3 : Nat) (x4 : Nat) (x5 : Int32) (t0 : Nat) (t1 : Int32) : Prop := (∃ mc146 ms146, nc + mc146 ≤ 1200144 ∧ nk + ms146 ≤ 5494714 ∧ w_is h t0 1 (wp_X1_due G mc146 ms146 h t0 t1 (fun r147 h148 => (vp_in (x5 + (1 : Int32)) L ∧ (((xs (Int32.toNatClampNeg (x5 + (1 : Int32)))) = 0 → wp_L_law_L896 G L xs k28 h148 (nc + mc146) (nk + ms146) x1 x2 x3 x4 x5 r147 x2 (0 : Int32)) ∧ (¬ (xs (Int32.toNatClampNeg (x5 + (1 : Int32)))) = 0 → wp_L_law_L896 G L xs k28 h148 (nc + mc146) (nk + ms146) x1 x2 x3 x4 x5 r147 x2 (1 : Int32)))))))
set_option maxHeartbeats 4000000 in
theorem snd_L_law_L878 {p : Program} {l : Launch} {e : Env} {s : State} {m : MethodId} {below : List Frame} {meth : Method} {c : Code} {h0 : HH} {b : Nat} {Q9 : State → Prop} (G : GG) (L : Nat) (xs : Nat → Int32) (hl0 : l.stackTraces = false) (hX0 : va_X b L xs s s.heap) (hbl : b < s.heap.size) (hbA : ¬ hv_A h0 s.heap.size b) (hret : la_Ret p l e s m below meth c b h0 Q9) (hE : hv_E p s m #[.ref b] meth c cL_law 9 ret R_law G h0) (k28 : (HH) → (Nat) → (Nat) → (Nat) → (Nat) → (Nat) → (Nat) → (Int32) → Prop) (hk28 : ∀ (h : HH) (nc : Nat) (nk : Nat) (x1 : Nat) (x2 : Nat) (x3 : Nat) (x4 : Nat) (x5 : Int32), k28 h nc nk x1 x2 x3 x4 x5 → nc ≤ 1200144 → nk ≤ 5494714 → ∀ (H : Heap) (locs : List Loc) (ls : Array Slot), hv_I G h0 s.heap h H locs → lv_has ls 9 [(0, .ref b), (1, .ref x1), (2, .ref x2), (3, .ref x3), (4, .ref x4), (5, .int x5)] → W p l e room_1 s m #[.ref b] below meth c H locs nc nk Q9 (F0 m 28 ls [])) : ∀ (h : HH) (nc : Nat) (nk : Nat) (x1 : Nat) (x2 : Nat) (x3 : Nat) (x4 : Nat) (x5 : Int32) (t0 : Nat) (t1 : Int32), wp_L_law_L878 G L xs k28 h nc nk x1 x2 x3 x4 x5 t0 t1 → nc ≤ 1200144 → nk ≤ 5494714 → ∀ (H : Heap) (locs : List Loc) (ls : Array Slot), hv_I G h0 s.heap h H locs → lv_has ls 9 [(0, .ref b), (1, .ref x1), (2, .ref x2), (3, .ref x3), (4, .ref x4), (5, .int x5)] → W p l e room_1 s m #[.ref b] below meth c H locs nc nk Q9 (F0 m 878 ls [.int t1, .ref t0]) := by
  obtain ⟨⟨hx, hb, hml, hown, hts⟩, hr, hlocks, hXX⟩ := id hE
  intro h nc nk x1 x2 x3 x4 x5 t0 t1 hw hc hs H locs ls hI hl
  unfold wp_L_law_L878 at hw
  obtain ⟨mc146, ms146, hc, hs, hw⟩ := hw
  obtain ⟨⟨fs, hre⟩, hw⟩ := hw
  refine hv_rci hI (va_runV (As := [.int t1]) (b := t0) (rest := []) hE.1 (snd_X1_due l G _ mc146 ms146 h t0 t1 _ hw) (cwV 1 hts (lw_V q343 q344 q345 q97 q346) rfl rfl rfl (by decide +kernel) ⟨Nat.le_of_ble_eq_true rfl, Nat.le_of_ble_eq_true rfl⟩) (hv_preV hE hI (ci := 1) rfl hre) rfl rfl hl.1 rfl (lv_room (Nat.le_of_ble_eq_true rfl)) dL_law_878 ⟨hc, hs⟩) (fun r147 h148 H locs hw hI => ?_)
  refine lv_aload_n hx hb dL_law_881 rfl (lv_at hl 2 rfl) ?_
  refine lv_aload_n hx hb dL_law_882 rfl (lv_at hl 0 rfl) ?_
  refine lv_iload hx hb dL_law_883 (lv_at hl 5 rfl) ?_
  refine lv_iconst (v := 1) hx hb dL_law_885 (by decide) ?_
  refine lv_iadd hx hb dL_law_886 ?_
  obtain ⟨hin, hw⟩ := hw
  refine va_sld hx hb hX0 hbl hbA hI.2.1 hin dL_law_887 ?_
  refine lv_if_eq (tgt := 895) hx hb dL_law_888 (by decide) (fun c_888 => ?_) (fun c_888 => ?_)
  · have hw := hw.1 c_888
    refine lv_iconst (v := 0) hx hb dL_law_895 (by decide) ?_
    exact snd_L_law_L896 G L xs hl0 hX0 hbl hbA hret hE k28 hk28 h148 (nc + mc146) (nk + ms146) x1 x2 x3 x4 x5 r147 x2 (0 : Int32) hw hc hs _ _ _ hI (lv_sub hl [0, 1, 2, 3, 4, 5] rfl)
  · have hw := hw.2 c_888
    refine lv_iconst (v := 1) hx hb dL_law_891 (by decide) ?_
    refine lv_goto (tgt := 896) hx hb dL_law_892 (by decide) ?_
    exact snd_L_law_L896 G L xs hl0 hX0 hbl hbA hret hE k28 hk28 h148 (nc + mc146) (nk + ms146) x1 x2 x3 x4 x5 r147 x2 (1 : Int32) hw hc hs _ _ _ hI (lv_sub hl [0, 1, 2, 3, 4, 5] rfl)
def wp_L_law_L863 (G : GG) (L : Nat) (xs : Nat → Int32) (k28 : (HH) → (Nat) → (Nat) → (Nat) → (Nat) → (Nat) → (Nat) → (Int32) → Prop) (h : HH) (nc : Nat) (nk : Nat) (x1 : Nat) (x2 : Nat) (x3 : Nat) (x4 : Nat) (x5 : Int32) : Prop := (vp_in (x5 + (1 : Int32)) L ∧ (((xs (Int32.toNatClampNeg (x5 + (1 : Int32)))) = 0 → wp_L_law_L878 G L xs k28 h nc nk x1 x2 x3 x4 x5 x1 (0 : Int32)) ∧ (¬ (xs (Int32.toNatClampNeg (x5 + (1 : Int32)))) = 0 → wp_L_law_L878 G L xs k28 h nc nk x1 x2 x3 x4 x5 x1 (1 : Int32))))
set_option maxHeartbeats 4000000 in
theorem snd_L_law_L863 {p : Program} {l : Launch} {e : Env} {s : State} {m : MethodId} {below : List Frame} {meth : Method} {c : Code} {h0 : HH} {b : Nat} {Q9 : State → Prop} (G : GG) (L : Nat) (xs : Nat → Int32) (hl0 : l.stackTraces = false) (hX0 : va_X b L xs s s.heap) (hbl : b < s.heap.size) (hbA : ¬ hv_A h0 s.heap.size b) (hret : la_Ret p l e s m below meth c b h0 Q9) (hE : hv_E p s m #[.ref b] meth c cL_law 9 ret R_law G h0) (k28 : (HH) → (Nat) → (Nat) → (Nat) → (Nat) → (Nat) → (Nat) → (Int32) → Prop) (hk28 : ∀ (h : HH) (nc : Nat) (nk : Nat) (x1 : Nat) (x2 : Nat) (x3 : Nat) (x4 : Nat) (x5 : Int32), k28 h nc nk x1 x2 x3 x4 x5 → nc ≤ 1200144 → nk ≤ 5494714 → ∀ (H : Heap) (locs : List Loc) (ls : Array Slot), hv_I G h0 s.heap h H locs → lv_has ls 9 [(0, .ref b), (1, .ref x1), (2, .ref x2), (3, .ref x3), (4, .ref x4), (5, .int x5)] → W p l e room_1 s m #[.ref b] below meth c H locs nc nk Q9 (F0 m 28 ls [])) : ∀ (h : HH) (nc : Nat) (nk : Nat) (x1 : Nat) (x2 : Nat) (x3 : Nat) (x4 : Nat) (x5 : Int32), wp_L_law_L863 G L xs k28 h nc nk x1 x2 x3 x4 x5 → nc ≤ 1200144 → nk ≤ 5494714 → ∀ (H : Heap) (locs : List Loc) (ls : Array Slot), hv_I G h0 s.heap h H locs → lv_has ls 9 [(0, .ref b), (1, .ref x1), (2, .ref x2), (3, .ref x3), (4, .ref x4), (5, .int x5)] → W p l e room_1 s m #[.ref b] below meth c H locs nc nk Q9 (F0 m 863 ls []) := by
  obtain ⟨⟨hx, hb, hml, hown, hts⟩, hr, hlocks, hXX⟩ := id hE
  intro h nc nk x1 x2 x3 x4 x5 hw hc hs H locs ls hI hl
  unfold wp_L_law_L863 at hw
  refine lv_aload_n hx hb dL_law_863 rfl (lv_at hl 1 rfl) ?_
  refine lv_aload_n hx hb dL_law_864 rfl (lv_at hl 0 rfl) ?_
  refine lv_iload hx hb dL_law_865 (lv_at hl 5 rfl) ?_
  refine lv_iconst (v := 1) hx hb dL_law_867 (by decide) ?_
  refine lv_iadd hx hb dL_law_868 ?_
  obtain ⟨hin, hw⟩ := hw
  refine va_sld hx hb hX0 hbl hbA hI.2.1 hin dL_law_869 ?_
  refine lv_if_eq (tgt := 877) hx hb dL_law_870 (by decide) (fun c_870 => ?_) (fun c_870 => ?_)
  · have hw := hw.1 c_870
    refine lv_iconst (v := 0) hx hb dL_law_877 (by decide) ?_
    exact snd_L_law_L878 G L xs hl0 hX0 hbl hbA hret hE k28 hk28 h nc nk x1 x2 x3 x4 x5 x1 (0 : Int32) hw hc hs _ _ _ hI (lv_sub hl [0, 1, 2, 3, 4, 5] rfl)
  · have hw := hw.2 c_870
    refine lv_iconst (v := 1) hx hb dL_law_873 (by decide) ?_
    refine lv_goto (tgt := 878) hx hb dL_law_874 (by decide) ?_
    exact snd_L_law_L878 G L xs hl0 hX0 hbl hbA hret hE k28 hk28 h nc nk x1 x2 x3 x4 x5 x1 (1 : Int32) hw hc hs _ _ _ hI (lv_sub hl [0, 1, 2, 3, 4, 5] rfl)
def wp_L_law_L904 (G : GG) (L : Nat) (xs : Nat → Int32) (k28 : (HH) → (Nat) → (Nat) → (Nat) → (Nat) → (Nat) → (Nat) → (Int32) → Prop) (h : HH) (nc : Nat) (nk : Nat) (x1 : Nat) (x2 : Nat) (x3 : Nat) (x4 : Nat) (x5 : Int32) : Prop := (vp_in (x5 + (1 : Int32)) L ∧ (vp_in (x5 + (2 : Int32)) L ∧ (∃ mc153 ms153, nc + mc153 ≤ 1200144 ∧ nk + ms153 ≤ 5494714 ∧ wp_X0_agenda G mc153 ms153 h (some x1) (xs (Int32.toNatClampNeg (x5 + (1 : Int32)))) (xs (Int32.toNatClampNeg (x5 + (2 : Int32)))) (some x3) (fun r154 h155 => (vp_in (x5 + (1 : Int32)) L ∧ (vp_in (x5 + (2 : Int32)) L ∧ w_ml G h155 x2 (fun ad156 F156 A156 U156 => wp_X4_agenda F156 A156 U156 (xs (Int32.toNatClampNeg (x5 + (1 : Int32)))) (xs (Int32.toNatClampNeg (x5 + (2 : Int32)))) (fun r157 F159 A159 U159 => ∀ h158, ml_S G h158 ad156 F159 A159 U159 → ml_O ad156 h155 h158 → w_ml G h158 x2 (fun ad160 F160 A160 U160 => wp_X4_thrown F160 A160 U160 (fun r161 F163 A163 U163 => ∀ h162, ml_S G h162 ad160 F163 A163 U163 → ml_O ad160 h158 h162 → ((r161 = r154 → ((¬ r154 = 0 → wp_L_law_L2191 G L xs k28 h162 (nc + mc153) (nk + ms153) x1 x2 x3 x4 x5) ∧ (r154 = 0 → w_lld G h162 x3 (0 : Int32) (fun r164 => (((lg_cmp r164 (Int32.toInt64 r157)) = 0 → wp_L_law_L2191 G L xs k28 h162 (nc + mc153) (nk + ms153) x1 x2 x3 x4 x5) ∧ (¬ (lg_cmp r164 (Int32.toInt64 r157)) = 0 → False)))))) ∧ (¬ r161 = r154 → False))))))))))))
set_option maxHeartbeats 4000000 in
theorem snd_L_law_L904 {p : Program} {l : Launch} {e : Env} {s : State} {m : MethodId} {below : List Frame} {meth : Method} {c : Code} {h0 : HH} {b : Nat} {Q9 : State → Prop} (G : GG) (L : Nat) (xs : Nat → Int32) (hl0 : l.stackTraces = false) (hX0 : va_X b L xs s s.heap) (hbl : b < s.heap.size) (hbA : ¬ hv_A h0 s.heap.size b) (hret : la_Ret p l e s m below meth c b h0 Q9) (hE : hv_E p s m #[.ref b] meth c cL_law 9 ret R_law G h0) (k28 : (HH) → (Nat) → (Nat) → (Nat) → (Nat) → (Nat) → (Nat) → (Int32) → Prop) (hk28 : ∀ (h : HH) (nc : Nat) (nk : Nat) (x1 : Nat) (x2 : Nat) (x3 : Nat) (x4 : Nat) (x5 : Int32), k28 h nc nk x1 x2 x3 x4 x5 → nc ≤ 1200144 → nk ≤ 5494714 → ∀ (H : Heap) (locs : List Loc) (ls : Array Slot), hv_I G h0 s.heap h H locs → lv_has ls 9 [(0, .ref b), (1, .ref x1), (2, .ref x2), (3, .ref x3), (4, .ref x4), (5, .int x5)] → W p l e room_1 s m #[.ref b] below meth c H locs nc nk Q9 (F0 m 28 ls [])) : ∀ (h : HH) (nc : Nat) (nk : Nat) (x1 : Nat) (x2 : Nat) (x3 : Nat) (x4 : Nat) (x5 : Int32), wp_L_law_L904 G L xs k28 h nc nk x1 x2 x3 x4 x5 → nc ≤ 1200144 → nk ≤ 5494714 → ∀ (H : Heap) (locs : List Loc) (ls : Array Slot), hv_I G h0 s.heap h H locs → lv_has ls 9 [(0, .ref b), (1, .ref x1), (2, .ref x2), (3, .ref x3), (4, .ref x4), (5, .int x5)] → W p l e room_1 s m #[.ref b] below meth c H locs nc nk Q9 (F0 m 904 ls []) := by
  obtain ⟨⟨hx, hb, hml, hown, hts⟩, hr, hlocks, hXX⟩ := id hE
  intro h nc nk x1 x2 x3 x4 x5 hw hc hs H locs ls hI hl
  unfold wp_L_law_L904 at hw
  refine lv_aload_n hx hb dL_law_904 rfl (lv_at hl 1 rfl) ?_
  refine lv_aload_n hx hb dL_law_905 rfl (lv_at hl 0 rfl) ?_
  refine lv_iload hx hb dL_law_906 (lv_at hl 5 rfl) ?_
  refine lv_iconst (v := 1) hx hb dL_law_908 (by decide) ?_
  refine lv_iadd hx hb dL_law_909 ?_
  obtain ⟨hin, hw⟩ := hw
  refine va_sld hx hb hX0 hbl hbA hI.2.1 hin dL_law_910 ?_
  refine lv_aload_n hx hb dL_law_911 rfl (lv_at hl 0 rfl) ?_
  refine lv_iload hx hb dL_law_912 (lv_at hl 5 rfl) ?_
  refine lv_iconst (v := 2) hx hb dL_law_914 (by decide) ?_
  refine lv_iadd hx hb dL_law_915 ?_
  obtain ⟨hin, hw⟩ := hw
  refine va_sld hx hb hX0 hbl hbA hI.2.1 hin dL_law_916 ?_
  refine lv_aload_n hx hb dL_law_917 rfl (lv_at hl 3 rfl) ?_
  obtain ⟨mc153, ms153, hc, hs, hw⟩ := hw
  refine hv_rci hI (vx_runSW (As := [.ref x1, .int (xs (Int32.toNatClampNeg (x5 + (1 : Int32)))), .int (xs (Int32.toNatClampNeg (x5 + (2 : Int32)))), .ref x3]) (rest := []) hE.1 (snd_X0_agenda l hl0 G _ mc153 ms153 h (some x1) (xs (Int32.toNatClampNeg (x5 + (1 : Int32)))) (xs (Int32.toNatClampNeg (x5 + (2 : Int32)))) (some x3) _ hw) (vx_cwSW 4 hts (lw_SW q1422 q1423 q96 q1424) rfl rfl rfl (by decide +kernel) ⟨Nat.le_of_ble_eq_true rfl, Nat.le_of_ble_eq_true rfl⟩) (hv_preS hE hI) rfl rfl hl.1 rfl (lv_room (Nat.le_of_ble_eq_true rfl)) dL_law_918 ⟨hc, hs⟩) (fun r154 h155 H locs hw hI => ?_)
  refine lv_istore (lv' := [(6, .int r154), (0, .ref b), (1, .ref x1), (2, .ref x2), (3, .ref x3), (4, .ref x4), (5, .int x5)]) hx hb dL_law_921 hl (by decide) rfl (fun ls hl => ?_)
  refine lv_aload_n hx hb dL_law_923 rfl (lv_at hl 3 rfl) ?_
  refine lv_aload_n hx hb dL_law_924 rfl (lv_at hl 1 rfl) ?_
  refine lv_iload hx hb dL_law_925 (lv_at hl 6 rfl) ?_
  refine lv_iconst (v := 1) hx hb dL_law_927 (by decide) ?_
  refine lv_iadd hx hb dL_law_928 ?_
  obtain ⟨hin, hw⟩ := hw
  refine va_sld hx hb hX0 hbl hbA hI.2.1 hin dL_law_929 ?_
  refine lv_aload_n hx hb dL_law_930 rfl (lv_at hl 1 rfl) ?_
  refine lv_iload hx hb dL_law_931 (lv_at hl 6 rfl) ?_
  refine lv_iconst (v := 2) hx hb dL_law_933 (by decide) ?_
  refine lv_iadd hx hb dL_law_934 ?_
  obtain ⟨hin, hw⟩ := hw
  refine va_sld hx hb hX0 hbl hbA hI.2.1 hin dL_law_935 ?_
  obtain ⟨ad156, F156, A156, U156, hS156, hz, hw⟩ := hw
  have hM := snd_X4_agenda l G H.size h155 ad156 F156 A156 U156 (xs (Int32.toNatClampNeg (x5 + (1 : Int32)))) (xs (Int32.toNatClampNeg (x5 + (2 : Int32)))) _ hS156 hw
  have hre := hS156.2.1
  rw [hz] at hM hre
  refine hv_rci hI (va_runV (As := [.int (xs (Int32.toNatClampNeg (x5 + (1 : Int32)))), .int (xs (Int32.toNatClampNeg (x5 + (2 : Int32))))]) (b := x2) (rest := []) hE.1 hM (cwV 2 hts (lw_V q2331 q2332 q2333 q108 q2334) rfl rfl rfl (by decide +kernel) ⟨Nat.le_of_ble_eq_true rfl, Nat.le_of_ble_eq_true rfl⟩) (hv_preV hE hI (ci := 0) rfl hre) rfl rfl hl.1 rfl (lv_room (Nat.le_of_ble_eq_true rfl)) dL_law_936 ⟨hc, hs⟩) (fun r157 h158 H locs hw hI => ?_)
  obtain ⟨F159, A159, U159, hS159, hO159, hw⟩ := hw
  have hw := hw h158 hS159 hO159
  refine lv_istore (lv' := [(7, .int r157), (6, .int r154), (0, .ref b), (1, .ref x1), (2, .ref x2), (3, .ref x3), (4, .ref x4), (5, .int x5)]) hx hb dL_law_939 hl (by decide) rfl (fun ls hl => ?_)
  refine lv_aload_n hx hb dL_law_941 rfl (lv_at hl 4 rfl) ?_
  obtain ⟨ad160, F160, A160, U160, hS160, hz, hw⟩ := hw
  have hM := snd_X4_thrown l G H.size h158 ad160 F160 A160 U160 _ hS160 hw
  have hre := hS160.2.1
  rw [hz] at hM hre
  refine hv_rci hI (va_runV (As := []) (b := x2) (rest := []) hE.1 hM (cwV 0 hts (lw_V q2098 q2099 q2100 q108 q2101) rfl rfl rfl (by decide +kernel) ⟨Nat.le_of_ble_eq_true rfl, Nat.le_of_ble_eq_true rfl⟩) (hv_preV hE hI (ci := 0) rfl hre) rfl rfl hl.1 rfl (lv_room (Nat.le_of_ble_eq_true rfl)) dL_law_942 ⟨hc, hs⟩) (fun r161 h162 H locs hw hI => ?_)
  obtain ⟨F163, A163, U163, hS163, hO163, hw⟩ := hw
  have hw := hw h162 hS163 hO163
  refine lv_iload hx hb dL_law_945 (lv_at hl 1 rfl) ?_
  refine lv_icmp_eq (tgt := 952) hx hb dL_law_947 (by decide) (fun c_947 => ?_) (fun c_947 => ?_)
  · have hw := hw.1 c_947
    refine lv_iload hx hb dL_law_952 (lv_at hl 1 rfl) ?_
    refine lv_if_ne (tgt := 969) hx hb dL_law_954 (by decide) (fun c_954 => ?_) (fun c_954 => ?_)
    · have hw := hw.1 c_954
      refine lv_goto (tgt := 2191) hx hb dL_law_969 (by decide) ?_
      exact snd_L_law_L2191 G L xs hl0 hX0 hbl hbA hret hE k28 hk28 h162 (nc + mc153) (nk + ms153) x1 x2 x3 x4 x5 hw hc hs _ _ _ hI (lv_sub hl [2, 3, 4, 5, 6, 7] rfl)
    · have hw := hw.2 c_954
      refine lv_aload_n hx hb dL_law_957 rfl (lv_at hl 5 rfl) ?_
      refine lv_iconst (v := 0) hx hb dL_law_958 (by decide) ?_
      refine hv_wlld hE hI hw dL_law_959 (fun r164 hw => ?_)
      refine lv_iload hx hb dL_law_960 (lv_at hl 0 rfl) ?_
      refine lv_i2l (v := (Int32.toInt64 r157)) hx hb dL_law_962 rfl ?_
      refine W.lcmp hx hb dL_law_963 ?_
      refine lv_if_eq (tgt := 969) hx hb dL_law_964 (by decide) (fun c_964 => ?_) (fun c_964 => ?_)
      · have hw := hw.1 c_964
        refine lv_goto (tgt := 2191) hx hb dL_law_969 (by decide) ?_
        exact snd_L_law_L2191 G L xs hl0 hX0 hbl hbA hret hE k28 hk28 h162 (nc + mc153) (nk + ms153) x1 x2 x3 x4 x5 hw hc hs _ _ _ hI (lv_sub hl [2, 3, 4, 5, 6, 7] rfl)
      · have hw := hw.2 c_964
        refine lv_iconst (v := 0) hx hb dL_law_967 (by decide) ?_
        exact hw.elim
  · have hw := hw.2 c_947
    refine lv_iconst (v := 0) hx hb dL_law_950 (by decide) ?_
    exact hw.elim
def wp_L_law_L972 (G : GG) (L : Nat) (xs : Nat → Int32) (k28 : (HH) → (Nat) → (Nat) → (Nat) → (Nat) → (Nat) → (Nat) → (Int32) → Prop) (h : HH) (nc : Nat) (nk : Nat) (x1 : Nat) (x2 : Nat) (x3 : Nat) (x4 : Nat) (x5 : Int32) : Prop := (vp_in (x5 + (1 : Int32)) L ∧ (∃ mc165 ms165, nc + mc165 ≤ 1200144 ∧ nk + ms165 ≤ 5494714 ∧ wp_X0_matches G mc165 ms165 h (some x1) (xs (Int32.toNatClampNeg (x5 + (1 : Int32)))) (some x3) (fun r166 h167 => (vp_in (x5 + (1 : Int32)) L ∧ w_ml G h167 x2 (fun ad168 F168 A168 U168 => wp_X4_matches F168 A168 U168 (xs (Int32.toNatClampNeg (x5 + (1 : Int32)))) (fun r169 F171 A171 U171 => ∀ h170, ml_S G h170 ad168 F171 A171 U171 → ml_O ad168 h167 h170 → w_ml G h170 x2 (fun ad172 F172 A172 U172 => wp_X4_thrown F172 A172 U172 (fun r173 F175 A175 U175 => ∀ h174, ml_S G h174 ad172 F175 A175 U175 → ml_O ad172 h170 h174 → ((r173 = r166 → ((¬ r166 = 0 → wp_L_law_L2191 G L xs k28 h174 (nc + mc165) (nk + ms165) x1 x2 x3 x4 x5) ∧ (r166 = 0 → w_lld G h174 x3 (0 : Int32) (fun r176 => (((lg_cmp r176 (Int32.toInt64 r169)) = 0 → wp_L_law_L2191 G L xs k28 h174 (nc + mc165) (nk + ms165) x1 x2 x3 x4 x5) ∧ (¬ (lg_cmp r176 (Int32.toInt64 r169)) = 0 → False)))))) ∧ (¬ r173 = r166 → False))))))))))
set_option maxHeartbeats 4000000 in
theorem snd_L_law_L972 {p : Program} {l : Launch} {e : Env} {s : State} {m : MethodId} {below : List Frame} {meth : Method} {c : Code} {h0 : HH} {b : Nat} {Q9 : State → Prop} (G : GG) (L : Nat) (xs : Nat → Int32) (hl0 : l.stackTraces = false) (hX0 : va_X b L xs s s.heap) (hbl : b < s.heap.size) (hbA : ¬ hv_A h0 s.heap.size b) (hret : la_Ret p l e s m below meth c b h0 Q9) (hE : hv_E p s m #[.ref b] meth c cL_law 9 ret R_law G h0) (k28 : (HH) → (Nat) → (Nat) → (Nat) → (Nat) → (Nat) → (Nat) → (Int32) → Prop) (hk28 : ∀ (h : HH) (nc : Nat) (nk : Nat) (x1 : Nat) (x2 : Nat) (x3 : Nat) (x4 : Nat) (x5 : Int32), k28 h nc nk x1 x2 x3 x4 x5 → nc ≤ 1200144 → nk ≤ 5494714 → ∀ (H : Heap) (locs : List Loc) (ls : Array Slot), hv_I G h0 s.heap h H locs → lv_has ls 9 [(0, .ref b), (1, .ref x1), (2, .ref x2), (3, .ref x3), (4, .ref x4), (5, .int x5)] → W p l e room_1 s m #[.ref b] below meth c H locs nc nk Q9 (F0 m 28 ls [])) : ∀ (h : HH) (nc : Nat) (nk : Nat) (x1 : Nat) (x2 : Nat) (x3 : Nat) (x4 : Nat) (x5 : Int32), wp_L_law_L972 G L xs k28 h nc nk x1 x2 x3 x4 x5 → nc ≤ 1200144 → nk ≤ 5494714 → ∀ (H : Heap) (locs : List Loc) (ls : Array Slot), hv_I G h0 s.heap h H locs → lv_has ls 9 [(0, .ref b), (1, .ref x1), (2, .ref x2), (3, .ref x3), (4, .ref x4), (5, .int x5)] → W p l e room_1 s m #[.ref b] below meth c H locs nc nk Q9 (F0 m 972 ls []) := by
  obtain ⟨⟨hx, hb, hml, hown, hts⟩, hr, hlocks, hXX⟩ := id hE
  intro h nc nk x1 x2 x3 x4 x5 hw hc hs H locs ls hI hl
  unfold wp_L_law_L972 at hw
  refine lv_aload_n hx hb dL_law_972 rfl (lv_at hl 1 rfl) ?_
  refine lv_aload_n hx hb dL_law_973 rfl (lv_at hl 0 rfl) ?_
  refine lv_iload hx hb dL_law_974 (lv_at hl 5 rfl) ?_
  refine lv_iconst (v := 1) hx hb dL_law_976 (by decide) ?_
  refine lv_iadd hx hb dL_law_977 ?_
  obtain ⟨hin, hw⟩ := hw
  refine va_sld hx hb hX0 hbl hbA hI.2.1 hin dL_law_978 ?_
  refine lv_aload_n hx hb dL_law_979 rfl (lv_at hl 3 rfl) ?_
  obtain ⟨mc165, ms165, hc, hs, hw⟩ := hw
  refine hv_rci hI (vx_runSW (As := [.ref x1, .int (xs (Int32.toNatClampNeg (x5 + (1 : Int32)))), .ref x3]) (rest := []) hE.1 (snd_X0_matches l hl0 G _ mc165 ms165 h (some x1) (xs (Int32.toNatClampNeg (x5 + (1 : Int32)))) (some x3) _ hw) (vx_cwSW 3 hts (lw_SW q1439 q1440 q96 q1441) rfl rfl rfl (by decide +kernel) ⟨Nat.le_of_ble_eq_true rfl, Nat.le_of_ble_eq_true rfl⟩) (hv_preS hE hI) rfl rfl hl.1 rfl (lv_room (Nat.le_of_ble_eq_true rfl)) dL_law_980 ⟨hc, hs⟩) (fun r166 h167 H locs hw hI => ?_)
  refine lv_istore (lv' := [(6, .int r166), (0, .ref b), (1, .ref x1), (2, .ref x2), (3, .ref x3), (4, .ref x4), (5, .int x5)]) hx hb dL_law_983 hl (by decide) rfl (fun ls hl => ?_)
  refine lv_aload_n hx hb dL_law_985 rfl (lv_at hl 3 rfl) ?_
  refine lv_aload_n hx hb dL_law_986 rfl (lv_at hl 1 rfl) ?_
  refine lv_iload hx hb dL_law_987 (lv_at hl 6 rfl) ?_
  refine lv_iconst (v := 1) hx hb dL_law_989 (by decide) ?_
  refine lv_iadd hx hb dL_law_990 ?_
  obtain ⟨hin, hw⟩ := hw
  refine va_sld hx hb hX0 hbl hbA hI.2.1 hin dL_law_991 ?_
  obtain ⟨ad168, F168, A168, U168, hS168, hz, hw⟩ := hw
  have hM := snd_X4_matches l G H.size h167 ad168 F168 A168 U168 (xs (Int32.toNatClampNeg (x5 + (1 : Int32)))) _ hS168 hw
  have hre := hS168.2.1
  rw [hz] at hM hre
  refine hv_rci hI (va_runV (As := [.int (xs (Int32.toNatClampNeg (x5 + (1 : Int32))))]) (b := x2) (rest := []) hE.1 hM (cwV 1 hts (lw_V q2347 q2348 q2349 q108 q2350) rfl rfl rfl (by decide +kernel) ⟨Nat.le_of_ble_eq_true rfl, Nat.le_of_ble_eq_true rfl⟩) (hv_preV hE hI (ci := 0) rfl hre) rfl rfl hl.1 rfl (lv_room (Nat.le_of_ble_eq_true rfl)) dL_law_992 ⟨hc, hs⟩) (fun r169 h170 H locs hw hI => ?_)
  obtain ⟨F171, A171, U171, hS171, hO171, hw⟩ := hw
  have hw := hw h170 hS171 hO171
  refine lv_istore (lv' := [(7, .int r169), (6, .int r166), (0, .ref b), (1, .ref x1), (2, .ref x2), (3, .ref x3), (4, .ref x4), (5, .int x5)]) hx hb dL_law_995 hl (by decide) rfl (fun ls hl => ?_)
  refine lv_aload_n hx hb dL_law_997 rfl (lv_at hl 4 rfl) ?_
  obtain ⟨ad172, F172, A172, U172, hS172, hz, hw⟩ := hw
  have hM := snd_X4_thrown l G H.size h170 ad172 F172 A172 U172 _ hS172 hw
  have hre := hS172.2.1
  rw [hz] at hM hre
  refine hv_rci hI (va_runV (As := []) (b := x2) (rest := []) hE.1 hM (cwV 0 hts (lw_V q2098 q2099 q2100 q108 q2101) rfl rfl rfl (by decide +kernel) ⟨Nat.le_of_ble_eq_true rfl, Nat.le_of_ble_eq_true rfl⟩) (hv_preV hE hI (ci := 0) rfl hre) rfl rfl hl.1 rfl (lv_room (Nat.le_of_ble_eq_true rfl)) dL_law_998 ⟨hc, hs⟩) (fun r173 h174 H locs hw hI => ?_)
  obtain ⟨F175, A175, U175, hS175, hO175, hw⟩ := hw
  have hw := hw h174 hS175 hO175
  refine lv_iload hx hb dL_law_1001 (lv_at hl 1 rfl) ?_
  refine lv_icmp_eq (tgt := 1008) hx hb dL_law_1003 (by decide) (fun c_1003 => ?_) (fun c_1003 => ?_)
  · have hw := hw.1 c_1003
    refine lv_iload hx hb dL_law_1008 (lv_at hl 1 rfl) ?_
    refine lv_if_ne (tgt := 1025) hx hb dL_law_1010 (by decide) (fun c_1010 => ?_) (fun c_1010 => ?_)
    · have hw := hw.1 c_1010
      refine lv_goto (tgt := 2191) hx hb dL_law_1025 (by decide) ?_
      exact snd_L_law_L2191 G L xs hl0 hX0 hbl hbA hret hE k28 hk28 h174 (nc + mc165) (nk + ms165) x1 x2 x3 x4 x5 hw hc hs _ _ _ hI (lv_sub hl [2, 3, 4, 5, 6, 7] rfl)
    · have hw := hw.2 c_1010
      refine lv_aload_n hx hb dL_law_1013 rfl (lv_at hl 5 rfl) ?_
      refine lv_iconst (v := 0) hx hb dL_law_1014 (by decide) ?_
      refine hv_wlld hE hI hw dL_law_1015 (fun r176 hw => ?_)
      refine lv_iload hx hb dL_law_1016 (lv_at hl 0 rfl) ?_
      refine lv_i2l (v := (Int32.toInt64 r169)) hx hb dL_law_1018 rfl ?_
      refine W.lcmp hx hb dL_law_1019 ?_
      refine lv_if_eq (tgt := 1025) hx hb dL_law_1020 (by decide) (fun c_1020 => ?_) (fun c_1020 => ?_)
      · have hw := hw.1 c_1020
        refine lv_goto (tgt := 2191) hx hb dL_law_1025 (by decide) ?_
        exact snd_L_law_L2191 G L xs hl0 hX0 hbl hbA hret hE k28 hk28 h174 (nc + mc165) (nk + ms165) x1 x2 x3 x4 x5 hw hc hs _ _ _ hI (lv_sub hl [2, 3, 4, 5, 6, 7] rfl)
      · have hw := hw.2 c_1020
        refine lv_iconst (v := 0) hx hb dL_law_1023 (by decide) ?_
        exact hw.elim
  · have hw := hw.2 c_1003
    refine lv_iconst (v := 0) hx hb dL_law_1006 (by decide) ?_
    exact hw.elim
def wp_L_law_L1028 (G : GG) (L : Nat) (xs : Nat → Int32) (k28 : (HH) → (Nat) → (Nat) → (Nat) → (Nat) → (Nat) → (Nat) → (Int32) → Prop) (h : HH) (nc : Nat) (nk : Nat) (x1 : Nat) (x2 : Nat) (x3 : Nat) (x4 : Nat) (x5 : Int32) : Prop := (∃ mc177 ms177, nc + mc177 ≤ 1200144 ∧ nk + ms177 ≤ 5494714 ∧ wp_X0_fire G mc177 ms177 h (some x1) (some x3) (fun r178 h179 => w_ml G h179 x2 (fun ad182 F182 A182 U182 => wp_X4_fire F182 A182 U182 (fun r183 F185 A185 U185 => ∀ h184, ml_S G h184 ad182 F185 A185 U185 → ml_O ad182 h179 h184 → w_ml G h184 x2 (fun ad186 F186 A186 U186 => wp_X4_thrown F186 A186 U186 (fun r187 F189 A189 U189 => ∀ h188, ml_S G h188 ad186 F189 A189 U189 → ml_O ad186 h184 h188 → ((r187 = r178 → ((¬ r178 = 0 → wp_L_law_L2191 G L xs k28 h188 (nc + mc177) (nk + ms177) x1 x2 x3 x4 x5) ∧ (r178 = 0 → w_lld G h188 x3 (0 : Int32) (fun r190 => (((lg_cmp r190 (Int32.toInt64 r183)) = 0 → wp_L_law_L2191 G L xs k28 h188 (nc + mc177) (nk + ms177) x1 x2 x3 x4 x5) ∧ (¬ (lg_cmp r190 (Int32.toInt64 r183)) = 0 → False)))))) ∧ (¬ r187 = r178 → False))))))) (fun E q180 h181 => False))
set_option maxHeartbeats 4000000 in
theorem snd_L_law_L1028 {p : Program} {l : Launch} {e : Env} {s : State} {m : MethodId} {below : List Frame} {meth : Method} {c : Code} {h0 : HH} {b : Nat} {Q9 : State → Prop} (G : GG) (L : Nat) (xs : Nat → Int32) (hl0 : l.stackTraces = false) (hX0 : va_X b L xs s s.heap) (hbl : b < s.heap.size) (hbA : ¬ hv_A h0 s.heap.size b) (hret : la_Ret p l e s m below meth c b h0 Q9) (hE : hv_E p s m #[.ref b] meth c cL_law 9 ret R_law G h0) (k28 : (HH) → (Nat) → (Nat) → (Nat) → (Nat) → (Nat) → (Nat) → (Int32) → Prop) (hk28 : ∀ (h : HH) (nc : Nat) (nk : Nat) (x1 : Nat) (x2 : Nat) (x3 : Nat) (x4 : Nat) (x5 : Int32), k28 h nc nk x1 x2 x3 x4 x5 → nc ≤ 1200144 → nk ≤ 5494714 → ∀ (H : Heap) (locs : List Loc) (ls : Array Slot), hv_I G h0 s.heap h H locs → lv_has ls 9 [(0, .ref b), (1, .ref x1), (2, .ref x2), (3, .ref x3), (4, .ref x4), (5, .int x5)] → W p l e room_1 s m #[.ref b] below meth c H locs nc nk Q9 (F0 m 28 ls [])) : ∀ (h : HH) (nc : Nat) (nk : Nat) (x1 : Nat) (x2 : Nat) (x3 : Nat) (x4 : Nat) (x5 : Int32), wp_L_law_L1028 G L xs k28 h nc nk x1 x2 x3 x4 x5 → nc ≤ 1200144 → nk ≤ 5494714 → ∀ (H : Heap) (locs : List Loc) (ls : Array Slot), hv_I G h0 s.heap h H locs → lv_has ls 9 [(0, .ref b), (1, .ref x1), (2, .ref x2), (3, .ref x3), (4, .ref x4), (5, .int x5)] → W p l e room_1 s m #[.ref b] below meth c H locs nc nk Q9 (F0 m 1028 ls []) := by
  obtain ⟨⟨hx, hb, hml, hown, hts⟩, hr, hlocks, hXX⟩ := id hE
  intro h nc nk x1 x2 x3 x4 x5 hw hc hs H locs ls hI hl
  unfold wp_L_law_L1028 at hw
  refine lv_aload_n hx hb dL_law_1028 rfl (lv_at hl 1 rfl) ?_
  refine lv_aload_n hx hb dL_law_1029 rfl (lv_at hl 3 rfl) ?_
  obtain ⟨mc177, ms177, hc, hs, hw⟩ := hw
  refine hx_rci hI (vx_runSX (As := [.ref x1, .ref x3]) (rest := []) hE.1 (snd_X0_fire l hl0 G _ mc177 ms177 h (some x1) (some x3) _ _ hw) (vx_cwSW 2 hts (lw_SW q1496 q1497 q96 q1498) rfl rfl rfl (by decide +kernel) ⟨Nat.le_of_ble_eq_true rfl, Nat.le_of_ble_eq_true rfl⟩) (hv_preS hE hI) rfl rfl hl.1 rfl (lv_room (Nat.le_of_ble_eq_true rfl)) dL_law_1030 ⟨hc, hs⟩) ?_ (fun r178 h179 H locs hw hI => ?_)
  · intro E q180 h181 H locs hw hI hT
    exact hw.elim
  refine lv_istore (lv' := [(6, .int r178), (0, .ref b), (1, .ref x1), (2, .ref x2), (3, .ref x3), (4, .ref x4), (5, .int x5)]) hx hb dL_law_1033 hl (by decide) rfl (fun ls hl => ?_)
  refine lv_aload_n hx hb dL_law_1035 rfl (lv_at hl 3 rfl) ?_
  obtain ⟨ad182, F182, A182, U182, hS182, hz, hw⟩ := hw
  have hM := snd_X4_fire l G H.size h179 ad182 F182 A182 U182 _ hS182 hw
  have hre := hS182.2.1
  rw [hz] at hM hre
  refine hv_rci hI (va_runV (As := []) (b := x2) (rest := []) hE.1 hM (cwV 0 hts (lw_V q2355 q2356 q2357 q108 q2358) rfl rfl rfl (by decide +kernel) ⟨Nat.le_of_ble_eq_true rfl, Nat.le_of_ble_eq_true rfl⟩) (hv_preV hE hI (ci := 0) rfl hre) rfl rfl hl.1 rfl (lv_room (Nat.le_of_ble_eq_true rfl)) dL_law_1036 ⟨hc, hs⟩) (fun r183 h184 H locs hw hI => ?_)
  obtain ⟨F185, A185, U185, hS185, hO185, hw⟩ := hw
  have hw := hw h184 hS185 hO185
  refine lv_istore (lv' := [(7, .int r183), (6, .int r178), (0, .ref b), (1, .ref x1), (2, .ref x2), (3, .ref x3), (4, .ref x4), (5, .int x5)]) hx hb dL_law_1039 hl (by decide) rfl (fun ls hl => ?_)
  refine lv_aload_n hx hb dL_law_1041 rfl (lv_at hl 4 rfl) ?_
  obtain ⟨ad186, F186, A186, U186, hS186, hz, hw⟩ := hw
  have hM := snd_X4_thrown l G H.size h184 ad186 F186 A186 U186 _ hS186 hw
  have hre := hS186.2.1
  rw [hz] at hM hre
  refine hv_rci hI (va_runV (As := []) (b := x2) (rest := []) hE.1 hM (cwV 0 hts (lw_V q2098 q2099 q2100 q108 q2101) rfl rfl rfl (by decide +kernel) ⟨Nat.le_of_ble_eq_true rfl, Nat.le_of_ble_eq_true rfl⟩) (hv_preV hE hI (ci := 0) rfl hre) rfl rfl hl.1 rfl (lv_room (Nat.le_of_ble_eq_true rfl)) dL_law_1042 ⟨hc, hs⟩) (fun r187 h188 H locs hw hI => ?_)
  obtain ⟨F189, A189, U189, hS189, hO189, hw⟩ := hw
  have hw := hw h188 hS189 hO189
  refine lv_iload hx hb dL_law_1045 (lv_at hl 1 rfl) ?_
  refine lv_icmp_eq (tgt := 1052) hx hb dL_law_1047 (by decide) (fun c_1047 => ?_) (fun c_1047 => ?_)
  · have hw := hw.1 c_1047
    refine lv_iload hx hb dL_law_1052 (lv_at hl 1 rfl) ?_
    refine lv_if_ne (tgt := 1069) hx hb dL_law_1054 (by decide) (fun c_1054 => ?_) (fun c_1054 => ?_)
    · have hw := hw.1 c_1054
      refine lv_goto (tgt := 2191) hx hb dL_law_1069 (by decide) ?_
      exact snd_L_law_L2191 G L xs hl0 hX0 hbl hbA hret hE k28 hk28 h188 (nc + mc177) (nk + ms177) x1 x2 x3 x4 x5 hw hc hs _ _ _ hI (lv_sub hl [2, 3, 4, 5, 6, 7] rfl)
    · have hw := hw.2 c_1054
      refine lv_aload_n hx hb dL_law_1057 rfl (lv_at hl 5 rfl) ?_
      refine lv_iconst (v := 0) hx hb dL_law_1058 (by decide) ?_
      refine hv_wlld hE hI hw dL_law_1059 (fun r190 hw => ?_)
      refine lv_iload hx hb dL_law_1060 (lv_at hl 0 rfl) ?_
      refine lv_i2l (v := (Int32.toInt64 r183)) hx hb dL_law_1062 rfl ?_
      refine W.lcmp hx hb dL_law_1063 ?_
      refine lv_if_eq (tgt := 1069) hx hb dL_law_1064 (by decide) (fun c_1064 => ?_) (fun c_1064 => ?_)
      · have hw := hw.1 c_1064
        refine lv_goto (tgt := 2191) hx hb dL_law_1069 (by decide) ?_
        exact snd_L_law_L2191 G L xs hl0 hX0 hbl hbA hret hE k28 hk28 h188 (nc + mc177) (nk + ms177) x1 x2 x3 x4 x5 hw hc hs _ _ _ hI (lv_sub hl [2, 3, 4, 5, 6, 7] rfl)
      · have hw := hw.2 c_1064
        refine lv_iconst (v := 0) hx hb dL_law_1067 (by decide) ?_
        exact hw.elim
  · have hw := hw.2 c_1047
    refine lv_iconst (v := 0) hx hb dL_law_1050 (by decide) ?_
    exact hw.elim
def wp_L_law_L1072 (G : GG) (L : Nat) (xs : Nat → Int32) (k28 : (HH) → (Nat) → (Nat) → (Nat) → (Nat) → (Nat) → (Nat) → (Int32) → Prop) (h : HH) (nc : Nat) (nk : Nat) (x1 : Nat) (x2 : Nat) (x3 : Nat) (x4 : Nat) (x5 : Int32) : Prop := (vp_in (x5 + (1 : Int32)) L ∧ (∃ mc191 ms191, nc + mc191 ≤ 1200144 ∧ nk + ms191 ≤ 5494714 ∧ wp_X0_run G mc191 ms191 h (some x1) (xs (Int32.toNatClampNeg (x5 + (1 : Int32)))) (some x3) (fun r192 h193 => (vp_in (x5 + (1 : Int32)) L ∧ w_ml G h193 x2 (fun ad196 F196 A196 U196 => wp_X4_run F196 A196 U196 (xs (Int32.toNatClampNeg (x5 + (1 : Int32)))) (fun r197 F199 A199 U199 => ∀ h198, ml_S G h198 ad196 F199 A199 U199 → ml_O ad196 h193 h198 → w_ml G h198 x2 (fun ad200 F200 A200 U200 => wp_X4_thrown F200 A200 U200 (fun r201 F203 A203 U203 => ∀ h202, ml_S G h202 ad200 F203 A203 U203 → ml_O ad200 h198 h202 → ((r201 = r192 → ((¬ r192 = 0 → wp_L_law_L2191 G L xs k28 h202 (nc + mc191) (nk + ms191) x1 x2 x3 x4 x5) ∧ (r192 = 0 → w_lld G h202 x3 (0 : Int32) (fun r204 => (((lg_cmp r204 (Int32.toInt64 r197)) = 0 → wp_L_law_L2191 G L xs k28 h202 (nc + mc191) (nk + ms191) x1 x2 x3 x4 x5) ∧ (¬ (lg_cmp r204 (Int32.toInt64 r197)) = 0 → False)))))) ∧ (¬ r201 = r192 → False)))))))) (fun E q194 h195 => False)))
set_option maxHeartbeats 4000000 in
theorem snd_L_law_L1072 {p : Program} {l : Launch} {e : Env} {s : State} {m : MethodId} {below : List Frame} {meth : Method} {c : Code} {h0 : HH} {b : Nat} {Q9 : State → Prop} (G : GG) (L : Nat) (xs : Nat → Int32) (hl0 : l.stackTraces = false) (hX0 : va_X b L xs s s.heap) (hbl : b < s.heap.size) (hbA : ¬ hv_A h0 s.heap.size b) (hret : la_Ret p l e s m below meth c b h0 Q9) (hE : hv_E p s m #[.ref b] meth c cL_law 9 ret R_law G h0) (k28 : (HH) → (Nat) → (Nat) → (Nat) → (Nat) → (Nat) → (Nat) → (Int32) → Prop) (hk28 : ∀ (h : HH) (nc : Nat) (nk : Nat) (x1 : Nat) (x2 : Nat) (x3 : Nat) (x4 : Nat) (x5 : Int32), k28 h nc nk x1 x2 x3 x4 x5 → nc ≤ 1200144 → nk ≤ 5494714 → ∀ (H : Heap) (locs : List Loc) (ls : Array Slot), hv_I G h0 s.heap h H locs → lv_has ls 9 [(0, .ref b), (1, .ref x1), (2, .ref x2), (3, .ref x3), (4, .ref x4), (5, .int x5)] → W p l e room_1 s m #[.ref b] below meth c H locs nc nk Q9 (F0 m 28 ls [])) : ∀ (h : HH) (nc : Nat) (nk : Nat) (x1 : Nat) (x2 : Nat) (x3 : Nat) (x4 : Nat) (x5 : Int32), wp_L_law_L1072 G L xs k28 h nc nk x1 x2 x3 x4 x5 → nc ≤ 1200144 → nk ≤ 5494714 → ∀ (H : Heap) (locs : List Loc) (ls : Array Slot), hv_I G h0 s.heap h H locs → lv_has ls 9 [(0, .ref b), (1, .ref x1), (2, .ref x2), (3, .ref x3), (4, .ref x4), (5, .int x5)] → W p l e room_1 s m #[.ref b] below meth c H locs nc nk Q9 (F0 m 1072 ls []) := by
  obtain ⟨⟨hx, hb, hml, hown, hts⟩, hr, hlocks, hXX⟩ := id hE
  intro h nc nk x1 x2 x3 x4 x5 hw hc hs H locs ls hI hl
  unfold wp_L_law_L1072 at hw
  refine lv_aload_n hx hb dL_law_1072 rfl (lv_at hl 1 rfl) ?_
  refine lv_aload_n hx hb dL_law_1073 rfl (lv_at hl 0 rfl) ?_
  refine lv_iload hx hb dL_law_1074 (lv_at hl 5 rfl) ?_
  refine lv_iconst (v := 1) hx hb dL_law_1076 (by decide) ?_
  refine lv_iadd hx hb dL_law_1077 ?_
  obtain ⟨hin, hw⟩ := hw
  refine va_sld hx hb hX0 hbl hbA hI.2.1 hin dL_law_1078 ?_
  refine lv_aload_n hx hb dL_law_1079 rfl (lv_at hl 3 rfl) ?_
  obtain ⟨mc191, ms191, hc, hs, hw⟩ := hw
  refine hx_rci hI (vx_runSX (As := [.ref x1, .int (xs (Int32.toNatClampNeg (x5 + (1 : Int32)))), .ref x3]) (rest := []) hE.1 (snd_X0_run l hl0 G _ mc191 ms191 h (some x1) (xs (Int32.toNatClampNeg (x5 + (1 : Int32)))) (some x3) _ _ hw) (vx_cwSW 3 hts (lw_SW q1503 q1504 q96 q1505) rfl rfl rfl (by decide +kernel) ⟨Nat.le_of_ble_eq_true rfl, Nat.le_of_ble_eq_true rfl⟩) (hv_preS hE hI) rfl rfl hl.1 rfl (lv_room (Nat.le_of_ble_eq_true rfl)) dL_law_1080 ⟨hc, hs⟩) ?_ (fun r192 h193 H locs hw hI => ?_)
  · intro E q194 h195 H locs hw hI hT
    exact hw.elim
  refine lv_istore (lv' := [(6, .int r192), (0, .ref b), (1, .ref x1), (2, .ref x2), (3, .ref x3), (4, .ref x4), (5, .int x5)]) hx hb dL_law_1083 hl (by decide) rfl (fun ls hl => ?_)
  refine lv_aload_n hx hb dL_law_1085 rfl (lv_at hl 3 rfl) ?_
  refine lv_aload_n hx hb dL_law_1086 rfl (lv_at hl 1 rfl) ?_
  refine lv_iload hx hb dL_law_1087 (lv_at hl 6 rfl) ?_
  refine lv_iconst (v := 1) hx hb dL_law_1089 (by decide) ?_
  refine lv_iadd hx hb dL_law_1090 ?_
  obtain ⟨hin, hw⟩ := hw
  refine va_sld hx hb hX0 hbl hbA hI.2.1 hin dL_law_1091 ?_
  obtain ⟨ad196, F196, A196, U196, hS196, hz, hw⟩ := hw
  have hM := snd_X4_run l G H.size h193 ad196 F196 A196 U196 (xs (Int32.toNatClampNeg (x5 + (1 : Int32)))) _ hS196 hw
  have hre := hS196.2.1
  rw [hz] at hM hre
  refine hv_rci hI (va_runV (As := [.int (xs (Int32.toNatClampNeg (x5 + (1 : Int32))))]) (b := x2) (rest := []) hE.1 hM (cwV 1 hts (lw_V q2363 q2364 q2365 q108 q2366) rfl rfl rfl (by decide +kernel) ⟨Nat.le_of_ble_eq_true rfl, Nat.le_of_ble_eq_true rfl⟩) (hv_preV hE hI (ci := 0) rfl hre) rfl rfl hl.1 rfl (lv_room (Nat.le_of_ble_eq_true rfl)) dL_law_1092 ⟨hc, hs⟩) (fun r197 h198 H locs hw hI => ?_)
  obtain ⟨F199, A199, U199, hS199, hO199, hw⟩ := hw
  have hw := hw h198 hS199 hO199
  refine lv_istore (lv' := [(7, .int r197), (6, .int r192), (0, .ref b), (1, .ref x1), (2, .ref x2), (3, .ref x3), (4, .ref x4), (5, .int x5)]) hx hb dL_law_1095 hl (by decide) rfl (fun ls hl => ?_)
  refine lv_aload_n hx hb dL_law_1097 rfl (lv_at hl 4 rfl) ?_
  obtain ⟨ad200, F200, A200, U200, hS200, hz, hw⟩ := hw
  have hM := snd_X4_thrown l G H.size h198 ad200 F200 A200 U200 _ hS200 hw
  have hre := hS200.2.1
  rw [hz] at hM hre
  refine hv_rci hI (va_runV (As := []) (b := x2) (rest := []) hE.1 hM (cwV 0 hts (lw_V q2098 q2099 q2100 q108 q2101) rfl rfl rfl (by decide +kernel) ⟨Nat.le_of_ble_eq_true rfl, Nat.le_of_ble_eq_true rfl⟩) (hv_preV hE hI (ci := 0) rfl hre) rfl rfl hl.1 rfl (lv_room (Nat.le_of_ble_eq_true rfl)) dL_law_1098 ⟨hc, hs⟩) (fun r201 h202 H locs hw hI => ?_)
  obtain ⟨F203, A203, U203, hS203, hO203, hw⟩ := hw
  have hw := hw h202 hS203 hO203
  refine lv_iload hx hb dL_law_1101 (lv_at hl 1 rfl) ?_
  refine lv_icmp_eq (tgt := 1108) hx hb dL_law_1103 (by decide) (fun c_1103 => ?_) (fun c_1103 => ?_)
  · have hw := hw.1 c_1103
    refine lv_iload hx hb dL_law_1108 (lv_at hl 1 rfl) ?_
    refine lv_if_ne (tgt := 1125) hx hb dL_law_1110 (by decide) (fun c_1110 => ?_) (fun c_1110 => ?_)
    · have hw := hw.1 c_1110
      refine lv_goto (tgt := 2191) hx hb dL_law_1125 (by decide) ?_
      exact snd_L_law_L2191 G L xs hl0 hX0 hbl hbA hret hE k28 hk28 h202 (nc + mc191) (nk + ms191) x1 x2 x3 x4 x5 hw hc hs _ _ _ hI (lv_sub hl [2, 3, 4, 5, 6, 7] rfl)
    · have hw := hw.2 c_1110
      refine lv_aload_n hx hb dL_law_1113 rfl (lv_at hl 5 rfl) ?_
      refine lv_iconst (v := 0) hx hb dL_law_1114 (by decide) ?_
      refine hv_wlld hE hI hw dL_law_1115 (fun r204 hw => ?_)
      refine lv_iload hx hb dL_law_1116 (lv_at hl 0 rfl) ?_
      refine lv_i2l (v := (Int32.toInt64 r197)) hx hb dL_law_1118 rfl ?_
      refine W.lcmp hx hb dL_law_1119 ?_
      refine lv_if_eq (tgt := 1125) hx hb dL_law_1120 (by decide) (fun c_1120 => ?_) (fun c_1120 => ?_)
      · have hw := hw.1 c_1120
        refine lv_goto (tgt := 2191) hx hb dL_law_1125 (by decide) ?_
        exact snd_L_law_L2191 G L xs hl0 hX0 hbl hbA hret hE k28 hk28 h202 (nc + mc191) (nk + ms191) x1 x2 x3 x4 x5 hw hc hs _ _ _ hI (lv_sub hl [2, 3, 4, 5, 6, 7] rfl)
      · have hw := hw.2 c_1120
        refine lv_iconst (v := 0) hx hb dL_law_1123 (by decide) ?_
        exact hw.elim
  · have hw := hw.2 c_1103
    refine lv_iconst (v := 0) hx hb dL_law_1106 (by decide) ?_
    exact hw.elim
def wp_L_law_L1128 (G : GG) (L : Nat) (xs : Nat → Int32) (k28 : (HH) → (Nat) → (Nat) → (Nat) → (Nat) → (Nat) → (Nat) → (Int32) → Prop) (h : HH) (nc : Nat) (nk : Nat) (x1 : Nat) (x2 : Nat) (x3 : Nat) (x4 : Nat) (x5 : Int32) : Prop := (∃ mc205 ms205, nc + mc205 ≤ 1200144 ∧ nk + ms205 ≤ 5494714 ∧ wp_X0_quietIn G mc205 ms205 h (some x1) (some x3) (fun r206 h207 => w_ml G h207 x2 (fun ad208 F208 A208 U208 => wp_X4_quietIn F208 A208 U208 (fun r209 F211 A211 U211 => ∀ h210, ml_S G h210 ad208 F211 A211 U211 → ml_O ad208 h207 h210 → w_ml G h210 x2 (fun ad212 F212 A212 U212 => wp_X4_thrown F212 A212 U212 (fun r213 F215 A215 U215 => ∀ h214, ml_S G h214 ad212 F215 A215 U215 → ml_O ad212 h210 h214 → ((r213 = r206 → ((¬ r206 = 0 → wp_L_law_L2191 G L xs k28 h214 (nc + mc205) (nk + ms205) x1 x2 x3 x4 x5) ∧ (r206 = 0 → w_lld G h214 x3 (0 : Int32) (fun r216 => (((lg_cmp r216 (Int32.toInt64 r209)) = 0 → wp_L_law_L2191 G L xs k28 h214 (nc + mc205) (nk + ms205) x1 x2 x3 x4 x5) ∧ (¬ (lg_cmp r216 (Int32.toInt64 r209)) = 0 → False)))))) ∧ (¬ r213 = r206 → False))))))))
set_option maxHeartbeats 4000000 in
theorem snd_L_law_L1128 {p : Program} {l : Launch} {e : Env} {s : State} {m : MethodId} {below : List Frame} {meth : Method} {c : Code} {h0 : HH} {b : Nat} {Q9 : State → Prop} (G : GG) (L : Nat) (xs : Nat → Int32) (hl0 : l.stackTraces = false) (hX0 : va_X b L xs s s.heap) (hbl : b < s.heap.size) (hbA : ¬ hv_A h0 s.heap.size b) (hret : la_Ret p l e s m below meth c b h0 Q9) (hE : hv_E p s m #[.ref b] meth c cL_law 9 ret R_law G h0) (k28 : (HH) → (Nat) → (Nat) → (Nat) → (Nat) → (Nat) → (Nat) → (Int32) → Prop) (hk28 : ∀ (h : HH) (nc : Nat) (nk : Nat) (x1 : Nat) (x2 : Nat) (x3 : Nat) (x4 : Nat) (x5 : Int32), k28 h nc nk x1 x2 x3 x4 x5 → nc ≤ 1200144 → nk ≤ 5494714 → ∀ (H : Heap) (locs : List Loc) (ls : Array Slot), hv_I G h0 s.heap h H locs → lv_has ls 9 [(0, .ref b), (1, .ref x1), (2, .ref x2), (3, .ref x3), (4, .ref x4), (5, .int x5)] → W p l e room_1 s m #[.ref b] below meth c H locs nc nk Q9 (F0 m 28 ls [])) : ∀ (h : HH) (nc : Nat) (nk : Nat) (x1 : Nat) (x2 : Nat) (x3 : Nat) (x4 : Nat) (x5 : Int32), wp_L_law_L1128 G L xs k28 h nc nk x1 x2 x3 x4 x5 → nc ≤ 1200144 → nk ≤ 5494714 → ∀ (H : Heap) (locs : List Loc) (ls : Array Slot), hv_I G h0 s.heap h H locs → lv_has ls 9 [(0, .ref b), (1, .ref x1), (2, .ref x2), (3, .ref x3), (4, .ref x4), (5, .int x5)] → W p l e room_1 s m #[.ref b] below meth c H locs nc nk Q9 (F0 m 1128 ls []) := by
  obtain ⟨⟨hx, hb, hml, hown, hts⟩, hr, hlocks, hXX⟩ := id hE
  intro h nc nk x1 x2 x3 x4 x5 hw hc hs H locs ls hI hl
  unfold wp_L_law_L1128 at hw
  refine lv_aload_n hx hb dL_law_1128 rfl (lv_at hl 1 rfl) ?_
  refine lv_aload_n hx hb dL_law_1129 rfl (lv_at hl 3 rfl) ?_
  obtain ⟨mc205, ms205, hc, hs, hw⟩ := hw
  refine hv_rci hI (vx_runSW (As := [.ref x1, .ref x3]) (rest := []) hE.1 (snd_X0_quietIn l hl0 G _ mc205 ms205 h (some x1) (some x3) _ hw) (vx_cwSW 2 hts (lw_SW q1510 q1511 q96 q1512) rfl rfl rfl (by decide +kernel) ⟨Nat.le_of_ble_eq_true rfl, Nat.le_of_ble_eq_true rfl⟩) (hv_preS hE hI) rfl rfl hl.1 rfl (lv_room (Nat.le_of_ble_eq_true rfl)) dL_law_1130 ⟨hc, hs⟩) (fun r206 h207 H locs hw hI => ?_)
  refine lv_istore (lv' := [(6, .int r206), (0, .ref b), (1, .ref x1), (2, .ref x2), (3, .ref x3), (4, .ref x4), (5, .int x5)]) hx hb dL_law_1133 hl (by decide) rfl (fun ls hl => ?_)
  refine lv_aload_n hx hb dL_law_1135 rfl (lv_at hl 3 rfl) ?_
  obtain ⟨ad208, F208, A208, U208, hS208, hz, hw⟩ := hw
  have hM := snd_X4_quietIn l G H.size h207 ad208 F208 A208 U208 _ hS208 hw
  have hre := hS208.2.1
  rw [hz] at hM hre
  refine hv_rci hI (va_runV (As := []) (b := x2) (rest := []) hE.1 hM (cwV 0 hts (lw_V q2375 q2376 q2377 q108 q2378) rfl rfl rfl (by decide +kernel) ⟨Nat.le_of_ble_eq_true rfl, Nat.le_of_ble_eq_true rfl⟩) (hv_preV hE hI (ci := 0) rfl hre) rfl rfl hl.1 rfl (lv_room (Nat.le_of_ble_eq_true rfl)) dL_law_1136 ⟨hc, hs⟩) (fun r209 h210 H locs hw hI => ?_)
  obtain ⟨F211, A211, U211, hS211, hO211, hw⟩ := hw
  have hw := hw h210 hS211 hO211
  refine lv_istore (lv' := [(7, .int r209), (6, .int r206), (0, .ref b), (1, .ref x1), (2, .ref x2), (3, .ref x3), (4, .ref x4), (5, .int x5)]) hx hb dL_law_1139 hl (by decide) rfl (fun ls hl => ?_)
  refine lv_aload_n hx hb dL_law_1141 rfl (lv_at hl 4 rfl) ?_
  obtain ⟨ad212, F212, A212, U212, hS212, hz, hw⟩ := hw
  have hM := snd_X4_thrown l G H.size h210 ad212 F212 A212 U212 _ hS212 hw
  have hre := hS212.2.1
  rw [hz] at hM hre
  refine hv_rci hI (va_runV (As := []) (b := x2) (rest := []) hE.1 hM (cwV 0 hts (lw_V q2098 q2099 q2100 q108 q2101) rfl rfl rfl (by decide +kernel) ⟨Nat.le_of_ble_eq_true rfl, Nat.le_of_ble_eq_true rfl⟩) (hv_preV hE hI (ci := 0) rfl hre) rfl rfl hl.1 rfl (lv_room (Nat.le_of_ble_eq_true rfl)) dL_law_1142 ⟨hc, hs⟩) (fun r213 h214 H locs hw hI => ?_)
  obtain ⟨F215, A215, U215, hS215, hO215, hw⟩ := hw
  have hw := hw h214 hS215 hO215
  refine lv_iload hx hb dL_law_1145 (lv_at hl 1 rfl) ?_
  refine lv_icmp_eq (tgt := 1152) hx hb dL_law_1147 (by decide) (fun c_1147 => ?_) (fun c_1147 => ?_)
  · have hw := hw.1 c_1147
    refine lv_iload hx hb dL_law_1152 (lv_at hl 1 rfl) ?_
    refine lv_if_ne (tgt := 1169) hx hb dL_law_1154 (by decide) (fun c_1154 => ?_) (fun c_1154 => ?_)
    · have hw := hw.1 c_1154
      refine lv_goto (tgt := 2191) hx hb dL_law_1169 (by decide) ?_
      exact snd_L_law_L2191 G L xs hl0 hX0 hbl hbA hret hE k28 hk28 h214 (nc + mc205) (nk + ms205) x1 x2 x3 x4 x5 hw hc hs _ _ _ hI (lv_sub hl [2, 3, 4, 5, 6, 7] rfl)
    · have hw := hw.2 c_1154
      refine lv_aload_n hx hb dL_law_1157 rfl (lv_at hl 5 rfl) ?_
      refine lv_iconst (v := 0) hx hb dL_law_1158 (by decide) ?_
      refine hv_wlld hE hI hw dL_law_1159 (fun r216 hw => ?_)
      refine lv_iload hx hb dL_law_1160 (lv_at hl 0 rfl) ?_
      refine lv_i2l (v := (Int32.toInt64 r209)) hx hb dL_law_1162 rfl ?_
      refine W.lcmp hx hb dL_law_1163 ?_
      refine lv_if_eq (tgt := 1169) hx hb dL_law_1164 (by decide) (fun c_1164 => ?_) (fun c_1164 => ?_)
      · have hw := hw.1 c_1164
        refine lv_goto (tgt := 2191) hx hb dL_law_1169 (by decide) ?_
        exact snd_L_law_L2191 G L xs hl0 hX0 hbl hbA hret hE k28 hk28 h214 (nc + mc205) (nk + ms205) x1 x2 x3 x4 x5 hw hc hs _ _ _ hI (lv_sub hl [2, 3, 4, 5, 6, 7] rfl)
      · have hw := hw.2 c_1164
        refine lv_iconst (v := 0) hx hb dL_law_1167 (by decide) ?_
        exact hw.elim
  · have hw := hw.2 c_1147
    refine lv_iconst (v := 0) hx hb dL_law_1150 (by decide) ?_
    exact hw.elim
def wp_L_law_L1172 (G : GG) (L : Nat) (xs : Nat → Int32) (k28 : (HH) → (Nat) → (Nat) → (Nat) → (Nat) → (Nat) → (Nat) → (Int32) → Prop) (h : HH) (nc : Nat) (nk : Nat) (x1 : Nat) (x2 : Nat) (x3 : Nat) (x4 : Nat) (x5 : Int32) : Prop := (vp_in (x5 + (1 : Int32)) L ∧ (vp_in (x5 + (2 : Int32)) L ∧ (vp_in (x5 + (3 : Int32)) L ∧ (∃ mc217 ms217, nc + mc217 ≤ 1200144 ∧ nk + ms217 ≤ 5494714 ∧ wp_X0_why G mc217 ms217 h (some x1) (xs (Int32.toNatClampNeg (x5 + (1 : Int32)))) (xs (Int32.toNatClampNeg (x5 + (2 : Int32)))) (xs (Int32.toNatClampNeg (x5 + (3 : Int32)))) (some x3) (fun r218 h219 => (vp_in (x5 + (1 : Int32)) L ∧ (vp_in (x5 + (2 : Int32)) L ∧ (vp_in (x5 + (3 : Int32)) L ∧ w_ml G h219 x2 (fun ad220 F220 A220 U220 => wp_X4_why F220 A220 U220 (xs (Int32.toNatClampNeg (x5 + (1 : Int32)))) (xs (Int32.toNatClampNeg (x5 + (2 : Int32)))) (xs (Int32.toNatClampNeg (x5 + (3 : Int32)))) (fun r221 F223 A223 U223 => ∀ h222, ml_S G h222 ad220 F223 A223 U223 → ml_O ad220 h219 h222 → w_ml G h222 x2 (fun ad224 F224 A224 U224 => wp_X4_thrown F224 A224 U224 (fun r225 F227 A227 U227 => ∀ h226, ml_S G h226 ad224 F227 A227 U227 → ml_O ad224 h222 h226 → ((r225 = r218 → ((¬ r218 = 0 → wp_L_law_L2191 G L xs k28 h226 (nc + mc217) (nk + ms217) x1 x2 x3 x4 x5) ∧ (r218 = 0 → w_lld G h226 x3 (0 : Int32) (fun r228 => (((lg_cmp r228 (Int32.toInt64 r221)) = 0 → wp_L_law_L2191 G L xs k28 h226 (nc + mc217) (nk + ms217) x1 x2 x3 x4 x5) ∧ (¬ (lg_cmp r228 (Int32.toInt64 r221)) = 0 → False)))))) ∧ (¬ r225 = r218 → False))))))))))))))
set_option maxHeartbeats 4000000 in
theorem snd_L_law_L1172 {p : Program} {l : Launch} {e : Env} {s : State} {m : MethodId} {below : List Frame} {meth : Method} {c : Code} {h0 : HH} {b : Nat} {Q9 : State → Prop} (G : GG) (L : Nat) (xs : Nat → Int32) (hl0 : l.stackTraces = false) (hX0 : va_X b L xs s s.heap) (hbl : b < s.heap.size) (hbA : ¬ hv_A h0 s.heap.size b) (hret : la_Ret p l e s m below meth c b h0 Q9) (hE : hv_E p s m #[.ref b] meth c cL_law 9 ret R_law G h0) (k28 : (HH) → (Nat) → (Nat) → (Nat) → (Nat) → (Nat) → (Nat) → (Int32) → Prop) (hk28 : ∀ (h : HH) (nc : Nat) (nk : Nat) (x1 : Nat) (x2 : Nat) (x3 : Nat) (x4 : Nat) (x5 : Int32), k28 h nc nk x1 x2 x3 x4 x5 → nc ≤ 1200144 → nk ≤ 5494714 → ∀ (H : Heap) (locs : List Loc) (ls : Array Slot), hv_I G h0 s.heap h H locs → lv_has ls 9 [(0, .ref b), (1, .ref x1), (2, .ref x2), (3, .ref x3), (4, .ref x4), (5, .int x5)] → W p l e room_1 s m #[.ref b] below meth c H locs nc nk Q9 (F0 m 28 ls [])) : ∀ (h : HH) (nc : Nat) (nk : Nat) (x1 : Nat) (x2 : Nat) (x3 : Nat) (x4 : Nat) (x5 : Int32), wp_L_law_L1172 G L xs k28 h nc nk x1 x2 x3 x4 x5 → nc ≤ 1200144 → nk ≤ 5494714 → ∀ (H : Heap) (locs : List Loc) (ls : Array Slot), hv_I G h0 s.heap h H locs → lv_has ls 9 [(0, .ref b), (1, .ref x1), (2, .ref x2), (3, .ref x3), (4, .ref x4), (5, .int x5)] → W p l e room_1 s m #[.ref b] below meth c H locs nc nk Q9 (F0 m 1172 ls []) := by
  obtain ⟨⟨hx, hb, hml, hown, hts⟩, hr, hlocks, hXX⟩ := id hE
  intro h nc nk x1 x2 x3 x4 x5 hw hc hs H locs ls hI hl
  unfold wp_L_law_L1172 at hw
  refine lv_aload_n hx hb dL_law_1172 rfl (lv_at hl 1 rfl) ?_
  refine lv_aload_n hx hb dL_law_1173 rfl (lv_at hl 0 rfl) ?_
  refine lv_iload hx hb dL_law_1174 (lv_at hl 5 rfl) ?_
  refine lv_iconst (v := 1) hx hb dL_law_1176 (by decide) ?_
  refine lv_iadd hx hb dL_law_1177 ?_
  obtain ⟨hin, hw⟩ := hw
  refine va_sld hx hb hX0 hbl hbA hI.2.1 hin dL_law_1178 ?_
  refine lv_aload_n hx hb dL_law_1179 rfl (lv_at hl 0 rfl) ?_
  refine lv_iload hx hb dL_law_1180 (lv_at hl 5 rfl) ?_
  refine lv_iconst (v := 2) hx hb dL_law_1182 (by decide) ?_
  refine lv_iadd hx hb dL_law_1183 ?_
  obtain ⟨hin, hw⟩ := hw
  refine va_sld hx hb hX0 hbl hbA hI.2.1 hin dL_law_1184 ?_
  refine lv_aload_n hx hb dL_law_1185 rfl (lv_at hl 0 rfl) ?_
  refine lv_iload hx hb dL_law_1186 (lv_at hl 5 rfl) ?_
  refine lv_iconst (v := 3) hx hb dL_law_1188 (by decide) ?_
  refine lv_iadd hx hb dL_law_1189 ?_
  obtain ⟨hin, hw⟩ := hw
  refine va_sld hx hb hX0 hbl hbA hI.2.1 hin dL_law_1190 ?_
  refine lv_aload_n hx hb dL_law_1191 rfl (lv_at hl 3 rfl) ?_
  obtain ⟨mc217, ms217, hc, hs, hw⟩ := hw
  refine hv_rci hI (vx_runSW (As := [.ref x1, .int (xs (Int32.toNatClampNeg (x5 + (1 : Int32)))), .int (xs (Int32.toNatClampNeg (x5 + (2 : Int32)))), .int (xs (Int32.toNatClampNeg (x5 + (3 : Int32)))), .ref x3]) (rest := []) hE.1 (snd_X0_why l hl0 G _ mc217 ms217 h (some x1) (xs (Int32.toNatClampNeg (x5 + (1 : Int32)))) (xs (Int32.toNatClampNeg (x5 + (2 : Int32)))) (xs (Int32.toNatClampNeg (x5 + (3 : Int32)))) (some x3) _ hw) (vx_cwSW 5 hts (lw_SW q1522 q1523 q96 q1524) rfl rfl rfl (by decide +kernel) ⟨Nat.le_of_ble_eq_true rfl, Nat.le_of_ble_eq_true rfl⟩) (hv_preS hE hI) rfl rfl hl.1 rfl (lv_room (Nat.le_of_ble_eq_true rfl)) dL_law_1192 ⟨hc, hs⟩) (fun r218 h219 H locs hw hI => ?_)
  refine lv_istore (lv' := [(6, .int r218), (0, .ref b), (1, .ref x1), (2, .ref x2), (3, .ref x3), (4, .ref x4), (5, .int x5)]) hx hb dL_law_1195 hl (by decide) rfl (fun ls hl => ?_)
  refine lv_aload_n hx hb dL_law_1197 rfl (lv_at hl 3 rfl) ?_
  refine lv_aload_n hx hb dL_law_1198 rfl (lv_at hl 1 rfl) ?_
  refine lv_iload hx hb dL_law_1199 (lv_at hl 6 rfl) ?_
  refine lv_iconst (v := 1) hx hb dL_law_1201 (by decide) ?_
  refine lv_iadd hx hb dL_law_1202 ?_
  obtain ⟨hin, hw⟩ := hw
  refine va_sld hx hb hX0 hbl hbA hI.2.1 hin dL_law_1203 ?_
  refine lv_aload_n hx hb dL_law_1204 rfl (lv_at hl 1 rfl) ?_
  refine lv_iload hx hb dL_law_1205 (lv_at hl 6 rfl) ?_
  refine lv_iconst (v := 2) hx hb dL_law_1207 (by decide) ?_
  refine lv_iadd hx hb dL_law_1208 ?_
  obtain ⟨hin, hw⟩ := hw
  refine va_sld hx hb hX0 hbl hbA hI.2.1 hin dL_law_1209 ?_
  refine lv_aload_n hx hb dL_law_1210 rfl (lv_at hl 1 rfl) ?_
  refine lv_iload hx hb dL_law_1211 (lv_at hl 6 rfl) ?_
  refine lv_iconst (v := 3) hx hb dL_law_1213 (by decide) ?_
  refine lv_iadd hx hb dL_law_1214 ?_
  obtain ⟨hin, hw⟩ := hw
  refine va_sld hx hb hX0 hbl hbA hI.2.1 hin dL_law_1215 ?_
  obtain ⟨ad220, F220, A220, U220, hS220, hz, hw⟩ := hw
  have hM := snd_X4_why l G H.size h219 ad220 F220 A220 U220 (xs (Int32.toNatClampNeg (x5 + (1 : Int32)))) (xs (Int32.toNatClampNeg (x5 + (2 : Int32)))) (xs (Int32.toNatClampNeg (x5 + (3 : Int32)))) _ hS220 hw
  have hre := hS220.2.1
  rw [hz] at hM hre
  refine hv_rci hI (va_runV (As := [.int (xs (Int32.toNatClampNeg (x5 + (1 : Int32)))), .int (xs (Int32.toNatClampNeg (x5 + (2 : Int32)))), .int (xs (Int32.toNatClampNeg (x5 + (3 : Int32))))]) (b := x2) (rest := []) hE.1 hM (cwV 3 hts (lw_V q2379 q2380 q2381 q108 q2382) rfl rfl rfl (by decide +kernel) ⟨Nat.le_of_ble_eq_true rfl, Nat.le_of_ble_eq_true rfl⟩) (hv_preV hE hI (ci := 0) rfl hre) rfl rfl hl.1 rfl (lv_room (Nat.le_of_ble_eq_true rfl)) dL_law_1216 ⟨hc, hs⟩) (fun r221 h222 H locs hw hI => ?_)
  obtain ⟨F223, A223, U223, hS223, hO223, hw⟩ := hw
  have hw := hw h222 hS223 hO223
  refine lv_istore (lv' := [(7, .int r221), (6, .int r218), (0, .ref b), (1, .ref x1), (2, .ref x2), (3, .ref x3), (4, .ref x4), (5, .int x5)]) hx hb dL_law_1219 hl (by decide) rfl (fun ls hl => ?_)
  refine lv_aload_n hx hb dL_law_1221 rfl (lv_at hl 4 rfl) ?_
  obtain ⟨ad224, F224, A224, U224, hS224, hz, hw⟩ := hw
  have hM := snd_X4_thrown l G H.size h222 ad224 F224 A224 U224 _ hS224 hw
  have hre := hS224.2.1
  rw [hz] at hM hre
  refine hv_rci hI (va_runV (As := []) (b := x2) (rest := []) hE.1 hM (cwV 0 hts (lw_V q2098 q2099 q2100 q108 q2101) rfl rfl rfl (by decide +kernel) ⟨Nat.le_of_ble_eq_true rfl, Nat.le_of_ble_eq_true rfl⟩) (hv_preV hE hI (ci := 0) rfl hre) rfl rfl hl.1 rfl (lv_room (Nat.le_of_ble_eq_true rfl)) dL_law_1222 ⟨hc, hs⟩) (fun r225 h226 H locs hw hI => ?_)
  obtain ⟨F227, A227, U227, hS227, hO227, hw⟩ := hw
  have hw := hw h226 hS227 hO227
  refine lv_iload hx hb dL_law_1225 (lv_at hl 1 rfl) ?_
  refine lv_icmp_eq (tgt := 1232) hx hb dL_law_1227 (by decide) (fun c_1227 => ?_) (fun c_1227 => ?_)
  · have hw := hw.1 c_1227
    refine lv_iload hx hb dL_law_1232 (lv_at hl 1 rfl) ?_
    refine lv_if_ne (tgt := 1249) hx hb dL_law_1234 (by decide) (fun c_1234 => ?_) (fun c_1234 => ?_)
    · have hw := hw.1 c_1234
      refine lv_goto (tgt := 2191) hx hb dL_law_1249 (by decide) ?_
      exact snd_L_law_L2191 G L xs hl0 hX0 hbl hbA hret hE k28 hk28 h226 (nc + mc217) (nk + ms217) x1 x2 x3 x4 x5 hw hc hs _ _ _ hI (lv_sub hl [2, 3, 4, 5, 6, 7] rfl)
    · have hw := hw.2 c_1234
      refine lv_aload_n hx hb dL_law_1237 rfl (lv_at hl 5 rfl) ?_
      refine lv_iconst (v := 0) hx hb dL_law_1238 (by decide) ?_
      refine hv_wlld hE hI hw dL_law_1239 (fun r228 hw => ?_)
      refine lv_iload hx hb dL_law_1240 (lv_at hl 0 rfl) ?_
      refine lv_i2l (v := (Int32.toInt64 r221)) hx hb dL_law_1242 rfl ?_
      refine W.lcmp hx hb dL_law_1243 ?_
      refine lv_if_eq (tgt := 1249) hx hb dL_law_1244 (by decide) (fun c_1244 => ?_) (fun c_1244 => ?_)
      · have hw := hw.1 c_1244
        refine lv_goto (tgt := 2191) hx hb dL_law_1249 (by decide) ?_
        exact snd_L_law_L2191 G L xs hl0 hX0 hbl hbA hret hE k28 hk28 h226 (nc + mc217) (nk + ms217) x1 x2 x3 x4 x5 hw hc hs _ _ _ hI (lv_sub hl [2, 3, 4, 5, 6, 7] rfl)
      · have hw := hw.2 c_1244
        refine lv_iconst (v := 0) hx hb dL_law_1247 (by decide) ?_
        exact hw.elim
  · have hw := hw.2 c_1227
    refine lv_iconst (v := 0) hx hb dL_law_1230 (by decide) ?_
    exact hw.elim
def wp_L_law_L1252 (G : GG) (L : Nat) (xs : Nat → Int32) (k28 : (HH) → (Nat) → (Nat) → (Nat) → (Nat) → (Nat) → (Nat) → (Int32) → Prop) (h : HH) (nc : Nat) (nk : Nat) (x1 : Nat) (x2 : Nat) (x3 : Nat) (x4 : Nat) (x5 : Int32) : Prop := (vp_in (x5 + (1 : Int32)) L ∧ (∃ mc229 ms229, nc + mc229 ≤ 1200144 ∧ nk + ms229 ≤ 5494714 ∧ wp_X0_wouldGo G mc229 ms229 h (some x1) (xs (Int32.toNatClampNeg (x5 + (1 : Int32)))) (some x3) (fun r230 h231 => (vp_in (x5 + (1 : Int32)) L ∧ w_ml G h231 x2 (fun ad232 F232 A232 U232 => wp_X4_wouldGo F232 A232 U232 (xs (Int32.toNatClampNeg (x5 + (1 : Int32)))) (fun r233 F235 A235 U235 => ∀ h234, ml_S G h234 ad232 F235 A235 U235 → ml_O ad232 h231 h234 → w_ml G h234 x2 (fun ad236 F236 A236 U236 => wp_X4_thrown F236 A236 U236 (fun r237 F239 A239 U239 => ∀ h238, ml_S G h238 ad236 F239 A239 U239 → ml_O ad236 h234 h238 → ((r237 = r230 → ((¬ r230 = 0 → wp_L_law_L2191 G L xs k28 h238 (nc + mc229) (nk + ms229) x1 x2 x3 x4 x5) ∧ (r230 = 0 → w_lld G h238 x3 (0 : Int32) (fun r240 => (((lg_cmp r240 (Int32.toInt64 r233)) = 0 → wp_L_law_L2191 G L xs k28 h238 (nc + mc229) (nk + ms229) x1 x2 x3 x4 x5) ∧ (¬ (lg_cmp r240 (Int32.toInt64 r233)) = 0 → False)))))) ∧ (¬ r237 = r230 → False))))))))))
set_option maxHeartbeats 4000000 in
theorem snd_L_law_L1252 {p : Program} {l : Launch} {e : Env} {s : State} {m : MethodId} {below : List Frame} {meth : Method} {c : Code} {h0 : HH} {b : Nat} {Q9 : State → Prop} (G : GG) (L : Nat) (xs : Nat → Int32) (hl0 : l.stackTraces = false) (hX0 : va_X b L xs s s.heap) (hbl : b < s.heap.size) (hbA : ¬ hv_A h0 s.heap.size b) (hret : la_Ret p l e s m below meth c b h0 Q9) (hE : hv_E p s m #[.ref b] meth c cL_law 9 ret R_law G h0) (k28 : (HH) → (Nat) → (Nat) → (Nat) → (Nat) → (Nat) → (Nat) → (Int32) → Prop) (hk28 : ∀ (h : HH) (nc : Nat) (nk : Nat) (x1 : Nat) (x2 : Nat) (x3 : Nat) (x4 : Nat) (x5 : Int32), k28 h nc nk x1 x2 x3 x4 x5 → nc ≤ 1200144 → nk ≤ 5494714 → ∀ (H : Heap) (locs : List Loc) (ls : Array Slot), hv_I G h0 s.heap h H locs → lv_has ls 9 [(0, .ref b), (1, .ref x1), (2, .ref x2), (3, .ref x3), (4, .ref x4), (5, .int x5)] → W p l e room_1 s m #[.ref b] below meth c H locs nc nk Q9 (F0 m 28 ls [])) : ∀ (h : HH) (nc : Nat) (nk : Nat) (x1 : Nat) (x2 : Nat) (x3 : Nat) (x4 : Nat) (x5 : Int32), wp_L_law_L1252 G L xs k28 h nc nk x1 x2 x3 x4 x5 → nc ≤ 1200144 → nk ≤ 5494714 → ∀ (H : Heap) (locs : List Loc) (ls : Array Slot), hv_I G h0 s.heap h H locs → lv_has ls 9 [(0, .ref b), (1, .ref x1), (2, .ref x2), (3, .ref x3), (4, .ref x4), (5, .int x5)] → W p l e room_1 s m #[.ref b] below meth c H locs nc nk Q9 (F0 m 1252 ls []) := by
  obtain ⟨⟨hx, hb, hml, hown, hts⟩, hr, hlocks, hXX⟩ := id hE
  intro h nc nk x1 x2 x3 x4 x5 hw hc hs H locs ls hI hl
  unfold wp_L_law_L1252 at hw
  refine lv_aload_n hx hb dL_law_1252 rfl (lv_at hl 1 rfl) ?_
  refine lv_aload_n hx hb dL_law_1253 rfl (lv_at hl 0 rfl) ?_
  refine lv_iload hx hb dL_law_1254 (lv_at hl 5 rfl) ?_
  refine lv_iconst (v := 1) hx hb dL_law_1256 (by decide) ?_
  refine lv_iadd hx hb dL_law_1257 ?_
  obtain ⟨hin, hw⟩ := hw
  refine va_sld hx hb hX0 hbl hbA hI.2.1 hin dL_law_1258 ?_
  refine lv_aload_n hx hb dL_law_1259 rfl (lv_at hl 3 rfl) ?_
  obtain ⟨mc229, ms229, hc, hs, hw⟩ := hw
  refine hv_rci hI (vx_runSW (As := [.ref x1, .int (xs (Int32.toNatClampNeg (x5 + (1 : Int32)))), .ref x3]) (rest := []) hE.1 (snd_X0_wouldGo l hl0 G _ mc229 ms229 h (some x1) (xs (Int32.toNatClampNeg (x5 + (1 : Int32)))) (some x3) _ hw) (vx_cwSW 3 hts (lw_SW q1529 q1530 q96 q1531) rfl rfl rfl (by decide +kernel) ⟨Nat.le_of_ble_eq_true rfl, Nat.le_of_ble_eq_true rfl⟩) (hv_preS hE hI) rfl rfl hl.1 rfl (lv_room (Nat.le_of_ble_eq_true rfl)) dL_law_1260 ⟨hc, hs⟩) (fun r230 h231 H locs hw hI => ?_)
  refine lv_istore (lv' := [(6, .int r230), (0, .ref b), (1, .ref x1), (2, .ref x2), (3, .ref x3), (4, .ref x4), (5, .int x5)]) hx hb dL_law_1263 hl (by decide) rfl (fun ls hl => ?_)
  refine lv_aload_n hx hb dL_law_1265 rfl (lv_at hl 3 rfl) ?_
  refine lv_aload_n hx hb dL_law_1266 rfl (lv_at hl 1 rfl) ?_
  refine lv_iload hx hb dL_law_1267 (lv_at hl 6 rfl) ?_
  refine lv_iconst (v := 1) hx hb dL_law_1269 (by decide) ?_
  refine lv_iadd hx hb dL_law_1270 ?_
  obtain ⟨hin, hw⟩ := hw
  refine va_sld hx hb hX0 hbl hbA hI.2.1 hin dL_law_1271 ?_
  obtain ⟨ad232, F232, A232, U232, hS232, hz, hw⟩ := hw
  have hM := snd_X4_wouldGo l G H.size h231 ad232 F232 A232 U232 (xs (Int32.toNatClampNeg (x5 + (1 : Int32)))) _ hS232 hw
  have hre := hS232.2.1
  rw [hz] at hM hre
  refine hv_rci hI (va_runV (As := [.int (xs (Int32.toNatClampNeg (x5 + (1 : Int32))))]) (b := x2) (rest := []) hE.1 hM (cwV 1 hts (lw_V q2383 q2384 q2385 q108 q2386) rfl rfl rfl (by decide +kernel) ⟨Nat.le_of_ble_eq_true rfl, Nat.le_of_ble_eq_true rfl⟩) (hv_preV hE hI (ci := 0) rfl hre) rfl rfl hl.1 rfl (lv_room (Nat.le_of_ble_eq_true rfl)) dL_law_1272 ⟨hc, hs⟩) (fun r233 h234 H locs hw hI => ?_)
  obtain ⟨F235, A235, U235, hS235, hO235, hw⟩ := hw
  have hw := hw h234 hS235 hO235
  refine lv_istore (lv' := [(7, .int r233), (6, .int r230), (0, .ref b), (1, .ref x1), (2, .ref x2), (3, .ref x3), (4, .ref x4), (5, .int x5)]) hx hb dL_law_1275 hl (by decide) rfl (fun ls hl => ?_)
  refine lv_aload_n hx hb dL_law_1277 rfl (lv_at hl 4 rfl) ?_
  obtain ⟨ad236, F236, A236, U236, hS236, hz, hw⟩ := hw
  have hM := snd_X4_thrown l G H.size h234 ad236 F236 A236 U236 _ hS236 hw
  have hre := hS236.2.1
  rw [hz] at hM hre
  refine hv_rci hI (va_runV (As := []) (b := x2) (rest := []) hE.1 hM (cwV 0 hts (lw_V q2098 q2099 q2100 q108 q2101) rfl rfl rfl (by decide +kernel) ⟨Nat.le_of_ble_eq_true rfl, Nat.le_of_ble_eq_true rfl⟩) (hv_preV hE hI (ci := 0) rfl hre) rfl rfl hl.1 rfl (lv_room (Nat.le_of_ble_eq_true rfl)) dL_law_1278 ⟨hc, hs⟩) (fun r237 h238 H locs hw hI => ?_)
  obtain ⟨F239, A239, U239, hS239, hO239, hw⟩ := hw
  have hw := hw h238 hS239 hO239
  refine lv_iload hx hb dL_law_1281 (lv_at hl 1 rfl) ?_
  refine lv_icmp_eq (tgt := 1288) hx hb dL_law_1283 (by decide) (fun c_1283 => ?_) (fun c_1283 => ?_)
  · have hw := hw.1 c_1283
    refine lv_iload hx hb dL_law_1288 (lv_at hl 1 rfl) ?_
    refine lv_if_ne (tgt := 1305) hx hb dL_law_1290 (by decide) (fun c_1290 => ?_) (fun c_1290 => ?_)
    · have hw := hw.1 c_1290
      refine lv_goto (tgt := 2191) hx hb dL_law_1305 (by decide) ?_
      exact snd_L_law_L2191 G L xs hl0 hX0 hbl hbA hret hE k28 hk28 h238 (nc + mc229) (nk + ms229) x1 x2 x3 x4 x5 hw hc hs _ _ _ hI (lv_sub hl [2, 3, 4, 5, 6, 7] rfl)
    · have hw := hw.2 c_1290
      refine lv_aload_n hx hb dL_law_1293 rfl (lv_at hl 5 rfl) ?_
      refine lv_iconst (v := 0) hx hb dL_law_1294 (by decide) ?_
      refine hv_wlld hE hI hw dL_law_1295 (fun r240 hw => ?_)
      refine lv_iload hx hb dL_law_1296 (lv_at hl 0 rfl) ?_
      refine lv_i2l (v := (Int32.toInt64 r233)) hx hb dL_law_1298 rfl ?_
      refine W.lcmp hx hb dL_law_1299 ?_
      refine lv_if_eq (tgt := 1305) hx hb dL_law_1300 (by decide) (fun c_1300 => ?_) (fun c_1300 => ?_)
      · have hw := hw.1 c_1300
        refine lv_goto (tgt := 2191) hx hb dL_law_1305 (by decide) ?_
        exact snd_L_law_L2191 G L xs hl0 hX0 hbl hbA hret hE k28 hk28 h238 (nc + mc229) (nk + ms229) x1 x2 x3 x4 x5 hw hc hs _ _ _ hI (lv_sub hl [2, 3, 4, 5, 6, 7] rfl)
      · have hw := hw.2 c_1300
        refine lv_iconst (v := 0) hx hb dL_law_1303 (by decide) ?_
        exact hw.elim
  · have hw := hw.2 c_1283
    refine lv_iconst (v := 0) hx hb dL_law_1286 (by decide) ?_
    exact hw.elim
def wp_L_law_L1308 (G : GG) (L : Nat) (xs : Nat → Int32) (k28 : (HH) → (Nat) → (Nat) → (Nat) → (Nat) → (Nat) → (Nat) → (Int32) → Prop) (h : HH) (nc : Nat) (nk : Nat) (x1 : Nat) (x2 : Nat) (x3 : Nat) (x4 : Nat) (x5 : Int32) : Prop := (∃ mc241 ms241, nc + mc241 ≤ 1200144 ∧ nk + ms241 ≤ 5494714 ∧ w_is h x1 1 (wp_X1_isInOrder G mc241 ms241 h x1 (fun r242 h243 => w_ml G h243 x2 (fun ad244 F244 A244 U244 => wp_X4_isInOrder F244 A244 U244 (fun r245 F247 A247 U247 => ∀ h246, ml_S G h246 ad244 F247 A247 U247 → ml_O ad244 h243 h246 → ((r242 = r245 → wp_L_law_L2191 G L xs k28 h246 (nc + mc241) (nk + ms241) x1 x2 x3 x4 x5) ∧ (¬ r242 = r245 → False)))))))
set_option maxHeartbeats 4000000 in
theorem snd_L_law_L1308 {p : Program} {l : Launch} {e : Env} {s : State} {m : MethodId} {below : List Frame} {meth : Method} {c : Code} {h0 : HH} {b : Nat} {Q9 : State → Prop} (G : GG) (L : Nat) (xs : Nat → Int32) (hl0 : l.stackTraces = false) (hX0 : va_X b L xs s s.heap) (hbl : b < s.heap.size) (hbA : ¬ hv_A h0 s.heap.size b) (hret : la_Ret p l e s m below meth c b h0 Q9) (hE : hv_E p s m #[.ref b] meth c cL_law 9 ret R_law G h0) (k28 : (HH) → (Nat) → (Nat) → (Nat) → (Nat) → (Nat) → (Nat) → (Int32) → Prop) (hk28 : ∀ (h : HH) (nc : Nat) (nk : Nat) (x1 : Nat) (x2 : Nat) (x3 : Nat) (x4 : Nat) (x5 : Int32), k28 h nc nk x1 x2 x3 x4 x5 → nc ≤ 1200144 → nk ≤ 5494714 → ∀ (H : Heap) (locs : List Loc) (ls : Array Slot), hv_I G h0 s.heap h H locs → lv_has ls 9 [(0, .ref b), (1, .ref x1), (2, .ref x2), (3, .ref x3), (4, .ref x4), (5, .int x5)] → W p l e room_1 s m #[.ref b] below meth c H locs nc nk Q9 (F0 m 28 ls [])) : ∀ (h : HH) (nc : Nat) (nk : Nat) (x1 : Nat) (x2 : Nat) (x3 : Nat) (x4 : Nat) (x5 : Int32), wp_L_law_L1308 G L xs k28 h nc nk x1 x2 x3 x4 x5 → nc ≤ 1200144 → nk ≤ 5494714 → ∀ (H : Heap) (locs : List Loc) (ls : Array Slot), hv_I G h0 s.heap h H locs → lv_has ls 9 [(0, .ref b), (1, .ref x1), (2, .ref x2), (3, .ref x3), (4, .ref x4), (5, .int x5)] → W p l e room_1 s m #[.ref b] below meth c H locs nc nk Q9 (F0 m 1308 ls []) := by
  obtain ⟨⟨hx, hb, hml, hown, hts⟩, hr, hlocks, hXX⟩ := id hE
  intro h nc nk x1 x2 x3 x4 x5 hw hc hs H locs ls hI hl
  unfold wp_L_law_L1308 at hw
  refine lv_aload_n hx hb dL_law_1308 rfl (lv_at hl 1 rfl) ?_
  obtain ⟨mc241, ms241, hc, hs, hw⟩ := hw
  obtain ⟨⟨fs, hre⟩, hw⟩ := hw
  refine hv_rci hI (va_runV (As := []) (b := x1) (rest := []) hE.1 (snd_X1_isInOrder l G _ mc241 ms241 h x1 _ hw) (cwV 0 hts (lw_V q544 q545 q546 q97 q547) rfl rfl rfl (by decide +kernel) ⟨Nat.le_of_ble_eq_true rfl, Nat.le_of_ble_eq_true rfl⟩) (hv_preV hE hI (ci := 1) rfl hre) rfl rfl hl.1 rfl (lv_room (Nat.le_of_ble_eq_true rfl)) dL_law_1309 ⟨hc, hs⟩) (fun r242 h243 H locs hw hI => ?_)
  refine lv_aload_n hx hb dL_law_1312 rfl (lv_at hl 2 rfl) ?_
  obtain ⟨ad244, F244, A244, U244, hS244, hz, hw⟩ := hw
  have hM := snd_X4_isInOrder l G H.size h243 ad244 F244 A244 U244 _ hS244 hw
  have hre := hS244.2.1
  rw [hz] at hM hre
  refine hv_rci hI (va_runV (As := []) (b := x2) (rest := [.int r242]) hE.1 hM (cwV 0 hts (lw_V q2387 q2388 q2389 q108 q2390) rfl rfl rfl (by decide +kernel) ⟨Nat.le_of_ble_eq_true rfl, Nat.le_of_ble_eq_true rfl⟩) (hv_preV hE hI (ci := 0) rfl hre) rfl rfl hl.1 rfl (lv_room (Nat.le_of_ble_eq_true rfl)) dL_law_1313 ⟨hc, hs⟩) (fun r245 h246 H locs hw hI => ?_)
  obtain ⟨F247, A247, U247, hS247, hO247, hw⟩ := hw
  have hw := hw h246 hS247 hO247
  refine lv_icmp_eq (tgt := 2191) hx hb dL_law_1316 (by decide) (fun c_1316 => ?_) (fun c_1316 => ?_)
  · have hw := hw.1 c_1316
    exact snd_L_law_L2191 G L xs hl0 hX0 hbl hbA hret hE k28 hk28 h246 (nc + mc241) (nk + ms241) x1 x2 x3 x4 x5 hw hc hs _ _ _ hI (lv_sub hl [0, 1, 2, 3, 4, 5] rfl)
  · have hw := hw.2 c_1316
    refine lv_iconst (v := 0) hx hb dL_law_1319 (by decide) ?_
    exact hw.elim
def wp_L_law_L1321 (G : GG) (L : Nat) (xs : Nat → Int32) (k28 : (HH) → (Nat) → (Nat) → (Nat) → (Nat) → (Nat) → (Nat) → (Int32) → Prop) (h : HH) (nc : Nat) (nk : Nat) (x1 : Nat) (x2 : Nat) (x3 : Nat) (x4 : Nat) (x5 : Int32) : Prop := (vp_in (x5 + (1 : Int32)) L ∧ (∃ mc248 ms248, nc + mc248 ≤ 1200144 ∧ nk + ms248 ≤ 5494714 ∧ wp_X0_line G mc248 ms248 h (some x1) (xs (Int32.toNatClampNeg (x5 + (1 : Int32)))) (some x3) (fun r249 h250 => (vp_in (x5 + (1 : Int32)) L ∧ w_ml G h250 x2 (fun ad251 F251 A251 U251 => wp_X4_line F251 A251 U251 (xs (Int32.toNatClampNeg (x5 + (1 : Int32)))) (fun r252 F254 A254 U254 => ∀ h253, ml_S G h253 ad251 F254 A254 U254 → ml_O ad251 h250 h253 → w_ml G h253 x2 (fun ad255 F255 A255 U255 => wp_X4_thrown F255 A255 U255 (fun r256 F258 A258 U258 => ∀ h257, ml_S G h257 ad255 F258 A258 U258 → ml_O ad255 h253 h257 → ((r256 = r249 → ((¬ r249 = 0 → wp_L_law_L2191 G L xs k28 h257 (nc + mc248) (nk + ms248) x1 x2 x3 x4 x5) ∧ (r249 = 0 → w_lld G h257 x3 (0 : Int32) (fun r259 => (((lg_cmp r259 (Int32.toInt64 r252)) = 0 → wp_L_law_L2191 G L xs k28 h257 (nc + mc248) (nk + ms248) x1 x2 x3 x4 x5) ∧ (¬ (lg_cmp r259 (Int32.toInt64 r252)) = 0 → False)))))) ∧ (¬ r256 = r249 → False))))))))))
set_option maxHeartbeats 4000000 in
theorem snd_L_law_L1321 {p : Program} {l : Launch} {e : Env} {s : State} {m : MethodId} {below : List Frame} {meth : Method} {c : Code} {h0 : HH} {b : Nat} {Q9 : State → Prop} (G : GG) (L : Nat) (xs : Nat → Int32) (hl0 : l.stackTraces = false) (hX0 : va_X b L xs s s.heap) (hbl : b < s.heap.size) (hbA : ¬ hv_A h0 s.heap.size b) (hret : la_Ret p l e s m below meth c b h0 Q9) (hE : hv_E p s m #[.ref b] meth c cL_law 9 ret R_law G h0) (k28 : (HH) → (Nat) → (Nat) → (Nat) → (Nat) → (Nat) → (Nat) → (Int32) → Prop) (hk28 : ∀ (h : HH) (nc : Nat) (nk : Nat) (x1 : Nat) (x2 : Nat) (x3 : Nat) (x4 : Nat) (x5 : Int32), k28 h nc nk x1 x2 x3 x4 x5 → nc ≤ 1200144 → nk ≤ 5494714 → ∀ (H : Heap) (locs : List Loc) (ls : Array Slot), hv_I G h0 s.heap h H locs → lv_has ls 9 [(0, .ref b), (1, .ref x1), (2, .ref x2), (3, .ref x3), (4, .ref x4), (5, .int x5)] → W p l e room_1 s m #[.ref b] below meth c H locs nc nk Q9 (F0 m 28 ls [])) : ∀ (h : HH) (nc : Nat) (nk : Nat) (x1 : Nat) (x2 : Nat) (x3 : Nat) (x4 : Nat) (x5 : Int32), wp_L_law_L1321 G L xs k28 h nc nk x1 x2 x3 x4 x5 → nc ≤ 1200144 → nk ≤ 5494714 → ∀ (H : Heap) (locs : List Loc) (ls : Array Slot), hv_I G h0 s.heap h H locs → lv_has ls 9 [(0, .ref b), (1, .ref x1), (2, .ref x2), (3, .ref x3), (4, .ref x4), (5, .int x5)] → W p l e room_1 s m #[.ref b] below meth c H locs nc nk Q9 (F0 m 1321 ls []) := by
  obtain ⟨⟨hx, hb, hml, hown, hts⟩, hr, hlocks, hXX⟩ := id hE
  intro h nc nk x1 x2 x3 x4 x5 hw hc hs H locs ls hI hl
  unfold wp_L_law_L1321 at hw
  refine lv_aload_n hx hb dL_law_1321 rfl (lv_at hl 1 rfl) ?_
  refine lv_aload_n hx hb dL_law_1322 rfl (lv_at hl 0 rfl) ?_
  refine lv_iload hx hb dL_law_1323 (lv_at hl 5 rfl) ?_
  refine lv_iconst (v := 1) hx hb dL_law_1325 (by decide) ?_
  refine lv_iadd hx hb dL_law_1326 ?_
  obtain ⟨hin, hw⟩ := hw
  refine va_sld hx hb hX0 hbl hbA hI.2.1 hin dL_law_1327 ?_
  refine lv_aload_n hx hb dL_law_1328 rfl (lv_at hl 3 rfl) ?_
  obtain ⟨mc248, ms248, hc, hs, hw⟩ := hw
  refine hv_rci hI (vx_runSW (As := [.ref x1, .int (xs (Int32.toNatClampNeg (x5 + (1 : Int32)))), .ref x3]) (rest := []) hE.1 (snd_X0_line l hl0 G _ mc248 ms248 h (some x1) (xs (Int32.toNatClampNeg (x5 + (1 : Int32)))) (some x3) _ hw) (vx_cwSW 3 hts (lw_SW q1541 q1542 q96 q1543) rfl rfl rfl (by decide +kernel) ⟨Nat.le_of_ble_eq_true rfl, Nat.le_of_ble_eq_true rfl⟩) (hv_preS hE hI) rfl rfl hl.1 rfl (lv_room (Nat.le_of_ble_eq_true rfl)) dL_law_1329 ⟨hc, hs⟩) (fun r249 h250 H locs hw hI => ?_)
  refine lv_istore (lv' := [(6, .int r249), (0, .ref b), (1, .ref x1), (2, .ref x2), (3, .ref x3), (4, .ref x4), (5, .int x5)]) hx hb dL_law_1332 hl (by decide) rfl (fun ls hl => ?_)
  refine lv_aload_n hx hb dL_law_1334 rfl (lv_at hl 3 rfl) ?_
  refine lv_aload_n hx hb dL_law_1335 rfl (lv_at hl 1 rfl) ?_
  refine lv_iload hx hb dL_law_1336 (lv_at hl 6 rfl) ?_
  refine lv_iconst (v := 1) hx hb dL_law_1338 (by decide) ?_
  refine lv_iadd hx hb dL_law_1339 ?_
  obtain ⟨hin, hw⟩ := hw
  refine va_sld hx hb hX0 hbl hbA hI.2.1 hin dL_law_1340 ?_
  obtain ⟨ad251, F251, A251, U251, hS251, hz, hw⟩ := hw
  have hM := snd_X4_line l G H.size h250 ad251 F251 A251 U251 (xs (Int32.toNatClampNeg (x5 + (1 : Int32)))) _ hS251 hw
  have hre := hS251.2.1
  rw [hz] at hM hre
  refine hv_rci hI (va_runV (As := [.int (xs (Int32.toNatClampNeg (x5 + (1 : Int32))))]) (b := x2) (rest := []) hE.1 hM (cwV 1 hts (lw_V q2395 q2396 q2397 q108 q2398) rfl rfl rfl (by decide +kernel) ⟨Nat.le_of_ble_eq_true rfl, Nat.le_of_ble_eq_true rfl⟩) (hv_preV hE hI (ci := 0) rfl hre) rfl rfl hl.1 rfl (lv_room (Nat.le_of_ble_eq_true rfl)) dL_law_1341 ⟨hc, hs⟩) (fun r252 h253 H locs hw hI => ?_)
  obtain ⟨F254, A254, U254, hS254, hO254, hw⟩ := hw
  have hw := hw h253 hS254 hO254
  refine lv_istore (lv' := [(7, .int r252), (6, .int r249), (0, .ref b), (1, .ref x1), (2, .ref x2), (3, .ref x3), (4, .ref x4), (5, .int x5)]) hx hb dL_law_1344 hl (by decide) rfl (fun ls hl => ?_)
  refine lv_aload_n hx hb dL_law_1346 rfl (lv_at hl 4 rfl) ?_
  obtain ⟨ad255, F255, A255, U255, hS255, hz, hw⟩ := hw
  have hM := snd_X4_thrown l G H.size h253 ad255 F255 A255 U255 _ hS255 hw
  have hre := hS255.2.1
  rw [hz] at hM hre
  refine hv_rci hI (va_runV (As := []) (b := x2) (rest := []) hE.1 hM (cwV 0 hts (lw_V q2098 q2099 q2100 q108 q2101) rfl rfl rfl (by decide +kernel) ⟨Nat.le_of_ble_eq_true rfl, Nat.le_of_ble_eq_true rfl⟩) (hv_preV hE hI (ci := 0) rfl hre) rfl rfl hl.1 rfl (lv_room (Nat.le_of_ble_eq_true rfl)) dL_law_1347 ⟨hc, hs⟩) (fun r256 h257 H locs hw hI => ?_)
  obtain ⟨F258, A258, U258, hS258, hO258, hw⟩ := hw
  have hw := hw h257 hS258 hO258
  refine lv_iload hx hb dL_law_1350 (lv_at hl 1 rfl) ?_
  refine lv_icmp_eq (tgt := 1357) hx hb dL_law_1352 (by decide) (fun c_1352 => ?_) (fun c_1352 => ?_)
  · have hw := hw.1 c_1352
    refine lv_iload hx hb dL_law_1357 (lv_at hl 1 rfl) ?_
    refine lv_if_ne (tgt := 1374) hx hb dL_law_1359 (by decide) (fun c_1359 => ?_) (fun c_1359 => ?_)
    · have hw := hw.1 c_1359
      refine lv_goto (tgt := 2191) hx hb dL_law_1374 (by decide) ?_
      exact snd_L_law_L2191 G L xs hl0 hX0 hbl hbA hret hE k28 hk28 h257 (nc + mc248) (nk + ms248) x1 x2 x3 x4 x5 hw hc hs _ _ _ hI (lv_sub hl [2, 3, 4, 5, 6, 7] rfl)
    · have hw := hw.2 c_1359
      refine lv_aload_n hx hb dL_law_1362 rfl (lv_at hl 5 rfl) ?_
      refine lv_iconst (v := 0) hx hb dL_law_1363 (by decide) ?_
      refine hv_wlld hE hI hw dL_law_1364 (fun r259 hw => ?_)
      refine lv_iload hx hb dL_law_1365 (lv_at hl 0 rfl) ?_
      refine lv_i2l (v := (Int32.toInt64 r252)) hx hb dL_law_1367 rfl ?_
      refine W.lcmp hx hb dL_law_1368 ?_
      refine lv_if_eq (tgt := 1374) hx hb dL_law_1369 (by decide) (fun c_1369 => ?_) (fun c_1369 => ?_)
      · have hw := hw.1 c_1369
        refine lv_goto (tgt := 2191) hx hb dL_law_1374 (by decide) ?_
        exact snd_L_law_L2191 G L xs hl0 hX0 hbl hbA hret hE k28 hk28 h257 (nc + mc248) (nk + ms248) x1 x2 x3 x4 x5 hw hc hs _ _ _ hI (lv_sub hl [2, 3, 4, 5, 6, 7] rfl)
      · have hw := hw.2 c_1369
        refine lv_iconst (v := 0) hx hb dL_law_1372 (by decide) ?_
        exact hw.elim
  · have hw := hw.2 c_1352
    refine lv_iconst (v := 0) hx hb dL_law_1355 (by decide) ?_
    exact hw.elim
def wp_L_law_L1377 (G : GG) (L : Nat) (xs : Nat → Int32) (k28 : (HH) → (Nat) → (Nat) → (Nat) → (Nat) → (Nat) → (Nat) → (Int32) → Prop) (h : HH) (nc : Nat) (nk : Nat) (x1 : Nat) (x2 : Nat) (x3 : Nat) (x4 : Nat) (x5 : Int32) : Prop := (vp_in (x5 + (1 : Int32)) L ∧ (∃ mc260 ms260, nc + mc260 ≤ 1200144 ∧ nk + ms260 ≤ 5494714 ∧ wp_X0_factLine G mc260 ms260 h (some x1) (xs (Int32.toNatClampNeg (x5 + (1 : Int32)))) (some x3) (fun r261 h262 => (vp_in (x5 + (1 : Int32)) L ∧ w_ml G h262 x2 (fun ad263 F263 A263 U263 => wp_X4_factLine F263 A263 U263 (xs (Int32.toNatClampNeg (x5 + (1 : Int32)))) (fun r264 F266 A266 U266 => ∀ h265, ml_S G h265 ad263 F266 A266 U266 → ml_O ad263 h262 h265 → w_ml G h265 x2 (fun ad267 F267 A267 U267 => wp_X4_thrown F267 A267 U267 (fun r268 F270 A270 U270 => ∀ h269, ml_S G h269 ad267 F270 A270 U270 → ml_O ad267 h265 h269 → ((r268 = r261 → ((¬ r261 = 0 → wp_L_law_L2191 G L xs k28 h269 (nc + mc260) (nk + ms260) x1 x2 x3 x4 x5) ∧ (r261 = 0 → w_lld G h269 x3 (0 : Int32) (fun r271 => (((lg_cmp r271 (Int32.toInt64 r264)) = 0 → wp_L_law_L2191 G L xs k28 h269 (nc + mc260) (nk + ms260) x1 x2 x3 x4 x5) ∧ (¬ (lg_cmp r271 (Int32.toInt64 r264)) = 0 → False)))))) ∧ (¬ r268 = r261 → False))))))))))
set_option maxHeartbeats 4000000 in
theorem snd_L_law_L1377 {p : Program} {l : Launch} {e : Env} {s : State} {m : MethodId} {below : List Frame} {meth : Method} {c : Code} {h0 : HH} {b : Nat} {Q9 : State → Prop} (G : GG) (L : Nat) (xs : Nat → Int32) (hl0 : l.stackTraces = false) (hX0 : va_X b L xs s s.heap) (hbl : b < s.heap.size) (hbA : ¬ hv_A h0 s.heap.size b) (hret : la_Ret p l e s m below meth c b h0 Q9) (hE : hv_E p s m #[.ref b] meth c cL_law 9 ret R_law G h0) (k28 : (HH) → (Nat) → (Nat) → (Nat) → (Nat) → (Nat) → (Nat) → (Int32) → Prop) (hk28 : ∀ (h : HH) (nc : Nat) (nk : Nat) (x1 : Nat) (x2 : Nat) (x3 : Nat) (x4 : Nat) (x5 : Int32), k28 h nc nk x1 x2 x3 x4 x5 → nc ≤ 1200144 → nk ≤ 5494714 → ∀ (H : Heap) (locs : List Loc) (ls : Array Slot), hv_I G h0 s.heap h H locs → lv_has ls 9 [(0, .ref b), (1, .ref x1), (2, .ref x2), (3, .ref x3), (4, .ref x4), (5, .int x5)] → W p l e room_1 s m #[.ref b] below meth c H locs nc nk Q9 (F0 m 28 ls [])) : ∀ (h : HH) (nc : Nat) (nk : Nat) (x1 : Nat) (x2 : Nat) (x3 : Nat) (x4 : Nat) (x5 : Int32), wp_L_law_L1377 G L xs k28 h nc nk x1 x2 x3 x4 x5 → nc ≤ 1200144 → nk ≤ 5494714 → ∀ (H : Heap) (locs : List Loc) (ls : Array Slot), hv_I G h0 s.heap h H locs → lv_has ls 9 [(0, .ref b), (1, .ref x1), (2, .ref x2), (3, .ref x3), (4, .ref x4), (5, .int x5)] → W p l e room_1 s m #[.ref b] below meth c H locs nc nk Q9 (F0 m 1377 ls []) := by
  obtain ⟨⟨hx, hb, hml, hown, hts⟩, hr, hlocks, hXX⟩ := id hE
  intro h nc nk x1 x2 x3 x4 x5 hw hc hs H locs ls hI hl
  unfold wp_L_law_L1377 at hw
  refine lv_aload_n hx hb dL_law_1377 rfl (lv_at hl 1 rfl) ?_
  refine lv_aload_n hx hb dL_law_1378 rfl (lv_at hl 0 rfl) ?_
  refine lv_iload hx hb dL_law_1379 (lv_at hl 5 rfl) ?_
  refine lv_iconst (v := 1) hx hb dL_law_1381 (by decide) ?_
  refine lv_iadd hx hb dL_law_1382 ?_
  obtain ⟨hin, hw⟩ := hw
  refine va_sld hx hb hX0 hbl hbA hI.2.1 hin dL_law_1383 ?_
  refine lv_aload_n hx hb dL_law_1384 rfl (lv_at hl 3 rfl) ?_
  obtain ⟨mc260, ms260, hc, hs, hw⟩ := hw
  refine hv_rci hI (vx_runSW (As := [.ref x1, .int (xs (Int32.toNatClampNeg (x5 + (1 : Int32)))), .ref x3]) (rest := []) hE.1 (snd_X0_factLine l hl0 G _ mc260 ms260 h (some x1) (xs (Int32.toNatClampNeg (x5 + (1 : Int32)))) (some x3) _ hw) (vx_cwSW 3 hts (lw_SW q1740 q1741 q96 q1742) rfl rfl rfl (by decide +kernel) ⟨Nat.le_of_ble_eq_true rfl, Nat.le_of_ble_eq_true rfl⟩) (hv_preS hE hI) rfl rfl hl.1 rfl (lv_room (Nat.le_of_ble_eq_true rfl)) dL_law_1385 ⟨hc, hs⟩) (fun r261 h262 H locs hw hI => ?_)
  refine lv_istore (lv' := [(6, .int r261), (0, .ref b), (1, .ref x1), (2, .ref x2), (3, .ref x3), (4, .ref x4), (5, .int x5)]) hx hb dL_law_1388 hl (by decide) rfl (fun ls hl => ?_)
  refine lv_aload_n hx hb dL_law_1390 rfl (lv_at hl 3 rfl) ?_
  refine lv_aload_n hx hb dL_law_1391 rfl (lv_at hl 1 rfl) ?_
  refine lv_iload hx hb dL_law_1392 (lv_at hl 6 rfl) ?_
  refine lv_iconst (v := 1) hx hb dL_law_1394 (by decide) ?_
  refine lv_iadd hx hb dL_law_1395 ?_
  obtain ⟨hin, hw⟩ := hw
  refine va_sld hx hb hX0 hbl hbA hI.2.1 hin dL_law_1396 ?_
  obtain ⟨ad263, F263, A263, U263, hS263, hz, hw⟩ := hw
  have hM := snd_X4_factLine l G H.size h262 ad263 F263 A263 U263 (xs (Int32.toNatClampNeg (x5 + (1 : Int32)))) _ hS263 hw
  have hre := hS263.2.1
  rw [hz] at hM hre
  refine hv_rci hI (va_runV (As := [.int (xs (Int32.toNatClampNeg (x5 + (1 : Int32))))]) (b := x2) (rest := []) hE.1 hM (cwV 1 hts (lw_V q2411 q2412 q2413 q108 q2414) rfl rfl rfl (by decide +kernel) ⟨Nat.le_of_ble_eq_true rfl, Nat.le_of_ble_eq_true rfl⟩) (hv_preV hE hI (ci := 0) rfl hre) rfl rfl hl.1 rfl (lv_room (Nat.le_of_ble_eq_true rfl)) dL_law_1397 ⟨hc, hs⟩) (fun r264 h265 H locs hw hI => ?_)
  obtain ⟨F266, A266, U266, hS266, hO266, hw⟩ := hw
  have hw := hw h265 hS266 hO266
  refine lv_istore (lv' := [(7, .int r264), (6, .int r261), (0, .ref b), (1, .ref x1), (2, .ref x2), (3, .ref x3), (4, .ref x4), (5, .int x5)]) hx hb dL_law_1400 hl (by decide) rfl (fun ls hl => ?_)
  refine lv_aload_n hx hb dL_law_1402 rfl (lv_at hl 4 rfl) ?_
  obtain ⟨ad267, F267, A267, U267, hS267, hz, hw⟩ := hw
  have hM := snd_X4_thrown l G H.size h265 ad267 F267 A267 U267 _ hS267 hw
  have hre := hS267.2.1
  rw [hz] at hM hre
  refine hv_rci hI (va_runV (As := []) (b := x2) (rest := []) hE.1 hM (cwV 0 hts (lw_V q2098 q2099 q2100 q108 q2101) rfl rfl rfl (by decide +kernel) ⟨Nat.le_of_ble_eq_true rfl, Nat.le_of_ble_eq_true rfl⟩) (hv_preV hE hI (ci := 0) rfl hre) rfl rfl hl.1 rfl (lv_room (Nat.le_of_ble_eq_true rfl)) dL_law_1403 ⟨hc, hs⟩) (fun r268 h269 H locs hw hI => ?_)
  obtain ⟨F270, A270, U270, hS270, hO270, hw⟩ := hw
  have hw := hw h269 hS270 hO270
  refine lv_iload hx hb dL_law_1406 (lv_at hl 1 rfl) ?_
  refine lv_icmp_eq (tgt := 1413) hx hb dL_law_1408 (by decide) (fun c_1408 => ?_) (fun c_1408 => ?_)
  · have hw := hw.1 c_1408
    refine lv_iload hx hb dL_law_1413 (lv_at hl 1 rfl) ?_
    refine lv_if_ne (tgt := 1430) hx hb dL_law_1415 (by decide) (fun c_1415 => ?_) (fun c_1415 => ?_)
    · have hw := hw.1 c_1415
      refine lv_goto (tgt := 2191) hx hb dL_law_1430 (by decide) ?_
      exact snd_L_law_L2191 G L xs hl0 hX0 hbl hbA hret hE k28 hk28 h269 (nc + mc260) (nk + ms260) x1 x2 x3 x4 x5 hw hc hs _ _ _ hI (lv_sub hl [2, 3, 4, 5, 6, 7] rfl)
    · have hw := hw.2 c_1415
      refine lv_aload_n hx hb dL_law_1418 rfl (lv_at hl 5 rfl) ?_
      refine lv_iconst (v := 0) hx hb dL_law_1419 (by decide) ?_
      refine hv_wlld hE hI hw dL_law_1420 (fun r271 hw => ?_)
      refine lv_iload hx hb dL_law_1421 (lv_at hl 0 rfl) ?_
      refine lv_i2l (v := (Int32.toInt64 r264)) hx hb dL_law_1423 rfl ?_
      refine W.lcmp hx hb dL_law_1424 ?_
      refine lv_if_eq (tgt := 1430) hx hb dL_law_1425 (by decide) (fun c_1425 => ?_) (fun c_1425 => ?_)
      · have hw := hw.1 c_1425
        refine lv_goto (tgt := 2191) hx hb dL_law_1430 (by decide) ?_
        exact snd_L_law_L2191 G L xs hl0 hX0 hbl hbA hret hE k28 hk28 h269 (nc + mc260) (nk + ms260) x1 x2 x3 x4 x5 hw hc hs _ _ _ hI (lv_sub hl [2, 3, 4, 5, 6, 7] rfl)
      · have hw := hw.2 c_1425
        refine lv_iconst (v := 0) hx hb dL_law_1428 (by decide) ?_
        exact hw.elim
  · have hw := hw.2 c_1408
    refine lv_iconst (v := 0) hx hb dL_law_1411 (by decide) ?_
    exact hw.elim
def wp_L_law_L1433 (G : GG) (L : Nat) (xs : Nat → Int32) (k28 : (HH) → (Nat) → (Nat) → (Nat) → (Nat) → (Nat) → (Nat) → (Int32) → Prop) (h : HH) (nc : Nat) (nk : Nat) (x1 : Nat) (x2 : Nat) (x3 : Nat) (x4 : Nat) (x5 : Int32) : Prop := (vp_in (x5 + (1 : Int32)) L ∧ (∃ mc272 ms272, nc + mc272 ≤ 1200144 ∧ nk + ms272 ≤ 5494714 ∧ wp_X0_character G mc272 ms272 h (some x1) (xs (Int32.toNatClampNeg (x5 + (1 : Int32)))) (some x3) (fun r273 h274 => (vp_in (x5 + (1 : Int32)) L ∧ w_ml G h274 x2 (fun ad275 F275 A275 U275 => wp_X4_character F275 A275 U275 (xs (Int32.toNatClampNeg (x5 + (1 : Int32)))) (fun r276 F278 A278 U278 => ∀ h277, ml_S G h277 ad275 F278 A278 U278 → ml_O ad275 h274 h277 → w_ml G h277 x2 (fun ad279 F279 A279 U279 => wp_X4_thrown F279 A279 U279 (fun r280 F282 A282 U282 => ∀ h281, ml_S G h281 ad279 F282 A282 U282 → ml_O ad279 h277 h281 → ((r280 = r273 → ((¬ r273 = 0 → wp_L_law_L2191 G L xs k28 h281 (nc + mc272) (nk + ms272) x1 x2 x3 x4 x5) ∧ (r273 = 0 → w_lld G h281 x3 (0 : Int32) (fun r283 => (((lg_cmp r283 (Int32.toInt64 r276)) = 0 → wp_L_law_L2191 G L xs k28 h281 (nc + mc272) (nk + ms272) x1 x2 x3 x4 x5) ∧ (¬ (lg_cmp r283 (Int32.toInt64 r276)) = 0 → False)))))) ∧ (¬ r280 = r273 → False))))))))))
set_option maxHeartbeats 4000000 in
theorem snd_L_law_L1433 {p : Program} {l : Launch} {e : Env} {s : State} {m : MethodId} {below : List Frame} {meth : Method} {c : Code} {h0 : HH} {b : Nat} {Q9 : State → Prop} (G : GG) (L : Nat) (xs : Nat → Int32) (hl0 : l.stackTraces = false) (hX0 : va_X b L xs s s.heap) (hbl : b < s.heap.size) (hbA : ¬ hv_A h0 s.heap.size b) (hret : la_Ret p l e s m below meth c b h0 Q9) (hE : hv_E p s m #[.ref b] meth c cL_law 9 ret R_law G h0) (k28 : (HH) → (Nat) → (Nat) → (Nat) → (Nat) → (Nat) → (Nat) → (Int32) → Prop) (hk28 : ∀ (h : HH) (nc : Nat) (nk : Nat) (x1 : Nat) (x2 : Nat) (x3 : Nat) (x4 : Nat) (x5 : Int32), k28 h nc nk x1 x2 x3 x4 x5 → nc ≤ 1200144 → nk ≤ 5494714 → ∀ (H : Heap) (locs : List Loc) (ls : Array Slot), hv_I G h0 s.heap h H locs → lv_has ls 9 [(0, .ref b), (1, .ref x1), (2, .ref x2), (3, .ref x3), (4, .ref x4), (5, .int x5)] → W p l e room_1 s m #[.ref b] below meth c H locs nc nk Q9 (F0 m 28 ls [])) : ∀ (h : HH) (nc : Nat) (nk : Nat) (x1 : Nat) (x2 : Nat) (x3 : Nat) (x4 : Nat) (x5 : Int32), wp_L_law_L1433 G L xs k28 h nc nk x1 x2 x3 x4 x5 → nc ≤ 1200144 → nk ≤ 5494714 → ∀ (H : Heap) (locs : List Loc) (ls : Array Slot), hv_I G h0 s.heap h H locs → lv_has ls 9 [(0, .ref b), (1, .ref x1), (2, .ref x2), (3, .ref x3), (4, .ref x4), (5, .int x5)] → W p l e room_1 s m #[.ref b] below meth c H locs nc nk Q9 (F0 m 1433 ls []) := by
  obtain ⟨⟨hx, hb, hml, hown, hts⟩, hr, hlocks, hXX⟩ := id hE
  intro h nc nk x1 x2 x3 x4 x5 hw hc hs H locs ls hI hl
  unfold wp_L_law_L1433 at hw
  refine lv_aload_n hx hb dL_law_1433 rfl (lv_at hl 1 rfl) ?_
  refine lv_aload_n hx hb dL_law_1434 rfl (lv_at hl 0 rfl) ?_
  refine lv_iload hx hb dL_law_1435 (lv_at hl 5 rfl) ?_
  refine lv_iconst (v := 1) hx hb dL_law_1437 (by decide) ?_
  refine lv_iadd hx hb dL_law_1438 ?_
  obtain ⟨hin, hw⟩ := hw
  refine va_sld hx hb hX0 hbl hbA hI.2.1 hin dL_law_1439 ?_
  refine lv_aload_n hx hb dL_law_1440 rfl (lv_at hl 3 rfl) ?_
  obtain ⟨mc272, ms272, hc, hs, hw⟩ := hw
  refine hv_rci hI (vx_runSW (As := [.ref x1, .int (xs (Int32.toNatClampNeg (x5 + (1 : Int32)))), .ref x3]) (rest := []) hE.1 (snd_X0_character l hl0 G _ mc272 ms272 h (some x1) (xs (Int32.toNatClampNeg (x5 + (1 : Int32)))) (some x3) _ hw) (vx_cwSW 3 hts (lw_SW q1762 q1763 q96 q1764) rfl rfl rfl (by decide +kernel) ⟨Nat.le_of_ble_eq_true rfl, Nat.le_of_ble_eq_true rfl⟩) (hv_preS hE hI) rfl rfl hl.1 rfl (lv_room (Nat.le_of_ble_eq_true rfl)) dL_law_1441 ⟨hc, hs⟩) (fun r273 h274 H locs hw hI => ?_)
  refine lv_istore (lv' := [(6, .int r273), (0, .ref b), (1, .ref x1), (2, .ref x2), (3, .ref x3), (4, .ref x4), (5, .int x5)]) hx hb dL_law_1444 hl (by decide) rfl (fun ls hl => ?_)
  refine lv_aload_n hx hb dL_law_1446 rfl (lv_at hl 3 rfl) ?_
  refine lv_aload_n hx hb dL_law_1447 rfl (lv_at hl 1 rfl) ?_
  refine lv_iload hx hb dL_law_1448 (lv_at hl 6 rfl) ?_
  refine lv_iconst (v := 1) hx hb dL_law_1450 (by decide) ?_
  refine lv_iadd hx hb dL_law_1451 ?_
  obtain ⟨hin, hw⟩ := hw
  refine va_sld hx hb hX0 hbl hbA hI.2.1 hin dL_law_1452 ?_
  obtain ⟨ad275, F275, A275, U275, hS275, hz, hw⟩ := hw
  have hM := snd_X4_character l G H.size h274 ad275 F275 A275 U275 (xs (Int32.toNatClampNeg (x5 + (1 : Int32)))) _ hS275 hw
  have hre := hS275.2.1
  rw [hz] at hM hre
  refine hv_rci hI (va_runV (As := [.int (xs (Int32.toNatClampNeg (x5 + (1 : Int32))))]) (b := x2) (rest := []) hE.1 hM (cwV 1 hts (lw_V q2419 q2420 q2421 q108 q2422) rfl rfl rfl (by decide +kernel) ⟨Nat.le_of_ble_eq_true rfl, Nat.le_of_ble_eq_true rfl⟩) (hv_preV hE hI (ci := 0) rfl hre) rfl rfl hl.1 rfl (lv_room (Nat.le_of_ble_eq_true rfl)) dL_law_1453 ⟨hc, hs⟩) (fun r276 h277 H locs hw hI => ?_)
  obtain ⟨F278, A278, U278, hS278, hO278, hw⟩ := hw
  have hw := hw h277 hS278 hO278
  refine lv_istore (lv' := [(7, .int r276), (6, .int r273), (0, .ref b), (1, .ref x1), (2, .ref x2), (3, .ref x3), (4, .ref x4), (5, .int x5)]) hx hb dL_law_1456 hl (by decide) rfl (fun ls hl => ?_)
  refine lv_aload_n hx hb dL_law_1458 rfl (lv_at hl 4 rfl) ?_
  obtain ⟨ad279, F279, A279, U279, hS279, hz, hw⟩ := hw
  have hM := snd_X4_thrown l G H.size h277 ad279 F279 A279 U279 _ hS279 hw
  have hre := hS279.2.1
  rw [hz] at hM hre
  refine hv_rci hI (va_runV (As := []) (b := x2) (rest := []) hE.1 hM (cwV 0 hts (lw_V q2098 q2099 q2100 q108 q2101) rfl rfl rfl (by decide +kernel) ⟨Nat.le_of_ble_eq_true rfl, Nat.le_of_ble_eq_true rfl⟩) (hv_preV hE hI (ci := 0) rfl hre) rfl rfl hl.1 rfl (lv_room (Nat.le_of_ble_eq_true rfl)) dL_law_1459 ⟨hc, hs⟩) (fun r280 h281 H locs hw hI => ?_)
  obtain ⟨F282, A282, U282, hS282, hO282, hw⟩ := hw
  have hw := hw h281 hS282 hO282
  refine lv_iload hx hb dL_law_1462 (lv_at hl 1 rfl) ?_
  refine lv_icmp_eq (tgt := 1469) hx hb dL_law_1464 (by decide) (fun c_1464 => ?_) (fun c_1464 => ?_)
  · have hw := hw.1 c_1464
    refine lv_iload hx hb dL_law_1469 (lv_at hl 1 rfl) ?_
    refine lv_if_ne (tgt := 1486) hx hb dL_law_1471 (by decide) (fun c_1471 => ?_) (fun c_1471 => ?_)
    · have hw := hw.1 c_1471
      refine lv_goto (tgt := 2191) hx hb dL_law_1486 (by decide) ?_
      exact snd_L_law_L2191 G L xs hl0 hX0 hbl hbA hret hE k28 hk28 h281 (nc + mc272) (nk + ms272) x1 x2 x3 x4 x5 hw hc hs _ _ _ hI (lv_sub hl [2, 3, 4, 5, 6, 7] rfl)
    · have hw := hw.2 c_1471
      refine lv_aload_n hx hb dL_law_1474 rfl (lv_at hl 5 rfl) ?_
      refine lv_iconst (v := 0) hx hb dL_law_1475 (by decide) ?_
      refine hv_wlld hE hI hw dL_law_1476 (fun r283 hw => ?_)
      refine lv_iload hx hb dL_law_1477 (lv_at hl 0 rfl) ?_
      refine lv_i2l (v := (Int32.toInt64 r276)) hx hb dL_law_1479 rfl ?_
      refine W.lcmp hx hb dL_law_1480 ?_
      refine lv_if_eq (tgt := 1486) hx hb dL_law_1481 (by decide) (fun c_1481 => ?_) (fun c_1481 => ?_)
      · have hw := hw.1 c_1481
        refine lv_goto (tgt := 2191) hx hb dL_law_1486 (by decide) ?_
        exact snd_L_law_L2191 G L xs hl0 hX0 hbl hbA hret hE k28 hk28 h281 (nc + mc272) (nk + ms272) x1 x2 x3 x4 x5 hw hc hs _ _ _ hI (lv_sub hl [2, 3, 4, 5, 6, 7] rfl)
      · have hw := hw.2 c_1481
        refine lv_iconst (v := 0) hx hb dL_law_1484 (by decide) ?_
        exact hw.elim
  · have hw := hw.2 c_1464
    refine lv_iconst (v := 0) hx hb dL_law_1467 (by decide) ?_
    exact hw.elim
def wp_L_law_L1525 (G : GG) (L : Nat) (xs : Nat → Int32) (k28 : (HH) → (Nat) → (Nat) → (Nat) → (Nat) → (Nat) → (Nat) → (Int32) → Prop) (h : HH) (nc : Nat) (nk : Nat) (x1 : Nat) (x2 : Nat) (x3 : Nat) (x4 : Nat) (x5 : Int32) (x6 : Int32) (t0 : Nat) (t1 : Int32) : Prop := w_ml G h t0 (fun ad287 F287 A287 U287 => wp_X4_refusal F287 A287 U287 t1 (fun r288 F290 A290 U290 => ∀ h289, ml_S G h289 ad287 F290 A290 U290 → ml_O ad287 h h289 → w_ml G h289 x2 (fun ad291 F291 A291 U291 => wp_X4_thrown F291 A291 U291 (fun r292 F294 A294 U294 => ∀ h293, ml_S G h293 ad291 F294 A294 U294 → ml_O ad291 h289 h293 → ((r292 = x6 → ((¬ x6 = 0 → wp_L_law_L2191 G L xs k28 h293 nc nk x1 x2 x3 x4 x5) ∧ (x6 = 0 → w_lld G h293 x3 (0 : Int32) (fun r295 => (((lg_cmp r295 (Int32.toInt64 r288)) = 0 → wp_L_law_L2191 G L xs k28 h293 nc nk x1 x2 x3 x4 x5) ∧ (¬ (lg_cmp r295 (Int32.toInt64 r288)) = 0 → False)))))) ∧ (¬ r292 = x6 → False))))))
set_option maxHeartbeats 4000000 in
theorem snd_L_law_L1525 {p : Program} {l : Launch} {e : Env} {s : State} {m : MethodId} {below : List Frame} {meth : Method} {c : Code} {h0 : HH} {b : Nat} {Q9 : State → Prop} (G : GG) (L : Nat) (xs : Nat → Int32) (hl0 : l.stackTraces = false) (hX0 : va_X b L xs s s.heap) (hbl : b < s.heap.size) (hbA : ¬ hv_A h0 s.heap.size b) (hret : la_Ret p l e s m below meth c b h0 Q9) (hE : hv_E p s m #[.ref b] meth c cL_law 9 ret R_law G h0) (k28 : (HH) → (Nat) → (Nat) → (Nat) → (Nat) → (Nat) → (Nat) → (Int32) → Prop) (hk28 : ∀ (h : HH) (nc : Nat) (nk : Nat) (x1 : Nat) (x2 : Nat) (x3 : Nat) (x4 : Nat) (x5 : Int32), k28 h nc nk x1 x2 x3 x4 x5 → nc ≤ 1200144 → nk ≤ 5494714 → ∀ (H : Heap) (locs : List Loc) (ls : Array Slot), hv_I G h0 s.heap h H locs → lv_has ls 9 [(0, .ref b), (1, .ref x1), (2, .ref x2), (3, .ref x3), (4, .ref x4), (5, .int x5)] → W p l e room_1 s m #[.ref b] below meth c H locs nc nk Q9 (F0 m 28 ls [])) : ∀ (h : HH) (nc : Nat) (nk : Nat) (x1 : Nat) (x2 : Nat) (x3 : Nat) (x4 : Nat) (x5 : Int32) (x6 : Int32) (t0 : Nat) (t1 : Int32), wp_L_law_L1525 G L xs k28 h nc nk x1 x2 x3 x4 x5 x6 t0 t1 → nc ≤ 1200144 → nk ≤ 5494714 → ∀ (H : Heap) (locs : List Loc) (ls : Array Slot), hv_I G h0 s.heap h H locs → lv_has ls 9 [(0, .ref b), (1, .ref x1), (2, .ref x2), (3, .ref x3), (4, .ref x4), (5, .int x5), (6, .int x6)] → W p l e room_1 s m #[.ref b] below meth c H locs nc nk Q9 (F0 m 1525 ls [.int t1, .ref t0]) := by
  obtain ⟨⟨hx, hb, hml, hown, hts⟩, hr, hlocks, hXX⟩ := id hE
  intro h nc nk x1 x2 x3 x4 x5 x6 t0 t1 hw hc hs H locs ls hI hl
  unfold wp_L_law_L1525 at hw
  obtain ⟨ad287, F287, A287, U287, hS287, hz, hw⟩ := hw
  have hM := snd_X4_refusal l G H.size h ad287 F287 A287 U287 t1 _ hS287 hw
  have hre := hS287.2.1
  rw [hz] at hM hre
  refine hv_rci hI (va_runV (As := [.int t1]) (b := t0) (rest := []) hE.1 hM (cwV 1 hts (lw_V q2423 q2424 q2425 q108 q2426) rfl rfl rfl (by decide +kernel) ⟨Nat.le_of_ble_eq_true rfl, Nat.le_of_ble_eq_true rfl⟩) (hv_preV hE hI (ci := 0) rfl hre) rfl rfl hl.1 rfl (lv_room (Nat.le_of_ble_eq_true rfl)) dL_law_1525 ⟨hc, hs⟩) (fun r288 h289 H locs hw hI => ?_)
  obtain ⟨F290, A290, U290, hS290, hO290, hw⟩ := hw
  have hw := hw h289 hS290 hO290
  refine lv_istore (lv' := [(7, .int r288), (0, .ref b), (1, .ref x1), (2, .ref x2), (3, .ref x3), (4, .ref x4), (5, .int x5), (6, .int x6)]) hx hb dL_law_1528 hl (by decide) rfl (fun ls hl => ?_)
  refine lv_aload_n hx hb dL_law_1530 rfl (lv_at hl 3 rfl) ?_
  obtain ⟨ad291, F291, A291, U291, hS291, hz, hw⟩ := hw
  have hM := snd_X4_thrown l G H.size h289 ad291 F291 A291 U291 _ hS291 hw
  have hre := hS291.2.1
  rw [hz] at hM hre
  refine hv_rci hI (va_runV (As := []) (b := x2) (rest := []) hE.1 hM (cwV 0 hts (lw_V q2098 q2099 q2100 q108 q2101) rfl rfl rfl (by decide +kernel) ⟨Nat.le_of_ble_eq_true rfl, Nat.le_of_ble_eq_true rfl⟩) (hv_preV hE hI (ci := 0) rfl hre) rfl rfl hl.1 rfl (lv_room (Nat.le_of_ble_eq_true rfl)) dL_law_1531 ⟨hc, hs⟩) (fun r292 h293 H locs hw hI => ?_)
  obtain ⟨F294, A294, U294, hS294, hO294, hw⟩ := hw
  have hw := hw h293 hS294 hO294
  refine lv_iload hx hb dL_law_1534 (lv_at hl 7 rfl) ?_
  refine lv_icmp_eq (tgt := 1541) hx hb dL_law_1536 (by decide) (fun c_1536 => ?_) (fun c_1536 => ?_)
  · have hw := hw.1 c_1536
    refine lv_iload hx hb dL_law_1541 (lv_at hl 7 rfl) ?_
    refine lv_if_ne (tgt := 1558) hx hb dL_law_1543 (by decide) (fun c_1543 => ?_) (fun c_1543 => ?_)
    · have hw := hw.1 c_1543
      refine lv_goto (tgt := 2191) hx hb dL_law_1558 (by decide) ?_
      exact snd_L_law_L2191 G L xs hl0 hX0 hbl hbA hret hE k28 hk28 h293 nc nk x1 x2 x3 x4 x5 hw hc hs _ _ _ hI (lv_sub hl [1, 2, 3, 4, 5, 6] rfl)
    · have hw := hw.2 c_1543
      refine lv_aload_n hx hb dL_law_1546 rfl (lv_at hl 4 rfl) ?_
      refine lv_iconst (v := 0) hx hb dL_law_1547 (by decide) ?_
      refine hv_wlld hE hI hw dL_law_1548 (fun r295 hw => ?_)
      refine lv_iload hx hb dL_law_1549 (lv_at hl 0 rfl) ?_
      refine lv_i2l (v := (Int32.toInt64 r288)) hx hb dL_law_1551 rfl ?_
      refine W.lcmp hx hb dL_law_1552 ?_
      refine lv_if_eq (tgt := 1558) hx hb dL_law_1553 (by decide) (fun c_1553 => ?_) (fun c_1553 => ?_)
      · have hw := hw.1 c_1553
        refine lv_goto (tgt := 2191) hx hb dL_law_1558 (by decide) ?_
        exact snd_L_law_L2191 G L xs hl0 hX0 hbl hbA hret hE k28 hk28 h293 nc nk x1 x2 x3 x4 x5 hw hc hs _ _ _ hI (lv_sub hl [1, 2, 3, 4, 5, 6] rfl)
      · have hw := hw.2 c_1553
        refine lv_iconst (v := 0) hx hb dL_law_1556 (by decide) ?_
        exact hw.elim
  · have hw := hw.2 c_1536
    refine lv_iconst (v := 0) hx hb dL_law_1539 (by decide) ?_
    exact hw.elim
def wp_L_law_L1504 (G : GG) (L : Nat) (xs : Nat → Int32) (k28 : (HH) → (Nat) → (Nat) → (Nat) → (Nat) → (Nat) → (Nat) → (Int32) → Prop) (h : HH) (nc : Nat) (nk : Nat) (x1 : Nat) (x2 : Nat) (x3 : Nat) (x4 : Nat) (x5 : Int32) (t0 : Nat) (t1 : Int32) : Prop := (∃ mc284 ms284, nc + mc284 ≤ 1200144 ∧ nk + ms284 ≤ 5494714 ∧ wp_X0_refusal G mc284 ms284 h (some t0) t1 (some x3) (fun r285 h286 => (vp_in (x5 + (1 : Int32)) L ∧ (((xs (Int32.toNatClampNeg (x5 + (1 : Int32)))) = 0 → wp_L_law_L1525 G L xs k28 h286 (nc + mc284) (nk + ms284) x1 x2 x3 x4 x5 r285 x2 (0 : Int32)) ∧ (¬ (xs (Int32.toNatClampNeg (x5 + (1 : Int32)))) = 0 → wp_L_law_L1525 G L xs k28 h286 (nc + mc284) (nk + ms284) x1 x2 x3 x4 x5 r285 x2 (1 : Int32))))))
set_option maxHeartbeats 4000000 in
theorem snd_L_law_L1504 {p : Program} {l : Launch} {e : Env} {s : State} {m : MethodId} {below : List Frame} {meth : Method} {c : Code} {h0 : HH} {b : Nat} {Q9 : State → Prop} (G : GG) (L : Nat) (xs : Nat → Int32) (hl0 : l.stackTraces = false) (hX0 : va_X b L xs s s.heap) (hbl : b < s.heap.size) (hbA : ¬ hv_A h0 s.heap.size b) (hret : la_Ret p l e s m below meth c b h0 Q9) (hE : hv_E p s m #[.ref b] meth c cL_law 9 ret R_law G h0) (k28 : (HH) → (Nat) → (Nat) → (Nat) → (Nat) → (Nat) → (Nat) → (Int32) → Prop) (hk28 : ∀ (h : HH) (nc : Nat) (nk : Nat) (x1 : Nat) (x2 : Nat) (x3 : Nat) (x4 : Nat) (x5 : Int32), k28 h nc nk x1 x2 x3 x4 x5 → nc ≤ 1200144 → nk ≤ 5494714 → ∀ (H : Heap) (locs : List Loc) (ls : Array Slot), hv_I G h0 s.heap h H locs → lv_has ls 9 [(0, .ref b), (1, .ref x1), (2, .ref x2), (3, .ref x3), (4, .ref x4), (5, .int x5)] → W p l e room_1 s m #[.ref b] below meth c H locs nc nk Q9 (F0 m 28 ls [])) : ∀ (h : HH) (nc : Nat) (nk : Nat) (x1 : Nat) (x2 : Nat) (x3 : Nat) (x4 : Nat) (x5 : Int32) (t0 : Nat) (t1 : Int32), wp_L_law_L1504 G L xs k28 h nc nk x1 x2 x3 x4 x5 t0 t1 → nc ≤ 1200144 → nk ≤ 5494714 → ∀ (H : Heap) (locs : List Loc) (ls : Array Slot), hv_I G h0 s.heap h H locs → lv_has ls 9 [(0, .ref b), (1, .ref x1), (2, .ref x2), (3, .ref x3), (4, .ref x4), (5, .int x5)] → W p l e room_1 s m #[.ref b] below meth c H locs nc nk Q9 (F0 m 1504 ls [.int t1, .ref t0]) := by
  obtain ⟨⟨hx, hb, hml, hown, hts⟩, hr, hlocks, hXX⟩ := id hE
  intro h nc nk x1 x2 x3 x4 x5 t0 t1 hw hc hs H locs ls hI hl
  unfold wp_L_law_L1504 at hw
  refine lv_aload_n hx hb dL_law_1504 rfl (lv_at hl 3 rfl) ?_
  obtain ⟨mc284, ms284, hc, hs, hw⟩ := hw
  refine hv_rci hI (vx_runSW (As := [.ref t0, .int t1, .ref x3]) (rest := []) hE.1 (snd_X0_refusal l hl0 G _ mc284 ms284 h (some t0) t1 (some x3) _ hw) (vx_cwSW 3 hts (lw_SW q1771 q1772 q96 q1773) rfl rfl rfl (by decide +kernel) ⟨Nat.le_of_ble_eq_true rfl, Nat.le_of_ble_eq_true rfl⟩) (hv_preS hE hI) rfl rfl hl.1 rfl (lv_room (Nat.le_of_ble_eq_true rfl)) dL_law_1505 ⟨hc, hs⟩) (fun r285 h286 H locs hw hI => ?_)
  refine lv_istore (lv' := [(6, .int r285), (0, .ref b), (1, .ref x1), (2, .ref x2), (3, .ref x3), (4, .ref x4), (5, .int x5)]) hx hb dL_law_1508 hl (by decide) rfl (fun ls hl => ?_)
  refine lv_aload_n hx hb dL_law_1510 rfl (lv_at hl 3 rfl) ?_
  refine lv_aload_n hx hb dL_law_1511 rfl (lv_at hl 1 rfl) ?_
  refine lv_iload hx hb dL_law_1512 (lv_at hl 6 rfl) ?_
  refine lv_iconst (v := 1) hx hb dL_law_1514 (by decide) ?_
  refine lv_iadd hx hb dL_law_1515 ?_
  obtain ⟨hin, hw⟩ := hw
  refine va_sld hx hb hX0 hbl hbA hI.2.1 hin dL_law_1516 ?_
  refine lv_if_eq (tgt := 1524) hx hb dL_law_1517 (by decide) (fun c_1517 => ?_) (fun c_1517 => ?_)
  · have hw := hw.1 c_1517
    refine lv_iconst (v := 0) hx hb dL_law_1524 (by decide) ?_
    exact snd_L_law_L1525 G L xs hl0 hX0 hbl hbA hret hE k28 hk28 h286 (nc + mc284) (nk + ms284) x1 x2 x3 x4 x5 r285 x2 (0 : Int32) hw hc hs _ _ _ hI (lv_sub hl [1, 2, 3, 4, 5, 6, 0] rfl)
  · have hw := hw.2 c_1517
    refine lv_iconst (v := 1) hx hb dL_law_1520 (by decide) ?_
    refine lv_goto (tgt := 1525) hx hb dL_law_1521 (by decide) ?_
    exact snd_L_law_L1525 G L xs hl0 hX0 hbl hbA hret hE k28 hk28 h286 (nc + mc284) (nk + ms284) x1 x2 x3 x4 x5 r285 x2 (1 : Int32) hw hc hs _ _ _ hI (lv_sub hl [1, 2, 3, 4, 5, 6, 0] rfl)
def wp_L_law_L1489 (G : GG) (L : Nat) (xs : Nat → Int32) (k28 : (HH) → (Nat) → (Nat) → (Nat) → (Nat) → (Nat) → (Nat) → (Int32) → Prop) (h : HH) (nc : Nat) (nk : Nat) (x1 : Nat) (x2 : Nat) (x3 : Nat) (x4 : Nat) (x5 : Int32) : Prop := (vp_in (x5 + (1 : Int32)) L ∧ (((xs (Int32.toNatClampNeg (x5 + (1 : Int32)))) = 0 → wp_L_law_L1504 G L xs k28 h nc nk x1 x2 x3 x4 x5 x1 (0 : Int32)) ∧ (¬ (xs (Int32.toNatClampNeg (x5 + (1 : Int32)))) = 0 → wp_L_law_L1504 G L xs k28 h nc nk x1 x2 x3 x4 x5 x1 (1 : Int32))))
set_option maxHeartbeats 4000000 in
theorem snd_L_law_L1489 {p : Program} {l : Launch} {e : Env} {s : State} {m : MethodId} {below : List Frame} {meth : Method} {c : Code} {h0 : HH} {b : Nat} {Q9 : State → Prop} (G : GG) (L : Nat) (xs : Nat → Int32) (hl0 : l.stackTraces = false) (hX0 : va_X b L xs s s.heap) (hbl : b < s.heap.size) (hbA : ¬ hv_A h0 s.heap.size b) (hret : la_Ret p l e s m below meth c b h0 Q9) (hE : hv_E p s m #[.ref b] meth c cL_law 9 ret R_law G h0) (k28 : (HH) → (Nat) → (Nat) → (Nat) → (Nat) → (Nat) → (Nat) → (Int32) → Prop) (hk28 : ∀ (h : HH) (nc : Nat) (nk : Nat) (x1 : Nat) (x2 : Nat) (x3 : Nat) (x4 : Nat) (x5 : Int32), k28 h nc nk x1 x2 x3 x4 x5 → nc ≤ 1200144 → nk ≤ 5494714 → ∀ (H : Heap) (locs : List Loc) (ls : Array Slot), hv_I G h0 s.heap h H locs → lv_has ls 9 [(0, .ref b), (1, .ref x1), (2, .ref x2), (3, .ref x3), (4, .ref x4), (5, .int x5)] → W p l e room_1 s m #[.ref b] below meth c H locs nc nk Q9 (F0 m 28 ls [])) : ∀ (h : HH) (nc : Nat) (nk : Nat) (x1 : Nat) (x2 : Nat) (x3 : Nat) (x4 : Nat) (x5 : Int32), wp_L_law_L1489 G L xs k28 h nc nk x1 x2 x3 x4 x5 → nc ≤ 1200144 → nk ≤ 5494714 → ∀ (H : Heap) (locs : List Loc) (ls : Array Slot), hv_I G h0 s.heap h H locs → lv_has ls 9 [(0, .ref b), (1, .ref x1), (2, .ref x2), (3, .ref x3), (4, .ref x4), (5, .int x5)] → W p l e room_1 s m #[.ref b] below meth c H locs nc nk Q9 (F0 m 1489 ls []) := by
  obtain ⟨⟨hx, hb, hml, hown, hts⟩, hr, hlocks, hXX⟩ := id hE
  intro h nc nk x1 x2 x3 x4 x5 hw hc hs H locs ls hI hl
  unfold wp_L_law_L1489 at hw
  refine lv_aload_n hx hb dL_law_1489 rfl (lv_at hl 1 rfl) ?_
  refine lv_aload_n hx hb dL_law_1490 rfl (lv_at hl 0 rfl) ?_
  refine lv_iload hx hb dL_law_1491 (lv_at hl 5 rfl) ?_
  refine lv_iconst (v := 1) hx hb dL_law_1493 (by decide) ?_
  refine lv_iadd hx hb dL_law_1494 ?_
  obtain ⟨hin, hw⟩ := hw
  refine va_sld hx hb hX0 hbl hbA hI.2.1 hin dL_law_1495 ?_
  refine lv_if_eq (tgt := 1503) hx hb dL_law_1496 (by decide) (fun c_1496 => ?_) (fun c_1496 => ?_)
  · have hw := hw.1 c_1496
    refine lv_iconst (v := 0) hx hb dL_law_1503 (by decide) ?_
    exact snd_L_law_L1504 G L xs hl0 hX0 hbl hbA hret hE k28 hk28 h nc nk x1 x2 x3 x4 x5 x1 (0 : Int32) hw hc hs _ _ _ hI (lv_sub hl [0, 1, 2, 3, 4, 5] rfl)
  · have hw := hw.2 c_1496
    refine lv_iconst (v := 1) hx hb dL_law_1499 (by decide) ?_
    refine lv_goto (tgt := 1504) hx hb dL_law_1500 (by decide) ?_
    exact snd_L_law_L1504 G L xs hl0 hX0 hbl hbA hret hE k28 hk28 h nc nk x1 x2 x3 x4 x5 x1 (1 : Int32) hw hc hs _ _ _ hI (lv_sub hl [0, 1, 2, 3, 4, 5] rfl)
def wp_L_law_L1561 (G : GG) (L : Nat) (xs : Nat → Int32) (k28 : (HH) → (Nat) → (Nat) → (Nat) → (Nat) → (Nat) → (Nat) → (Int32) → Prop) (h : HH) (nc : Nat) (nk : Nat) (x1 : Nat) (x2 : Nat) (x3 : Nat) (x4 : Nat) (x5 : Int32) : Prop := (vp_in (x5 + (1 : Int32)) L ∧ (∃ mc296 ms296, nc + mc296 ≤ 1200144 ∧ nk + ms296 ≤ 5494714 ∧ wp_X0_account G mc296 ms296 h (some x1) (xs (Int32.toNatClampNeg (x5 + (1 : Int32)))) (some x3) (fun r297 h298 => (vp_in (x5 + (1 : Int32)) L ∧ w_ml G h298 x2 (fun ad299 F299 A299 U299 => wp_X4_account F299 A299 U299 (xs (Int32.toNatClampNeg (x5 + (1 : Int32)))) (fun r300 F302 A302 U302 => ∀ h301, ml_S G h301 ad299 F302 A302 U302 → ml_O ad299 h298 h301 → w_ml G h301 x2 (fun ad303 F303 A303 U303 => wp_X4_thrown F303 A303 U303 (fun r304 F306 A306 U306 => ∀ h305, ml_S G h305 ad303 F306 A306 U306 → ml_O ad303 h301 h305 → ((r304 = r297 → ((¬ r297 = 0 → wp_L_law_L2191 G L xs k28 h305 (nc + mc296) (nk + ms296) x1 x2 x3 x4 x5) ∧ (r297 = 0 → w_lld G h305 x3 (0 : Int32) (fun r307 => (((lg_cmp r307 (Int32.toInt64 r300)) = 0 → wp_L_law_L2191 G L xs k28 h305 (nc + mc296) (nk + ms296) x1 x2 x3 x4 x5) ∧ (¬ (lg_cmp r307 (Int32.toInt64 r300)) = 0 → False)))))) ∧ (¬ r304 = r297 → False))))))))))
set_option maxHeartbeats 4000000 in
theorem snd_L_law_L1561 {p : Program} {l : Launch} {e : Env} {s : State} {m : MethodId} {below : List Frame} {meth : Method} {c : Code} {h0 : HH} {b : Nat} {Q9 : State → Prop} (G : GG) (L : Nat) (xs : Nat → Int32) (hl0 : l.stackTraces = false) (hX0 : va_X b L xs s s.heap) (hbl : b < s.heap.size) (hbA : ¬ hv_A h0 s.heap.size b) (hret : la_Ret p l e s m below meth c b h0 Q9) (hE : hv_E p s m #[.ref b] meth c cL_law 9 ret R_law G h0) (k28 : (HH) → (Nat) → (Nat) → (Nat) → (Nat) → (Nat) → (Nat) → (Int32) → Prop) (hk28 : ∀ (h : HH) (nc : Nat) (nk : Nat) (x1 : Nat) (x2 : Nat) (x3 : Nat) (x4 : Nat) (x5 : Int32), k28 h nc nk x1 x2 x3 x4 x5 → nc ≤ 1200144 → nk ≤ 5494714 → ∀ (H : Heap) (locs : List Loc) (ls : Array Slot), hv_I G h0 s.heap h H locs → lv_has ls 9 [(0, .ref b), (1, .ref x1), (2, .ref x2), (3, .ref x3), (4, .ref x4), (5, .int x5)] → W p l e room_1 s m #[.ref b] below meth c H locs nc nk Q9 (F0 m 28 ls [])) : ∀ (h : HH) (nc : Nat) (nk : Nat) (x1 : Nat) (x2 : Nat) (x3 : Nat) (x4 : Nat) (x5 : Int32), wp_L_law_L1561 G L xs k28 h nc nk x1 x2 x3 x4 x5 → nc ≤ 1200144 → nk ≤ 5494714 → ∀ (H : Heap) (locs : List Loc) (ls : Array Slot), hv_I G h0 s.heap h H locs → lv_has ls 9 [(0, .ref b), (1, .ref x1), (2, .ref x2), (3, .ref x3), (4, .ref x4), (5, .int x5)] → W p l e room_1 s m #[.ref b] below meth c H locs nc nk Q9 (F0 m 1561 ls []) := by
  obtain ⟨⟨hx, hb, hml, hown, hts⟩, hr, hlocks, hXX⟩ := id hE
  intro h nc nk x1 x2 x3 x4 x5 hw hc hs H locs ls hI hl
  unfold wp_L_law_L1561 at hw
  refine lv_aload_n hx hb dL_law_1561 rfl (lv_at hl 1 rfl) ?_
  refine lv_aload_n hx hb dL_law_1562 rfl (lv_at hl 0 rfl) ?_
  refine lv_iload hx hb dL_law_1563 (lv_at hl 5 rfl) ?_
  refine lv_iconst (v := 1) hx hb dL_law_1565 (by decide) ?_
  refine lv_iadd hx hb dL_law_1566 ?_
  obtain ⟨hin, hw⟩ := hw
  refine va_sld hx hb hX0 hbl hbA hI.2.1 hin dL_law_1567 ?_
  refine lv_aload_n hx hb dL_law_1568 rfl (lv_at hl 3 rfl) ?_
  obtain ⟨mc296, ms296, hc, hs, hw⟩ := hw
  refine hv_rci hI (vx_runSW (As := [.ref x1, .int (xs (Int32.toNatClampNeg (x5 + (1 : Int32)))), .ref x3]) (rest := []) hE.1 (snd_X0_account l hl0 G _ mc296 ms296 h (some x1) (xs (Int32.toNatClampNeg (x5 + (1 : Int32)))) (some x3) _ hw) (vx_cwSW 3 hts (lw_SW q1784 q1785 q96 q1786) rfl rfl rfl (by decide +kernel) ⟨Nat.le_of_ble_eq_true rfl, Nat.le_of_ble_eq_true rfl⟩) (hv_preS hE hI) rfl rfl hl.1 rfl (lv_room (Nat.le_of_ble_eq_true rfl)) dL_law_1569 ⟨hc, hs⟩) (fun r297 h298 H locs hw hI => ?_)
  refine lv_istore (lv' := [(6, .int r297), (0, .ref b), (1, .ref x1), (2, .ref x2), (3, .ref x3), (4, .ref x4), (5, .int x5)]) hx hb dL_law_1572 hl (by decide) rfl (fun ls hl => ?_)
  refine lv_aload_n hx hb dL_law_1574 rfl (lv_at hl 3 rfl) ?_
  refine lv_aload_n hx hb dL_law_1575 rfl (lv_at hl 1 rfl) ?_
  refine lv_iload hx hb dL_law_1576 (lv_at hl 6 rfl) ?_
  refine lv_iconst (v := 1) hx hb dL_law_1578 (by decide) ?_
  refine lv_iadd hx hb dL_law_1579 ?_
  obtain ⟨hin, hw⟩ := hw
  refine va_sld hx hb hX0 hbl hbA hI.2.1 hin dL_law_1580 ?_
  obtain ⟨ad299, F299, A299, U299, hS299, hz, hw⟩ := hw
  have hM := snd_X4_account l G H.size h298 ad299 F299 A299 U299 (xs (Int32.toNatClampNeg (x5 + (1 : Int32)))) _ hS299 hw
  have hre := hS299.2.1
  rw [hz] at hM hre
  refine hv_rci hI (va_runV (As := [.int (xs (Int32.toNatClampNeg (x5 + (1 : Int32))))]) (b := x2) (rest := []) hE.1 hM (cwV 1 hts (lw_V q2427 q2428 q2429 q108 q2430) rfl rfl rfl (by decide +kernel) ⟨Nat.le_of_ble_eq_true rfl, Nat.le_of_ble_eq_true rfl⟩) (hv_preV hE hI (ci := 0) rfl hre) rfl rfl hl.1 rfl (lv_room (Nat.le_of_ble_eq_true rfl)) dL_law_1581 ⟨hc, hs⟩) (fun r300 h301 H locs hw hI => ?_)
  obtain ⟨F302, A302, U302, hS302, hO302, hw⟩ := hw
  have hw := hw h301 hS302 hO302
  refine lv_istore (lv' := [(7, .int r300), (6, .int r297), (0, .ref b), (1, .ref x1), (2, .ref x2), (3, .ref x3), (4, .ref x4), (5, .int x5)]) hx hb dL_law_1584 hl (by decide) rfl (fun ls hl => ?_)
  refine lv_aload_n hx hb dL_law_1586 rfl (lv_at hl 4 rfl) ?_
  obtain ⟨ad303, F303, A303, U303, hS303, hz, hw⟩ := hw
  have hM := snd_X4_thrown l G H.size h301 ad303 F303 A303 U303 _ hS303 hw
  have hre := hS303.2.1
  rw [hz] at hM hre
  refine hv_rci hI (va_runV (As := []) (b := x2) (rest := []) hE.1 hM (cwV 0 hts (lw_V q2098 q2099 q2100 q108 q2101) rfl rfl rfl (by decide +kernel) ⟨Nat.le_of_ble_eq_true rfl, Nat.le_of_ble_eq_true rfl⟩) (hv_preV hE hI (ci := 0) rfl hre) rfl rfl hl.1 rfl (lv_room (Nat.le_of_ble_eq_true rfl)) dL_law_1587 ⟨hc, hs⟩) (fun r304 h305 H locs hw hI => ?_)
  obtain ⟨F306, A306, U306, hS306, hO306, hw⟩ := hw
  have hw := hw h305 hS306 hO306
  refine lv_iload hx hb dL_law_1590 (lv_at hl 1 rfl) ?_
  refine lv_icmp_eq (tgt := 1597) hx hb dL_law_1592 (by decide) (fun c_1592 => ?_) (fun c_1592 => ?_)
  · have hw := hw.1 c_1592
    refine lv_iload hx hb dL_law_1597 (lv_at hl 1 rfl) ?_
    refine lv_if_ne (tgt := 1614) hx hb dL_law_1599 (by decide) (fun c_1599 => ?_) (fun c_1599 => ?_)
    · have hw := hw.1 c_1599
      refine lv_goto (tgt := 2191) hx hb dL_law_1614 (by decide) ?_
      exact snd_L_law_L2191 G L xs hl0 hX0 hbl hbA hret hE k28 hk28 h305 (nc + mc296) (nk + ms296) x1 x2 x3 x4 x5 hw hc hs _ _ _ hI (lv_sub hl [2, 3, 4, 5, 6, 7] rfl)
    · have hw := hw.2 c_1599
      refine lv_aload_n hx hb dL_law_1602 rfl (lv_at hl 5 rfl) ?_
      refine lv_iconst (v := 0) hx hb dL_law_1603 (by decide) ?_
      refine hv_wlld hE hI hw dL_law_1604 (fun r307 hw => ?_)
      refine lv_iload hx hb dL_law_1605 (lv_at hl 0 rfl) ?_
      refine lv_i2l (v := (Int32.toInt64 r300)) hx hb dL_law_1607 rfl ?_
      refine W.lcmp hx hb dL_law_1608 ?_
      refine lv_if_eq (tgt := 1614) hx hb dL_law_1609 (by decide) (fun c_1609 => ?_) (fun c_1609 => ?_)
      · have hw := hw.1 c_1609
        refine lv_goto (tgt := 2191) hx hb dL_law_1614 (by decide) ?_
        exact snd_L_law_L2191 G L xs hl0 hX0 hbl hbA hret hE k28 hk28 h305 (nc + mc296) (nk + ms296) x1 x2 x3 x4 x5 hw hc hs _ _ _ hI (lv_sub hl [2, 3, 4, 5, 6, 7] rfl)
      · have hw := hw.2 c_1609
        refine lv_iconst (v := 0) hx hb dL_law_1612 (by decide) ?_
        exact hw.elim
  · have hw := hw.2 c_1592
    refine lv_iconst (v := 0) hx hb dL_law_1595 (by decide) ?_
    exact hw.elim
def wp_L_law_L1617 (G : GG) (L : Nat) (xs : Nat → Int32) (k28 : (HH) → (Nat) → (Nat) → (Nat) → (Nat) → (Nat) → (Nat) → (Int32) → Prop) (h : HH) (nc : Nat) (nk : Nat) (x1 : Nat) (x2 : Nat) (x3 : Nat) (x4 : Nat) (x5 : Int32) : Prop := (∃ mc308 ms308, nc + mc308 ≤ 1200144 ∧ nk + ms308 ≤ 5494714 ∧ wp_X0_meanTrust G mc308 ms308 h (some x1) (some x4) (fun r309 h310 => w_ml G h310 x2 (fun ad311 F311 A311 U311 => wp_X4_meanTrust F311 A311 U311 (fun r312 F314 A314 U314 => ∀ h313, ml_S G h313 ad311 F314 A314 U314 → ml_O ad311 h310 h313 → w_ml G h313 x2 (fun ad315 F315 A315 U315 => wp_X4_thrown F315 A315 U315 (fun r316 F318 A318 U318 => ∀ h317, ml_S G h317 ad315 F318 A318 U318 → ml_O ad315 h313 h317 → ((r316 = r309 → ((¬ r309 = 0 → wp_L_law_L2191 G L xs k28 h317 (nc + mc308) (nk + ms308) x1 x2 x3 x4 x5) ∧ (r309 = 0 → w_dld G h317 x4 (0 : Int32) (fun r319 => (((Op.cmpValue (FP.dcmp r319 r312) .l) = 0 → wp_L_law_L2191 G L xs k28 h317 (nc + mc308) (nk + ms308) x1 x2 x3 x4 x5) ∧ (¬ (Op.cmpValue (FP.dcmp r319 r312) .l) = 0 → w_dld G h317 x4 (0 : Int32) (fun r320 => w_dld G h317 x4 (0 : Int32) (fun r321 => (((Op.cmpValue (FP.dcmp r320 r321) .l) = 0 → False) ∧ (¬ (Op.cmpValue (FP.dcmp r320 r321) .l) = 0 → ((¬ (Op.cmpValue (FP.dcmp r312 r312) .l) = 0 → wp_L_law_L2191 G L xs k28 h317 (nc + mc308) (nk + ms308) x1 x2 x3 x4 x5) ∧ ((Op.cmpValue (FP.dcmp r312 r312) .l) = 0 → False)))))))))))) ∧ (¬ r316 = r309 → False))))))))
set_option maxHeartbeats 4000000 in
theorem snd_L_law_L1617 {p : Program} {l : Launch} {e : Env} {s : State} {m : MethodId} {below : List Frame} {meth : Method} {c : Code} {h0 : HH} {b : Nat} {Q9 : State → Prop} (G : GG) (L : Nat) (xs : Nat → Int32) (hl0 : l.stackTraces = false) (hX0 : va_X b L xs s s.heap) (hbl : b < s.heap.size) (hbA : ¬ hv_A h0 s.heap.size b) (hret : la_Ret p l e s m below meth c b h0 Q9) (hE : hv_E p s m #[.ref b] meth c cL_law 9 ret R_law G h0) (k28 : (HH) → (Nat) → (Nat) → (Nat) → (Nat) → (Nat) → (Nat) → (Int32) → Prop) (hk28 : ∀ (h : HH) (nc : Nat) (nk : Nat) (x1 : Nat) (x2 : Nat) (x3 : Nat) (x4 : Nat) (x5 : Int32), k28 h nc nk x1 x2 x3 x4 x5 → nc ≤ 1200144 → nk ≤ 5494714 → ∀ (H : Heap) (locs : List Loc) (ls : Array Slot), hv_I G h0 s.heap h H locs → lv_has ls 9 [(0, .ref b), (1, .ref x1), (2, .ref x2), (3, .ref x3), (4, .ref x4), (5, .int x5)] → W p l e room_1 s m #[.ref b] below meth c H locs nc nk Q9 (F0 m 28 ls [])) : ∀ (h : HH) (nc : Nat) (nk : Nat) (x1 : Nat) (x2 : Nat) (x3 : Nat) (x4 : Nat) (x5 : Int32), wp_L_law_L1617 G L xs k28 h nc nk x1 x2 x3 x4 x5 → nc ≤ 1200144 → nk ≤ 5494714 → ∀ (H : Heap) (locs : List Loc) (ls : Array Slot), hv_I G h0 s.heap h H locs → lv_has ls 9 [(0, .ref b), (1, .ref x1), (2, .ref x2), (3, .ref x3), (4, .ref x4), (5, .int x5)] → W p l e room_1 s m #[.ref b] below meth c H locs nc nk Q9 (F0 m 1617 ls []) := by
  obtain ⟨⟨hx, hb, hml, hown, hts⟩, hr, hlocks, hXX⟩ := id hE
  intro h nc nk x1 x2 x3 x4 x5 hw hc hs H locs ls hI hl
  unfold wp_L_law_L1617 at hw
  refine lv_aload_n hx hb dL_law_1617 rfl (lv_at hl 1 rfl) ?_
  refine lv_aload hx hb dL_law_1618 (lv_at hl 4 rfl) ?_
  obtain ⟨mc308, ms308, hc, hs, hw⟩ := hw
  refine hv_rci hI (vx_runSW (As := [.ref x1, .ref x4]) (rest := []) hE.1 (snd_X0_meanTrust l hl0 G _ mc308 ms308 h (some x1) (some x4) _ hw) (vx_cwSW 2 hts (lw_SW q1801 q1802 q96 q1803) rfl rfl rfl (by decide +kernel) ⟨Nat.le_of_ble_eq_true rfl, Nat.le_of_ble_eq_true rfl⟩) (hv_preS hE hI) rfl rfl hl.1 rfl (lv_room (Nat.le_of_ble_eq_true rfl)) dL_law_1620 ⟨hc, hs⟩) (fun r309 h310 H locs hw hI => ?_)
  refine lv_istore (lv' := [(6, .int r309), (0, .ref b), (1, .ref x1), (2, .ref x2), (3, .ref x3), (4, .ref x4), (5, .int x5)]) hx hb dL_law_1623 hl (by decide) rfl (fun ls hl => ?_)
  refine lv_aload_n hx hb dL_law_1625 rfl (lv_at hl 3 rfl) ?_
  obtain ⟨ad311, F311, A311, U311, hS311, hz, hw⟩ := hw
  have hM := snd_X4_meanTrust l G H.size h310 ad311 F311 A311 U311 _ hS311 hw
  have hre := hS311.2.1
  rw [hz] at hM hre
  refine hv_rcd hI (va_runV (As := []) (b := x2) (rest := []) hE.1 hM (cwV 0 hts (lw_V q2447 q2448 q2449 q108 q2450) rfl rfl rfl (by decide +kernel) ⟨Nat.le_of_ble_eq_true rfl, Nat.le_of_ble_eq_true rfl⟩) (hv_preV hE hI (ci := 0) rfl hre) rfl rfl hl.1 rfl (lv_room (Nat.le_of_ble_eq_true rfl)) dL_law_1626 ⟨hc, hs⟩) (fun r312 h313 H locs hw hI => ?_)
  obtain ⟨F314, A314, U314, hS314, hO314, hw⟩ := hw
  have hw := hw h313 hS314 hO314
  refine lv_dstore (lv' := [(7, .double r312), (6, .int r309), (0, .ref b), (1, .ref x1), (2, .ref x2), (3, .ref x3), (4, .ref x4), (5, .int x5)]) hx hb dL_law_1629 hl (by decide) rfl (fun ls hl => ?_)
  refine lv_aload_n hx hb dL_law_1631 rfl (lv_at hl 4 rfl) ?_
  obtain ⟨ad315, F315, A315, U315, hS315, hz, hw⟩ := hw
  have hM := snd_X4_thrown l G H.size h313 ad315 F315 A315 U315 _ hS315 hw
  have hre := hS315.2.1
  rw [hz] at hM hre
  refine hv_rci hI (va_runV (As := []) (b := x2) (rest := []) hE.1 hM (cwV 0 hts (lw_V q2098 q2099 q2100 q108 q2101) rfl rfl rfl (by decide +kernel) ⟨Nat.le_of_ble_eq_true rfl, Nat.le_of_ble_eq_true rfl⟩) (hv_preV hE hI (ci := 0) rfl hre) rfl rfl hl.1 rfl (lv_room (Nat.le_of_ble_eq_true rfl)) dL_law_1632 ⟨hc, hs⟩) (fun r316 h317 H locs hw hI => ?_)
  obtain ⟨F318, A318, U318, hS318, hO318, hw⟩ := hw
  have hw := hw h317 hS318 hO318
  refine lv_iload hx hb dL_law_1635 (lv_at hl 1 rfl) ?_
  refine lv_icmp_eq (tgt := 1642) hx hb dL_law_1637 (by decide) (fun c_1637 => ?_) (fun c_1637 => ?_)
  · have hw := hw.1 c_1637
    refine lv_iload hx hb dL_law_1642 (lv_at hl 1 rfl) ?_
    refine lv_if_ne (tgt := 1679) hx hb dL_law_1644 (by decide) (fun c_1644 => ?_) (fun c_1644 => ?_)
    · have hw := hw.1 c_1644
      refine lv_goto (tgt := 2191) hx hb dL_law_1679 (by decide) ?_
      exact snd_L_law_L2191 G L xs hl0 hX0 hbl hbA hret hE k28 hk28 h317 (nc + mc308) (nk + ms308) x1 x2 x3 x4 x5 hw hc hs _ _ _ hI (lv_sub hl [2, 3, 4, 5, 6, 7] rfl)
    · have hw := hw.2 c_1644
      refine lv_aload hx hb dL_law_1647 (lv_at hl 6 rfl) ?_
      refine lv_iconst (v := 0) hx hb dL_law_1649 (by decide) ?_
      refine hv_wdld hE hI hw dL_law_1650 (fun r319 hw => ?_)
      refine lv_dload hx hb dL_law_1651 (lv_at hl 0 rfl) ?_
      refine lv_dcmp hx hb dL_law_1653 ?_
      refine lv_if_eq (tgt := 1679) hx hb dL_law_1654 (by decide) (fun c_1654 => ?_) (fun c_1654 => ?_)
      · have hw := hw.1 c_1654
        refine lv_goto (tgt := 2191) hx hb dL_law_1679 (by decide) ?_
        exact snd_L_law_L2191 G L xs hl0 hX0 hbl hbA hret hE k28 hk28 h317 (nc + mc308) (nk + ms308) x1 x2 x3 x4 x5 hw hc hs _ _ _ hI (lv_sub hl [2, 3, 4, 5, 6, 7] rfl)
      · have hw := hw.2 c_1654
        refine lv_aload hx hb dL_law_1657 (lv_at hl 6 rfl) ?_
        refine lv_iconst (v := 0) hx hb dL_law_1659 (by decide) ?_
        refine hv_wdld hE hI hw dL_law_1660 (fun r320 hw => ?_)
        refine lv_aload hx hb dL_law_1661 (lv_at hl 6 rfl) ?_
        refine lv_iconst (v := 0) hx hb dL_law_1663 (by decide) ?_
        refine hv_wdld hE hI hw dL_law_1664 (fun r321 hw => ?_)
        refine lv_dcmp hx hb dL_law_1665 ?_
        refine lv_if_eq (tgt := 1677) hx hb dL_law_1666 (by decide) (fun c_1666 => ?_) (fun c_1666 => ?_)
        · have hw := hw.1 c_1666
          refine lv_iconst (v := 0) hx hb dL_law_1677 (by decide) ?_
          exact hw.elim
        · have hw := hw.2 c_1666
          refine lv_dload hx hb dL_law_1669 (lv_at hl 0 rfl) ?_
          refine lv_dload hx hb dL_law_1671 (lv_at hl 0 rfl) ?_
          refine lv_dcmp hx hb dL_law_1673 ?_
          refine lv_if_ne (tgt := 1679) hx hb dL_law_1674 (by decide) (fun c_1674 => ?_) (fun c_1674 => ?_)
          · have hw := hw.1 c_1674
            refine lv_goto (tgt := 2191) hx hb dL_law_1679 (by decide) ?_
            exact snd_L_law_L2191 G L xs hl0 hX0 hbl hbA hret hE k28 hk28 h317 (nc + mc308) (nk + ms308) x1 x2 x3 x4 x5 hw hc hs _ _ _ hI (lv_sub hl [2, 3, 4, 5, 6, 7] rfl)
          · have hw := hw.2 c_1674
            refine lv_iconst (v := 0) hx hb dL_law_1677 (by decide) ?_
            exact hw.elim
  · have hw := hw.2 c_1637
    refine lv_iconst (v := 0) hx hb dL_law_1640 (by decide) ?_
    exact hw.elim
def wp_L_law_L1730 (G : GG) (L : Nat) (xs : Nat → Int32) (k28 : (HH) → (Nat) → (Nat) → (Nat) → (Nat) → (Nat) → (Nat) → (Int32) → Prop) (h : HH) (nc : Nat) (nk : Nat) (x1 : Nat) (x2 : Nat) (x3 : Nat) (x4 : Nat) (x5 : Int32) (x6 : Int32) (t0 : Nat) (t1 : Int32) (t2 : Int32) : Prop := w_ml G h t0 (fun ad325 F325 A325 U325 => wp_X4_store F325 A325 U325 t1 t2 (fun r326 F328 A328 U328 => ∀ h327, ml_S G h327 ad325 F328 A328 U328 → ml_O ad325 h h327 → w_ml G h327 x2 (fun ad329 F329 A329 U329 => wp_X4_thrown F329 A329 U329 (fun r330 F332 A332 U332 => ∀ h331, ml_S G h331 ad329 F332 A332 U332 → ml_O ad329 h327 h331 → ((r330 = x6 → ((¬ x6 = 0 → wp_L_law_L2191 G L xs k28 h331 nc nk x1 x2 x3 x4 x5) ∧ (x6 = 0 → w_lld G h331 x3 (0 : Int32) (fun r333 => (((lg_cmp r333 (Int32.toInt64 r326)) = 0 → wp_L_law_L2191 G L xs k28 h331 nc nk x1 x2 x3 x4 x5) ∧ (¬ (lg_cmp r333 (Int32.toInt64 r326)) = 0 → False)))))) ∧ (¬ r330 = x6 → False))))))
set_option maxHeartbeats 4000000 in
theorem snd_L_law_L1730 {p : Program} {l : Launch} {e : Env} {s : State} {m : MethodId} {below : List Frame} {meth : Method} {c : Code} {h0 : HH} {b : Nat} {Q9 : State → Prop} (G : GG) (L : Nat) (xs : Nat → Int32) (hl0 : l.stackTraces = false) (hX0 : va_X b L xs s s.heap) (hbl : b < s.heap.size) (hbA : ¬ hv_A h0 s.heap.size b) (hret : la_Ret p l e s m below meth c b h0 Q9) (hE : hv_E p s m #[.ref b] meth c cL_law 9 ret R_law G h0) (k28 : (HH) → (Nat) → (Nat) → (Nat) → (Nat) → (Nat) → (Nat) → (Int32) → Prop) (hk28 : ∀ (h : HH) (nc : Nat) (nk : Nat) (x1 : Nat) (x2 : Nat) (x3 : Nat) (x4 : Nat) (x5 : Int32), k28 h nc nk x1 x2 x3 x4 x5 → nc ≤ 1200144 → nk ≤ 5494714 → ∀ (H : Heap) (locs : List Loc) (ls : Array Slot), hv_I G h0 s.heap h H locs → lv_has ls 9 [(0, .ref b), (1, .ref x1), (2, .ref x2), (3, .ref x3), (4, .ref x4), (5, .int x5)] → W p l e room_1 s m #[.ref b] below meth c H locs nc nk Q9 (F0 m 28 ls [])) : ∀ (h : HH) (nc : Nat) (nk : Nat) (x1 : Nat) (x2 : Nat) (x3 : Nat) (x4 : Nat) (x5 : Int32) (x6 : Int32) (t0 : Nat) (t1 : Int32) (t2 : Int32), wp_L_law_L1730 G L xs k28 h nc nk x1 x2 x3 x4 x5 x6 t0 t1 t2 → nc ≤ 1200144 → nk ≤ 5494714 → ∀ (H : Heap) (locs : List Loc) (ls : Array Slot), hv_I G h0 s.heap h H locs → lv_has ls 9 [(0, .ref b), (1, .ref x1), (2, .ref x2), (3, .ref x3), (4, .ref x4), (5, .int x5), (6, .int x6)] → W p l e room_1 s m #[.ref b] below meth c H locs nc nk Q9 (F0 m 1730 ls [.int t2, .int t1, .ref t0]) := by
  obtain ⟨⟨hx, hb, hml, hown, hts⟩, hr, hlocks, hXX⟩ := id hE
  intro h nc nk x1 x2 x3 x4 x5 x6 t0 t1 t2 hw hc hs H locs ls hI hl
  unfold wp_L_law_L1730 at hw
  obtain ⟨ad325, F325, A325, U325, hS325, hz, hw⟩ := hw
  have hM := snd_X4_store l G H.size h ad325 F325 A325 U325 t1 t2 _ hS325 hw
  have hre := hS325.2.1
  rw [hz] at hM hre
  refine hv_rci hI (va_runV (As := [.int t1, .int t2]) (b := t0) (rest := []) hE.1 hM (cwV 2 hts (lw_V q2451 q2452 q2453 q108 q2454) rfl rfl rfl (by decide +kernel) ⟨Nat.le_of_ble_eq_true rfl, Nat.le_of_ble_eq_true rfl⟩) (hv_preV hE hI (ci := 0) rfl hre) rfl rfl hl.1 rfl (lv_room (Nat.le_of_ble_eq_true rfl)) dL_law_1730 ⟨hc, hs⟩) (fun r326 h327 H locs hw hI => ?_)
  obtain ⟨F328, A328, U328, hS328, hO328, hw⟩ := hw
  have hw := hw h327 hS328 hO328
  refine lv_istore (lv' := [(7, .int r326), (0, .ref b), (1, .ref x1), (2, .ref x2), (3, .ref x3), (4, .ref x4), (5, .int x5), (6, .int x6)]) hx hb dL_law_1733 hl (by decide) rfl (fun ls hl => ?_)
  refine lv_aload_n hx hb dL_law_1735 rfl (lv_at hl 3 rfl) ?_
  obtain ⟨ad329, F329, A329, U329, hS329, hz, hw⟩ := hw
  have hM := snd_X4_thrown l G H.size h327 ad329 F329 A329 U329 _ hS329 hw
  have hre := hS329.2.1
  rw [hz] at hM hre
  refine hv_rci hI (va_runV (As := []) (b := x2) (rest := []) hE.1 hM (cwV 0 hts (lw_V q2098 q2099 q2100 q108 q2101) rfl rfl rfl (by decide +kernel) ⟨Nat.le_of_ble_eq_true rfl, Nat.le_of_ble_eq_true rfl⟩) (hv_preV hE hI (ci := 0) rfl hre) rfl rfl hl.1 rfl (lv_room (Nat.le_of_ble_eq_true rfl)) dL_law_1736 ⟨hc, hs⟩) (fun r330 h331 H locs hw hI => ?_)
  obtain ⟨F332, A332, U332, hS332, hO332, hw⟩ := hw
  have hw := hw h331 hS332 hO332
  refine lv_iload hx hb dL_law_1739 (lv_at hl 7 rfl) ?_
  refine lv_icmp_eq (tgt := 1746) hx hb dL_law_1741 (by decide) (fun c_1741 => ?_) (fun c_1741 => ?_)
  · have hw := hw.1 c_1741
    refine lv_iload hx hb dL_law_1746 (lv_at hl 7 rfl) ?_
    refine lv_if_ne (tgt := 1763) hx hb dL_law_1748 (by decide) (fun c_1748 => ?_) (fun c_1748 => ?_)
    · have hw := hw.1 c_1748
      refine lv_goto (tgt := 2191) hx hb dL_law_1763 (by decide) ?_
      exact snd_L_law_L2191 G L xs hl0 hX0 hbl hbA hret hE k28 hk28 h331 nc nk x1 x2 x3 x4 x5 hw hc hs _ _ _ hI (lv_sub hl [1, 2, 3, 4, 5, 6] rfl)
    · have hw := hw.2 c_1748
      refine lv_aload_n hx hb dL_law_1751 rfl (lv_at hl 4 rfl) ?_
      refine lv_iconst (v := 0) hx hb dL_law_1752 (by decide) ?_
      refine hv_wlld hE hI hw dL_law_1753 (fun r333 hw => ?_)
      refine lv_iload hx hb dL_law_1754 (lv_at hl 0 rfl) ?_
      refine lv_i2l (v := (Int32.toInt64 r326)) hx hb dL_law_1756 rfl ?_
      refine W.lcmp hx hb dL_law_1757 ?_
      refine lv_if_eq (tgt := 1763) hx hb dL_law_1758 (by decide) (fun c_1758 => ?_) (fun c_1758 => ?_)
      · have hw := hw.1 c_1758
        refine lv_goto (tgt := 2191) hx hb dL_law_1763 (by decide) ?_
        exact snd_L_law_L2191 G L xs hl0 hX0 hbl hbA hret hE k28 hk28 h331 nc nk x1 x2 x3 x4 x5 hw hc hs _ _ _ hI (lv_sub hl [1, 2, 3, 4, 5, 6] rfl)
      · have hw := hw.2 c_1758
        refine lv_iconst (v := 0) hx hb dL_law_1761 (by decide) ?_
        exact hw.elim
  · have hw := hw.2 c_1741
    refine lv_iconst (v := 0) hx hb dL_law_1744 (by decide) ?_
    exact hw.elim
def wp_L_law_L1703 (G : GG) (L : Nat) (xs : Nat → Int32) (k28 : (HH) → (Nat) → (Nat) → (Nat) → (Nat) → (Nat) → (Nat) → (Int32) → Prop) (h : HH) (nc : Nat) (nk : Nat) (x1 : Nat) (x2 : Nat) (x3 : Nat) (x4 : Nat) (x5 : Int32) (t0 : Nat) (t1 : Int32) (t2 : Int32) : Prop := (∃ mc322 ms322, nc + mc322 ≤ 1200144 ∧ nk + ms322 ≤ 5494714 ∧ wp_X0_store G mc322 ms322 h (some t0) t1 t2 (some x3) (fun r323 h324 => (vp_in (x5 + (1 : Int32)) L ∧ (vp_in (x5 + (2 : Int32)) L ∧ (((xs (Int32.toNatClampNeg (x5 + (2 : Int32)))) = 0 → wp_L_law_L1730 G L xs k28 h324 (nc + mc322) (nk + ms322) x1 x2 x3 x4 x5 r323 x2 (xs (Int32.toNatClampNeg (x5 + (1 : Int32)))) (0 : Int32)) ∧ (¬ (xs (Int32.toNatClampNeg (x5 + (2 : Int32)))) = 0 → wp_L_law_L1730 G L xs k28 h324 (nc + mc322) (nk + ms322) x1 x2 x3 x4 x5 r323 x2 (xs (Int32.toNatClampNeg (x5 + (1 : Int32)))) (1 : Int32)))))))
set_option maxHeartbeats 4000000 in
theorem snd_L_law_L1703 {p : Program} {l : Launch} {e : Env} {s : State} {m : MethodId} {below : List Frame} {meth : Method} {c : Code} {h0 : HH} {b : Nat} {Q9 : State → Prop} (G : GG) (L : Nat) (xs : Nat → Int32) (hl0 : l.stackTraces = false) (hX0 : va_X b L xs s s.heap) (hbl : b < s.heap.size) (hbA : ¬ hv_A h0 s.heap.size b) (hret : la_Ret p l e s m below meth c b h0 Q9) (hE : hv_E p s m #[.ref b] meth c cL_law 9 ret R_law G h0) (k28 : (HH) → (Nat) → (Nat) → (Nat) → (Nat) → (Nat) → (Nat) → (Int32) → Prop) (hk28 : ∀ (h : HH) (nc : Nat) (nk : Nat) (x1 : Nat) (x2 : Nat) (x3 : Nat) (x4 : Nat) (x5 : Int32), k28 h nc nk x1 x2 x3 x4 x5 → nc ≤ 1200144 → nk ≤ 5494714 → ∀ (H : Heap) (locs : List Loc) (ls : Array Slot), hv_I G h0 s.heap h H locs → lv_has ls 9 [(0, .ref b), (1, .ref x1), (2, .ref x2), (3, .ref x3), (4, .ref x4), (5, .int x5)] → W p l e room_1 s m #[.ref b] below meth c H locs nc nk Q9 (F0 m 28 ls [])) : ∀ (h : HH) (nc : Nat) (nk : Nat) (x1 : Nat) (x2 : Nat) (x3 : Nat) (x4 : Nat) (x5 : Int32) (t0 : Nat) (t1 : Int32) (t2 : Int32), wp_L_law_L1703 G L xs k28 h nc nk x1 x2 x3 x4 x5 t0 t1 t2 → nc ≤ 1200144 → nk ≤ 5494714 → ∀ (H : Heap) (locs : List Loc) (ls : Array Slot), hv_I G h0 s.heap h H locs → lv_has ls 9 [(0, .ref b), (1, .ref x1), (2, .ref x2), (3, .ref x3), (4, .ref x4), (5, .int x5)] → W p l e room_1 s m #[.ref b] below meth c H locs nc nk Q9 (F0 m 1703 ls [.int t2, .int t1, .ref t0]) := by
  obtain ⟨⟨hx, hb, hml, hown, hts⟩, hr, hlocks, hXX⟩ := id hE
  intro h nc nk x1 x2 x3 x4 x5 t0 t1 t2 hw hc hs H locs ls hI hl
  unfold wp_L_law_L1703 at hw
  refine lv_aload_n hx hb dL_law_1703 rfl (lv_at hl 3 rfl) ?_
  obtain ⟨mc322, ms322, hc, hs, hw⟩ := hw
  refine hv_rci hI (vx_runSW (As := [.ref t0, .int t1, .int t2, .ref x3]) (rest := []) hE.1 (snd_X0_store l hl0 G _ mc322 ms322 h (some t0) t1 t2 (some x3) _ hw) (vx_cwSW 4 hts (lw_SW q1834 q1835 q96 q1836) rfl rfl rfl (by decide +kernel) ⟨Nat.le_of_ble_eq_true rfl, Nat.le_of_ble_eq_true rfl⟩) (hv_preS hE hI) rfl rfl hl.1 rfl (lv_room (Nat.le_of_ble_eq_true rfl)) dL_law_1704 ⟨hc, hs⟩) (fun r323 h324 H locs hw hI => ?_)
  refine lv_istore (lv' := [(6, .int r323), (0, .ref b), (1, .ref x1), (2, .ref x2), (3, .ref x3), (4, .ref x4), (5, .int x5)]) hx hb dL_law_1707 hl (by decide) rfl (fun ls hl => ?_)
  refine lv_aload_n hx hb dL_law_1709 rfl (lv_at hl 3 rfl) ?_
  refine lv_aload_n hx hb dL_law_1710 rfl (lv_at hl 1 rfl) ?_
  refine lv_iload hx hb dL_law_1711 (lv_at hl 6 rfl) ?_
  refine lv_iconst (v := 1) hx hb dL_law_1713 (by decide) ?_
  refine lv_iadd hx hb dL_law_1714 ?_
  obtain ⟨hin, hw⟩ := hw
  refine va_sld hx hb hX0 hbl hbA hI.2.1 hin dL_law_1715 ?_
  refine lv_aload_n hx hb dL_law_1716 rfl (lv_at hl 1 rfl) ?_
  refine lv_iload hx hb dL_law_1717 (lv_at hl 6 rfl) ?_
  refine lv_iconst (v := 2) hx hb dL_law_1719 (by decide) ?_
  refine lv_iadd hx hb dL_law_1720 ?_
  obtain ⟨hin, hw⟩ := hw
  refine va_sld hx hb hX0 hbl hbA hI.2.1 hin dL_law_1721 ?_
  refine lv_if_eq (tgt := 1729) hx hb dL_law_1722 (by decide) (fun c_1722 => ?_) (fun c_1722 => ?_)
  · have hw := hw.1 c_1722
    refine lv_iconst (v := 0) hx hb dL_law_1729 (by decide) ?_
    exact snd_L_law_L1730 G L xs hl0 hX0 hbl hbA hret hE k28 hk28 h324 (nc + mc322) (nk + ms322) x1 x2 x3 x4 x5 r323 x2 (xs (Int32.toNatClampNeg (x5 + (1 : Int32)))) (0 : Int32) hw hc hs _ _ _ hI (lv_sub hl [1, 2, 3, 4, 5, 6, 0] rfl)
  · have hw := hw.2 c_1722
    refine lv_iconst (v := 1) hx hb dL_law_1725 (by decide) ?_
    refine lv_goto (tgt := 1730) hx hb dL_law_1726 (by decide) ?_
    exact snd_L_law_L1730 G L xs hl0 hX0 hbl hbA hret hE k28 hk28 h324 (nc + mc322) (nk + ms322) x1 x2 x3 x4 x5 r323 x2 (xs (Int32.toNatClampNeg (x5 + (1 : Int32)))) (1 : Int32) hw hc hs _ _ _ hI (lv_sub hl [1, 2, 3, 4, 5, 6, 0] rfl)
def wp_L_law_L1682 (G : GG) (L : Nat) (xs : Nat → Int32) (k28 : (HH) → (Nat) → (Nat) → (Nat) → (Nat) → (Nat) → (Nat) → (Int32) → Prop) (h : HH) (nc : Nat) (nk : Nat) (x1 : Nat) (x2 : Nat) (x3 : Nat) (x4 : Nat) (x5 : Int32) : Prop := (vp_in (x5 + (1 : Int32)) L ∧ (vp_in (x5 + (2 : Int32)) L ∧ (((xs (Int32.toNatClampNeg (x5 + (2 : Int32)))) = 0 → wp_L_law_L1703 G L xs k28 h nc nk x1 x2 x3 x4 x5 x1 (xs (Int32.toNatClampNeg (x5 + (1 : Int32)))) (0 : Int32)) ∧ (¬ (xs (Int32.toNatClampNeg (x5 + (2 : Int32)))) = 0 → wp_L_law_L1703 G L xs k28 h nc nk x1 x2 x3 x4 x5 x1 (xs (Int32.toNatClampNeg (x5 + (1 : Int32)))) (1 : Int32)))))
set_option maxHeartbeats 4000000 in
theorem snd_L_law_L1682 {p : Program} {l : Launch} {e : Env} {s : State} {m : MethodId} {below : List Frame} {meth : Method} {c : Code} {h0 : HH} {b : Nat} {Q9 : State → Prop} (G : GG) (L : Nat) (xs : Nat → Int32) (hl0 : l.stackTraces = false) (hX0 : va_X b L xs s s.heap) (hbl : b < s.heap.size) (hbA : ¬ hv_A h0 s.heap.size b) (hret : la_Ret p l e s m below meth c b h0 Q9) (hE : hv_E p s m #[.ref b] meth c cL_law 9 ret R_law G h0) (k28 : (HH) → (Nat) → (Nat) → (Nat) → (Nat) → (Nat) → (Nat) → (Int32) → Prop) (hk28 : ∀ (h : HH) (nc : Nat) (nk : Nat) (x1 : Nat) (x2 : Nat) (x3 : Nat) (x4 : Nat) (x5 : Int32), k28 h nc nk x1 x2 x3 x4 x5 → nc ≤ 1200144 → nk ≤ 5494714 → ∀ (H : Heap) (locs : List Loc) (ls : Array Slot), hv_I G h0 s.heap h H locs → lv_has ls 9 [(0, .ref b), (1, .ref x1), (2, .ref x2), (3, .ref x3), (4, .ref x4), (5, .int x5)] → W p l e room_1 s m #[.ref b] below meth c H locs nc nk Q9 (F0 m 28 ls [])) : ∀ (h : HH) (nc : Nat) (nk : Nat) (x1 : Nat) (x2 : Nat) (x3 : Nat) (x4 : Nat) (x5 : Int32), wp_L_law_L1682 G L xs k28 h nc nk x1 x2 x3 x4 x5 → nc ≤ 1200144 → nk ≤ 5494714 → ∀ (H : Heap) (locs : List Loc) (ls : Array Slot), hv_I G h0 s.heap h H locs → lv_has ls 9 [(0, .ref b), (1, .ref x1), (2, .ref x2), (3, .ref x3), (4, .ref x4), (5, .int x5)] → W p l e room_1 s m #[.ref b] below meth c H locs nc nk Q9 (F0 m 1682 ls []) := by
  obtain ⟨⟨hx, hb, hml, hown, hts⟩, hr, hlocks, hXX⟩ := id hE
  intro h nc nk x1 x2 x3 x4 x5 hw hc hs H locs ls hI hl
  unfold wp_L_law_L1682 at hw
  refine lv_aload_n hx hb dL_law_1682 rfl (lv_at hl 1 rfl) ?_
  refine lv_aload_n hx hb dL_law_1683 rfl (lv_at hl 0 rfl) ?_
  refine lv_iload hx hb dL_law_1684 (lv_at hl 5 rfl) ?_
  refine lv_iconst (v := 1) hx hb dL_law_1686 (by decide) ?_
  refine lv_iadd hx hb dL_law_1687 ?_
  obtain ⟨hin, hw⟩ := hw
  refine va_sld hx hb hX0 hbl hbA hI.2.1 hin dL_law_1688 ?_
  refine lv_aload_n hx hb dL_law_1689 rfl (lv_at hl 0 rfl) ?_
  refine lv_iload hx hb dL_law_1690 (lv_at hl 5 rfl) ?_
  refine lv_iconst (v := 2) hx hb dL_law_1692 (by decide) ?_
  refine lv_iadd hx hb dL_law_1693 ?_
  obtain ⟨hin, hw⟩ := hw
  refine va_sld hx hb hX0 hbl hbA hI.2.1 hin dL_law_1694 ?_
  refine lv_if_eq (tgt := 1702) hx hb dL_law_1695 (by decide) (fun c_1695 => ?_) (fun c_1695 => ?_)
  · have hw := hw.1 c_1695
    refine lv_iconst (v := 0) hx hb dL_law_1702 (by decide) ?_
    exact snd_L_law_L1703 G L xs hl0 hX0 hbl hbA hret hE k28 hk28 h nc nk x1 x2 x3 x4 x5 x1 (xs (Int32.toNatClampNeg (x5 + (1 : Int32)))) (0 : Int32) hw hc hs _ _ _ hI (lv_sub hl [0, 1, 2, 3, 4, 5] rfl)
  · have hw := hw.2 c_1695
    refine lv_iconst (v := 1) hx hb dL_law_1698 (by decide) ?_
    refine lv_goto (tgt := 1703) hx hb dL_law_1699 (by decide) ?_
    exact snd_L_law_L1703 G L xs hl0 hX0 hbl hbA hret hE k28 hk28 h nc nk x1 x2 x3 x4 x5 x1 (xs (Int32.toNatClampNeg (x5 + (1 : Int32)))) (1 : Int32) hw hc hs _ _ _ hI (lv_sub hl [0, 1, 2, 3, 4, 5] rfl)
def wp_L_law_L1766 (G : GG) (L : Nat) (xs : Nat → Int32) (k28 : (HH) → (Nat) → (Nat) → (Nat) → (Nat) → (Nat) → (Nat) → (Int32) → Prop) (h : HH) (nc : Nat) (nk : Nat) (x1 : Nat) (x2 : Nat) (x3 : Nat) (x4 : Nat) (x5 : Int32) : Prop := (vp_in (x5 + (1 : Int32)) L ∧ (vp_in (x5 + (2 : Int32)) L ∧ (∃ mc334 ms334, nc + mc334 ≤ 1200144 ∧ nk + ms334 ≤ 5494714 ∧ wp_X0_copyRow G mc334 ms334 h (some x1) (xs (Int32.toNatClampNeg (x5 + (1 : Int32)))) (xs (Int32.toNatClampNeg (x5 + (2 : Int32)))) (some x3) (fun r335 h336 => (vp_in (x5 + (1 : Int32)) L ∧ (vp_in (x5 + (2 : Int32)) L ∧ w_ml G h336 x2 (fun ad337 F337 A337 U337 => wp_X4_copyRow F337 A337 U337 (xs (Int32.toNatClampNeg (x5 + (1 : Int32)))) (xs (Int32.toNatClampNeg (x5 + (2 : Int32)))) (fun r338 F340 A340 U340 => ∀ h339, ml_S G h339 ad337 F340 A340 U340 → ml_O ad337 h336 h339 → w_ml G h339 x2 (fun ad341 F341 A341 U341 => wp_X4_thrown F341 A341 U341 (fun r342 F344 A344 U344 => ∀ h343, ml_S G h343 ad341 F344 A344 U344 → ml_O ad341 h339 h343 → ((r342 = r335 → ((¬ r335 = 0 → wp_L_law_L2191 G L xs k28 h343 (nc + mc334) (nk + ms334) x1 x2 x3 x4 x5) ∧ (r335 = 0 → w_lld G h343 x3 (0 : Int32) (fun r345 => (((lg_cmp r345 (Int32.toInt64 r338)) = 0 → wp_L_law_L2191 G L xs k28 h343 (nc + mc334) (nk + ms334) x1 x2 x3 x4 x5) ∧ (¬ (lg_cmp r345 (Int32.toInt64 r338)) = 0 → False)))))) ∧ (¬ r342 = r335 → False))))))))))))
set_option maxHeartbeats 4000000 in
theorem snd_L_law_L1766 {p : Program} {l : Launch} {e : Env} {s : State} {m : MethodId} {below : List Frame} {meth : Method} {c : Code} {h0 : HH} {b : Nat} {Q9 : State → Prop} (G : GG) (L : Nat) (xs : Nat → Int32) (hl0 : l.stackTraces = false) (hX0 : va_X b L xs s s.heap) (hbl : b < s.heap.size) (hbA : ¬ hv_A h0 s.heap.size b) (hret : la_Ret p l e s m below meth c b h0 Q9) (hE : hv_E p s m #[.ref b] meth c cL_law 9 ret R_law G h0) (k28 : (HH) → (Nat) → (Nat) → (Nat) → (Nat) → (Nat) → (Nat) → (Int32) → Prop) (hk28 : ∀ (h : HH) (nc : Nat) (nk : Nat) (x1 : Nat) (x2 : Nat) (x3 : Nat) (x4 : Nat) (x5 : Int32), k28 h nc nk x1 x2 x3 x4 x5 → nc ≤ 1200144 → nk ≤ 5494714 → ∀ (H : Heap) (locs : List Loc) (ls : Array Slot), hv_I G h0 s.heap h H locs → lv_has ls 9 [(0, .ref b), (1, .ref x1), (2, .ref x2), (3, .ref x3), (4, .ref x4), (5, .int x5)] → W p l e room_1 s m #[.ref b] below meth c H locs nc nk Q9 (F0 m 28 ls [])) : ∀ (h : HH) (nc : Nat) (nk : Nat) (x1 : Nat) (x2 : Nat) (x3 : Nat) (x4 : Nat) (x5 : Int32), wp_L_law_L1766 G L xs k28 h nc nk x1 x2 x3 x4 x5 → nc ≤ 1200144 → nk ≤ 5494714 → ∀ (H : Heap) (locs : List Loc) (ls : Array Slot), hv_I G h0 s.heap h H locs → lv_has ls 9 [(0, .ref b), (1, .ref x1), (2, .ref x2), (3, .ref x3), (4, .ref x4), (5, .int x5)] → W p l e room_1 s m #[.ref b] below meth c H locs nc nk Q9 (F0 m 1766 ls []) := by
  obtain ⟨⟨hx, hb, hml, hown, hts⟩, hr, hlocks, hXX⟩ := id hE
  intro h nc nk x1 x2 x3 x4 x5 hw hc hs H locs ls hI hl
  unfold wp_L_law_L1766 at hw
  refine lv_aload_n hx hb dL_law_1766 rfl (lv_at hl 1 rfl) ?_
  refine lv_aload_n hx hb dL_law_1767 rfl (lv_at hl 0 rfl) ?_
  refine lv_iload hx hb dL_law_1768 (lv_at hl 5 rfl) ?_
  refine lv_iconst (v := 1) hx hb dL_law_1770 (by decide) ?_
  refine lv_iadd hx hb dL_law_1771 ?_
  obtain ⟨hin, hw⟩ := hw
  refine va_sld hx hb hX0 hbl hbA hI.2.1 hin dL_law_1772 ?_
  refine lv_aload_n hx hb dL_law_1773 rfl (lv_at hl 0 rfl) ?_
  refine lv_iload hx hb dL_law_1774 (lv_at hl 5 rfl) ?_
  refine lv_iconst (v := 2) hx hb dL_law_1776 (by decide) ?_
  refine lv_iadd hx hb dL_law_1777 ?_
  obtain ⟨hin, hw⟩ := hw
  refine va_sld hx hb hX0 hbl hbA hI.2.1 hin dL_law_1778 ?_
  refine lv_aload_n hx hb dL_law_1779 rfl (lv_at hl 3 rfl) ?_
  obtain ⟨mc334, ms334, hc, hs, hw⟩ := hw
  refine hv_rci hI (vx_runSW (As := [.ref x1, .int (xs (Int32.toNatClampNeg (x5 + (1 : Int32)))), .int (xs (Int32.toNatClampNeg (x5 + (2 : Int32)))), .ref x3]) (rest := []) hE.1 (snd_X0_copyRow l hl0 G _ mc334 ms334 h (some x1) (xs (Int32.toNatClampNeg (x5 + (1 : Int32)))) (xs (Int32.toNatClampNeg (x5 + (2 : Int32)))) (some x3) _ hw) (vx_cwSW 4 hts (lw_SW q1845 q1846 q96 q1847) rfl rfl rfl (by decide +kernel) ⟨Nat.le_of_ble_eq_true rfl, Nat.le_of_ble_eq_true rfl⟩) (hv_preS hE hI) rfl rfl hl.1 rfl (lv_room (Nat.le_of_ble_eq_true rfl)) dL_law_1780 ⟨hc, hs⟩) (fun r335 h336 H locs hw hI => ?_)
  refine lv_istore (lv' := [(6, .int r335), (0, .ref b), (1, .ref x1), (2, .ref x2), (3, .ref x3), (4, .ref x4), (5, .int x5)]) hx hb dL_law_1783 hl (by decide) rfl (fun ls hl => ?_)
  refine lv_aload_n hx hb dL_law_1785 rfl (lv_at hl 3 rfl) ?_
  refine lv_aload_n hx hb dL_law_1786 rfl (lv_at hl 1 rfl) ?_
  refine lv_iload hx hb dL_law_1787 (lv_at hl 6 rfl) ?_
  refine lv_iconst (v := 1) hx hb dL_law_1789 (by decide) ?_
  refine lv_iadd hx hb dL_law_1790 ?_
  obtain ⟨hin, hw⟩ := hw
  refine va_sld hx hb hX0 hbl hbA hI.2.1 hin dL_law_1791 ?_
  refine lv_aload_n hx hb dL_law_1792 rfl (lv_at hl 1 rfl) ?_
  refine lv_iload hx hb dL_law_1793 (lv_at hl 6 rfl) ?_
  refine lv_iconst (v := 2) hx hb dL_law_1795 (by decide) ?_
  refine lv_iadd hx hb dL_law_1796 ?_
  obtain ⟨hin, hw⟩ := hw
  refine va_sld hx hb hX0 hbl hbA hI.2.1 hin dL_law_1797 ?_
  obtain ⟨ad337, F337, A337, U337, hS337, hz, hw⟩ := hw
  have hM := snd_X4_copyRow l G H.size h336 ad337 F337 A337 U337 (xs (Int32.toNatClampNeg (x5 + (1 : Int32)))) (xs (Int32.toNatClampNeg (x5 + (2 : Int32)))) _ hS337 hw
  have hre := hS337.2.1
  rw [hz] at hM hre
  refine hv_rci hI (va_runV (As := [.int (xs (Int32.toNatClampNeg (x5 + (1 : Int32)))), .int (xs (Int32.toNatClampNeg (x5 + (2 : Int32))))]) (b := x2) (rest := []) hE.1 hM (cwV 2 hts (lw_V q2455 q2456 q2457 q108 q2458) rfl rfl rfl (by decide +kernel) ⟨Nat.le_of_ble_eq_true rfl, Nat.le_of_ble_eq_true rfl⟩) (hv_preV hE hI (ci := 0) rfl hre) rfl rfl hl.1 rfl (lv_room (Nat.le_of_ble_eq_true rfl)) dL_law_1798 ⟨hc, hs⟩) (fun r338 h339 H locs hw hI => ?_)
  obtain ⟨F340, A340, U340, hS340, hO340, hw⟩ := hw
  have hw := hw h339 hS340 hO340
  refine lv_istore (lv' := [(7, .int r338), (6, .int r335), (0, .ref b), (1, .ref x1), (2, .ref x2), (3, .ref x3), (4, .ref x4), (5, .int x5)]) hx hb dL_law_1801 hl (by decide) rfl (fun ls hl => ?_)
  refine lv_aload_n hx hb dL_law_1803 rfl (lv_at hl 4 rfl) ?_
  obtain ⟨ad341, F341, A341, U341, hS341, hz, hw⟩ := hw
  have hM := snd_X4_thrown l G H.size h339 ad341 F341 A341 U341 _ hS341 hw
  have hre := hS341.2.1
  rw [hz] at hM hre
  refine hv_rci hI (va_runV (As := []) (b := x2) (rest := []) hE.1 hM (cwV 0 hts (lw_V q2098 q2099 q2100 q108 q2101) rfl rfl rfl (by decide +kernel) ⟨Nat.le_of_ble_eq_true rfl, Nat.le_of_ble_eq_true rfl⟩) (hv_preV hE hI (ci := 0) rfl hre) rfl rfl hl.1 rfl (lv_room (Nat.le_of_ble_eq_true rfl)) dL_law_1804 ⟨hc, hs⟩) (fun r342 h343 H locs hw hI => ?_)
  obtain ⟨F344, A344, U344, hS344, hO344, hw⟩ := hw
  have hw := hw h343 hS344 hO344
  refine lv_iload hx hb dL_law_1807 (lv_at hl 1 rfl) ?_
  refine lv_icmp_eq (tgt := 1814) hx hb dL_law_1809 (by decide) (fun c_1809 => ?_) (fun c_1809 => ?_)
  · have hw := hw.1 c_1809
    refine lv_iload hx hb dL_law_1814 (lv_at hl 1 rfl) ?_
    refine lv_if_ne (tgt := 1831) hx hb dL_law_1816 (by decide) (fun c_1816 => ?_) (fun c_1816 => ?_)
    · have hw := hw.1 c_1816
      refine lv_goto (tgt := 2191) hx hb dL_law_1831 (by decide) ?_
      exact snd_L_law_L2191 G L xs hl0 hX0 hbl hbA hret hE k28 hk28 h343 (nc + mc334) (nk + ms334) x1 x2 x3 x4 x5 hw hc hs _ _ _ hI (lv_sub hl [2, 3, 4, 5, 6, 7] rfl)
    · have hw := hw.2 c_1816
      refine lv_aload_n hx hb dL_law_1819 rfl (lv_at hl 5 rfl) ?_
      refine lv_iconst (v := 0) hx hb dL_law_1820 (by decide) ?_
      refine hv_wlld hE hI hw dL_law_1821 (fun r345 hw => ?_)
      refine lv_iload hx hb dL_law_1822 (lv_at hl 0 rfl) ?_
      refine lv_i2l (v := (Int32.toInt64 r338)) hx hb dL_law_1824 rfl ?_
      refine W.lcmp hx hb dL_law_1825 ?_
      refine lv_if_eq (tgt := 1831) hx hb dL_law_1826 (by decide) (fun c_1826 => ?_) (fun c_1826 => ?_)
      · have hw := hw.1 c_1826
        refine lv_goto (tgt := 2191) hx hb dL_law_1831 (by decide) ?_
        exact snd_L_law_L2191 G L xs hl0 hX0 hbl hbA hret hE k28 hk28 h343 (nc + mc334) (nk + ms334) x1 x2 x3 x4 x5 hw hc hs _ _ _ hI (lv_sub hl [2, 3, 4, 5, 6, 7] rfl)
      · have hw := hw.2 c_1826
        refine lv_iconst (v := 0) hx hb dL_law_1829 (by decide) ?_
        exact hw.elim
  · have hw := hw.2 c_1809
    refine lv_iconst (v := 0) hx hb dL_law_1812 (by decide) ?_
    exact hw.elim
def wp_L_law_L1834 (G : GG) (L : Nat) (xs : Nat → Int32) (k28 : (HH) → (Nat) → (Nat) → (Nat) → (Nat) → (Nat) → (Nat) → (Int32) → Prop) (h : HH) (nc : Nat) (nk : Nat) (x1 : Nat) (x2 : Nat) (x3 : Nat) (x4 : Nat) (x5 : Int32) : Prop := (vp_in (x5 + (1 : Int32)) L ∧ (vp_in (x5 + (2 : Int32)) L ∧ (∃ mc346 ms346, nc + mc346 ≤ 1200144 ∧ nk + ms346 ≤ 5494714 ∧ wp_X0_element G mc346 ms346 h (some x1) (xs (Int32.toNatClampNeg (x5 + (1 : Int32)))) (xs (Int32.toNatClampNeg (x5 + (2 : Int32)))) (some x3) (fun r347 h348 => (vp_in (x5 + (1 : Int32)) L ∧ (vp_in (x5 + (2 : Int32)) L ∧ w_ml G h348 x2 (fun ad349 F349 A349 U349 => wp_X4_element F349 A349 U349 (xs (Int32.toNatClampNeg (x5 + (1 : Int32)))) (xs (Int32.toNatClampNeg (x5 + (2 : Int32)))) (fun r350 F352 A352 U352 => ∀ h351, ml_S G h351 ad349 F352 A352 U352 → ml_O ad349 h348 h351 → w_ml G h351 x2 (fun ad353 F353 A353 U353 => wp_X4_thrown F353 A353 U353 (fun r354 F356 A356 U356 => ∀ h355, ml_S G h355 ad353 F356 A356 U356 → ml_O ad353 h351 h355 → ((r354 = r347 → ((¬ r347 = 0 → wp_L_law_L2191 G L xs k28 h355 (nc + mc346) (nk + ms346) x1 x2 x3 x4 x5) ∧ (r347 = 0 → w_lld G h355 x3 (0 : Int32) (fun r357 => (((lg_cmp r357 (Int32.toInt64 r350)) = 0 → wp_L_law_L2191 G L xs k28 h355 (nc + mc346) (nk + ms346) x1 x2 x3 x4 x5) ∧ (¬ (lg_cmp r357 (Int32.toInt64 r350)) = 0 → False)))))) ∧ (¬ r354 = r347 → False))))))))))))
set_option maxHeartbeats 4000000 in
theorem snd_L_law_L1834 {p : Program} {l : Launch} {e : Env} {s : State} {m : MethodId} {below : List Frame} {meth : Method} {c : Code} {h0 : HH} {b : Nat} {Q9 : State → Prop} (G : GG) (L : Nat) (xs : Nat → Int32) (hl0 : l.stackTraces = false) (hX0 : va_X b L xs s s.heap) (hbl : b < s.heap.size) (hbA : ¬ hv_A h0 s.heap.size b) (hret : la_Ret p l e s m below meth c b h0 Q9) (hE : hv_E p s m #[.ref b] meth c cL_law 9 ret R_law G h0) (k28 : (HH) → (Nat) → (Nat) → (Nat) → (Nat) → (Nat) → (Nat) → (Int32) → Prop) (hk28 : ∀ (h : HH) (nc : Nat) (nk : Nat) (x1 : Nat) (x2 : Nat) (x3 : Nat) (x4 : Nat) (x5 : Int32), k28 h nc nk x1 x2 x3 x4 x5 → nc ≤ 1200144 → nk ≤ 5494714 → ∀ (H : Heap) (locs : List Loc) (ls : Array Slot), hv_I G h0 s.heap h H locs → lv_has ls 9 [(0, .ref b), (1, .ref x1), (2, .ref x2), (3, .ref x3), (4, .ref x4), (5, .int x5)] → W p l e room_1 s m #[.ref b] below meth c H locs nc nk Q9 (F0 m 28 ls [])) : ∀ (h : HH) (nc : Nat) (nk : Nat) (x1 : Nat) (x2 : Nat) (x3 : Nat) (x4 : Nat) (x5 : Int32), wp_L_law_L1834 G L xs k28 h nc nk x1 x2 x3 x4 x5 → nc ≤ 1200144 → nk ≤ 5494714 → ∀ (H : Heap) (locs : List Loc) (ls : Array Slot), hv_I G h0 s.heap h H locs → lv_has ls 9 [(0, .ref b), (1, .ref x1), (2, .ref x2), (3, .ref x3), (4, .ref x4), (5, .int x5)] → W p l e room_1 s m #[.ref b] below meth c H locs nc nk Q9 (F0 m 1834 ls []) := by
  obtain ⟨⟨hx, hb, hml, hown, hts⟩, hr, hlocks, hXX⟩ := id hE
  intro h nc nk x1 x2 x3 x4 x5 hw hc hs H locs ls hI hl
  unfold wp_L_law_L1834 at hw
  refine lv_aload_n hx hb dL_law_1834 rfl (lv_at hl 1 rfl) ?_
  refine lv_aload_n hx hb dL_law_1835 rfl (lv_at hl 0 rfl) ?_
  refine lv_iload hx hb dL_law_1836 (lv_at hl 5 rfl) ?_
  refine lv_iconst (v := 1) hx hb dL_law_1838 (by decide) ?_
  refine lv_iadd hx hb dL_law_1839 ?_
  obtain ⟨hin, hw⟩ := hw
  refine va_sld hx hb hX0 hbl hbA hI.2.1 hin dL_law_1840 ?_
  refine lv_aload_n hx hb dL_law_1841 rfl (lv_at hl 0 rfl) ?_
  refine lv_iload hx hb dL_law_1842 (lv_at hl 5 rfl) ?_
  refine lv_iconst (v := 2) hx hb dL_law_1844 (by decide) ?_
  refine lv_iadd hx hb dL_law_1845 ?_
  obtain ⟨hin, hw⟩ := hw
  refine va_sld hx hb hX0 hbl hbA hI.2.1 hin dL_law_1846 ?_
  refine lv_aload_n hx hb dL_law_1847 rfl (lv_at hl 3 rfl) ?_
  obtain ⟨mc346, ms346, hc, hs, hw⟩ := hw
  refine hv_rci hI (vx_runSW (As := [.ref x1, .int (xs (Int32.toNatClampNeg (x5 + (1 : Int32)))), .int (xs (Int32.toNatClampNeg (x5 + (2 : Int32)))), .ref x3]) (rest := []) hE.1 (snd_X0_element l hl0 G _ mc346 ms346 h (some x1) (xs (Int32.toNatClampNeg (x5 + (1 : Int32)))) (xs (Int32.toNatClampNeg (x5 + (2 : Int32)))) (some x3) _ hw) (vx_cwSW 4 hts (lw_SW q1880 q1881 q96 q1882) rfl rfl rfl (by decide +kernel) ⟨Nat.le_of_ble_eq_true rfl, Nat.le_of_ble_eq_true rfl⟩) (hv_preS hE hI) rfl rfl hl.1 rfl (lv_room (Nat.le_of_ble_eq_true rfl)) dL_law_1848 ⟨hc, hs⟩) (fun r347 h348 H locs hw hI => ?_)
  refine lv_istore (lv' := [(6, .int r347), (0, .ref b), (1, .ref x1), (2, .ref x2), (3, .ref x3), (4, .ref x4), (5, .int x5)]) hx hb dL_law_1851 hl (by decide) rfl (fun ls hl => ?_)
  refine lv_aload_n hx hb dL_law_1853 rfl (lv_at hl 3 rfl) ?_
  refine lv_aload_n hx hb dL_law_1854 rfl (lv_at hl 1 rfl) ?_
  refine lv_iload hx hb dL_law_1855 (lv_at hl 6 rfl) ?_
  refine lv_iconst (v := 1) hx hb dL_law_1857 (by decide) ?_
  refine lv_iadd hx hb dL_law_1858 ?_
  obtain ⟨hin, hw⟩ := hw
  refine va_sld hx hb hX0 hbl hbA hI.2.1 hin dL_law_1859 ?_
  refine lv_aload_n hx hb dL_law_1860 rfl (lv_at hl 1 rfl) ?_
  refine lv_iload hx hb dL_law_1861 (lv_at hl 6 rfl) ?_
  refine lv_iconst (v := 2) hx hb dL_law_1863 (by decide) ?_
  refine lv_iadd hx hb dL_law_1864 ?_
  obtain ⟨hin, hw⟩ := hw
  refine va_sld hx hb hX0 hbl hbA hI.2.1 hin dL_law_1865 ?_
  obtain ⟨ad349, F349, A349, U349, hS349, hz, hw⟩ := hw
  have hM := snd_X4_element l G H.size h348 ad349 F349 A349 U349 (xs (Int32.toNatClampNeg (x5 + (1 : Int32)))) (xs (Int32.toNatClampNeg (x5 + (2 : Int32)))) _ hS349 hw
  have hre := hS349.2.1
  rw [hz] at hM hre
  refine hv_rci hI (va_runV (As := [.int (xs (Int32.toNatClampNeg (x5 + (1 : Int32)))), .int (xs (Int32.toNatClampNeg (x5 + (2 : Int32))))]) (b := x2) (rest := []) hE.1 hM (cwV 2 hts (lw_V q2463 q2464 q2465 q108 q2466) rfl rfl rfl (by decide +kernel) ⟨Nat.le_of_ble_eq_true rfl, Nat.le_of_ble_eq_true rfl⟩) (hv_preV hE hI (ci := 0) rfl hre) rfl rfl hl.1 rfl (lv_room (Nat.le_of_ble_eq_true rfl)) dL_law_1866 ⟨hc, hs⟩) (fun r350 h351 H locs hw hI => ?_)
  obtain ⟨F352, A352, U352, hS352, hO352, hw⟩ := hw
  have hw := hw h351 hS352 hO352
  refine lv_istore (lv' := [(7, .int r350), (6, .int r347), (0, .ref b), (1, .ref x1), (2, .ref x2), (3, .ref x3), (4, .ref x4), (5, .int x5)]) hx hb dL_law_1869 hl (by decide) rfl (fun ls hl => ?_)
  refine lv_aload_n hx hb dL_law_1871 rfl (lv_at hl 4 rfl) ?_
  obtain ⟨ad353, F353, A353, U353, hS353, hz, hw⟩ := hw
  have hM := snd_X4_thrown l G H.size h351 ad353 F353 A353 U353 _ hS353 hw
  have hre := hS353.2.1
  rw [hz] at hM hre
  refine hv_rci hI (va_runV (As := []) (b := x2) (rest := []) hE.1 hM (cwV 0 hts (lw_V q2098 q2099 q2100 q108 q2101) rfl rfl rfl (by decide +kernel) ⟨Nat.le_of_ble_eq_true rfl, Nat.le_of_ble_eq_true rfl⟩) (hv_preV hE hI (ci := 0) rfl hre) rfl rfl hl.1 rfl (lv_room (Nat.le_of_ble_eq_true rfl)) dL_law_1872 ⟨hc, hs⟩) (fun r354 h355 H locs hw hI => ?_)
  obtain ⟨F356, A356, U356, hS356, hO356, hw⟩ := hw
  have hw := hw h355 hS356 hO356
  refine lv_iload hx hb dL_law_1875 (lv_at hl 1 rfl) ?_
  refine lv_icmp_eq (tgt := 1882) hx hb dL_law_1877 (by decide) (fun c_1877 => ?_) (fun c_1877 => ?_)
  · have hw := hw.1 c_1877
    refine lv_iload hx hb dL_law_1882 (lv_at hl 1 rfl) ?_
    refine lv_if_ne (tgt := 1899) hx hb dL_law_1884 (by decide) (fun c_1884 => ?_) (fun c_1884 => ?_)
    · have hw := hw.1 c_1884
      refine lv_goto (tgt := 2191) hx hb dL_law_1899 (by decide) ?_
      exact snd_L_law_L2191 G L xs hl0 hX0 hbl hbA hret hE k28 hk28 h355 (nc + mc346) (nk + ms346) x1 x2 x3 x4 x5 hw hc hs _ _ _ hI (lv_sub hl [2, 3, 4, 5, 6, 7] rfl)
    · have hw := hw.2 c_1884
      refine lv_aload_n hx hb dL_law_1887 rfl (lv_at hl 5 rfl) ?_
      refine lv_iconst (v := 0) hx hb dL_law_1888 (by decide) ?_
      refine hv_wlld hE hI hw dL_law_1889 (fun r357 hw => ?_)
      refine lv_iload hx hb dL_law_1890 (lv_at hl 0 rfl) ?_
      refine lv_i2l (v := (Int32.toInt64 r350)) hx hb dL_law_1892 rfl ?_
      refine W.lcmp hx hb dL_law_1893 ?_
      refine lv_if_eq (tgt := 1899) hx hb dL_law_1894 (by decide) (fun c_1894 => ?_) (fun c_1894 => ?_)
      · have hw := hw.1 c_1894
        refine lv_goto (tgt := 2191) hx hb dL_law_1899 (by decide) ?_
        exact snd_L_law_L2191 G L xs hl0 hX0 hbl hbA hret hE k28 hk28 h355 (nc + mc346) (nk + ms346) x1 x2 x3 x4 x5 hw hc hs _ _ _ hI (lv_sub hl [2, 3, 4, 5, 6, 7] rfl)
      · have hw := hw.2 c_1894
        refine lv_iconst (v := 0) hx hb dL_law_1897 (by decide) ?_
        exact hw.elim
  · have hw := hw.2 c_1877
    refine lv_iconst (v := 0) hx hb dL_law_1880 (by decide) ?_
    exact hw.elim
def wp_L_law_L1902 (G : GG) (L : Nat) (xs : Nat → Int32) (k28 : (HH) → (Nat) → (Nat) → (Nat) → (Nat) → (Nat) → (Nat) → (Int32) → Prop) (h : HH) (nc : Nat) (nk : Nat) (x1 : Nat) (x2 : Nat) (x3 : Nat) (x4 : Nat) (x5 : Int32) : Prop := (vp_in (x5 + (1 : Int32)) L ∧ (∃ mc358 ms358, nc + mc358 ≤ 1200144 ∧ nk + ms358 ≤ 5494714 ∧ wp_X0_append G mc358 ms358 h (some x1) (xs (Int32.toNatClampNeg (x5 + (1 : Int32)))) (some x3) (fun r359 h360 => (vp_in (x5 + (1 : Int32)) L ∧ w_ml G h360 x2 (fun ad361 F361 A361 U361 => wp_X4_append F361 A361 U361 (xs (Int32.toNatClampNeg (x5 + (1 : Int32)))) (fun r362 F364 A364 U364 => ∀ h363, ml_S G h363 ad361 F364 A364 U364 → ml_O ad361 h360 h363 → w_ml G h363 x2 (fun ad365 F365 A365 U365 => wp_X4_thrown F365 A365 U365 (fun r366 F368 A368 U368 => ∀ h367, ml_S G h367 ad365 F368 A368 U368 → ml_O ad365 h363 h367 → ((r366 = r359 → ((¬ r359 = 0 → wp_L_law_L2191 G L xs k28 h367 (nc + mc358) (nk + ms358) x1 x2 x3 x4 x5) ∧ (r359 = 0 → w_lld G h367 x3 (0 : Int32) (fun r369 => (((lg_cmp r369 (Int32.toInt64 r362)) = 0 → wp_L_law_L2191 G L xs k28 h367 (nc + mc358) (nk + ms358) x1 x2 x3 x4 x5) ∧ (¬ (lg_cmp r369 (Int32.toInt64 r362)) = 0 → False)))))) ∧ (¬ r366 = r359 → False))))))))))
set_option maxHeartbeats 4000000 in
theorem snd_L_law_L1902 {p : Program} {l : Launch} {e : Env} {s : State} {m : MethodId} {below : List Frame} {meth : Method} {c : Code} {h0 : HH} {b : Nat} {Q9 : State → Prop} (G : GG) (L : Nat) (xs : Nat → Int32) (hl0 : l.stackTraces = false) (hX0 : va_X b L xs s s.heap) (hbl : b < s.heap.size) (hbA : ¬ hv_A h0 s.heap.size b) (hret : la_Ret p l e s m below meth c b h0 Q9) (hE : hv_E p s m #[.ref b] meth c cL_law 9 ret R_law G h0) (k28 : (HH) → (Nat) → (Nat) → (Nat) → (Nat) → (Nat) → (Nat) → (Int32) → Prop) (hk28 : ∀ (h : HH) (nc : Nat) (nk : Nat) (x1 : Nat) (x2 : Nat) (x3 : Nat) (x4 : Nat) (x5 : Int32), k28 h nc nk x1 x2 x3 x4 x5 → nc ≤ 1200144 → nk ≤ 5494714 → ∀ (H : Heap) (locs : List Loc) (ls : Array Slot), hv_I G h0 s.heap h H locs → lv_has ls 9 [(0, .ref b), (1, .ref x1), (2, .ref x2), (3, .ref x3), (4, .ref x4), (5, .int x5)] → W p l e room_1 s m #[.ref b] below meth c H locs nc nk Q9 (F0 m 28 ls [])) : ∀ (h : HH) (nc : Nat) (nk : Nat) (x1 : Nat) (x2 : Nat) (x3 : Nat) (x4 : Nat) (x5 : Int32), wp_L_law_L1902 G L xs k28 h nc nk x1 x2 x3 x4 x5 → nc ≤ 1200144 → nk ≤ 5494714 → ∀ (H : Heap) (locs : List Loc) (ls : Array Slot), hv_I G h0 s.heap h H locs → lv_has ls 9 [(0, .ref b), (1, .ref x1), (2, .ref x2), (3, .ref x3), (4, .ref x4), (5, .int x5)] → W p l e room_1 s m #[.ref b] below meth c H locs nc nk Q9 (F0 m 1902 ls []) := by
  obtain ⟨⟨hx, hb, hml, hown, hts⟩, hr, hlocks, hXX⟩ := id hE
  intro h nc nk x1 x2 x3 x4 x5 hw hc hs H locs ls hI hl
  unfold wp_L_law_L1902 at hw
  refine lv_aload_n hx hb dL_law_1902 rfl (lv_at hl 1 rfl) ?_
  refine lv_aload_n hx hb dL_law_1903 rfl (lv_at hl 0 rfl) ?_
  refine lv_iload hx hb dL_law_1904 (lv_at hl 5 rfl) ?_
  refine lv_iconst (v := 1) hx hb dL_law_1906 (by decide) ?_
  refine lv_iadd hx hb dL_law_1907 ?_
  obtain ⟨hin, hw⟩ := hw
  refine va_sld hx hb hX0 hbl hbA hI.2.1 hin dL_law_1908 ?_
  refine lv_aload_n hx hb dL_law_1909 rfl (lv_at hl 3 rfl) ?_
  obtain ⟨mc358, ms358, hc, hs, hw⟩ := hw
  refine hv_rci hI (vx_runSW (As := [.ref x1, .int (xs (Int32.toNatClampNeg (x5 + (1 : Int32)))), .ref x3]) (rest := []) hE.1 (snd_X0_append l hl0 G _ mc358 ms358 h (some x1) (xs (Int32.toNatClampNeg (x5 + (1 : Int32)))) (some x3) _ hw) (vx_cwSW 3 hts (lw_SW q1890 q1891 q96 q1892) rfl rfl rfl (by decide +kernel) ⟨Nat.le_of_ble_eq_true rfl, Nat.le_of_ble_eq_true rfl⟩) (hv_preS hE hI) rfl rfl hl.1 rfl (lv_room (Nat.le_of_ble_eq_true rfl)) dL_law_1910 ⟨hc, hs⟩) (fun r359 h360 H locs hw hI => ?_)
  refine lv_istore (lv' := [(6, .int r359), (0, .ref b), (1, .ref x1), (2, .ref x2), (3, .ref x3), (4, .ref x4), (5, .int x5)]) hx hb dL_law_1913 hl (by decide) rfl (fun ls hl => ?_)
  refine lv_aload_n hx hb dL_law_1915 rfl (lv_at hl 3 rfl) ?_
  refine lv_aload_n hx hb dL_law_1916 rfl (lv_at hl 1 rfl) ?_
  refine lv_iload hx hb dL_law_1917 (lv_at hl 6 rfl) ?_
  refine lv_iconst (v := 1) hx hb dL_law_1919 (by decide) ?_
  refine lv_iadd hx hb dL_law_1920 ?_
  obtain ⟨hin, hw⟩ := hw
  refine va_sld hx hb hX0 hbl hbA hI.2.1 hin dL_law_1921 ?_
  obtain ⟨ad361, F361, A361, U361, hS361, hz, hw⟩ := hw
  have hM := snd_X4_append l G H.size h360 ad361 F361 A361 U361 (xs (Int32.toNatClampNeg (x5 + (1 : Int32)))) _ hS361 hw
  have hre := hS361.2.1
  rw [hz] at hM hre
  refine hv_rci hI (va_runV (As := [.int (xs (Int32.toNatClampNeg (x5 + (1 : Int32))))]) (b := x2) (rest := []) hE.1 hM (cwV 1 hts (lw_V q2467 q2468 q2469 q108 q2470) rfl rfl rfl (by decide +kernel) ⟨Nat.le_of_ble_eq_true rfl, Nat.le_of_ble_eq_true rfl⟩) (hv_preV hE hI (ci := 0) rfl hre) rfl rfl hl.1 rfl (lv_room (Nat.le_of_ble_eq_true rfl)) dL_law_1922 ⟨hc, hs⟩) (fun r362 h363 H locs hw hI => ?_)
  obtain ⟨F364, A364, U364, hS364, hO364, hw⟩ := hw
  have hw := hw h363 hS364 hO364
  refine lv_istore (lv' := [(7, .int r362), (6, .int r359), (0, .ref b), (1, .ref x1), (2, .ref x2), (3, .ref x3), (4, .ref x4), (5, .int x5)]) hx hb dL_law_1925 hl (by decide) rfl (fun ls hl => ?_)
  refine lv_aload_n hx hb dL_law_1927 rfl (lv_at hl 4 rfl) ?_
  obtain ⟨ad365, F365, A365, U365, hS365, hz, hw⟩ := hw
  have hM := snd_X4_thrown l G H.size h363 ad365 F365 A365 U365 _ hS365 hw
  have hre := hS365.2.1
  rw [hz] at hM hre
  refine hv_rci hI (va_runV (As := []) (b := x2) (rest := []) hE.1 hM (cwV 0 hts (lw_V q2098 q2099 q2100 q108 q2101) rfl rfl rfl (by decide +kernel) ⟨Nat.le_of_ble_eq_true rfl, Nat.le_of_ble_eq_true rfl⟩) (hv_preV hE hI (ci := 0) rfl hre) rfl rfl hl.1 rfl (lv_room (Nat.le_of_ble_eq_true rfl)) dL_law_1928 ⟨hc, hs⟩) (fun r366 h367 H locs hw hI => ?_)
  obtain ⟨F368, A368, U368, hS368, hO368, hw⟩ := hw
  have hw := hw h367 hS368 hO368
  refine lv_iload hx hb dL_law_1931 (lv_at hl 1 rfl) ?_
  refine lv_icmp_eq (tgt := 1938) hx hb dL_law_1933 (by decide) (fun c_1933 => ?_) (fun c_1933 => ?_)
  · have hw := hw.1 c_1933
    refine lv_iload hx hb dL_law_1938 (lv_at hl 1 rfl) ?_
    refine lv_if_ne (tgt := 1955) hx hb dL_law_1940 (by decide) (fun c_1940 => ?_) (fun c_1940 => ?_)
    · have hw := hw.1 c_1940
      refine lv_goto (tgt := 2191) hx hb dL_law_1955 (by decide) ?_
      exact snd_L_law_L2191 G L xs hl0 hX0 hbl hbA hret hE k28 hk28 h367 (nc + mc358) (nk + ms358) x1 x2 x3 x4 x5 hw hc hs _ _ _ hI (lv_sub hl [2, 3, 4, 5, 6, 7] rfl)
    · have hw := hw.2 c_1940
      refine lv_aload_n hx hb dL_law_1943 rfl (lv_at hl 5 rfl) ?_
      refine lv_iconst (v := 0) hx hb dL_law_1944 (by decide) ?_
      refine hv_wlld hE hI hw dL_law_1945 (fun r369 hw => ?_)
      refine lv_iload hx hb dL_law_1946 (lv_at hl 0 rfl) ?_
      refine lv_i2l (v := (Int32.toInt64 r362)) hx hb dL_law_1948 rfl ?_
      refine W.lcmp hx hb dL_law_1949 ?_
      refine lv_if_eq (tgt := 1955) hx hb dL_law_1950 (by decide) (fun c_1950 => ?_) (fun c_1950 => ?_)
      · have hw := hw.1 c_1950
        refine lv_goto (tgt := 2191) hx hb dL_law_1955 (by decide) ?_
        exact snd_L_law_L2191 G L xs hl0 hX0 hbl hbA hret hE k28 hk28 h367 (nc + mc358) (nk + ms358) x1 x2 x3 x4 x5 hw hc hs _ _ _ hI (lv_sub hl [2, 3, 4, 5, 6, 7] rfl)
      · have hw := hw.2 c_1950
        refine lv_iconst (v := 0) hx hb dL_law_1953 (by decide) ?_
        exact hw.elim
  · have hw := hw.2 c_1933
    refine lv_iconst (v := 0) hx hb dL_law_1936 (by decide) ?_
    exact hw.elim
def wp_L_law_L1958 (G : GG) (L : Nat) (xs : Nat → Int32) (k28 : (HH) → (Nat) → (Nat) → (Nat) → (Nat) → (Nat) → (Nat) → (Int32) → Prop) (h : HH) (nc : Nat) (nk : Nat) (x1 : Nat) (x2 : Nat) (x3 : Nat) (x4 : Nat) (x5 : Int32) : Prop := (∃ mc370 ms370, nc + mc370 ≤ 1200144 ∧ nk + ms370 ≤ 5494714 ∧ wp_X0_read G mc370 ms370 h (some x1) (some x3) (fun r371 h372 => w_ml G h372 x2 (fun ad373 F373 A373 U373 => wp_X4_read F373 A373 U373 (fun r374 F376 A376 U376 => ∀ h375, ml_S G h375 ad373 F376 A376 U376 → ml_O ad373 h372 h375 → w_ml G h375 x2 (fun ad377 F377 A377 U377 => wp_X4_thrown F377 A377 U377 (fun r378 F380 A380 U380 => ∀ h379, ml_S G h379 ad377 F380 A380 U380 → ml_O ad377 h375 h379 → ((r378 = r371 → ((¬ r371 = 0 → wp_L_law_L2191 G L xs k28 h379 (nc + mc370) (nk + ms370) x1 x2 x3 x4 x5) ∧ (r371 = 0 → w_lld G h379 x3 (0 : Int32) (fun r381 => (((lg_cmp r381 (Int32.toInt64 r374)) = 0 → wp_L_law_L2191 G L xs k28 h379 (nc + mc370) (nk + ms370) x1 x2 x3 x4 x5) ∧ (¬ (lg_cmp r381 (Int32.toInt64 r374)) = 0 → False)))))) ∧ (¬ r378 = r371 → False))))))))
set_option maxHeartbeats 4000000 in
theorem snd_L_law_L1958 {p : Program} {l : Launch} {e : Env} {s : State} {m : MethodId} {below : List Frame} {meth : Method} {c : Code} {h0 : HH} {b : Nat} {Q9 : State → Prop} (G : GG) (L : Nat) (xs : Nat → Int32) (hl0 : l.stackTraces = false) (hX0 : va_X b L xs s s.heap) (hbl : b < s.heap.size) (hbA : ¬ hv_A h0 s.heap.size b) (hret : la_Ret p l e s m below meth c b h0 Q9) (hE : hv_E p s m #[.ref b] meth c cL_law 9 ret R_law G h0) (k28 : (HH) → (Nat) → (Nat) → (Nat) → (Nat) → (Nat) → (Nat) → (Int32) → Prop) (hk28 : ∀ (h : HH) (nc : Nat) (nk : Nat) (x1 : Nat) (x2 : Nat) (x3 : Nat) (x4 : Nat) (x5 : Int32), k28 h nc nk x1 x2 x3 x4 x5 → nc ≤ 1200144 → nk ≤ 5494714 → ∀ (H : Heap) (locs : List Loc) (ls : Array Slot), hv_I G h0 s.heap h H locs → lv_has ls 9 [(0, .ref b), (1, .ref x1), (2, .ref x2), (3, .ref x3), (4, .ref x4), (5, .int x5)] → W p l e room_1 s m #[.ref b] below meth c H locs nc nk Q9 (F0 m 28 ls [])) : ∀ (h : HH) (nc : Nat) (nk : Nat) (x1 : Nat) (x2 : Nat) (x3 : Nat) (x4 : Nat) (x5 : Int32), wp_L_law_L1958 G L xs k28 h nc nk x1 x2 x3 x4 x5 → nc ≤ 1200144 → nk ≤ 5494714 → ∀ (H : Heap) (locs : List Loc) (ls : Array Slot), hv_I G h0 s.heap h H locs → lv_has ls 9 [(0, .ref b), (1, .ref x1), (2, .ref x2), (3, .ref x3), (4, .ref x4), (5, .int x5)] → W p l e room_1 s m #[.ref b] below meth c H locs nc nk Q9 (F0 m 1958 ls []) := by
  obtain ⟨⟨hx, hb, hml, hown, hts⟩, hr, hlocks, hXX⟩ := id hE
  intro h nc nk x1 x2 x3 x4 x5 hw hc hs H locs ls hI hl
  unfold wp_L_law_L1958 at hw
  refine lv_aload_n hx hb dL_law_1958 rfl (lv_at hl 1 rfl) ?_
  refine lv_aload_n hx hb dL_law_1959 rfl (lv_at hl 3 rfl) ?_
  obtain ⟨mc370, ms370, hc, hs, hw⟩ := hw
  refine hv_rci hI (vx_runSW (As := [.ref x1, .ref x3]) (rest := []) hE.1 (snd_X0_read l hl0 G _ mc370 ms370 h (some x1) (some x3) _ hw) (vx_cwSW 2 hts (lw_SW q1901 q1902 q96 q1903) rfl rfl rfl (by decide +kernel) ⟨Nat.le_of_ble_eq_true rfl, Nat.le_of_ble_eq_true rfl⟩) (hv_preS hE hI) rfl rfl hl.1 rfl (lv_room (Nat.le_of_ble_eq_true rfl)) dL_law_1960 ⟨hc, hs⟩) (fun r371 h372 H locs hw hI => ?_)
  refine lv_istore (lv' := [(6, .int r371), (0, .ref b), (1, .ref x1), (2, .ref x2), (3, .ref x3), (4, .ref x4), (5, .int x5)]) hx hb dL_law_1963 hl (by decide) rfl (fun ls hl => ?_)
  refine lv_aload_n hx hb dL_law_1965 rfl (lv_at hl 3 rfl) ?_
  obtain ⟨ad373, F373, A373, U373, hS373, hz, hw⟩ := hw
  have hM := snd_X4_read l G H.size h372 ad373 F373 A373 U373 _ hS373 hw
  have hre := hS373.2.1
  rw [hz] at hM hre
  refine hv_rci hI (va_runV (As := []) (b := x2) (rest := []) hE.1 hM (cwV 0 hts (lw_V q2471 q2472 q2473 q108 q2474) rfl rfl rfl (by decide +kernel) ⟨Nat.le_of_ble_eq_true rfl, Nat.le_of_ble_eq_true rfl⟩) (hv_preV hE hI (ci := 0) rfl hre) rfl rfl hl.1 rfl (lv_room (Nat.le_of_ble_eq_true rfl)) dL_law_1966 ⟨hc, hs⟩) (fun r374 h375 H locs hw hI => ?_)
  obtain ⟨F376, A376, U376, hS376, hO376, hw⟩ := hw
  have hw := hw h375 hS376 hO376
  refine lv_istore (lv' := [(7, .int r374), (6, .int r371), (0, .ref b), (1, .ref x1), (2, .ref x2), (3, .ref x3), (4, .ref x4), (5, .int x5)]) hx hb dL_law_1969 hl (by decide) rfl (fun ls hl => ?_)
  refine lv_aload_n hx hb dL_law_1971 rfl (lv_at hl 4 rfl) ?_
  obtain ⟨ad377, F377, A377, U377, hS377, hz, hw⟩ := hw
  have hM := snd_X4_thrown l G H.size h375 ad377 F377 A377 U377 _ hS377 hw
  have hre := hS377.2.1
  rw [hz] at hM hre
  refine hv_rci hI (va_runV (As := []) (b := x2) (rest := []) hE.1 hM (cwV 0 hts (lw_V q2098 q2099 q2100 q108 q2101) rfl rfl rfl (by decide +kernel) ⟨Nat.le_of_ble_eq_true rfl, Nat.le_of_ble_eq_true rfl⟩) (hv_preV hE hI (ci := 0) rfl hre) rfl rfl hl.1 rfl (lv_room (Nat.le_of_ble_eq_true rfl)) dL_law_1972 ⟨hc, hs⟩) (fun r378 h379 H locs hw hI => ?_)
  obtain ⟨F380, A380, U380, hS380, hO380, hw⟩ := hw
  have hw := hw h379 hS380 hO380
  refine lv_iload hx hb dL_law_1975 (lv_at hl 1 rfl) ?_
  refine lv_icmp_eq (tgt := 1982) hx hb dL_law_1977 (by decide) (fun c_1977 => ?_) (fun c_1977 => ?_)
  · have hw := hw.1 c_1977
    refine lv_iload hx hb dL_law_1982 (lv_at hl 1 rfl) ?_
    refine lv_if_ne (tgt := 1999) hx hb dL_law_1984 (by decide) (fun c_1984 => ?_) (fun c_1984 => ?_)
    · have hw := hw.1 c_1984
      refine lv_goto (tgt := 2191) hx hb dL_law_1999 (by decide) ?_
      exact snd_L_law_L2191 G L xs hl0 hX0 hbl hbA hret hE k28 hk28 h379 (nc + mc370) (nk + ms370) x1 x2 x3 x4 x5 hw hc hs _ _ _ hI (lv_sub hl [2, 3, 4, 5, 6, 7] rfl)
    · have hw := hw.2 c_1984
      refine lv_aload_n hx hb dL_law_1987 rfl (lv_at hl 5 rfl) ?_
      refine lv_iconst (v := 0) hx hb dL_law_1988 (by decide) ?_
      refine hv_wlld hE hI hw dL_law_1989 (fun r381 hw => ?_)
      refine lv_iload hx hb dL_law_1990 (lv_at hl 0 rfl) ?_
      refine lv_i2l (v := (Int32.toInt64 r374)) hx hb dL_law_1992 rfl ?_
      refine W.lcmp hx hb dL_law_1993 ?_
      refine lv_if_eq (tgt := 1999) hx hb dL_law_1994 (by decide) (fun c_1994 => ?_) (fun c_1994 => ?_)
      · have hw := hw.1 c_1994
        refine lv_goto (tgt := 2191) hx hb dL_law_1999 (by decide) ?_
        exact snd_L_law_L2191 G L xs hl0 hX0 hbl hbA hret hE k28 hk28 h379 (nc + mc370) (nk + ms370) x1 x2 x3 x4 x5 hw hc hs _ _ _ hI (lv_sub hl [2, 3, 4, 5, 6, 7] rfl)
      · have hw := hw.2 c_1994
        refine lv_iconst (v := 0) hx hb dL_law_1997 (by decide) ?_
        exact hw.elim
  · have hw := hw.2 c_1977
    refine lv_iconst (v := 0) hx hb dL_law_1980 (by decide) ?_
    exact hw.elim
def wp_L_law_L2002 (G : GG) (L : Nat) (xs : Nat → Int32) (k28 : (HH) → (Nat) → (Nat) → (Nat) → (Nat) → (Nat) → (Nat) → (Int32) → Prop) (h : HH) (nc : Nat) (nk : Nat) (x1 : Nat) (x2 : Nat) (x3 : Nat) (x4 : Nat) (x5 : Int32) : Prop := (∃ mc382 ms382, nc + mc382 ≤ 1200144 ∧ nk + ms382 ≤ 5494714 ∧ wp_X0_errorPosition G mc382 ms382 h (some x1) (some x3) (fun r383 h384 => w_ml G h384 x2 (fun ad385 F385 A385 U385 => wp_X4_errorPosition F385 A385 U385 (fun r386 F388 A388 U388 => ∀ h387, ml_S G h387 ad385 F388 A388 U388 → ml_O ad385 h384 h387 → w_ml G h387 x2 (fun ad389 F389 A389 U389 => wp_X4_thrown F389 A389 U389 (fun r390 F392 A392 U392 => ∀ h391, ml_S G h391 ad389 F392 A392 U392 → ml_O ad389 h387 h391 → ((r390 = r383 → ((¬ r383 = 0 → wp_L_law_L2191 G L xs k28 h391 (nc + mc382) (nk + ms382) x1 x2 x3 x4 x5) ∧ (r383 = 0 → w_lld G h391 x3 (0 : Int32) (fun r393 => (((lg_cmp r393 (Int32.toInt64 r386)) = 0 → wp_L_law_L2191 G L xs k28 h391 (nc + mc382) (nk + ms382) x1 x2 x3 x4 x5) ∧ (¬ (lg_cmp r393 (Int32.toInt64 r386)) = 0 → False)))))) ∧ (¬ r390 = r383 → False))))))))
set_option maxHeartbeats 4000000 in
theorem snd_L_law_L2002 {p : Program} {l : Launch} {e : Env} {s : State} {m : MethodId} {below : List Frame} {meth : Method} {c : Code} {h0 : HH} {b : Nat} {Q9 : State → Prop} (G : GG) (L : Nat) (xs : Nat → Int32) (hl0 : l.stackTraces = false) (hX0 : va_X b L xs s s.heap) (hbl : b < s.heap.size) (hbA : ¬ hv_A h0 s.heap.size b) (hret : la_Ret p l e s m below meth c b h0 Q9) (hE : hv_E p s m #[.ref b] meth c cL_law 9 ret R_law G h0) (k28 : (HH) → (Nat) → (Nat) → (Nat) → (Nat) → (Nat) → (Nat) → (Int32) → Prop) (hk28 : ∀ (h : HH) (nc : Nat) (nk : Nat) (x1 : Nat) (x2 : Nat) (x3 : Nat) (x4 : Nat) (x5 : Int32), k28 h nc nk x1 x2 x3 x4 x5 → nc ≤ 1200144 → nk ≤ 5494714 → ∀ (H : Heap) (locs : List Loc) (ls : Array Slot), hv_I G h0 s.heap h H locs → lv_has ls 9 [(0, .ref b), (1, .ref x1), (2, .ref x2), (3, .ref x3), (4, .ref x4), (5, .int x5)] → W p l e room_1 s m #[.ref b] below meth c H locs nc nk Q9 (F0 m 28 ls [])) : ∀ (h : HH) (nc : Nat) (nk : Nat) (x1 : Nat) (x2 : Nat) (x3 : Nat) (x4 : Nat) (x5 : Int32), wp_L_law_L2002 G L xs k28 h nc nk x1 x2 x3 x4 x5 → nc ≤ 1200144 → nk ≤ 5494714 → ∀ (H : Heap) (locs : List Loc) (ls : Array Slot), hv_I G h0 s.heap h H locs → lv_has ls 9 [(0, .ref b), (1, .ref x1), (2, .ref x2), (3, .ref x3), (4, .ref x4), (5, .int x5)] → W p l e room_1 s m #[.ref b] below meth c H locs nc nk Q9 (F0 m 2002 ls []) := by
  obtain ⟨⟨hx, hb, hml, hown, hts⟩, hr, hlocks, hXX⟩ := id hE
  intro h nc nk x1 x2 x3 x4 x5 hw hc hs H locs ls hI hl
  unfold wp_L_law_L2002 at hw
  refine lv_aload_n hx hb dL_law_2002 rfl (lv_at hl 1 rfl) ?_
  refine lv_aload_n hx hb dL_law_2003 rfl (lv_at hl 3 rfl) ?_
  obtain ⟨mc382, ms382, hc, hs, hw⟩ := hw
  refine hv_rci hI (vx_runSW (As := [.ref x1, .ref x3]) (rest := []) hE.1 (snd_X0_errorPosition l hl0 G _ mc382 ms382 h (some x1) (some x3) _ hw) (vx_cwSW 2 hts (lw_SW q1934 q1935 q96 q1936) rfl rfl rfl (by decide +kernel) ⟨Nat.le_of_ble_eq_true rfl, Nat.le_of_ble_eq_true rfl⟩) (hv_preS hE hI) rfl rfl hl.1 rfl (lv_room (Nat.le_of_ble_eq_true rfl)) dL_law_2004 ⟨hc, hs⟩) (fun r383 h384 H locs hw hI => ?_)
  refine lv_istore (lv' := [(6, .int r383), (0, .ref b), (1, .ref x1), (2, .ref x2), (3, .ref x3), (4, .ref x4), (5, .int x5)]) hx hb dL_law_2007 hl (by decide) rfl (fun ls hl => ?_)
  refine lv_aload_n hx hb dL_law_2009 rfl (lv_at hl 3 rfl) ?_
  obtain ⟨ad385, F385, A385, U385, hS385, hz, hw⟩ := hw
  have hM := snd_X4_errorPosition l G H.size h384 ad385 F385 A385 U385 _ hS385 hw
  have hre := hS385.2.1
  rw [hz] at hM hre
  refine hv_rci hI (va_runV (As := []) (b := x2) (rest := []) hE.1 hM (cwV 0 hts (lw_V q2487 q2488 q2489 q108 q2490) rfl rfl rfl (by decide +kernel) ⟨Nat.le_of_ble_eq_true rfl, Nat.le_of_ble_eq_true rfl⟩) (hv_preV hE hI (ci := 0) rfl hre) rfl rfl hl.1 rfl (lv_room (Nat.le_of_ble_eq_true rfl)) dL_law_2010 ⟨hc, hs⟩) (fun r386 h387 H locs hw hI => ?_)
  obtain ⟨F388, A388, U388, hS388, hO388, hw⟩ := hw
  have hw := hw h387 hS388 hO388
  refine lv_istore (lv' := [(7, .int r386), (6, .int r383), (0, .ref b), (1, .ref x1), (2, .ref x2), (3, .ref x3), (4, .ref x4), (5, .int x5)]) hx hb dL_law_2013 hl (by decide) rfl (fun ls hl => ?_)
  refine lv_aload_n hx hb dL_law_2015 rfl (lv_at hl 4 rfl) ?_
  obtain ⟨ad389, F389, A389, U389, hS389, hz, hw⟩ := hw
  have hM := snd_X4_thrown l G H.size h387 ad389 F389 A389 U389 _ hS389 hw
  have hre := hS389.2.1
  rw [hz] at hM hre
  refine hv_rci hI (va_runV (As := []) (b := x2) (rest := []) hE.1 hM (cwV 0 hts (lw_V q2098 q2099 q2100 q108 q2101) rfl rfl rfl (by decide +kernel) ⟨Nat.le_of_ble_eq_true rfl, Nat.le_of_ble_eq_true rfl⟩) (hv_preV hE hI (ci := 0) rfl hre) rfl rfl hl.1 rfl (lv_room (Nat.le_of_ble_eq_true rfl)) dL_law_2016 ⟨hc, hs⟩) (fun r390 h391 H locs hw hI => ?_)
  obtain ⟨F392, A392, U392, hS392, hO392, hw⟩ := hw
  have hw := hw h391 hS392 hO392
  refine lv_iload hx hb dL_law_2019 (lv_at hl 1 rfl) ?_
  refine lv_icmp_eq (tgt := 2026) hx hb dL_law_2021 (by decide) (fun c_2021 => ?_) (fun c_2021 => ?_)
  · have hw := hw.1 c_2021
    refine lv_iload hx hb dL_law_2026 (lv_at hl 1 rfl) ?_
    refine lv_if_ne (tgt := 2043) hx hb dL_law_2028 (by decide) (fun c_2028 => ?_) (fun c_2028 => ?_)
    · have hw := hw.1 c_2028
      refine lv_goto (tgt := 2191) hx hb dL_law_2043 (by decide) ?_
      exact snd_L_law_L2191 G L xs hl0 hX0 hbl hbA hret hE k28 hk28 h391 (nc + mc382) (nk + ms382) x1 x2 x3 x4 x5 hw hc hs _ _ _ hI (lv_sub hl [2, 3, 4, 5, 6, 7] rfl)
    · have hw := hw.2 c_2028
      refine lv_aload_n hx hb dL_law_2031 rfl (lv_at hl 5 rfl) ?_
      refine lv_iconst (v := 0) hx hb dL_law_2032 (by decide) ?_
      refine hv_wlld hE hI hw dL_law_2033 (fun r393 hw => ?_)
      refine lv_iload hx hb dL_law_2034 (lv_at hl 0 rfl) ?_
      refine lv_i2l (v := (Int32.toInt64 r386)) hx hb dL_law_2036 rfl ?_
      refine W.lcmp hx hb dL_law_2037 ?_
      refine lv_if_eq (tgt := 2043) hx hb dL_law_2038 (by decide) (fun c_2038 => ?_) (fun c_2038 => ?_)
      · have hw := hw.1 c_2038
        refine lv_goto (tgt := 2191) hx hb dL_law_2043 (by decide) ?_
        exact snd_L_law_L2191 G L xs hl0 hX0 hbl hbA hret hE k28 hk28 h391 (nc + mc382) (nk + ms382) x1 x2 x3 x4 x5 hw hc hs _ _ _ hI (lv_sub hl [2, 3, 4, 5, 6, 7] rfl)
      · have hw := hw.2 c_2038
        refine lv_iconst (v := 0) hx hb dL_law_2041 (by decide) ?_
        exact hw.elim
  · have hw := hw.2 c_2021
    refine lv_iconst (v := 0) hx hb dL_law_2024 (by decide) ?_
    exact hw.elim
def wp_L_law_L2046 (G : GG) (L : Nat) (xs : Nat → Int32) (k28 : (HH) → (Nat) → (Nat) → (Nat) → (Nat) → (Nat) → (Nat) → (Int32) → Prop) (h : HH) (nc : Nat) (nk : Nat) (x1 : Nat) (x2 : Nat) (x3 : Nat) (x4 : Nat) (x5 : Int32) : Prop := (∃ mc394 ms394, nc + mc394 ≤ 1200144 ∧ nk + ms394 ≤ 5494714 ∧ wp_X0_refusedItem G mc394 ms394 h (some x1) (some x3) (fun r395 h396 => w_ml G h396 x2 (fun ad397 F397 A397 U397 => wp_X4_refusedItem F397 A397 U397 (fun r398 F400 A400 U400 => ∀ h399, ml_S G h399 ad397 F400 A400 U400 → ml_O ad397 h396 h399 → w_ml G h399 x2 (fun ad401 F401 A401 U401 => wp_X4_thrown F401 A401 U401 (fun r402 F404 A404 U404 => ∀ h403, ml_S G h403 ad401 F404 A404 U404 → ml_O ad401 h399 h403 → ((r402 = r395 → ((¬ r395 = 0 → wp_L_law_L2191 G L xs k28 h403 (nc + mc394) (nk + ms394) x1 x2 x3 x4 x5) ∧ (r395 = 0 → w_lld G h403 x3 (0 : Int32) (fun r405 => (((lg_cmp r405 (Int32.toInt64 r398)) = 0 → wp_L_law_L2191 G L xs k28 h403 (nc + mc394) (nk + ms394) x1 x2 x3 x4 x5) ∧ (¬ (lg_cmp r405 (Int32.toInt64 r398)) = 0 → False)))))) ∧ (¬ r402 = r395 → False))))))))
set_option maxHeartbeats 4000000 in
theorem snd_L_law_L2046 {p : Program} {l : Launch} {e : Env} {s : State} {m : MethodId} {below : List Frame} {meth : Method} {c : Code} {h0 : HH} {b : Nat} {Q9 : State → Prop} (G : GG) (L : Nat) (xs : Nat → Int32) (hl0 : l.stackTraces = false) (hX0 : va_X b L xs s s.heap) (hbl : b < s.heap.size) (hbA : ¬ hv_A h0 s.heap.size b) (hret : la_Ret p l e s m below meth c b h0 Q9) (hE : hv_E p s m #[.ref b] meth c cL_law 9 ret R_law G h0) (k28 : (HH) → (Nat) → (Nat) → (Nat) → (Nat) → (Nat) → (Nat) → (Int32) → Prop) (hk28 : ∀ (h : HH) (nc : Nat) (nk : Nat) (x1 : Nat) (x2 : Nat) (x3 : Nat) (x4 : Nat) (x5 : Int32), k28 h nc nk x1 x2 x3 x4 x5 → nc ≤ 1200144 → nk ≤ 5494714 → ∀ (H : Heap) (locs : List Loc) (ls : Array Slot), hv_I G h0 s.heap h H locs → lv_has ls 9 [(0, .ref b), (1, .ref x1), (2, .ref x2), (3, .ref x3), (4, .ref x4), (5, .int x5)] → W p l e room_1 s m #[.ref b] below meth c H locs nc nk Q9 (F0 m 28 ls [])) : ∀ (h : HH) (nc : Nat) (nk : Nat) (x1 : Nat) (x2 : Nat) (x3 : Nat) (x4 : Nat) (x5 : Int32), wp_L_law_L2046 G L xs k28 h nc nk x1 x2 x3 x4 x5 → nc ≤ 1200144 → nk ≤ 5494714 → ∀ (H : Heap) (locs : List Loc) (ls : Array Slot), hv_I G h0 s.heap h H locs → lv_has ls 9 [(0, .ref b), (1, .ref x1), (2, .ref x2), (3, .ref x3), (4, .ref x4), (5, .int x5)] → W p l e room_1 s m #[.ref b] below meth c H locs nc nk Q9 (F0 m 2046 ls []) := by
  obtain ⟨⟨hx, hb, hml, hown, hts⟩, hr, hlocks, hXX⟩ := id hE
  intro h nc nk x1 x2 x3 x4 x5 hw hc hs H locs ls hI hl
  unfold wp_L_law_L2046 at hw
  refine lv_aload_n hx hb dL_law_2046 rfl (lv_at hl 1 rfl) ?_
  refine lv_aload_n hx hb dL_law_2047 rfl (lv_at hl 3 rfl) ?_
  obtain ⟨mc394, ms394, hc, hs, hw⟩ := hw
  refine hv_rci hI (vx_runSW (As := [.ref x1, .ref x3]) (rest := []) hE.1 (snd_X0_refusedItem l hl0 G _ mc394 ms394 h (some x1) (some x3) _ hw) (vx_cwSW 2 hts (lw_SW q1941 q1942 q96 q1943) rfl rfl rfl (by decide +kernel) ⟨Nat.le_of_ble_eq_true rfl, Nat.le_of_ble_eq_true rfl⟩) (hv_preS hE hI) rfl rfl hl.1 rfl (lv_room (Nat.le_of_ble_eq_true rfl)) dL_law_2048 ⟨hc, hs⟩) (fun r395 h396 H locs hw hI => ?_)
  refine lv_istore (lv' := [(6, .int r395), (0, .ref b), (1, .ref x1), (2, .ref x2), (3, .ref x3), (4, .ref x4), (5, .int x5)]) hx hb dL_law_2051 hl (by decide) rfl (fun ls hl => ?_)
  refine lv_aload_n hx hb dL_law_2053 rfl (lv_at hl 3 rfl) ?_
  obtain ⟨ad397, F397, A397, U397, hS397, hz, hw⟩ := hw
  have hM := snd_X4_refusedItem l G H.size h396 ad397 F397 A397 U397 _ hS397 hw
  have hre := hS397.2.1
  rw [hz] at hM hre
  refine hv_rci hI (va_runV (As := []) (b := x2) (rest := []) hE.1 hM (cwV 0 hts (lw_V q2491 q2492 q2493 q108 q2494) rfl rfl rfl (by decide +kernel) ⟨Nat.le_of_ble_eq_true rfl, Nat.le_of_ble_eq_true rfl⟩) (hv_preV hE hI (ci := 0) rfl hre) rfl rfl hl.1 rfl (lv_room (Nat.le_of_ble_eq_true rfl)) dL_law_2054 ⟨hc, hs⟩) (fun r398 h399 H locs hw hI => ?_)
  obtain ⟨F400, A400, U400, hS400, hO400, hw⟩ := hw
  have hw := hw h399 hS400 hO400
  refine lv_istore (lv' := [(7, .int r398), (6, .int r395), (0, .ref b), (1, .ref x1), (2, .ref x2), (3, .ref x3), (4, .ref x4), (5, .int x5)]) hx hb dL_law_2057 hl (by decide) rfl (fun ls hl => ?_)
  refine lv_aload_n hx hb dL_law_2059 rfl (lv_at hl 4 rfl) ?_
  obtain ⟨ad401, F401, A401, U401, hS401, hz, hw⟩ := hw
  have hM := snd_X4_thrown l G H.size h399 ad401 F401 A401 U401 _ hS401 hw
  have hre := hS401.2.1
  rw [hz] at hM hre
  refine hv_rci hI (va_runV (As := []) (b := x2) (rest := []) hE.1 hM (cwV 0 hts (lw_V q2098 q2099 q2100 q108 q2101) rfl rfl rfl (by decide +kernel) ⟨Nat.le_of_ble_eq_true rfl, Nat.le_of_ble_eq_true rfl⟩) (hv_preV hE hI (ci := 0) rfl hre) rfl rfl hl.1 rfl (lv_room (Nat.le_of_ble_eq_true rfl)) dL_law_2060 ⟨hc, hs⟩) (fun r402 h403 H locs hw hI => ?_)
  obtain ⟨F404, A404, U404, hS404, hO404, hw⟩ := hw
  have hw := hw h403 hS404 hO404
  refine lv_iload hx hb dL_law_2063 (lv_at hl 1 rfl) ?_
  refine lv_icmp_eq (tgt := 2070) hx hb dL_law_2065 (by decide) (fun c_2065 => ?_) (fun c_2065 => ?_)
  · have hw := hw.1 c_2065
    refine lv_iload hx hb dL_law_2070 (lv_at hl 1 rfl) ?_
    refine lv_if_ne (tgt := 2087) hx hb dL_law_2072 (by decide) (fun c_2072 => ?_) (fun c_2072 => ?_)
    · have hw := hw.1 c_2072
      refine lv_goto (tgt := 2191) hx hb dL_law_2087 (by decide) ?_
      exact snd_L_law_L2191 G L xs hl0 hX0 hbl hbA hret hE k28 hk28 h403 (nc + mc394) (nk + ms394) x1 x2 x3 x4 x5 hw hc hs _ _ _ hI (lv_sub hl [2, 3, 4, 5, 6, 7] rfl)
    · have hw := hw.2 c_2072
      refine lv_aload_n hx hb dL_law_2075 rfl (lv_at hl 5 rfl) ?_
      refine lv_iconst (v := 0) hx hb dL_law_2076 (by decide) ?_
      refine hv_wlld hE hI hw dL_law_2077 (fun r405 hw => ?_)
      refine lv_iload hx hb dL_law_2078 (lv_at hl 0 rfl) ?_
      refine lv_i2l (v := (Int32.toInt64 r398)) hx hb dL_law_2080 rfl ?_
      refine W.lcmp hx hb dL_law_2081 ?_
      refine lv_if_eq (tgt := 2087) hx hb dL_law_2082 (by decide) (fun c_2082 => ?_) (fun c_2082 => ?_)
      · have hw := hw.1 c_2082
        refine lv_goto (tgt := 2191) hx hb dL_law_2087 (by decide) ?_
        exact snd_L_law_L2191 G L xs hl0 hX0 hbl hbA hret hE k28 hk28 h403 (nc + mc394) (nk + ms394) x1 x2 x3 x4 x5 hw hc hs _ _ _ hI (lv_sub hl [2, 3, 4, 5, 6, 7] rfl)
      · have hw := hw.2 c_2082
        refine lv_iconst (v := 0) hx hb dL_law_2085 (by decide) ?_
        exact hw.elim
  · have hw := hw.2 c_2065
    refine lv_iconst (v := 0) hx hb dL_law_2068 (by decide) ?_
    exact hw.elim
def wp_L_law_L2090 (G : GG) (L : Nat) (xs : Nat → Int32) (k28 : (HH) → (Nat) → (Nat) → (Nat) → (Nat) → (Nat) → (Nat) → (Int32) → Prop) (h : HH) (nc : Nat) (nk : Nat) (x1 : Nat) (x2 : Nat) (x3 : Nat) (x4 : Nat) (x5 : Int32) : Prop := (∃ mc406 ms406, nc + mc406 ≤ 1200144 ∧ nk + ms406 ≤ 5494714 ∧ wp_X0_undo G mc406 ms406 h (some x1) (some x3) (fun r407 h408 => w_ml G h408 x2 (fun ad409 F409 A409 U409 => wp_X4_undo F409 A409 U409 (fun r410 F412 A412 U412 => ∀ h411, ml_S G h411 ad409 F412 A412 U412 → ml_O ad409 h408 h411 → w_ml G h411 x2 (fun ad413 F413 A413 U413 => wp_X4_thrown F413 A413 U413 (fun r414 F416 A416 U416 => ∀ h415, ml_S G h415 ad413 F416 A416 U416 → ml_O ad413 h411 h415 → ((r414 = r407 → ((¬ r407 = 0 → wp_L_law_L2191 G L xs k28 h415 (nc + mc406) (nk + ms406) x1 x2 x3 x4 x5) ∧ (r407 = 0 → w_lld G h415 x3 (0 : Int32) (fun r417 => (((lg_cmp r417 (Int32.toInt64 r410)) = 0 → wp_L_law_L2191 G L xs k28 h415 (nc + mc406) (nk + ms406) x1 x2 x3 x4 x5) ∧ (¬ (lg_cmp r417 (Int32.toInt64 r410)) = 0 → False)))))) ∧ (¬ r414 = r407 → False))))))))
set_option maxHeartbeats 4000000 in
theorem snd_L_law_L2090 {p : Program} {l : Launch} {e : Env} {s : State} {m : MethodId} {below : List Frame} {meth : Method} {c : Code} {h0 : HH} {b : Nat} {Q9 : State → Prop} (G : GG) (L : Nat) (xs : Nat → Int32) (hl0 : l.stackTraces = false) (hX0 : va_X b L xs s s.heap) (hbl : b < s.heap.size) (hbA : ¬ hv_A h0 s.heap.size b) (hret : la_Ret p l e s m below meth c b h0 Q9) (hE : hv_E p s m #[.ref b] meth c cL_law 9 ret R_law G h0) (k28 : (HH) → (Nat) → (Nat) → (Nat) → (Nat) → (Nat) → (Nat) → (Int32) → Prop) (hk28 : ∀ (h : HH) (nc : Nat) (nk : Nat) (x1 : Nat) (x2 : Nat) (x3 : Nat) (x4 : Nat) (x5 : Int32), k28 h nc nk x1 x2 x3 x4 x5 → nc ≤ 1200144 → nk ≤ 5494714 → ∀ (H : Heap) (locs : List Loc) (ls : Array Slot), hv_I G h0 s.heap h H locs → lv_has ls 9 [(0, .ref b), (1, .ref x1), (2, .ref x2), (3, .ref x3), (4, .ref x4), (5, .int x5)] → W p l e room_1 s m #[.ref b] below meth c H locs nc nk Q9 (F0 m 28 ls [])) : ∀ (h : HH) (nc : Nat) (nk : Nat) (x1 : Nat) (x2 : Nat) (x3 : Nat) (x4 : Nat) (x5 : Int32), wp_L_law_L2090 G L xs k28 h nc nk x1 x2 x3 x4 x5 → nc ≤ 1200144 → nk ≤ 5494714 → ∀ (H : Heap) (locs : List Loc) (ls : Array Slot), hv_I G h0 s.heap h H locs → lv_has ls 9 [(0, .ref b), (1, .ref x1), (2, .ref x2), (3, .ref x3), (4, .ref x4), (5, .int x5)] → W p l e room_1 s m #[.ref b] below meth c H locs nc nk Q9 (F0 m 2090 ls []) := by
  obtain ⟨⟨hx, hb, hml, hown, hts⟩, hr, hlocks, hXX⟩ := id hE
  intro h nc nk x1 x2 x3 x4 x5 hw hc hs H locs ls hI hl
  unfold wp_L_law_L2090 at hw
  refine lv_aload_n hx hb dL_law_2090 rfl (lv_at hl 1 rfl) ?_
  refine lv_aload_n hx hb dL_law_2091 rfl (lv_at hl 3 rfl) ?_
  obtain ⟨mc406, ms406, hc, hs, hw⟩ := hw
  refine hv_rci hI (vx_runSW (As := [.ref x1, .ref x3]) (rest := []) hE.1 (snd_X0_undo l hl0 G _ mc406 ms406 h (some x1) (some x3) _ hw) (vx_cwSW 2 hts (lw_SW q1948 q1949 q96 q1950) rfl rfl rfl (by decide +kernel) ⟨Nat.le_of_ble_eq_true rfl, Nat.le_of_ble_eq_true rfl⟩) (hv_preS hE hI) rfl rfl hl.1 rfl (lv_room (Nat.le_of_ble_eq_true rfl)) dL_law_2092 ⟨hc, hs⟩) (fun r407 h408 H locs hw hI => ?_)
  refine lv_istore (lv' := [(6, .int r407), (0, .ref b), (1, .ref x1), (2, .ref x2), (3, .ref x3), (4, .ref x4), (5, .int x5)]) hx hb dL_law_2095 hl (by decide) rfl (fun ls hl => ?_)
  refine lv_aload_n hx hb dL_law_2097 rfl (lv_at hl 3 rfl) ?_
  obtain ⟨ad409, F409, A409, U409, hS409, hz, hw⟩ := hw
  have hM := snd_X4_undo l G H.size h408 ad409 F409 A409 U409 _ hS409 hw
  have hre := hS409.2.1
  rw [hz] at hM hre
  refine hv_rci hI (va_runV (As := []) (b := x2) (rest := []) hE.1 hM (cwV 0 hts (lw_V q2495 q2496 q2497 q108 q2498) rfl rfl rfl (by decide +kernel) ⟨Nat.le_of_ble_eq_true rfl, Nat.le_of_ble_eq_true rfl⟩) (hv_preV hE hI (ci := 0) rfl hre) rfl rfl hl.1 rfl (lv_room (Nat.le_of_ble_eq_true rfl)) dL_law_2098 ⟨hc, hs⟩) (fun r410 h411 H locs hw hI => ?_)
  obtain ⟨F412, A412, U412, hS412, hO412, hw⟩ := hw
  have hw := hw h411 hS412 hO412
  refine lv_istore (lv' := [(7, .int r410), (6, .int r407), (0, .ref b), (1, .ref x1), (2, .ref x2), (3, .ref x3), (4, .ref x4), (5, .int x5)]) hx hb dL_law_2101 hl (by decide) rfl (fun ls hl => ?_)
  refine lv_aload_n hx hb dL_law_2103 rfl (lv_at hl 4 rfl) ?_
  obtain ⟨ad413, F413, A413, U413, hS413, hz, hw⟩ := hw
  have hM := snd_X4_thrown l G H.size h411 ad413 F413 A413 U413 _ hS413 hw
  have hre := hS413.2.1
  rw [hz] at hM hre
  refine hv_rci hI (va_runV (As := []) (b := x2) (rest := []) hE.1 hM (cwV 0 hts (lw_V q2098 q2099 q2100 q108 q2101) rfl rfl rfl (by decide +kernel) ⟨Nat.le_of_ble_eq_true rfl, Nat.le_of_ble_eq_true rfl⟩) (hv_preV hE hI (ci := 0) rfl hre) rfl rfl hl.1 rfl (lv_room (Nat.le_of_ble_eq_true rfl)) dL_law_2104 ⟨hc, hs⟩) (fun r414 h415 H locs hw hI => ?_)
  obtain ⟨F416, A416, U416, hS416, hO416, hw⟩ := hw
  have hw := hw h415 hS416 hO416
  refine lv_iload hx hb dL_law_2107 (lv_at hl 1 rfl) ?_
  refine lv_icmp_eq (tgt := 2114) hx hb dL_law_2109 (by decide) (fun c_2109 => ?_) (fun c_2109 => ?_)
  · have hw := hw.1 c_2109
    refine lv_iload hx hb dL_law_2114 (lv_at hl 1 rfl) ?_
    refine lv_if_ne (tgt := 2131) hx hb dL_law_2116 (by decide) (fun c_2116 => ?_) (fun c_2116 => ?_)
    · have hw := hw.1 c_2116
      refine lv_goto (tgt := 2191) hx hb dL_law_2131 (by decide) ?_
      exact snd_L_law_L2191 G L xs hl0 hX0 hbl hbA hret hE k28 hk28 h415 (nc + mc406) (nk + ms406) x1 x2 x3 x4 x5 hw hc hs _ _ _ hI (lv_sub hl [2, 3, 4, 5, 6, 7] rfl)
    · have hw := hw.2 c_2116
      refine lv_aload_n hx hb dL_law_2119 rfl (lv_at hl 5 rfl) ?_
      refine lv_iconst (v := 0) hx hb dL_law_2120 (by decide) ?_
      refine hv_wlld hE hI hw dL_law_2121 (fun r417 hw => ?_)
      refine lv_iload hx hb dL_law_2122 (lv_at hl 0 rfl) ?_
      refine lv_i2l (v := (Int32.toInt64 r410)) hx hb dL_law_2124 rfl ?_
      refine W.lcmp hx hb dL_law_2125 ?_
      refine lv_if_eq (tgt := 2131) hx hb dL_law_2126 (by decide) (fun c_2126 => ?_) (fun c_2126 => ?_)
      · have hw := hw.1 c_2126
        refine lv_goto (tgt := 2191) hx hb dL_law_2131 (by decide) ?_
        exact snd_L_law_L2191 G L xs hl0 hX0 hbl hbA hret hE k28 hk28 h415 (nc + mc406) (nk + ms406) x1 x2 x3 x4 x5 hw hc hs _ _ _ hI (lv_sub hl [2, 3, 4, 5, 6, 7] rfl)
      · have hw := hw.2 c_2126
        refine lv_iconst (v := 0) hx hb dL_law_2129 (by decide) ?_
        exact hw.elim
  · have hw := hw.2 c_2109
    refine lv_iconst (v := 0) hx hb dL_law_2112 (by decide) ?_
    exact hw.elim
def wp_L_law_L2134 (G : GG) (L : Nat) (xs : Nat → Int32) (k28 : (HH) → (Nat) → (Nat) → (Nat) → (Nat) → (Nat) → (Nat) → (Int32) → Prop) (h : HH) (nc : Nat) (nk : Nat) (x1 : Nat) (x2 : Nat) (x3 : Nat) (x4 : Nat) (x5 : Int32) : Prop := w_is h x1 1 (wp_X1_snapshot G h x1 (fun r418 h419 => w_ml G h419 x2 (fun ad420 F420 A420 U420 => wp_X4_snapshot F420 A420 U420 (fun r421 F423 A423 U423 => ∀ h422, ml_S G h422 ad420 F423 A423 U423 → ml_O ad420 h419 h422 → ((r418 = r421 → wp_L_law_L2191 G L xs k28 h422 nc nk x1 x2 x3 x4 x5) ∧ (¬ r418 = r421 → False))))))
set_option maxHeartbeats 4000000 in
theorem snd_L_law_L2134 {p : Program} {l : Launch} {e : Env} {s : State} {m : MethodId} {below : List Frame} {meth : Method} {c : Code} {h0 : HH} {b : Nat} {Q9 : State → Prop} (G : GG) (L : Nat) (xs : Nat → Int32) (hl0 : l.stackTraces = false) (hX0 : va_X b L xs s s.heap) (hbl : b < s.heap.size) (hbA : ¬ hv_A h0 s.heap.size b) (hret : la_Ret p l e s m below meth c b h0 Q9) (hE : hv_E p s m #[.ref b] meth c cL_law 9 ret R_law G h0) (k28 : (HH) → (Nat) → (Nat) → (Nat) → (Nat) → (Nat) → (Nat) → (Int32) → Prop) (hk28 : ∀ (h : HH) (nc : Nat) (nk : Nat) (x1 : Nat) (x2 : Nat) (x3 : Nat) (x4 : Nat) (x5 : Int32), k28 h nc nk x1 x2 x3 x4 x5 → nc ≤ 1200144 → nk ≤ 5494714 → ∀ (H : Heap) (locs : List Loc) (ls : Array Slot), hv_I G h0 s.heap h H locs → lv_has ls 9 [(0, .ref b), (1, .ref x1), (2, .ref x2), (3, .ref x3), (4, .ref x4), (5, .int x5)] → W p l e room_1 s m #[.ref b] below meth c H locs nc nk Q9 (F0 m 28 ls [])) : ∀ (h : HH) (nc : Nat) (nk : Nat) (x1 : Nat) (x2 : Nat) (x3 : Nat) (x4 : Nat) (x5 : Int32), wp_L_law_L2134 G L xs k28 h nc nk x1 x2 x3 x4 x5 → nc ≤ 1200144 → nk ≤ 5494714 → ∀ (H : Heap) (locs : List Loc) (ls : Array Slot), hv_I G h0 s.heap h H locs → lv_has ls 9 [(0, .ref b), (1, .ref x1), (2, .ref x2), (3, .ref x3), (4, .ref x4), (5, .int x5)] → W p l e room_1 s m #[.ref b] below meth c H locs nc nk Q9 (F0 m 2134 ls []) := by
  obtain ⟨⟨hx, hb, hml, hown, hts⟩, hr, hlocks, hXX⟩ := id hE
  intro h nc nk x1 x2 x3 x4 x5 hw hc hs H locs ls hI hl
  unfold wp_L_law_L2134 at hw
  refine lv_aload_n hx hb dL_law_2134 rfl (lv_at hl 1 rfl) ?_
  obtain ⟨⟨fs, hre⟩, hw⟩ := hw
  refine hv_rci hI (va_runV (As := []) (b := x1) (rest := []) hE.1 (snd_X1_snapshot l G _ h x1 _ hw) (cwV 0 hts (lw_V q645 q646 q647 q97 q648) rfl rfl rfl (by decide +kernel) ⟨Nat.le_of_ble_eq_true rfl, Nat.le_of_ble_eq_true rfl⟩) (hv_preV hE hI (ci := 1) rfl hre) rfl rfl hl.1 rfl (lv_room (Nat.le_of_ble_eq_true rfl)) dL_law_2135 ⟨hc, hs⟩) (fun r418 h419 H locs hw hI => ?_)
  refine lv_aload_n hx hb dL_law_2138 rfl (lv_at hl 2 rfl) ?_
  obtain ⟨ad420, F420, A420, U420, hS420, hz, hw⟩ := hw
  have hM := snd_X4_snapshot l G H.size h419 ad420 F420 A420 U420 _ hS420 hw
  have hre := hS420.2.1
  rw [hz] at hM hre
  refine hv_rci hI (va_runV (As := []) (b := x2) (rest := [.int r418]) hE.1 hM (cwV 0 hts (lw_V q2499 q2500 q2501 q108 q2502) rfl rfl rfl (by decide +kernel) ⟨Nat.le_of_ble_eq_true rfl, Nat.le_of_ble_eq_true rfl⟩) (hv_preV hE hI (ci := 0) rfl hre) rfl rfl hl.1 rfl (lv_room (Nat.le_of_ble_eq_true rfl)) dL_law_2139 ⟨hc, hs⟩) (fun r421 h422 H locs hw hI => ?_)
  obtain ⟨F423, A423, U423, hS423, hO423, hw⟩ := hw
  have hw := hw h422 hS423 hO423
  refine lv_icmp_eq (tgt := 2191) hx hb dL_law_2142 (by decide) (fun c_2142 => ?_) (fun c_2142 => ?_)
  · have hw := hw.1 c_2142
    exact snd_L_law_L2191 G L xs hl0 hX0 hbl hbA hret hE k28 hk28 h422 nc nk x1 x2 x3 x4 x5 hw hc hs _ _ _ hI (lv_sub hl [0, 1, 2, 3, 4, 5] rfl)
  · have hw := hw.2 c_2142
    refine lv_iconst (v := 0) hx hb dL_law_2145 (by decide) ?_
    exact hw.elim
def wp_L_law_L2147 (G : GG) (L : Nat) (xs : Nat → Int32) (k28 : (HH) → (Nat) → (Nat) → (Nat) → (Nat) → (Nat) → (Nat) → (Int32) → Prop) (h : HH) (nc : Nat) (nk : Nat) (x1 : Nat) (x2 : Nat) (x3 : Nat) (x4 : Nat) (x5 : Int32) : Prop := (∃ mc424 ms424, nc + mc424 ≤ 1200144 ∧ nk + ms424 ≤ 5494714 ∧ wp_X0_restore G mc424 ms424 h (some x1) (some x3) (fun r425 h426 => w_ml G h426 x2 (fun ad427 F427 A427 U427 => wp_X4_restore F427 A427 U427 (fun r428 F430 A430 U430 => ∀ h429, ml_S G h429 ad427 F430 A430 U430 → ml_O ad427 h426 h429 → w_ml G h429 x2 (fun ad431 F431 A431 U431 => wp_X4_thrown F431 A431 U431 (fun r432 F434 A434 U434 => ∀ h433, ml_S G h433 ad431 F434 A434 U434 → ml_O ad431 h429 h433 → ((r432 = r425 → ((¬ r425 = 0 → wp_L_law_L2191 G L xs k28 h433 (nc + mc424) (nk + ms424) x1 x2 x3 x4 x5) ∧ (r425 = 0 → w_lld G h433 x3 (0 : Int32) (fun r435 => (((lg_cmp r435 (Int32.toInt64 r428)) = 0 → wp_L_law_L2191 G L xs k28 h433 (nc + mc424) (nk + ms424) x1 x2 x3 x4 x5) ∧ (¬ (lg_cmp r435 (Int32.toInt64 r428)) = 0 → False)))))) ∧ (¬ r432 = r425 → False))))))))
set_option maxHeartbeats 4000000 in
theorem snd_L_law_L2147 {p : Program} {l : Launch} {e : Env} {s : State} {m : MethodId} {below : List Frame} {meth : Method} {c : Code} {h0 : HH} {b : Nat} {Q9 : State → Prop} (G : GG) (L : Nat) (xs : Nat → Int32) (hl0 : l.stackTraces = false) (hX0 : va_X b L xs s s.heap) (hbl : b < s.heap.size) (hbA : ¬ hv_A h0 s.heap.size b) (hret : la_Ret p l e s m below meth c b h0 Q9) (hE : hv_E p s m #[.ref b] meth c cL_law 9 ret R_law G h0) (k28 : (HH) → (Nat) → (Nat) → (Nat) → (Nat) → (Nat) → (Nat) → (Int32) → Prop) (hk28 : ∀ (h : HH) (nc : Nat) (nk : Nat) (x1 : Nat) (x2 : Nat) (x3 : Nat) (x4 : Nat) (x5 : Int32), k28 h nc nk x1 x2 x3 x4 x5 → nc ≤ 1200144 → nk ≤ 5494714 → ∀ (H : Heap) (locs : List Loc) (ls : Array Slot), hv_I G h0 s.heap h H locs → lv_has ls 9 [(0, .ref b), (1, .ref x1), (2, .ref x2), (3, .ref x3), (4, .ref x4), (5, .int x5)] → W p l e room_1 s m #[.ref b] below meth c H locs nc nk Q9 (F0 m 28 ls [])) : ∀ (h : HH) (nc : Nat) (nk : Nat) (x1 : Nat) (x2 : Nat) (x3 : Nat) (x4 : Nat) (x5 : Int32), wp_L_law_L2147 G L xs k28 h nc nk x1 x2 x3 x4 x5 → nc ≤ 1200144 → nk ≤ 5494714 → ∀ (H : Heap) (locs : List Loc) (ls : Array Slot), hv_I G h0 s.heap h H locs → lv_has ls 9 [(0, .ref b), (1, .ref x1), (2, .ref x2), (3, .ref x3), (4, .ref x4), (5, .int x5)] → W p l e room_1 s m #[.ref b] below meth c H locs nc nk Q9 (F0 m 2147 ls []) := by
  obtain ⟨⟨hx, hb, hml, hown, hts⟩, hr, hlocks, hXX⟩ := id hE
  intro h nc nk x1 x2 x3 x4 x5 hw hc hs H locs ls hI hl
  unfold wp_L_law_L2147 at hw
  refine lv_aload_n hx hb dL_law_2147 rfl (lv_at hl 1 rfl) ?_
  refine lv_aload_n hx hb dL_law_2148 rfl (lv_at hl 3 rfl) ?_
  obtain ⟨mc424, ms424, hc, hs, hw⟩ := hw
  refine hv_rci hI (vx_runSW (As := [.ref x1, .ref x3]) (rest := []) hE.1 (snd_X0_restore l hl0 G _ mc424 ms424 h (some x1) (some x3) _ hw) (vx_cwSW 2 hts (lw_SW q1970 q1971 q96 q1972) rfl rfl rfl (by decide +kernel) ⟨Nat.le_of_ble_eq_true rfl, Nat.le_of_ble_eq_true rfl⟩) (hv_preS hE hI) rfl rfl hl.1 rfl (lv_room (Nat.le_of_ble_eq_true rfl)) dL_law_2149 ⟨hc, hs⟩) (fun r425 h426 H locs hw hI => ?_)
  refine lv_istore (lv' := [(6, .int r425), (0, .ref b), (1, .ref x1), (2, .ref x2), (3, .ref x3), (4, .ref x4), (5, .int x5)]) hx hb dL_law_2152 hl (by decide) rfl (fun ls hl => ?_)
  refine lv_aload_n hx hb dL_law_2154 rfl (lv_at hl 3 rfl) ?_
  obtain ⟨ad427, F427, A427, U427, hS427, hz, hw⟩ := hw
  have hM := snd_X4_restore l G H.size h426 ad427 F427 A427 U427 _ hS427 hw
  have hre := hS427.2.1
  rw [hz] at hM hre
  refine hv_rci hI (va_runV (As := []) (b := x2) (rest := []) hE.1 hM (cwV 0 hts (lw_V q2503 q2504 q2505 q108 q2506) rfl rfl rfl (by decide +kernel) ⟨Nat.le_of_ble_eq_true rfl, Nat.le_of_ble_eq_true rfl⟩) (hv_preV hE hI (ci := 0) rfl hre) rfl rfl hl.1 rfl (lv_room (Nat.le_of_ble_eq_true rfl)) dL_law_2155 ⟨hc, hs⟩) (fun r428 h429 H locs hw hI => ?_)
  obtain ⟨F430, A430, U430, hS430, hO430, hw⟩ := hw
  have hw := hw h429 hS430 hO430
  refine lv_istore (lv' := [(7, .int r428), (6, .int r425), (0, .ref b), (1, .ref x1), (2, .ref x2), (3, .ref x3), (4, .ref x4), (5, .int x5)]) hx hb dL_law_2158 hl (by decide) rfl (fun ls hl => ?_)
  refine lv_aload_n hx hb dL_law_2160 rfl (lv_at hl 4 rfl) ?_
  obtain ⟨ad431, F431, A431, U431, hS431, hz, hw⟩ := hw
  have hM := snd_X4_thrown l G H.size h429 ad431 F431 A431 U431 _ hS431 hw
  have hre := hS431.2.1
  rw [hz] at hM hre
  refine hv_rci hI (va_runV (As := []) (b := x2) (rest := []) hE.1 hM (cwV 0 hts (lw_V q2098 q2099 q2100 q108 q2101) rfl rfl rfl (by decide +kernel) ⟨Nat.le_of_ble_eq_true rfl, Nat.le_of_ble_eq_true rfl⟩) (hv_preV hE hI (ci := 0) rfl hre) rfl rfl hl.1 rfl (lv_room (Nat.le_of_ble_eq_true rfl)) dL_law_2161 ⟨hc, hs⟩) (fun r432 h433 H locs hw hI => ?_)
  obtain ⟨F434, A434, U434, hS434, hO434, hw⟩ := hw
  have hw := hw h433 hS434 hO434
  refine lv_iload hx hb dL_law_2164 (lv_at hl 1 rfl) ?_
  refine lv_icmp_eq (tgt := 2171) hx hb dL_law_2166 (by decide) (fun c_2166 => ?_) (fun c_2166 => ?_)
  · have hw := hw.1 c_2166
    refine lv_iload hx hb dL_law_2171 (lv_at hl 1 rfl) ?_
    refine lv_if_ne (tgt := 2188) hx hb dL_law_2173 (by decide) (fun c_2173 => ?_) (fun c_2173 => ?_)
    · have hw := hw.1 c_2173
      refine lv_goto (tgt := 2191) hx hb dL_law_2188 (by decide) ?_
      exact snd_L_law_L2191 G L xs hl0 hX0 hbl hbA hret hE k28 hk28 h433 (nc + mc424) (nk + ms424) x1 x2 x3 x4 x5 hw hc hs _ _ _ hI (lv_sub hl [2, 3, 4, 5, 6, 7] rfl)
    · have hw := hw.2 c_2173
      refine lv_aload_n hx hb dL_law_2176 rfl (lv_at hl 5 rfl) ?_
      refine lv_iconst (v := 0) hx hb dL_law_2177 (by decide) ?_
      refine hv_wlld hE hI hw dL_law_2178 (fun r435 hw => ?_)
      refine lv_iload hx hb dL_law_2179 (lv_at hl 0 rfl) ?_
      refine lv_i2l (v := (Int32.toInt64 r428)) hx hb dL_law_2181 rfl ?_
      refine W.lcmp hx hb dL_law_2182 ?_
      refine lv_if_eq (tgt := 2188) hx hb dL_law_2183 (by decide) (fun c_2183 => ?_) (fun c_2183 => ?_)
      · have hw := hw.1 c_2183
        refine lv_goto (tgt := 2191) hx hb dL_law_2188 (by decide) ?_
        exact snd_L_law_L2191 G L xs hl0 hX0 hbl hbA hret hE k28 hk28 h433 (nc + mc424) (nk + ms424) x1 x2 x3 x4 x5 hw hc hs _ _ _ hI (lv_sub hl [2, 3, 4, 5, 6, 7] rfl)
      · have hw := hw.2 c_2183
        refine lv_iconst (v := 0) hx hb dL_law_2186 (by decide) ?_
        exact hw.elim
  · have hw := hw.2 c_2166
    refine lv_iconst (v := 0) hx hb dL_law_2169 (by decide) ?_
    exact hw.elim
def wp_L_law_L28 (G : GG) (L : Nat) (xs : Nat → Int32) : Nat → (HH) → (Nat) → (Nat) → (Nat) → (Nat) → (Nat) → (Nat) → (Int32) → Prop
  | 0, _, _, _, _, _, _, _, _ => False
  | n + 1, h, nc, nk, x1, x2, x3, x4, x5 => ((((Int32.ofNat L) - (5 : Int32)) < x5 → True) ∧ (¬ ((Int32.ofNat L) - (5 : Int32)) < x5 → (vp_in x5 L ∧ ((((xs (Int32.toNatClampNeg x5)) &&& (63 : Int32)) = (0 : Int32) → wp_L_law_L204 G L xs (fun h nc nk x1 x2 x3 x4 x5 => wp_L_law_L28 G L xs n h nc nk x1 x2 x3 x4 x5) h nc nk x1 x2 x3 x4 x5) ∧ (¬ ((xs (Int32.toNatClampNeg x5)) &&& (63 : Int32)) = (0 : Int32) → ((((xs (Int32.toNatClampNeg x5)) &&& (63 : Int32)) = (1 : Int32) → wp_L_law_L217 G L xs (fun h nc nk x1 x2 x3 x4 x5 => wp_L_law_L28 G L xs n h nc nk x1 x2 x3 x4 x5) h nc nk x1 x2 x3 x4 x5) ∧ (¬ ((xs (Int32.toNatClampNeg x5)) &&& (63 : Int32)) = (1 : Int32) → ((((xs (Int32.toNatClampNeg x5)) &&& (63 : Int32)) = (2 : Int32) → wp_L_law_L261 G L xs (fun h nc nk x1 x2 x3 x4 x5 => wp_L_law_L28 G L xs n h nc nk x1 x2 x3 x4 x5) h nc nk x1 x2 x3 x4 x5) ∧ (¬ ((xs (Int32.toNatClampNeg x5)) &&& (63 : Int32)) = (2 : Int32) → ((((xs (Int32.toNatClampNeg x5)) &&& (63 : Int32)) = (3 : Int32) → wp_L_law_L317 G L xs (fun h nc nk x1 x2 x3 x4 x5 => wp_L_law_L28 G L xs n h nc nk x1 x2 x3 x4 x5) h nc nk x1 x2 x3 x4 x5) ∧ (¬ ((xs (Int32.toNatClampNeg x5)) &&& (63 : Int32)) = (3 : Int32) → ((((xs (Int32.toNatClampNeg x5)) &&& (63 : Int32)) = (4 : Int32) → wp_L_law_L411 G L xs (fun h nc nk x1 x2 x3 x4 x5 => wp_L_law_L28 G L xs n h nc nk x1 x2 x3 x4 x5) h nc nk x1 x2 x3 x4 x5) ∧ (¬ ((xs (Int32.toNatClampNeg x5)) &&& (63 : Int32)) = (4 : Int32) → ((((xs (Int32.toNatClampNeg x5)) &&& (63 : Int32)) = (5 : Int32) → wp_L_law_L467 G L xs (fun h nc nk x1 x2 x3 x4 x5 => wp_L_law_L28 G L xs n h nc nk x1 x2 x3 x4 x5) h nc nk x1 x2 x3 x4 x5) ∧ (¬ ((xs (Int32.toNatClampNeg x5)) &&& (63 : Int32)) = (5 : Int32) → ((((xs (Int32.toNatClampNeg x5)) &&& (63 : Int32)) = (6 : Int32) → wp_L_law_L549 G L xs (fun h nc nk x1 x2 x3 x4 x5 => wp_L_law_L28 G L xs n h nc nk x1 x2 x3 x4 x5) h nc nk x1 x2 x3 x4 x5) ∧ (¬ ((xs (Int32.toNatClampNeg x5)) &&& (63 : Int32)) = (6 : Int32) → ((((xs (Int32.toNatClampNeg x5)) &&& (63 : Int32)) = (7 : Int32) → wp_L_law_L605 G L xs (fun h nc nk x1 x2 x3 x4 x5 => wp_L_law_L28 G L xs n h nc nk x1 x2 x3 x4 x5) h nc nk x1 x2 x3 x4 x5) ∧ (¬ ((xs (Int32.toNatClampNeg x5)) &&& (63 : Int32)) = (7 : Int32) → ((((xs (Int32.toNatClampNeg x5)) &&& (63 : Int32)) = (8 : Int32) → wp_L_law_L673 G L xs (fun h nc nk x1 x2 x3 x4 x5 => wp_L_law_L28 G L xs n h nc nk x1 x2 x3 x4 x5) h nc nk x1 x2 x3 x4 x5) ∧ (¬ ((xs (Int32.toNatClampNeg x5)) &&& (63 : Int32)) = (8 : Int32) → ((((xs (Int32.toNatClampNeg x5)) &&& (63 : Int32)) = (9 : Int32) → wp_L_law_L751 G L xs (fun h nc nk x1 x2 x3 x4 x5 => wp_L_law_L28 G L xs n h nc nk x1 x2 x3 x4 x5) h nc nk x1 x2 x3 x4 x5) ∧ (¬ ((xs (Int32.toNatClampNeg x5)) &&& (63 : Int32)) = (9 : Int32) → ((((xs (Int32.toNatClampNeg x5)) &&& (63 : Int32)) = (10 : Int32) → wp_L_law_L807 G L xs (fun h nc nk x1 x2 x3 x4 x5 => wp_L_law_L28 G L xs n h nc nk x1 x2 x3 x4 x5) h nc nk x1 x2 x3 x4 x5) ∧ (¬ ((xs (Int32.toNatClampNeg x5)) &&& (63 : Int32)) = (10 : Int32) → ((((xs (Int32.toNatClampNeg x5)) &&& (63 : Int32)) = (11 : Int32) → wp_L_law_L863 G L xs (fun h nc nk x1 x2 x3 x4 x5 => wp_L_law_L28 G L xs n h nc nk x1 x2 x3 x4 x5) h nc nk x1 x2 x3 x4 x5) ∧ (¬ ((xs (Int32.toNatClampNeg x5)) &&& (63 : Int32)) = (11 : Int32) → ((((xs (Int32.toNatClampNeg x5)) &&& (63 : Int32)) = (12 : Int32) → wp_L_law_L904 G L xs (fun h nc nk x1 x2 x3 x4 x5 => wp_L_law_L28 G L xs n h nc nk x1 x2 x3 x4 x5) h nc nk x1 x2 x3 x4 x5) ∧ (¬ ((xs (Int32.toNatClampNeg x5)) &&& (63 : Int32)) = (12 : Int32) → ((((xs (Int32.toNatClampNeg x5)) &&& (63 : Int32)) = (13 : Int32) → wp_L_law_L972 G L xs (fun h nc nk x1 x2 x3 x4 x5 => wp_L_law_L28 G L xs n h nc nk x1 x2 x3 x4 x5) h nc nk x1 x2 x3 x4 x5) ∧ (¬ ((xs (Int32.toNatClampNeg x5)) &&& (63 : Int32)) = (13 : Int32) → ((((xs (Int32.toNatClampNeg x5)) &&& (63 : Int32)) = (14 : Int32) → wp_L_law_L1028 G L xs (fun h nc nk x1 x2 x3 x4 x5 => wp_L_law_L28 G L xs n h nc nk x1 x2 x3 x4 x5) h nc nk x1 x2 x3 x4 x5) ∧ (¬ ((xs (Int32.toNatClampNeg x5)) &&& (63 : Int32)) = (14 : Int32) → ((((xs (Int32.toNatClampNeg x5)) &&& (63 : Int32)) = (15 : Int32) → wp_L_law_L1072 G L xs (fun h nc nk x1 x2 x3 x4 x5 => wp_L_law_L28 G L xs n h nc nk x1 x2 x3 x4 x5) h nc nk x1 x2 x3 x4 x5) ∧ (¬ ((xs (Int32.toNatClampNeg x5)) &&& (63 : Int32)) = (15 : Int32) → ((((xs (Int32.toNatClampNeg x5)) &&& (63 : Int32)) = (16 : Int32) → wp_L_law_L1128 G L xs (fun h nc nk x1 x2 x3 x4 x5 => wp_L_law_L28 G L xs n h nc nk x1 x2 x3 x4 x5) h nc nk x1 x2 x3 x4 x5) ∧ (¬ ((xs (Int32.toNatClampNeg x5)) &&& (63 : Int32)) = (16 : Int32) → ((((xs (Int32.toNatClampNeg x5)) &&& (63 : Int32)) = (17 : Int32) → wp_L_law_L1172 G L xs (fun h nc nk x1 x2 x3 x4 x5 => wp_L_law_L28 G L xs n h nc nk x1 x2 x3 x4 x5) h nc nk x1 x2 x3 x4 x5) ∧ (¬ ((xs (Int32.toNatClampNeg x5)) &&& (63 : Int32)) = (17 : Int32) → ((((xs (Int32.toNatClampNeg x5)) &&& (63 : Int32)) = (18 : Int32) → wp_L_law_L1252 G L xs (fun h nc nk x1 x2 x3 x4 x5 => wp_L_law_L28 G L xs n h nc nk x1 x2 x3 x4 x5) h nc nk x1 x2 x3 x4 x5) ∧ (¬ ((xs (Int32.toNatClampNeg x5)) &&& (63 : Int32)) = (18 : Int32) → ((((xs (Int32.toNatClampNeg x5)) &&& (63 : Int32)) = (19 : Int32) → wp_L_law_L1308 G L xs (fun h nc nk x1 x2 x3 x4 x5 => wp_L_law_L28 G L xs n h nc nk x1 x2 x3 x4 x5) h nc nk x1 x2 x3 x4 x5) ∧ (¬ ((xs (Int32.toNatClampNeg x5)) &&& (63 : Int32)) = (19 : Int32) → ((((xs (Int32.toNatClampNeg x5)) &&& (63 : Int32)) = (20 : Int32) → wp_L_law_L1321 G L xs (fun h nc nk x1 x2 x3 x4 x5 => wp_L_law_L28 G L xs n h nc nk x1 x2 x3 x4 x5) h nc nk x1 x2 x3 x4 x5) ∧ (¬ ((xs (Int32.toNatClampNeg x5)) &&& (63 : Int32)) = (20 : Int32) → ((((xs (Int32.toNatClampNeg x5)) &&& (63 : Int32)) = (21 : Int32) → wp_L_law_L1377 G L xs (fun h nc nk x1 x2 x3 x4 x5 => wp_L_law_L28 G L xs n h nc nk x1 x2 x3 x4 x5) h nc nk x1 x2 x3 x4 x5) ∧ (¬ ((xs (Int32.toNatClampNeg x5)) &&& (63 : Int32)) = (21 : Int32) → ((((xs (Int32.toNatClampNeg x5)) &&& (63 : Int32)) = (22 : Int32) → wp_L_law_L1433 G L xs (fun h nc nk x1 x2 x3 x4 x5 => wp_L_law_L28 G L xs n h nc nk x1 x2 x3 x4 x5) h nc nk x1 x2 x3 x4 x5) ∧ (¬ ((xs (Int32.toNatClampNeg x5)) &&& (63 : Int32)) = (22 : Int32) → ((((xs (Int32.toNatClampNeg x5)) &&& (63 : Int32)) = (23 : Int32) → wp_L_law_L1489 G L xs (fun h nc nk x1 x2 x3 x4 x5 => wp_L_law_L28 G L xs n h nc nk x1 x2 x3 x4 x5) h nc nk x1 x2 x3 x4 x5) ∧ (¬ ((xs (Int32.toNatClampNeg x5)) &&& (63 : Int32)) = (23 : Int32) → ((((xs (Int32.toNatClampNeg x5)) &&& (63 : Int32)) = (24 : Int32) → wp_L_law_L1561 G L xs (fun h nc nk x1 x2 x3 x4 x5 => wp_L_law_L28 G L xs n h nc nk x1 x2 x3 x4 x5) h nc nk x1 x2 x3 x4 x5) ∧ (¬ ((xs (Int32.toNatClampNeg x5)) &&& (63 : Int32)) = (24 : Int32) → ((((xs (Int32.toNatClampNeg x5)) &&& (63 : Int32)) = (25 : Int32) → wp_L_law_L1617 G L xs (fun h nc nk x1 x2 x3 x4 x5 => wp_L_law_L28 G L xs n h nc nk x1 x2 x3 x4 x5) h nc nk x1 x2 x3 x4 x5) ∧ (¬ ((xs (Int32.toNatClampNeg x5)) &&& (63 : Int32)) = (25 : Int32) → ((((xs (Int32.toNatClampNeg x5)) &&& (63 : Int32)) = (26 : Int32) → wp_L_law_L1682 G L xs (fun h nc nk x1 x2 x3 x4 x5 => wp_L_law_L28 G L xs n h nc nk x1 x2 x3 x4 x5) h nc nk x1 x2 x3 x4 x5) ∧ (¬ ((xs (Int32.toNatClampNeg x5)) &&& (63 : Int32)) = (26 : Int32) → ((((xs (Int32.toNatClampNeg x5)) &&& (63 : Int32)) = (27 : Int32) → wp_L_law_L1766 G L xs (fun h nc nk x1 x2 x3 x4 x5 => wp_L_law_L28 G L xs n h nc nk x1 x2 x3 x4 x5) h nc nk x1 x2 x3 x4 x5) ∧ (¬ ((xs (Int32.toNatClampNeg x5)) &&& (63 : Int32)) = (27 : Int32) → ((((xs (Int32.toNatClampNeg x5)) &&& (63 : Int32)) = (28 : Int32) → wp_L_law_L1834 G L xs (fun h nc nk x1 x2 x3 x4 x5 => wp_L_law_L28 G L xs n h nc nk x1 x2 x3 x4 x5) h nc nk x1 x2 x3 x4 x5) ∧ (¬ ((xs (Int32.toNatClampNeg x5)) &&& (63 : Int32)) = (28 : Int32) → ((((xs (Int32.toNatClampNeg x5)) &&& (63 : Int32)) = (29 : Int32) → wp_L_law_L1902 G L xs (fun h nc nk x1 x2 x3 x4 x5 => wp_L_law_L28 G L xs n h nc nk x1 x2 x3 x4 x5) h nc nk x1 x2 x3 x4 x5) ∧ (¬ ((xs (Int32.toNatClampNeg x5)) &&& (63 : Int32)) = (29 : Int32) → ((((xs (Int32.toNatClampNeg x5)) &&& (63 : Int32)) = (30 : Int32) → wp_L_law_L1958 G L xs (fun h nc nk x1 x2 x3 x4 x5 => wp_L_law_L28 G L xs n h nc nk x1 x2 x3 x4 x5) h nc nk x1 x2 x3 x4 x5) ∧ (¬ ((xs (Int32.toNatClampNeg x5)) &&& (63 : Int32)) = (30 : Int32) → ((((xs (Int32.toNatClampNeg x5)) &&& (63 : Int32)) = (31 : Int32) → wp_L_law_L2002 G L xs (fun h nc nk x1 x2 x3 x4 x5 => wp_L_law_L28 G L xs n h nc nk x1 x2 x3 x4 x5) h nc nk x1 x2 x3 x4 x5) ∧ (¬ ((xs (Int32.toNatClampNeg x5)) &&& (63 : Int32)) = (31 : Int32) → ((((xs (Int32.toNatClampNeg x5)) &&& (63 : Int32)) = (32 : Int32) → wp_L_law_L2046 G L xs (fun h nc nk x1 x2 x3 x4 x5 => wp_L_law_L28 G L xs n h nc nk x1 x2 x3 x4 x5) h nc nk x1 x2 x3 x4 x5) ∧ (¬ ((xs (Int32.toNatClampNeg x5)) &&& (63 : Int32)) = (32 : Int32) → ((((xs (Int32.toNatClampNeg x5)) &&& (63 : Int32)) = (33 : Int32) → wp_L_law_L2090 G L xs (fun h nc nk x1 x2 x3 x4 x5 => wp_L_law_L28 G L xs n h nc nk x1 x2 x3 x4 x5) h nc nk x1 x2 x3 x4 x5) ∧ (¬ ((xs (Int32.toNatClampNeg x5)) &&& (63 : Int32)) = (33 : Int32) → ((((xs (Int32.toNatClampNeg x5)) &&& (63 : Int32)) = (34 : Int32) → wp_L_law_L2134 G L xs (fun h nc nk x1 x2 x3 x4 x5 => wp_L_law_L28 G L xs n h nc nk x1 x2 x3 x4 x5) h nc nk x1 x2 x3 x4 x5) ∧ (¬ ((xs (Int32.toNatClampNeg x5)) &&& (63 : Int32)) = (34 : Int32) → ((((xs (Int32.toNatClampNeg x5)) &&& (63 : Int32)) = (35 : Int32) → wp_L_law_L2147 G L xs (fun h nc nk x1 x2 x3 x4 x5 => wp_L_law_L28 G L xs n h nc nk x1 x2 x3 x4 x5) h nc nk x1 x2 x3 x4 x5) ∧ (¬ ((xs (Int32.toNatClampNeg x5)) &&& (63 : Int32)) = (35 : Int32) → wp_L_law_L2191 G L xs (fun h nc nk x1 x2 x3 x4 x5 => wp_L_law_L28 G L xs n h nc nk x1 x2 x3 x4 x5) h nc nk x1 x2 x3 x4 x5)))))))))))))))))))))))))))))))))))))))))))))))))))))))))))))))))))))))))))
set_option maxHeartbeats 4000000 in
theorem snd_L_law_L28 {p : Program} {l : Launch} {e : Env} {s : State} {m : MethodId} {below : List Frame} {meth : Method} {c : Code} {h0 : HH} {b : Nat} {Q9 : State → Prop} (G : GG) (L : Nat) (xs : Nat → Int32) (hl0 : l.stackTraces = false) (hX0 : va_X b L xs s s.heap) (hbl : b < s.heap.size) (hbA : ¬ hv_A h0 s.heap.size b) (hret : la_Ret p l e s m below meth c b h0 Q9) (hE : hv_E p s m #[.ref b] meth c cL_law 9 ret R_law G h0) : ∀ (n : Nat) (h : HH) (nc : Nat) (nk : Nat) (x1 : Nat) (x2 : Nat) (x3 : Nat) (x4 : Nat) (x5 : Int32), wp_L_law_L28 G L xs n h nc nk x1 x2 x3 x4 x5 → nc ≤ 1200144 → nk ≤ 5494714 → ∀ (H : Heap) (locs : List Loc) (ls : Array Slot), hv_I G h0 s.heap h H locs → lv_has ls 9 [(0, .ref b), (1, .ref x1), (2, .ref x2), (3, .ref x3), (4, .ref x4), (5, .int x5)] → W p l e room_1 s m #[.ref b] below meth c H locs nc nk Q9 (F0 m 28 ls []) := by
  obtain ⟨⟨hx, hb, hml, hown, hts⟩, hr, hlocks, hXX⟩ := id hE
  intro n
  induction n with
  | zero => intro h nc nk x1 x2 x3 x4 x5 hw; exact hw.elim
  | succ n ih =>
    intro h nc nk x1 x2 x3 x4 x5 hw hc hs H locs ls hI hl
    unfold wp_L_law_L28 at hw
    refine lv_iload hx hb dL_law_28 (lv_at hl 5 rfl) ?_
    refine lv_aload_n hx hb dL_law_30 rfl (lv_at hl 0 rfl) ?_
    refine va_slen hx hb hX0 hbl hbA hI.2.1 dL_law_31 ?_
    refine lv_iconst (v := 5) hx hb dL_law_32 (by decide) ?_
    refine lv_isub hx hb dL_law_33 ?_
    refine lv_icmp_gt (tgt := 2197) hx hb dL_law_34 (by decide) (fun c_34 => ?_) (fun c_34 => ?_)
    · have hw := hw.1 c_34
      refine lv_iconst (v := 1) hx hb dL_law_2197 (by decide) ?_
      exact hret _ _ _ _ _ _ _ hI hc hs dL_law_2198
    · have hw := hw.2 c_34
      refine lv_aload_n hx hb dL_law_37 rfl (lv_at hl 0 rfl) ?_
      refine lv_iload hx hb dL_law_38 (lv_at hl 5 rfl) ?_
      obtain ⟨hin, hw⟩ := hw
      refine va_sld hx hb hX0 hbl hbA hI.2.1 hin dL_law_40 ?_
      refine lv_bipush (v := 63) hx hb dL_law_41 (by decide) ?_
      refine lv_iand hx hb dL_law_43 ?_
      by_cases s44_0 : ((xs (Int32.toNatClampNeg x5)) &&& (63 : Int32)) = (0 : Int32)
      · have hw := hw.1 s44_0
        refine lv_tableIn (tgt := 204) (off := 160) hx hb dL_law_44 (by rw [s44_0]; decide) (by rw [s44_0]; decide) (by rw [s44_0]; decide) (by decide) ?_
        exact snd_L_law_L204 G L xs hl0 hX0 hbl hbA hret hE (fun h nc nk x1 x2 x3 x4 x5 => wp_L_law_L28 G L xs n h nc nk x1 x2 x3 x4 x5) (fun h nc nk x1 x2 x3 x4 x5 => ih h nc nk x1 x2 x3 x4 x5) h nc nk x1 x2 x3 x4 x5 hw hc hs _ _ _ hI (lv_sub hl [0, 1, 2, 3, 4, 5] rfl)
      · have hw := hw.2 s44_0
        by_cases s44_1 : ((xs (Int32.toNatClampNeg x5)) &&& (63 : Int32)) = (1 : Int32)
        · have hw := hw.1 s44_1
          refine lv_tableIn (tgt := 217) (off := 173) hx hb dL_law_44 (by rw [s44_1]; decide) (by rw [s44_1]; decide) (by rw [s44_1]; decide) (by decide) ?_
          exact snd_L_law_L217 G L xs hl0 hX0 hbl hbA hret hE (fun h nc nk x1 x2 x3 x4 x5 => wp_L_law_L28 G L xs n h nc nk x1 x2 x3 x4 x5) (fun h nc nk x1 x2 x3 x4 x5 => ih h nc nk x1 x2 x3 x4 x5) h nc nk x1 x2 x3 x4 x5 hw hc hs _ _ _ hI (lv_sub hl [0, 1, 2, 3, 4, 5] rfl)
        · have hw := hw.2 s44_1
          by_cases s44_2 : ((xs (Int32.toNatClampNeg x5)) &&& (63 : Int32)) = (2 : Int32)
          · have hw := hw.1 s44_2
            refine lv_tableIn (tgt := 261) (off := 217) hx hb dL_law_44 (by rw [s44_2]; decide) (by rw [s44_2]; decide) (by rw [s44_2]; decide) (by decide) ?_
            exact snd_L_law_L261 G L xs hl0 hX0 hbl hbA hret hE (fun h nc nk x1 x2 x3 x4 x5 => wp_L_law_L28 G L xs n h nc nk x1 x2 x3 x4 x5) (fun h nc nk x1 x2 x3 x4 x5 => ih h nc nk x1 x2 x3 x4 x5) h nc nk x1 x2 x3 x4 x5 hw hc hs _ _ _ hI (lv_sub hl [0, 1, 2, 3, 4, 5] rfl)
          · have hw := hw.2 s44_2
            by_cases s44_3 : ((xs (Int32.toNatClampNeg x5)) &&& (63 : Int32)) = (3 : Int32)
            · have hw := hw.1 s44_3
              refine lv_tableIn (tgt := 317) (off := 273) hx hb dL_law_44 (by rw [s44_3]; decide) (by rw [s44_3]; decide) (by rw [s44_3]; decide) (by decide) ?_
              exact snd_L_law_L317 G L xs hl0 hX0 hbl hbA hret hE (fun h nc nk x1 x2 x3 x4 x5 => wp_L_law_L28 G L xs n h nc nk x1 x2 x3 x4 x5) (fun h nc nk x1 x2 x3 x4 x5 => ih h nc nk x1 x2 x3 x4 x5) h nc nk x1 x2 x3 x4 x5 hw hc hs _ _ _ hI (lv_sub hl [0, 1, 2, 3, 4, 5] rfl)
            · have hw := hw.2 s44_3
              by_cases s44_4 : ((xs (Int32.toNatClampNeg x5)) &&& (63 : Int32)) = (4 : Int32)
              · have hw := hw.1 s44_4
                refine lv_tableIn (tgt := 411) (off := 367) hx hb dL_law_44 (by rw [s44_4]; decide) (by rw [s44_4]; decide) (by rw [s44_4]; decide) (by decide) ?_
                exact snd_L_law_L411 G L xs hl0 hX0 hbl hbA hret hE (fun h nc nk x1 x2 x3 x4 x5 => wp_L_law_L28 G L xs n h nc nk x1 x2 x3 x4 x5) (fun h nc nk x1 x2 x3 x4 x5 => ih h nc nk x1 x2 x3 x4 x5) h nc nk x1 x2 x3 x4 x5 hw hc hs _ _ _ hI (lv_sub hl [0, 1, 2, 3, 4, 5] rfl)
              · have hw := hw.2 s44_4
                by_cases s44_5 : ((xs (Int32.toNatClampNeg x5)) &&& (63 : Int32)) = (5 : Int32)
                · have hw := hw.1 s44_5
                  refine lv_tableIn (tgt := 467) (off := 423) hx hb dL_law_44 (by rw [s44_5]; decide) (by rw [s44_5]; decide) (by rw [s44_5]; decide) (by decide) ?_
                  exact snd_L_law_L467 G L xs hl0 hX0 hbl hbA hret hE (fun h nc nk x1 x2 x3 x4 x5 => wp_L_law_L28 G L xs n h nc nk x1 x2 x3 x4 x5) (fun h nc nk x1 x2 x3 x4 x5 => ih h nc nk x1 x2 x3 x4 x5) h nc nk x1 x2 x3 x4 x5 hw hc hs _ _ _ hI (lv_sub hl [0, 1, 2, 3, 4, 5] rfl)
                · have hw := hw.2 s44_5
                  by_cases s44_6 : ((xs (Int32.toNatClampNeg x5)) &&& (63 : Int32)) = (6 : Int32)
                  · have hw := hw.1 s44_6
                    refine lv_tableIn (tgt := 549) (off := 505) hx hb dL_law_44 (by rw [s44_6]; decide) (by rw [s44_6]; decide) (by rw [s44_6]; decide) (by decide) ?_
                    exact snd_L_law_L549 G L xs hl0 hX0 hbl hbA hret hE (fun h nc nk x1 x2 x3 x4 x5 => wp_L_law_L28 G L xs n h nc nk x1 x2 x3 x4 x5) (fun h nc nk x1 x2 x3 x4 x5 => ih h nc nk x1 x2 x3 x4 x5) h nc nk x1 x2 x3 x4 x5 hw hc hs _ _ _ hI (lv_sub hl [0, 1, 2, 3, 4, 5] rfl)
                  · have hw := hw.2 s44_6
                    by_cases s44_7 : ((xs (Int32.toNatClampNeg x5)) &&& (63 : Int32)) = (7 : Int32)
                    · have hw := hw.1 s44_7
                      refine lv_tableIn (tgt := 605) (off := 561) hx hb dL_law_44 (by rw [s44_7]; decide) (by rw [s44_7]; decide) (by rw [s44_7]; decide) (by decide) ?_
                      exact snd_L_law_L605 G L xs hl0 hX0 hbl hbA hret hE (fun h nc nk x1 x2 x3 x4 x5 => wp_L_law_L28 G L xs n h nc nk x1 x2 x3 x4 x5) (fun h nc nk x1 x2 x3 x4 x5 => ih h nc nk x1 x2 x3 x4 x5) h nc nk x1 x2 x3 x4 x5 hw hc hs _ _ _ hI (lv_sub hl [0, 1, 2, 3, 4, 5] rfl)
                    · have hw := hw.2 s44_7
                      by_cases s44_8 : ((xs (Int32.toNatClampNeg x5)) &&& (63 : Int32)) = (8 : Int32)
                      · have hw := hw.1 s44_8
                        refine lv_tableIn (tgt := 673) (off := 629) hx hb dL_law_44 (by rw [s44_8]; decide) (by rw [s44_8]; decide) (by rw [s44_8]; decide) (by decide) ?_
                        exact snd_L_law_L673 G L xs hl0 hX0 hbl hbA hret hE (fun h nc nk x1 x2 x3 x4 x5 => wp_L_law_L28 G L xs n h nc nk x1 x2 x3 x4 x5) (fun h nc nk x1 x2 x3 x4 x5 => ih h nc nk x1 x2 x3 x4 x5) h nc nk x1 x2 x3 x4 x5 hw hc hs _ _ _ hI (lv_sub hl [0, 1, 2, 3, 4, 5] rfl)
                      · have hw := hw.2 s44_8
                        by_cases s44_9 : ((xs (Int32.toNatClampNeg x5)) &&& (63 : Int32)) = (9 : Int32)
                        · have hw := hw.1 s44_9
                          refine lv_tableIn (tgt := 751) (off := 707) hx hb dL_law_44 (by rw [s44_9]; decide) (by rw [s44_9]; decide) (by rw [s44_9]; decide) (by decide) ?_
                          exact snd_L_law_L751 G L xs hl0 hX0 hbl hbA hret hE (fun h nc nk x1 x2 x3 x4 x5 => wp_L_law_L28 G L xs n h nc nk x1 x2 x3 x4 x5) (fun h nc nk x1 x2 x3 x4 x5 => ih h nc nk x1 x2 x3 x4 x5) h nc nk x1 x2 x3 x4 x5 hw hc hs _ _ _ hI (lv_sub hl [0, 1, 2, 3, 4, 5] rfl)
                        · have hw := hw.2 s44_9
                          by_cases s44_10 : ((xs (Int32.toNatClampNeg x5)) &&& (63 : Int32)) = (10 : Int32)
                          · have hw := hw.1 s44_10
                            refine lv_tableIn (tgt := 807) (off := 763) hx hb dL_law_44 (by rw [s44_10]; decide) (by rw [s44_10]; decide) (by rw [s44_10]; decide) (by decide) ?_
                            exact snd_L_law_L807 G L xs hl0 hX0 hbl hbA hret hE (fun h nc nk x1 x2 x3 x4 x5 => wp_L_law_L28 G L xs n h nc nk x1 x2 x3 x4 x5) (fun h nc nk x1 x2 x3 x4 x5 => ih h nc nk x1 x2 x3 x4 x5) h nc nk x1 x2 x3 x4 x5 hw hc hs _ _ _ hI (lv_sub hl [0, 1, 2, 3, 4, 5] rfl)
                          · have hw := hw.2 s44_10
                            by_cases s44_11 : ((xs (Int32.toNatClampNeg x5)) &&& (63 : Int32)) = (11 : Int32)
                            · have hw := hw.1 s44_11
                              refine lv_tableIn (tgt := 863) (off := 819) hx hb dL_law_44 (by rw [s44_11]; decide) (by rw [s44_11]; decide) (by rw [s44_11]; decide) (by decide) ?_
                              exact snd_L_law_L863 G L xs hl0 hX0 hbl hbA hret hE (fun h nc nk x1 x2 x3 x4 x5 => wp_L_law_L28 G L xs n h nc nk x1 x2 x3 x4 x5) (fun h nc nk x1 x2 x3 x4 x5 => ih h nc nk x1 x2 x3 x4 x5) h nc nk x1 x2 x3 x4 x5 hw hc hs _ _ _ hI (lv_sub hl [0, 1, 2, 3, 4, 5] rfl)
                            · have hw := hw.2 s44_11
                              by_cases s44_12 : ((xs (Int32.toNatClampNeg x5)) &&& (63 : Int32)) = (12 : Int32)
                              · have hw := hw.1 s44_12
                                refine lv_tableIn (tgt := 904) (off := 860) hx hb dL_law_44 (by rw [s44_12]; decide) (by rw [s44_12]; decide) (by rw [s44_12]; decide) (by decide) ?_
                                exact snd_L_law_L904 G L xs hl0 hX0 hbl hbA hret hE (fun h nc nk x1 x2 x3 x4 x5 => wp_L_law_L28 G L xs n h nc nk x1 x2 x3 x4 x5) (fun h nc nk x1 x2 x3 x4 x5 => ih h nc nk x1 x2 x3 x4 x5) h nc nk x1 x2 x3 x4 x5 hw hc hs _ _ _ hI (lv_sub hl [0, 1, 2, 3, 4, 5] rfl)
                              · have hw := hw.2 s44_12
                                by_cases s44_13 : ((xs (Int32.toNatClampNeg x5)) &&& (63 : Int32)) = (13 : Int32)
                                · have hw := hw.1 s44_13
                                  refine lv_tableIn (tgt := 972) (off := 928) hx hb dL_law_44 (by rw [s44_13]; decide) (by rw [s44_13]; decide) (by rw [s44_13]; decide) (by decide) ?_
                                  exact snd_L_law_L972 G L xs hl0 hX0 hbl hbA hret hE (fun h nc nk x1 x2 x3 x4 x5 => wp_L_law_L28 G L xs n h nc nk x1 x2 x3 x4 x5) (fun h nc nk x1 x2 x3 x4 x5 => ih h nc nk x1 x2 x3 x4 x5) h nc nk x1 x2 x3 x4 x5 hw hc hs _ _ _ hI (lv_sub hl [0, 1, 2, 3, 4, 5] rfl)
                                · have hw := hw.2 s44_13
                                  by_cases s44_14 : ((xs (Int32.toNatClampNeg x5)) &&& (63 : Int32)) = (14 : Int32)
                                  · have hw := hw.1 s44_14
                                    refine lv_tableIn (tgt := 1028) (off := 984) hx hb dL_law_44 (by rw [s44_14]; decide) (by rw [s44_14]; decide) (by rw [s44_14]; decide) (by decide) ?_
                                    exact snd_L_law_L1028 G L xs hl0 hX0 hbl hbA hret hE (fun h nc nk x1 x2 x3 x4 x5 => wp_L_law_L28 G L xs n h nc nk x1 x2 x3 x4 x5) (fun h nc nk x1 x2 x3 x4 x5 => ih h nc nk x1 x2 x3 x4 x5) h nc nk x1 x2 x3 x4 x5 hw hc hs _ _ _ hI (lv_sub hl [0, 1, 2, 3, 4, 5] rfl)
                                  · have hw := hw.2 s44_14
                                    by_cases s44_15 : ((xs (Int32.toNatClampNeg x5)) &&& (63 : Int32)) = (15 : Int32)
                                    · have hw := hw.1 s44_15
                                      refine lv_tableIn (tgt := 1072) (off := 1028) hx hb dL_law_44 (by rw [s44_15]; decide) (by rw [s44_15]; decide) (by rw [s44_15]; decide) (by decide) ?_
                                      exact snd_L_law_L1072 G L xs hl0 hX0 hbl hbA hret hE (fun h nc nk x1 x2 x3 x4 x5 => wp_L_law_L28 G L xs n h nc nk x1 x2 x3 x4 x5) (fun h nc nk x1 x2 x3 x4 x5 => ih h nc nk x1 x2 x3 x4 x5) h nc nk x1 x2 x3 x4 x5 hw hc hs _ _ _ hI (lv_sub hl [0, 1, 2, 3, 4, 5] rfl)
                                    · have hw := hw.2 s44_15
                                      by_cases s44_16 : ((xs (Int32.toNatClampNeg x5)) &&& (63 : Int32)) = (16 : Int32)
                                      · have hw := hw.1 s44_16
                                        refine lv_tableIn (tgt := 1128) (off := 1084) hx hb dL_law_44 (by rw [s44_16]; decide) (by rw [s44_16]; decide) (by rw [s44_16]; decide) (by decide) ?_
                                        exact snd_L_law_L1128 G L xs hl0 hX0 hbl hbA hret hE (fun h nc nk x1 x2 x3 x4 x5 => wp_L_law_L28 G L xs n h nc nk x1 x2 x3 x4 x5) (fun h nc nk x1 x2 x3 x4 x5 => ih h nc nk x1 x2 x3 x4 x5) h nc nk x1 x2 x3 x4 x5 hw hc hs _ _ _ hI (lv_sub hl [0, 1, 2, 3, 4, 5] rfl)
                                      · have hw := hw.2 s44_16
                                        by_cases s44_17 : ((xs (Int32.toNatClampNeg x5)) &&& (63 : Int32)) = (17 : Int32)
                                        · have hw := hw.1 s44_17
                                          refine lv_tableIn (tgt := 1172) (off := 1128) hx hb dL_law_44 (by rw [s44_17]; decide) (by rw [s44_17]; decide) (by rw [s44_17]; decide) (by decide) ?_
                                          exact snd_L_law_L1172 G L xs hl0 hX0 hbl hbA hret hE (fun h nc nk x1 x2 x3 x4 x5 => wp_L_law_L28 G L xs n h nc nk x1 x2 x3 x4 x5) (fun h nc nk x1 x2 x3 x4 x5 => ih h nc nk x1 x2 x3 x4 x5) h nc nk x1 x2 x3 x4 x5 hw hc hs _ _ _ hI (lv_sub hl [0, 1, 2, 3, 4, 5] rfl)
                                        · have hw := hw.2 s44_17
                                          by_cases s44_18 : ((xs (Int32.toNatClampNeg x5)) &&& (63 : Int32)) = (18 : Int32)
                                          · have hw := hw.1 s44_18
                                            refine lv_tableIn (tgt := 1252) (off := 1208) hx hb dL_law_44 (by rw [s44_18]; decide) (by rw [s44_18]; decide) (by rw [s44_18]; decide) (by decide) ?_
                                            exact snd_L_law_L1252 G L xs hl0 hX0 hbl hbA hret hE (fun h nc nk x1 x2 x3 x4 x5 => wp_L_law_L28 G L xs n h nc nk x1 x2 x3 x4 x5) (fun h nc nk x1 x2 x3 x4 x5 => ih h nc nk x1 x2 x3 x4 x5) h nc nk x1 x2 x3 x4 x5 hw hc hs _ _ _ hI (lv_sub hl [0, 1, 2, 3, 4, 5] rfl)
                                          · have hw := hw.2 s44_18
                                            by_cases s44_19 : ((xs (Int32.toNatClampNeg x5)) &&& (63 : Int32)) = (19 : Int32)
                                            · have hw := hw.1 s44_19
                                              refine lv_tableIn (tgt := 1308) (off := 1264) hx hb dL_law_44 (by rw [s44_19]; decide) (by rw [s44_19]; decide) (by rw [s44_19]; decide) (by decide) ?_
                                              exact snd_L_law_L1308 G L xs hl0 hX0 hbl hbA hret hE (fun h nc nk x1 x2 x3 x4 x5 => wp_L_law_L28 G L xs n h nc nk x1 x2 x3 x4 x5) (fun h nc nk x1 x2 x3 x4 x5 => ih h nc nk x1 x2 x3 x4 x5) h nc nk x1 x2 x3 x4 x5 hw hc hs _ _ _ hI (lv_sub hl [0, 1, 2, 3, 4, 5] rfl)
                                            · have hw := hw.2 s44_19
                                              by_cases s44_20 : ((xs (Int32.toNatClampNeg x5)) &&& (63 : Int32)) = (20 : Int32)
                                              · have hw := hw.1 s44_20
                                                refine lv_tableIn (tgt := 1321) (off := 1277) hx hb dL_law_44 (by rw [s44_20]; decide) (by rw [s44_20]; decide) (by rw [s44_20]; decide) (by decide) ?_
                                                exact snd_L_law_L1321 G L xs hl0 hX0 hbl hbA hret hE (fun h nc nk x1 x2 x3 x4 x5 => wp_L_law_L28 G L xs n h nc nk x1 x2 x3 x4 x5) (fun h nc nk x1 x2 x3 x4 x5 => ih h nc nk x1 x2 x3 x4 x5) h nc nk x1 x2 x3 x4 x5 hw hc hs _ _ _ hI (lv_sub hl [0, 1, 2, 3, 4, 5] rfl)
                                              · have hw := hw.2 s44_20
                                                by_cases s44_21 : ((xs (Int32.toNatClampNeg x5)) &&& (63 : Int32)) = (21 : Int32)
                                                · have hw := hw.1 s44_21
                                                  refine lv_tableIn (tgt := 1377) (off := 1333) hx hb dL_law_44 (by rw [s44_21]; decide) (by rw [s44_21]; decide) (by rw [s44_21]; decide) (by decide) ?_
                                                  exact snd_L_law_L1377 G L xs hl0 hX0 hbl hbA hret hE (fun h nc nk x1 x2 x3 x4 x5 => wp_L_law_L28 G L xs n h nc nk x1 x2 x3 x4 x5) (fun h nc nk x1 x2 x3 x4 x5 => ih h nc nk x1 x2 x3 x4 x5) h nc nk x1 x2 x3 x4 x5 hw hc hs _ _ _ hI (lv_sub hl [0, 1, 2, 3, 4, 5] rfl)
                                                · have hw := hw.2 s44_21
                                                  by_cases s44_22 : ((xs (Int32.toNatClampNeg x5)) &&& (63 : Int32)) = (22 : Int32)
                                                  · have hw := hw.1 s44_22
                                                    refine lv_tableIn (tgt := 1433) (off := 1389) hx hb dL_law_44 (by rw [s44_22]; decide) (by rw [s44_22]; decide) (by rw [s44_22]; decide) (by decide) ?_
                                                    exact snd_L_law_L1433 G L xs hl0 hX0 hbl hbA hret hE (fun h nc nk x1 x2 x3 x4 x5 => wp_L_law_L28 G L xs n h nc nk x1 x2 x3 x4 x5) (fun h nc nk x1 x2 x3 x4 x5 => ih h nc nk x1 x2 x3 x4 x5) h nc nk x1 x2 x3 x4 x5 hw hc hs _ _ _ hI (lv_sub hl [0, 1, 2, 3, 4, 5] rfl)
                                                  · have hw := hw.2 s44_22
                                                    by_cases s44_23 : ((xs (Int32.toNatClampNeg x5)) &&& (63 : Int32)) = (23 : Int32)
                                                    · have hw := hw.1 s44_23
                                                      refine lv_tableIn (tgt := 1489) (off := 1445) hx hb dL_law_44 (by rw [s44_23]; decide) (by rw [s44_23]; decide) (by rw [s44_23]; decide) (by decide) ?_
                                                      exact snd_L_law_L1489 G L xs hl0 hX0 hbl hbA hret hE (fun h nc nk x1 x2 x3 x4 x5 => wp_L_law_L28 G L xs n h nc nk x1 x2 x3 x4 x5) (fun h nc nk x1 x2 x3 x4 x5 => ih h nc nk x1 x2 x3 x4 x5) h nc nk x1 x2 x3 x4 x5 hw hc hs _ _ _ hI (lv_sub hl [0, 1, 2, 3, 4, 5] rfl)
                                                    · have hw := hw.2 s44_23
                                                      by_cases s44_24 : ((xs (Int32.toNatClampNeg x5)) &&& (63 : Int32)) = (24 : Int32)
                                                      · have hw := hw.1 s44_24
                                                        refine lv_tableIn (tgt := 1561) (off := 1517) hx hb dL_law_44 (by rw [s44_24]; decide) (by rw [s44_24]; decide) (by rw [s44_24]; decide) (by decide) ?_
                                                        exact snd_L_law_L1561 G L xs hl0 hX0 hbl hbA hret hE (fun h nc nk x1 x2 x3 x4 x5 => wp_L_law_L28 G L xs n h nc nk x1 x2 x3 x4 x5) (fun h nc nk x1 x2 x3 x4 x5 => ih h nc nk x1 x2 x3 x4 x5) h nc nk x1 x2 x3 x4 x5 hw hc hs _ _ _ hI (lv_sub hl [0, 1, 2, 3, 4, 5] rfl)
                                                      · have hw := hw.2 s44_24
                                                        by_cases s44_25 : ((xs (Int32.toNatClampNeg x5)) &&& (63 : Int32)) = (25 : Int32)
                                                        · have hw := hw.1 s44_25
                                                          refine lv_tableIn (tgt := 1617) (off := 1573) hx hb dL_law_44 (by rw [s44_25]; decide) (by rw [s44_25]; decide) (by rw [s44_25]; decide) (by decide) ?_
                                                          exact snd_L_law_L1617 G L xs hl0 hX0 hbl hbA hret hE (fun h nc nk x1 x2 x3 x4 x5 => wp_L_law_L28 G L xs n h nc nk x1 x2 x3 x4 x5) (fun h nc nk x1 x2 x3 x4 x5 => ih h nc nk x1 x2 x3 x4 x5) h nc nk x1 x2 x3 x4 x5 hw hc hs _ _ _ hI (lv_sub hl [0, 1, 2, 3, 4, 5] rfl)
                                                        · have hw := hw.2 s44_25
                                                          by_cases s44_26 : ((xs (Int32.toNatClampNeg x5)) &&& (63 : Int32)) = (26 : Int32)
                                                          · have hw := hw.1 s44_26
                                                            refine lv_tableIn (tgt := 1682) (off := 1638) hx hb dL_law_44 (by rw [s44_26]; decide) (by rw [s44_26]; decide) (by rw [s44_26]; decide) (by decide) ?_
                                                            exact snd_L_law_L1682 G L xs hl0 hX0 hbl hbA hret hE (fun h nc nk x1 x2 x3 x4 x5 => wp_L_law_L28 G L xs n h nc nk x1 x2 x3 x4 x5) (fun h nc nk x1 x2 x3 x4 x5 => ih h nc nk x1 x2 x3 x4 x5) h nc nk x1 x2 x3 x4 x5 hw hc hs _ _ _ hI (lv_sub hl [0, 1, 2, 3, 4, 5] rfl)
                                                          · have hw := hw.2 s44_26
                                                            by_cases s44_27 : ((xs (Int32.toNatClampNeg x5)) &&& (63 : Int32)) = (27 : Int32)
                                                            · have hw := hw.1 s44_27
                                                              refine lv_tableIn (tgt := 1766) (off := 1722) hx hb dL_law_44 (by rw [s44_27]; decide) (by rw [s44_27]; decide) (by rw [s44_27]; decide) (by decide) ?_
                                                              exact snd_L_law_L1766 G L xs hl0 hX0 hbl hbA hret hE (fun h nc nk x1 x2 x3 x4 x5 => wp_L_law_L28 G L xs n h nc nk x1 x2 x3 x4 x5) (fun h nc nk x1 x2 x3 x4 x5 => ih h nc nk x1 x2 x3 x4 x5) h nc nk x1 x2 x3 x4 x5 hw hc hs _ _ _ hI (lv_sub hl [0, 1, 2, 3, 4, 5] rfl)
                                                            · have hw := hw.2 s44_27
                                                              by_cases s44_28 : ((xs (Int32.toNatClampNeg x5)) &&& (63 : Int32)) = (28 : Int32)
                                                              · have hw := hw.1 s44_28
                                                                refine lv_tableIn (tgt := 1834) (off := 1790) hx hb dL_law_44 (by rw [s44_28]; decide) (by rw [s44_28]; decide) (by rw [s44_28]; decide) (by decide) ?_
                                                                exact snd_L_law_L1834 G L xs hl0 hX0 hbl hbA hret hE (fun h nc nk x1 x2 x3 x4 x5 => wp_L_law_L28 G L xs n h nc nk x1 x2 x3 x4 x5) (fun h nc nk x1 x2 x3 x4 x5 => ih h nc nk x1 x2 x3 x4 x5) h nc nk x1 x2 x3 x4 x5 hw hc hs _ _ _ hI (lv_sub hl [0, 1, 2, 3, 4, 5] rfl)
                                                              · have hw := hw.2 s44_28
                                                                by_cases s44_29 : ((xs (Int32.toNatClampNeg x5)) &&& (63 : Int32)) = (29 : Int32)
                                                                · have hw := hw.1 s44_29
                                                                  refine lv_tableIn (tgt := 1902) (off := 1858) hx hb dL_law_44 (by rw [s44_29]; decide) (by rw [s44_29]; decide) (by rw [s44_29]; decide) (by decide) ?_
                                                                  exact snd_L_law_L1902 G L xs hl0 hX0 hbl hbA hret hE (fun h nc nk x1 x2 x3 x4 x5 => wp_L_law_L28 G L xs n h nc nk x1 x2 x3 x4 x5) (fun h nc nk x1 x2 x3 x4 x5 => ih h nc nk x1 x2 x3 x4 x5) h nc nk x1 x2 x3 x4 x5 hw hc hs _ _ _ hI (lv_sub hl [0, 1, 2, 3, 4, 5] rfl)
                                                                · have hw := hw.2 s44_29
                                                                  by_cases s44_30 : ((xs (Int32.toNatClampNeg x5)) &&& (63 : Int32)) = (30 : Int32)
                                                                  · have hw := hw.1 s44_30
                                                                    refine lv_tableIn (tgt := 1958) (off := 1914) hx hb dL_law_44 (by rw [s44_30]; decide) (by rw [s44_30]; decide) (by rw [s44_30]; decide) (by decide) ?_
                                                                    exact snd_L_law_L1958 G L xs hl0 hX0 hbl hbA hret hE (fun h nc nk x1 x2 x3 x4 x5 => wp_L_law_L28 G L xs n h nc nk x1 x2 x3 x4 x5) (fun h nc nk x1 x2 x3 x4 x5 => ih h nc nk x1 x2 x3 x4 x5) h nc nk x1 x2 x3 x4 x5 hw hc hs _ _ _ hI (lv_sub hl [0, 1, 2, 3, 4, 5] rfl)
                                                                  · have hw := hw.2 s44_30
                                                                    by_cases s44_31 : ((xs (Int32.toNatClampNeg x5)) &&& (63 : Int32)) = (31 : Int32)
                                                                    · have hw := hw.1 s44_31
                                                                      refine lv_tableIn (tgt := 2002) (off := 1958) hx hb dL_law_44 (by rw [s44_31]; decide) (by rw [s44_31]; decide) (by rw [s44_31]; decide) (by decide) ?_
                                                                      exact snd_L_law_L2002 G L xs hl0 hX0 hbl hbA hret hE (fun h nc nk x1 x2 x3 x4 x5 => wp_L_law_L28 G L xs n h nc nk x1 x2 x3 x4 x5) (fun h nc nk x1 x2 x3 x4 x5 => ih h nc nk x1 x2 x3 x4 x5) h nc nk x1 x2 x3 x4 x5 hw hc hs _ _ _ hI (lv_sub hl [0, 1, 2, 3, 4, 5] rfl)
                                                                    · have hw := hw.2 s44_31
                                                                      by_cases s44_32 : ((xs (Int32.toNatClampNeg x5)) &&& (63 : Int32)) = (32 : Int32)
                                                                      · have hw := hw.1 s44_32
                                                                        refine lv_tableIn (tgt := 2046) (off := 2002) hx hb dL_law_44 (by rw [s44_32]; decide) (by rw [s44_32]; decide) (by rw [s44_32]; decide) (by decide) ?_
                                                                        exact snd_L_law_L2046 G L xs hl0 hX0 hbl hbA hret hE (fun h nc nk x1 x2 x3 x4 x5 => wp_L_law_L28 G L xs n h nc nk x1 x2 x3 x4 x5) (fun h nc nk x1 x2 x3 x4 x5 => ih h nc nk x1 x2 x3 x4 x5) h nc nk x1 x2 x3 x4 x5 hw hc hs _ _ _ hI (lv_sub hl [0, 1, 2, 3, 4, 5] rfl)
                                                                      · have hw := hw.2 s44_32
                                                                        by_cases s44_33 : ((xs (Int32.toNatClampNeg x5)) &&& (63 : Int32)) = (33 : Int32)
                                                                        · have hw := hw.1 s44_33
                                                                          refine lv_tableIn (tgt := 2090) (off := 2046) hx hb dL_law_44 (by rw [s44_33]; decide) (by rw [s44_33]; decide) (by rw [s44_33]; decide) (by decide) ?_
                                                                          exact snd_L_law_L2090 G L xs hl0 hX0 hbl hbA hret hE (fun h nc nk x1 x2 x3 x4 x5 => wp_L_law_L28 G L xs n h nc nk x1 x2 x3 x4 x5) (fun h nc nk x1 x2 x3 x4 x5 => ih h nc nk x1 x2 x3 x4 x5) h nc nk x1 x2 x3 x4 x5 hw hc hs _ _ _ hI (lv_sub hl [0, 1, 2, 3, 4, 5] rfl)
                                                                        · have hw := hw.2 s44_33
                                                                          by_cases s44_34 : ((xs (Int32.toNatClampNeg x5)) &&& (63 : Int32)) = (34 : Int32)
                                                                          · have hw := hw.1 s44_34
                                                                            refine lv_tableIn (tgt := 2134) (off := 2090) hx hb dL_law_44 (by rw [s44_34]; decide) (by rw [s44_34]; decide) (by rw [s44_34]; decide) (by decide) ?_
                                                                            exact snd_L_law_L2134 G L xs hl0 hX0 hbl hbA hret hE (fun h nc nk x1 x2 x3 x4 x5 => wp_L_law_L28 G L xs n h nc nk x1 x2 x3 x4 x5) (fun h nc nk x1 x2 x3 x4 x5 => ih h nc nk x1 x2 x3 x4 x5) h nc nk x1 x2 x3 x4 x5 hw hc hs _ _ _ hI (lv_sub hl [0, 1, 2, 3, 4, 5] rfl)
                                                                          · have hw := hw.2 s44_34
                                                                            by_cases s44_35 : ((xs (Int32.toNatClampNeg x5)) &&& (63 : Int32)) = (35 : Int32)
                                                                            · have hw := hw.1 s44_35
                                                                              refine lv_tableIn (tgt := 2147) (off := 2103) hx hb dL_law_44 (by rw [s44_35]; decide) (by rw [s44_35]; decide) (by rw [s44_35]; decide) (by decide) ?_
                                                                              exact snd_L_law_L2147 G L xs hl0 hX0 hbl hbA hret hE (fun h nc nk x1 x2 x3 x4 x5 => wp_L_law_L28 G L xs n h nc nk x1 x2 x3 x4 x5) (fun h nc nk x1 x2 x3 x4 x5 => ih h nc nk x1 x2 x3 x4 x5) h nc nk x1 x2 x3 x4 x5 hw hc hs _ _ _ hI (lv_sub hl [0, 1, 2, 3, 4, 5] rfl)
                                                                            · have hw := hw.2 s44_35
                                                                              have ts44_0 := lv_neT s44_0 (show ((0 : Int32)).toInt = 0 by decide)
                                                                              have ts44_1 := lv_neT s44_1 (show ((1 : Int32)).toInt = 1 by decide)
                                                                              have ts44_2 := lv_neT s44_2 (show ((2 : Int32)).toInt = 2 by decide)
                                                                              have ts44_3 := lv_neT s44_3 (show ((3 : Int32)).toInt = 3 by decide)
                                                                              have ts44_4 := lv_neT s44_4 (show ((4 : Int32)).toInt = 4 by decide)
                                                                              have ts44_5 := lv_neT s44_5 (show ((5 : Int32)).toInt = 5 by decide)
                                                                              have ts44_6 := lv_neT s44_6 (show ((6 : Int32)).toInt = 6 by decide)
                                                                              have ts44_7 := lv_neT s44_7 (show ((7 : Int32)).toInt = 7 by decide)
                                                                              have ts44_8 := lv_neT s44_8 (show ((8 : Int32)).toInt = 8 by decide)
                                                                              have ts44_9 := lv_neT s44_9 (show ((9 : Int32)).toInt = 9 by decide)
                                                                              have ts44_10 := lv_neT s44_10 (show ((10 : Int32)).toInt = 10 by decide)
                                                                              have ts44_11 := lv_neT s44_11 (show ((11 : Int32)).toInt = 11 by decide)
                                                                              have ts44_12 := lv_neT s44_12 (show ((12 : Int32)).toInt = 12 by decide)
                                                                              have ts44_13 := lv_neT s44_13 (show ((13 : Int32)).toInt = 13 by decide)
                                                                              have ts44_14 := lv_neT s44_14 (show ((14 : Int32)).toInt = 14 by decide)
                                                                              have ts44_15 := lv_neT s44_15 (show ((15 : Int32)).toInt = 15 by decide)
                                                                              have ts44_16 := lv_neT s44_16 (show ((16 : Int32)).toInt = 16 by decide)
                                                                              have ts44_17 := lv_neT s44_17 (show ((17 : Int32)).toInt = 17 by decide)
                                                                              have ts44_18 := lv_neT s44_18 (show ((18 : Int32)).toInt = 18 by decide)
                                                                              have ts44_19 := lv_neT s44_19 (show ((19 : Int32)).toInt = 19 by decide)
                                                                              have ts44_20 := lv_neT s44_20 (show ((20 : Int32)).toInt = 20 by decide)
                                                                              have ts44_21 := lv_neT s44_21 (show ((21 : Int32)).toInt = 21 by decide)
                                                                              have ts44_22 := lv_neT s44_22 (show ((22 : Int32)).toInt = 22 by decide)
                                                                              have ts44_23 := lv_neT s44_23 (show ((23 : Int32)).toInt = 23 by decide)
                                                                              have ts44_24 := lv_neT s44_24 (show ((24 : Int32)).toInt = 24 by decide)
                                                                              have ts44_25 := lv_neT s44_25 (show ((25 : Int32)).toInt = 25 by decide)
                                                                              have ts44_26 := lv_neT s44_26 (show ((26 : Int32)).toInt = 26 by decide)
                                                                              have ts44_27 := lv_neT s44_27 (show ((27 : Int32)).toInt = 27 by decide)
                                                                              have ts44_28 := lv_neT s44_28 (show ((28 : Int32)).toInt = 28 by decide)
                                                                              have ts44_29 := lv_neT s44_29 (show ((29 : Int32)).toInt = 29 by decide)
                                                                              have ts44_30 := lv_neT s44_30 (show ((30 : Int32)).toInt = 30 by decide)
                                                                              have ts44_31 := lv_neT s44_31 (show ((31 : Int32)).toInt = 31 by decide)
                                                                              have ts44_32 := lv_neT s44_32 (show ((32 : Int32)).toInt = 32 by decide)
                                                                              have ts44_33 := lv_neT s44_33 (show ((33 : Int32)).toInt = 33 by decide)
                                                                              have ts44_34 := lv_neT s44_34 (show ((34 : Int32)).toInt = 34 by decide)
                                                                              have ts44_35 := lv_neT s44_35 (show ((35 : Int32)).toInt = 35 by decide)
                                                                              refine lv_tableOut (tgt := 2191) hx hb dL_law_44 (by omega) (by decide) ?_
                                                                              exact snd_L_law_L2191 G L xs hl0 hX0 hbl hbA hret hE (fun h nc nk x1 x2 x3 x4 x5 => wp_L_law_L28 G L xs n h nc nk x1 x2 x3 x4 x5) (fun h nc nk x1 x2 x3 x4 x5 => ih h nc nk x1 x2 x3 x4 x5) h nc nk x1 x2 x3 x4 x5 hw hc hs _ _ _ hI (lv_sub hl [0, 1, 2, 3, 4, 5] rfl)
def wp_L_law (G : GG) (L : Nat) (xs : Nat → Int32) (h : HH) : Prop := (0 + 1 ≤ 1200144 ∧ 0 + 9 ≤ 5494714 ∧ w_new h (.inr (1, df_X1)) (fun a1 h2 => (∃ mc3 ms3, (0 + 1) + mc3 ≤ 1200144 ∧ (0 + 9) + ms3 ≤ 5494714 ∧ wp_X1_init G mc3 ms3 h2 a1 (fun h4 => (((0 + 1) + mc3) + 1 ≤ 1200144 ∧ ((0 + 9) + ms3) + 37 ≤ 5494714 ∧ w_new h4 (.inr (0, df_X4)) (fun a5 h6 => (∃ mc7 ms7, (((0 + 1) + mc3) + 1) + mc7 ≤ 1200144 ∧ (((0 + 9) + ms3) + 37) + ms7 ≤ 5494714 ∧ wp_X4_init G mc7 ms7 h6 a5 (fun h8 => (((((0 + 1) + mc3) + 1) + mc7) + 1 ≤ 1200144 ∧ ((((0 + 9) + ms3) + 37) + ms7) + 1 ≤ 5494714 ∧ w_new h8 (.inl (G.2.1 4, 1, .inr (.inl (fun _ => 0)))) (fun a9 h10 => ((((((0 + 1) + mc3) + 1) + mc7) + 1) + 1 ≤ 1200144 ∧ (((((0 + 9) + ms3) + 37) + ms7) + 1) + 1 ≤ 5494714 ∧ w_new h10 (.inl (G.2.1 5, 1, .inr (.inr (.inr (.inl (fun _ => 0)))))) (fun a11 h12 => (∃ n28, wp_L_law_L28 G L xs n28 h12 ((((((0 + 1) + mc3) + 1) + mc7) + 1) + 1) ((((((0 + 9) + ms3) + 37) + ms7) + 1) + 1) a1 a5 a9 a11 (0 : Int32))))))))))))))
set_option maxHeartbeats 8000000 in
theorem snd_L_law {p : Program} {l : Launch} {e : Env} {s : State} {m : MethodId} {below : List Frame} {meth : Method} {c : Code} {h : HH} {b : Nat} {Q9 : State → Prop} (G : GG) (L : Nat) (xs : Nat → Int32) (hl0 : l.stackTraces = false) (hX0 : va_X b L xs s s.heap) (hbl : b < s.heap.size) (hbA : ¬ hv_A h s.heap.size b) (hret : la_Ret p l e s m below meth c b h Q9) (hE : hv_E p s m #[.ref b] meth c cL_law 9 ret R_law G h) (hP : hv_P G h s.heap) (hw : wp_L_law G L xs h) : W p l e room_1 s m #[.ref b] below meth c s.heap [] 0 0 Q9 (entryFrame m ([.ref b] : List Value).toArray 9) := by
  have hI := hv_I.start hP
  obtain ⟨⟨hx, hb, hml, hown, hts⟩, hr, hlocks, hXX⟩ := id hE
  have hl := lv_entry ([.ref b] : List Value) (n := 9) (Nat.le_of_ble_eq_true rfl)
  rw [lg_entry_eq]
  generalize (lg_sl ([.ref b] : List Value) ++ List.replicate (9 - (lg_sl ([.ref b] : List Value)).length) Slot.unset).toArray = ls at hl ⊢
  have hl : lv_has ls 9 [(0, .ref b)] := hl
  have hc : 0 ≤ 1200144 := Nat.zero_le _
  have hs : 0 ≤ 5494714 := Nat.zero_le _
  unfold wp_L_law at hw
  obtain ⟨hc, hs, hw⟩ := hw
  refine hv_wnew tyX1 hE hI in_X1 tyX1_ok (hts _ q140) (hts _ q141) (hts _ q97) (ci := 1) rfl df_X1_ok hw hc hs dL_law_0 (fun a1 h2 H hw hI => ?_)
  refine lv_dup hx hb dL_law_3 rfl ?_
  obtain ⟨mc3, ms3, hc, hs, hw⟩ := hw
  refine hv_rcv hI (va_runI (As := []) (b := a1) (rest := [.ref a1]) hE.1 (snd_X1_init l G _ mc3 ms3 h2 a1 _ hw) (cwI 0 hts (lw_meth q144) rfl rfl rfl (hts _ q97) (hts _ q142) (hts _ q143) rfl (by decide +kernel) ⟨Nat.le_of_ble_eq_true rfl, Nat.le_of_ble_eq_true rfl⟩) (hv_preS hE hI) rfl rfl hl.1 rfl (lv_room (Nat.le_of_ble_eq_true rfl)) dL_law_4 ⟨hc, hs⟩) (fun h4 H locs hw hI => ?_)
  refine lv_astore_n (lv' := [(1, .ref a1), (0, .ref b)]) hx hb dL_law_7 rfl hl (by decide) rfl (fun ls hl => ?_)
  obtain ⟨hc, hs, hw⟩ := hw
  refine hv_wnew tyX4 hE hI in_X4 tyX4_ok (hts _ q1977) (hts _ q1978) (hts _ q108) (ci := 0) rfl df_X4_ok hw hc hs dL_law_8 (fun a5 h6 H hw hI => ?_)
  refine lv_dup hx hb dL_law_11 rfl ?_
  obtain ⟨mc7, ms7, hc, hs, hw⟩ := hw
  refine hv_rcv hI (va_runI (As := []) (b := a5) (rest := [.ref a5]) hE.1 (snd_X4_init l G _ mc7 ms7 h6 a5 _ hw) (cwI 0 hts (lw_meth q1981) rfl rfl rfl (hts _ q108) (hts _ q1979) (hts _ q1980) rfl (by decide +kernel) ⟨Nat.le_of_ble_eq_true rfl, Nat.le_of_ble_eq_true rfl⟩) (hv_preS hE hI) rfl rfl hl.1 rfl (lv_room (Nat.le_of_ble_eq_true rfl)) dL_law_12 ⟨hc, hs⟩) (fun h8 H locs hw hI => ?_)
  refine lv_astore_n (lv' := [(2, .ref a5), (1, .ref a1), (0, .ref b)]) hx hb dL_law_15 rfl hl (by decide) rfl (fun ls hl => ?_)
  refine lv_iconst (v := 1) hx hb dL_law_16 (by decide) ?_
  obtain ⟨hc, hs, hw⟩ := hw
  refine hv_wnewa_long (N' := 1) hE hI (hts _ q2507) (by decide +kernel) (by decide +kernel) (by decide) hw hc hs dL_law_17 (fun a9 h10 H hw hI => ?_)
  refine lv_astore_n (lv' := [(3, .ref a9), (2, .ref a5), (1, .ref a1), (0, .ref b)]) hx hb dL_law_19 rfl hl (by decide) rfl (fun ls hl => ?_)
  refine lv_iconst (v := 1) hx hb dL_law_20 (by decide) ?_
  obtain ⟨hc, hs, hw⟩ := hw
  refine hv_wnewa_double (N' := 1) hE hI (hts _ q2508) (by decide +kernel) (by decide +kernel) (by decide) hw hc hs dL_law_21 (fun a11 h12 H hw hI => ?_)
  refine lv_astore (lv' := [(4, .ref a11), (3, .ref a9), (2, .ref a5), (1, .ref a1), (0, .ref b)]) hx hb dL_law_23 hl (by decide) rfl (fun ls hl => ?_)
  refine lv_iconst (v := 0) hx hb dL_law_25 (by decide) ?_
  refine lv_istore (lv' := [(5, .int (0 : Int32)), (4, .ref a11), (3, .ref a9), (2, .ref a5), (1, .ref a1), (0, .ref b)]) hx hb dL_law_26 hl (by decide) rfl (fun ls hl => ?_)
  obtain ⟨n28, hw⟩ := hw
  exact snd_L_law_L28 G L xs hl0 hX0 hbl hbA hret hE n28 h12 ((((((0 + 1) + mc3) + 1) + mc7) + 1) + 1) ((((((0 + 9) + ms3) + 37) + ms7) + 1) + 1) a1 a5 a9 a11 (0 : Int32) hw hc hs _ _ _ hI (lv_sub hl [5, 4, 3, 2, 1, 0] rfl)
