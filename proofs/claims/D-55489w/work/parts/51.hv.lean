/-! walks over a world (by gen/hvrun.py) -/
set_option maxRecDepth 100000
/-- MatchmakerRules$Book.run(I)I -/
abbrev rm_X2_run (mc ms : Nat) : Room := { frames := 9, cells := mc, slots := ms, locals := 251 }
def wp_X2_run_L27 (G : GG) (mc : Nat) (ms : Nat) (a0 : Nat) (Q : Int32 → HH → Prop) (X : String → Nat → HH → Prop) : Nat → (HH) → (Nat) → (Nat) → (Int32) → (Int32) → (Option Nat) → Prop
  | 0, _, _, _, _, _, _ => False
  | n + 1, h, nc, nk, x1, x2, x3 => ((x3 = none → Q x2 h) ∧ (∀ a10, x3 = some a10 → (∃ mc11 ms11, nc + mc11 ≤ mc ∧ nk + ms11 ≤ ms ∧ w_is h a0 2 (wp_X2_fire G mc11 ms11 h a0 (some a10) (fun r12 h13 => ((¬ (x2 + (1 : Int32)) = x1 → (∃ mc14 ms14, (nc + mc11) + mc14 ≤ mc ∧ (nk + ms11) + ms14 ≤ ms ∧ w_is h13 a0 2 (wp_X2_foremost G mc14 ms14 h13 a0 (fun r15 h16 => wp_X2_run_L27 G mc ms a0 Q X n h16 ((nc + mc11) + mc14) ((nk + ms11) + ms14) x1 (x2 + (1 : Int32)) r15)))) ∧ ((x2 + (1 : Int32)) = x1 → wp_X2_run_L27 G mc ms a0 Q X n h13 (nc + mc11) (nk + ms11) x1 (x2 + (1 : Int32)) none)))))))
set_option maxHeartbeats 4000000 in
theorem snd_X2_run_L27 {p : Program} {l : Launch} {e : Env} {s : State} {m : MethodId} {args : Array Value} {below : List Frame} {meth : Method} {c : Code} {h0 : HH} (G : GG) (mc : Nat) (ms : Nat) (a0 : Nat) (Q : Int32 → HH → Prop) (X : String → Nat → HH → Prop) (hl0 : l.stackTraces = false) (ht : ∀ x ∈ c.exceptionTable.toList, False) (hE : hv_E p s m args meth c cX2_run 5 (some FieldType.int) RX2 G h0) : ∀ (n : Nat) (h : HH) (nc : Nat) (nk : Nat) (x1 : Int32) (x2 : Int32) (x3 : Option Nat), wp_X2_run_L27 G mc ms a0 Q X n h nc nk x1 x2 x3 → nc ≤ mc → nk ≤ ms → ∀ (H : Heap) (locs : List Loc) (ls : Array Slot), hv_I G h0 s.heap h H locs → lv_has ls 5 [(0, .ref a0), (1, .int x1), (2, .int x2), (3, va_rf x3)] → W p l e (headSpec (ws_ yX2_run cX2_run 5 (some FieldType.int)) (rm_X2_run mc ms)).room s m args below meth c H locs nc nk (vx_MQ below (hv_Qi G h0 s.heap.size Q) (hv_XC G h0 s.heap.size X) args s mc ms (hv_A h0 s.heap.size)) (F0 m 27 ls []) := by
  obtain ⟨⟨hx, hb, hml, hown, hts⟩, hr, hlocks, hXX⟩ := id hE
  intro n
  induction n with
  | zero => intro h nc nk x1 x2 x3 hw; exact hw.elim
  | succ n ih =>
    intro h nc nk x1 x2 x3 hw hc hs H locs ls hI hl
    unfold wp_X2_run_L27 at hw
    refine lv_aload_nq hx hb dX2_run_27 rfl (lv_at hl 3 rfl) ?_
    refine lv_ifnullq (tgt := 58) hx hb dX2_run_28 (by decide) (fun c_28 => ?_) (fun c_28 => ?_)
    · have hwa10 := hw.1 c_28; have hla10 := hl; subst c_28; have hw := hwa10; have hl := hla10
      refine lv_iload_n hx hb dX2_run_58 rfl (lv_at hl 2 rfl) ?_
      exact vx_ret (hv_iret hE hI hc hs hw dX2_run_59)
    · obtain ⟨a10, hz⟩ := Option.ne_none_iff_exists.mp c_28
      have hwa10 := hw.2 a10 hz.symm; have hla10 := hl; subst hz; have hw := hwa10; have hl := hla10
      refine lv_aload_n hx hb dX2_run_31 rfl (lv_at hl 0 rfl) ?_
      refine lv_aload_n hx hb dX2_run_32 rfl (lv_at hl 3 rfl) ?_
      obtain ⟨mc11, ms11, hc, hs, hw⟩ := hw
      obtain ⟨⟨fs, hre⟩, hw⟩ := hw
      refine hv_rci hI (va_runV (As := [.ref a10]) (b := a0) (rest := []) hE.1 (snd_X2_fire l G _ mc11 ms11 h a0 (some a10) _ hw) (cwV 1 hts (lw_V q1224 q1226 qs24 q98 q1227) rfl rfl rfl (by decide +kernel) ⟨Nat.le_of_ble_eq_true rfl, Nat.le_of_ble_eq_true rfl⟩) (hv_preV hE hI (ci := 2) rfl hre) rfl rfl hl.1 rfl (lv_room (Nat.le_of_ble_eq_true rfl)) dX2_run_33 ⟨hc, hs⟩) (fun r12 h13 H locs hw hI => ?_)
      refine lv_istore (lv' := [(4, .int r12), (0, .ref a0), (1, .int x1), (2, .int x2), (3, .ref a10)]) hx hb dX2_run_36 hl (by decide) rfl (fun ls hl => ?_)
      refine lv_iinc (v := (x2 + (1 : Int32))) (lv' := [(2, .int (x2 + (1 : Int32))), (4, .int r12), (0, .ref a0), (1, .int x1), (3, .ref a10)]) hx hb dX2_run_38 hl (k := 3) rfl rfl (by decide) rfl (fun ls hl => ?_)
      refine lv_iload_n hx hb dX2_run_41 rfl (lv_at hl 0 rfl) ?_
      refine lv_iload_n hx hb dX2_run_42 rfl (lv_at hl 3 rfl) ?_
      refine lv_icmp_ne (tgt := 50) hx hb dX2_run_43 (by decide) (fun c_43 => ?_) (fun c_43 => ?_)
      · have hw := hw.1 c_43
        refine lv_aload_n hx hb dX2_run_50 rfl (lv_at hl 2 rfl) ?_
        obtain ⟨mc14, ms14, hc, hs, hw⟩ := hw
        obtain ⟨⟨fs, hre⟩, hw⟩ := hw
        refine hv_rcq hI (va_runV (As := []) (b := a0) (rest := []) hE.1 (snd_X2_foremost l G _ mc14 ms14 h13 a0 _ hw) (cwV 0 hts (lw_V q1176 q1178 qs22 q98 q1179) rfl rfl rfl (by decide +kernel) ⟨Nat.le_of_ble_eq_true rfl, Nat.le_of_ble_eq_true rfl⟩) (hv_preV hE hI (ci := 2) rfl hre) rfl rfl hl.1 rfl (lv_room (Nat.le_of_ble_eq_true rfl)) dX2_run_51 ⟨hc, hs⟩) (fun r15 h16 H locs hw hI => ?_)
        refine lv_astore_nq (lv' := [(3, va_rf r15), (2, .int (x2 + (1 : Int32))), (4, .int r12), (0, .ref a0), (1, .int x1)]) hx hb dX2_run_54 rfl hl (by decide) rfl (fun ls hl => ?_)
        refine lv_goto (tgt := 27) hx hb dX2_run_55 (by decide) ?_
        exact ih h16 ((nc + mc11) + mc14) ((nk + ms11) + ms14) x1 (x2 + (1 : Int32)) r15 hw hc hs _ _ _ hI (lv_sub hl [3, 4, 1, 0] rfl)
      · have hw := hw.2 c_43
        refine lv_null hx hb dX2_run_46 ?_
        refine lv_goto (tgt := 54) hx hb dX2_run_47 (by decide) ?_
        refine lv_astore_nN (lv' := [(3, .null), (2, .int (x2 + (1 : Int32))), (4, .int r12), (0, .ref a0), (1, .int x1)]) hx hb dX2_run_54 rfl hl (by decide) rfl (fun ls hl => ?_)
        refine lv_goto (tgt := 27) hx hb dX2_run_55 (by decide) ?_
        exact ih h13 (nc + mc11) (nk + ms11) x1 (x2 + (1 : Int32)) none hw hc hs _ _ _ hI (lv_sub hl [3, 4, 1, 0] rfl)
def wp_X2_run (G : GG) (mc : Nat) (ms : Nat) (h : HH) (a0 : Nat) (x1 : Int32) (Q : Int32 → HH → Prop) (X : String → Nat → HH → Prop) : Prop := wp_X1_inRange G h (Int32.toInt64 x1) (0 : Int64) (30 : Int64) (fun r1 h2 => (∃ mc3 ms3, 0 + mc3 ≤ mc ∧ 0 + ms3 ≤ ms ∧ wp_X1_checkArgument G mc3 ms3 h2 r1 (fun h4 => ((¬ x1 = 0 → (∃ mc7 ms7, (0 + mc3) + mc7 ≤ mc ∧ (0 + ms3) + ms7 ≤ ms ∧ w_is h4 a0 2 (wp_X2_foremost G mc7 ms7 h4 a0 (fun r8 h9 => (∃ n27, wp_X2_run_L27 G mc ms a0 Q X n27 h9 ((0 + mc3) + mc7) ((0 + ms3) + ms7) x1 (0 : Int32) r8))))) ∧ (x1 = 0 → (∃ n27, wp_X2_run_L27 G mc ms a0 Q X n27 h4 (0 + mc3) (0 + ms3) x1 (0 : Int32) none)))) (fun E q5 h6 => X E q5 h6)))
set_option maxHeartbeats 4000000 in
theorem snd_X2_run (l : Launch) (hl0 : l.stackTraces = false) (G : GG) (sz : Nat) (mc : Nat) (ms : Nat) (h : HH) (a0 : Nat) (x1 : Int32) (Q : Int32 → HH → Prop) (X : String → Nat → HH → Prop) (hw : wp_X2_run G mc ms h a0 x1 Q X) : vx_Met l yX2_run (ws_ yX2_run cX2_run 5 (some FieldType.int)) (rm_X2_run mc ms) (hv_Pc G h sz [.ref a0, .int x1]) (hv_Qi G h sz Q) (hv_XC G h sz X) mc ms (hv_A h sz) := by
  refine vx_ofW (cc := cX2_run) (maxL := 5) (ret := (some FieldType.int)) (by decide) rfl ?_
  intro p e s m args below meth c s₁ B hml ht hv
  obtain ⟨rfl, rfl, hE, hI⟩ := hv_open B hml hv
  have hE : hv_E p s m ([.ref a0, .int x1] : List Value).toArray meth c cX2_run 5 (some FieldType.int) RX2 G h := hE
  obtain ⟨⟨hx, hb, hml, hown, hts⟩, hr, hlocks, hXX⟩ := id hE
  have hl := lv_entry ([.ref a0, .int x1] : List Value) (n := 5) (Nat.le_of_ble_eq_true rfl)
  rw [lg_entry_eq]
  generalize (lg_sl ([.ref a0, .int x1] : List Value) ++ List.replicate (5 - (lg_sl ([.ref a0, .int x1] : List Value)).length) Slot.unset).toArray = ls at hl ⊢
  have hl : lv_has ls 5 [(0, .ref a0), (1, .int x1)] := hl
  have hc : 0 ≤ mc := Nat.zero_le _
  have hs : 0 ≤ ms := Nat.zero_le _
  unfold wp_X2_run at hw
  refine lv_iload_n hx hb dX2_run_0 rfl (lv_at hl 1 rfl) ?_
  refine lv_i2l (v := (Int32.toInt64 x1)) hx hb dX2_run_1 rfl ?_
  refine lv_lconst (v := 0) hx hb dX2_run_2 (by decide) ?_
  refine lv_ldc2 (v := 30) hx hb hown (hts _ q1175) dX2_run_3 ?_
  refine hv_rci hI (va_runSN (As := [.long (Int32.toInt64 x1), .long (0 : Int64), .long (30 : Int64)]) (rest := []) hE.1 (snd_X1_inRange l G _ h (Int32.toInt64 x1) (0 : Int64) (30 : Int64) _ hw) ⟨va_cnB 3 hts (lw_meth q783) rfl rfl rfl (hE.2.2.2.2.1.M 3 rfl) (hts _ q97) (by decide +kernel) ⟨Nat.le_of_ble_eq_true rfl, Nat.le_of_ble_eq_true rfl⟩, hts _ q782, trivial⟩ (hv_preS hE hI) rfl rfl hl.1 rfl (lv_room (Nat.le_of_ble_eq_true rfl)) dX2_run_6 ⟨hc, hs⟩) (fun r1 h2 H locs hw hI => ?_)
  obtain ⟨mc3, ms3, hc, hs, hw⟩ := hw
  refine hx_rcv hI (vx_runSN (As := [.int r1]) (rest := []) hE.1 (snd_X1_checkArgument l hl0 G _ mc3 ms3 h2 r1 _ _ hw) ⟨va_cnB 1 hts (lw_meth q1159) rfl rfl rfl (hE.2.2.2.2.1.M 5 rfl) (hts _ q97) (by decide +kernel) ⟨Nat.le_of_ble_eq_true rfl, Nat.le_of_ble_eq_true rfl⟩, hts _ q1158, trivial⟩ (hv_preS hE hI) rfl rfl hl.1 rfl (lv_room (Nat.le_of_ble_eq_true rfl)) dX2_run_9 ⟨hc, hs⟩) ?_ (fun h4 H locs hw hI => ?_)
  · intro E q5 h6 H locs hw hI hT
    exact hx_out hE hI hT hc hs (fun z hz => (ht z hz).elim) hw
  refine lv_iconst (v := 0) hx hb dX2_run_12 (by decide) ?_
  refine lv_istore_n (lv' := [(2, .int (0 : Int32)), (0, .ref a0), (1, .int x1)]) hx hb dX2_run_13 rfl hl (by decide) rfl (fun ls hl => ?_)
  refine lv_iload_n hx hb dX2_run_14 rfl (lv_at hl 2 rfl) ?_
  refine lv_if_ne (tgt := 22) hx hb dX2_run_15 (by decide) (fun c_15 => ?_) (fun c_15 => ?_)
  · have hw := hw.1 c_15
    refine lv_aload_n hx hb dX2_run_22 rfl (lv_at hl 1 rfl) ?_
    obtain ⟨mc7, ms7, hc, hs, hw⟩ := hw
    obtain ⟨⟨fs, hre⟩, hw⟩ := hw
    refine hv_rcq hI (va_runV (As := []) (b := a0) (rest := []) hE.1 (snd_X2_foremost l G _ mc7 ms7 h4 a0 _ hw) (cwV 0 hts (lw_V q1176 q1178 qs22 q98 q1179) rfl rfl rfl (by decide +kernel) ⟨Nat.le_of_ble_eq_true rfl, Nat.le_of_ble_eq_true rfl⟩) (hv_preV hE hI (ci := 2) rfl hre) rfl rfl hl.1 rfl (lv_room (Nat.le_of_ble_eq_true rfl)) dX2_run_23 ⟨hc, hs⟩) (fun r8 h9 H locs hw hI => ?_)
    refine lv_astore_nq (lv' := [(3, va_rf r8), (2, .int (0 : Int32)), (0, .ref a0), (1, .int x1)]) hx hb dX2_run_26 rfl hl (by decide) rfl (fun ls hl => ?_)
    obtain ⟨n27, hw⟩ := hw
    exact snd_X2_run_L27 G mc ms a0 Q X hl0 ht hE n27 h9 ((0 + mc3) + mc7) ((0 + ms3) + ms7) x1 (0 : Int32) r8 hw hc hs _ _ _ hI (lv_sub hl [2, 3, 1, 0] rfl)
  · have hw := hw.2 c_15
    refine lv_null hx hb dX2_run_18 ?_
    refine lv_goto (tgt := 26) hx hb dX2_run_19 (by decide) ?_
    refine lv_astore_nN (lv' := [(3, .null), (2, .int (0 : Int32)), (0, .ref a0), (1, .int x1)]) hx hb dX2_run_26 rfl hl (by decide) rfl (fun ls hl => ?_)
    obtain ⟨n27, hw⟩ := hw
    exact snd_X2_run_L27 G mc ms a0 Q X hl0 ht hE n27 h4 (0 + mc3) (0 + ms3) x1 (0 : Int32) none hw hc hs _ _ _ hI (lv_sub hl [2, 3, 1, 0] rfl)

/-- MatchmakerRules$Book.fireFirst()I -/
abbrev rm_X2_fireFirst (mc ms : Nat) : Room := { frames := 9, cells := mc, slots := ms, locals := 251 }
def wp_X2_fireFirst_L14 (G : GG) (mc : Nat) (ms : Nat) (a0 : Nat) (Q : Int32 → HH → Prop) (X : String → Nat → HH → Prop) (h : HH) (nc : Nat) (nk : Nat) (x1 : Option Nat) (t0 : Int32) : Prop := w_geti h a0 2 5 (fun r5 => (∃ mc6 ms6, nc + mc6 ≤ mc ∧ nk + ms6 ≤ ms ∧ wp_X11_check G mc6 ms6 h t0 (5 : Int32) r5 (fun h7 => (∃ mc10 ms10, (nc + mc6) + mc10 ≤ mc ∧ (nk + ms6) + ms10 ≤ ms ∧ w_is h7 a0 2 (wp_X2_fire G mc10 ms10 h7 a0 x1 (fun r11 h12 => Q r11 h12)))) (fun E q8 h9 => X E q8 h9)))
set_option maxHeartbeats 4000000 in
theorem snd_X2_fireFirst_L14 {p : Program} {l : Launch} {e : Env} {s : State} {m : MethodId} {args : Array Value} {below : List Frame} {meth : Method} {c : Code} {h0 : HH} (G : GG) (mc : Nat) (ms : Nat) (a0 : Nat) (Q : Int32 → HH → Prop) (X : String → Nat → HH → Prop) (ht : ∀ x ∈ c.exceptionTable.toList, False) (hE : hv_E p s m args meth c cX2_fireFirst 2 (some FieldType.int) RX2 G h0) : ∀ (h : HH) (nc : Nat) (nk : Nat) (x1 : Option Nat) (t0 : Int32), wp_X2_fireFirst_L14 G mc ms a0 Q X h nc nk x1 t0 → nc ≤ mc → nk ≤ ms → ∀ (H : Heap) (locs : List Loc) (ls : Array Slot), hv_I G h0 s.heap h H locs → lv_has ls 2 [(0, .ref a0), (1, va_rf x1)] → W p l e (headSpec (ws_ yX2_fireFirst cX2_fireFirst 2 (some FieldType.int)) (rm_X2_fireFirst mc ms)).room s m args below meth c H locs nc nk (vx_MQ below (hv_Qi G h0 s.heap.size Q) (hv_XC G h0 s.heap.size X) args s mc ms (hv_A h0 s.heap.size)) (F0 m 14 ls [.int t0]) := by
  obtain ⟨⟨hx, hb, hml, hown, hts⟩, hr, hlocks, hXX⟩ := id hE
  intro h nc nk x1 t0 hw hc hs H locs ls hI hl
  unfold wp_X2_fireFirst_L14 at hw
  refine lv_iconst (v := 5) hx hb dX2_fireFirst_14 (by decide) ?_
  refine lv_aload_n hx hb dX2_fireFirst_15 rfl (lv_at hl 0 rfl) ?_
  refine hv_wgeti hE hI in_X2 (ci := 2) rfl 5 (by decide) (hts _ q229) (fun _ hx => hx) hw dX2_fireFirst_16 (fun r5 hw => ?_)
  obtain ⟨mc6, ms6, hc, hs, hw⟩ := hw
  refine hx_rcv hI (vx_runS (As := [.int t0, .int (5 : Int32), .int r5]) (rest := []) hE.1 (snd_X11_check l G _ mc6 ms6 h t0 (5 : Int32) r5 _ _ hw) (va_cwS 3 hts (lw_S q1051 q1052 q127 q1053) rfl rfl rfl (by decide +kernel) ⟨Nat.le_of_ble_eq_true rfl, Nat.le_of_ble_eq_true rfl⟩) (hv_preS hE hI) rfl rfl hl.1 rfl (lv_room (Nat.le_of_ble_eq_true rfl)) dX2_fireFirst_19 ⟨hc, hs⟩) ?_ (fun h7 H locs hw hI => ?_)
  · intro E q8 h9 H locs hw hI hT
    exact hx_out hE hI hT hc hs (fun z hz => (ht z hz).elim) hw
  refine lv_aload_n hx hb dX2_fireFirst_22 rfl (lv_at hl 0 rfl) ?_
  refine lv_aload_nq hx hb dX2_fireFirst_23 rfl (lv_at hl 1 rfl) ?_
  obtain ⟨mc10, ms10, hc, hs, hw⟩ := hw
  obtain ⟨⟨fs, hre⟩, hw⟩ := hw
  refine hv_rci hI (va_runV (As := [va_rf x1]) (b := a0) (rest := []) hE.1 (snd_X2_fire l G _ mc10 ms10 h7 a0 x1 _ hw) (cwV 1 hts (lw_V q1224 q1226 qs24 q98 q1227) rfl rfl rfl (by decide +kernel) ⟨Nat.le_of_ble_eq_true rfl, Nat.le_of_ble_eq_true rfl⟩) (hv_preV hE hI (ci := 2) rfl hre) rfl rfl hl.1 rfl (lv_room (Nat.le_of_ble_eq_true rfl)) dX2_fireFirst_24 ⟨hc, hs⟩) (fun r11 h12 H locs hw hI => ?_)
  exact vx_ret (hv_iret hE hI hc hs hw dX2_fireFirst_27)
def wp_X2_fireFirst (G : GG) (mc : Nat) (ms : Nat) (h : HH) (a0 : Nat) (Q : Int32 → HH → Prop) (X : String → Nat → HH → Prop) : Prop := (∃ mc1 ms1, 0 + mc1 ≤ mc ∧ 0 + ms1 ≤ ms ∧ w_is h a0 2 (wp_X2_foremost G mc1 ms1 h a0 (fun r2 h3 => ((r2 = none → wp_X2_fireFirst_L14 G mc ms a0 Q X h3 (0 + mc1) (0 + ms1) none (0 : Int32)) ∧ (∀ a4, r2 = some a4 → wp_X2_fireFirst_L14 G mc ms a0 Q X h3 (0 + mc1) (0 + ms1) (some a4) (1 : Int32))))))
set_option maxHeartbeats 4000000 in
theorem snd_X2_fireFirst (l : Launch) (G : GG) (sz : Nat) (mc : Nat) (ms : Nat) (h : HH) (a0 : Nat) (Q : Int32 → HH → Prop) (X : String → Nat → HH → Prop) (hw : wp_X2_fireFirst G mc ms h a0 Q X) : vx_Met l yX2_fireFirst (ws_ yX2_fireFirst cX2_fireFirst 2 (some FieldType.int)) (rm_X2_fireFirst mc ms) (hv_Pc G h sz [.ref a0]) (hv_Qi G h sz Q) (hv_XC G h sz X) mc ms (hv_A h sz) := by
  refine vx_ofW (cc := cX2_fireFirst) (maxL := 2) (ret := (some FieldType.int)) (by decide) rfl ?_
  intro p e s m args below meth c s₁ B hml ht hv
  obtain ⟨rfl, rfl, hE, hI⟩ := hv_open B hml hv
  have hE : hv_E p s m ([.ref a0] : List Value).toArray meth c cX2_fireFirst 2 (some FieldType.int) RX2 G h := hE
  obtain ⟨⟨hx, hb, hml, hown, hts⟩, hr, hlocks, hXX⟩ := id hE
  have hl := lv_entry ([.ref a0] : List Value) (n := 2) (Nat.le_of_ble_eq_true rfl)
  rw [lg_entry_eq]
  generalize (lg_sl ([.ref a0] : List Value) ++ List.replicate (2 - (lg_sl ([.ref a0] : List Value)).length) Slot.unset).toArray = ls at hl ⊢
  have hl : lv_has ls 2 [(0, .ref a0)] := hl
  have hc : 0 ≤ mc := Nat.zero_le _
  have hs : 0 ≤ ms := Nat.zero_le _
  unfold wp_X2_fireFirst at hw
  refine lv_aload_n hx hb dX2_fireFirst_0 rfl (lv_at hl 0 rfl) ?_
  obtain ⟨mc1, ms1, hc, hs, hw⟩ := hw
  obtain ⟨⟨fs, hre⟩, hw⟩ := hw
  refine hv_rcq hI (va_runV (As := []) (b := a0) (rest := []) hE.1 (snd_X2_foremost l G _ mc1 ms1 h a0 _ hw) (cwV 0 hts (lw_V q1176 q1178 qs22 q98 q1179) rfl rfl rfl (by decide +kernel) ⟨Nat.le_of_ble_eq_true rfl, Nat.le_of_ble_eq_true rfl⟩) (hv_preV hE hI (ci := 2) rfl hre) rfl rfl hl.1 rfl (lv_room (Nat.le_of_ble_eq_true rfl)) dX2_fireFirst_1 ⟨hc, hs⟩) (fun r2 h3 H locs hw hI => ?_)
  refine lv_astore_nq (lv' := [(1, va_rf r2), (0, .ref a0)]) hx hb dX2_fireFirst_4 rfl hl (by decide) rfl (fun ls hl => ?_)
  refine lv_aload_nq hx hb dX2_fireFirst_5 rfl (lv_at hl 0 rfl) ?_
  refine lv_ifnullq (tgt := 13) hx hb dX2_fireFirst_6 (by decide) (fun c_6 => ?_) (fun c_6 => ?_)
  · have hwa4 := hw.1 c_6; have hla4 := hl; subst c_6; have hw := hwa4; have hl := hla4
    refine lv_iconst (v := 0) hx hb dX2_fireFirst_13 (by decide) ?_
    exact snd_X2_fireFirst_L14 G mc ms a0 Q X ht hE h3 (0 + mc1) (0 + ms1) none (0 : Int32) hw hc hs _ _ _ hI (lv_sub hl [1, 0] rfl)
  · obtain ⟨a4, hz⟩ := Option.ne_none_iff_exists.mp c_6
    have hwa4 := hw.2 a4 hz.symm; have hla4 := hl; subst hz; have hw := hwa4; have hl := hla4
    refine lv_iconst (v := 1) hx hb dX2_fireFirst_9 (by decide) ?_
    refine lv_goto (tgt := 14) hx hb dX2_fireFirst_10 (by decide) ?_
    exact snd_X2_fireFirst_L14 G mc ms a0 Q X ht hE h3 (0 + mc1) (0 + ms1) (some a4) (1 : Int32) hw hc hs _ _ _ hI (lv_sub hl [1, 0] rfl)

/-- MatchmakerRules$Change.make(LMatchmakerRules$Book;)I -/
abbrev rm_X5_make (mc ms : Nat) : Room := { frames := 10, cells := mc, slots := ms, locals := 3150 }
def wp_X5_make (G : GG) (mc : Nat) (ms : Nat) (h : HH) (a0 : Nat) (x1 : Option Nat) (Q : Int32 → HH → Prop) (X : String → Nat → HH → Prop) : Prop := w_geti h a0 8 0 (fun r1 => ((r1 = (43 : Int32) → w_getq h a0 8 1 (fun r2 => w_nn r2 (fun a3 => w_ild G h a3 (0 : Int32) (fun r4 => w_getq h a0 8 1 (fun r5 => w_nn r5 (fun a6 => w_ild G h a6 (1 : Int32) (fun r7 => w_getq h a0 8 1 (fun r8 => w_nn r8 (fun a9 => w_ild G h a9 (2 : Int32) (fun r10 => w_getq h a0 8 1 (fun r11 => w_nn r11 (fun a12 => w_ild G h a12 (3 : Int32) (fun r13 => w_nn x1 (fun a14 => (∃ mc15 ms15, 0 + mc15 ≤ mc ∧ 0 + ms15 ≤ ms ∧ w_is h a14 2 (wp_X2_tell G mc15 ms15 h a14 (((Int32.toUInt32 r4) % 65536).toInt32) r7 r10 r13 (fun r16 h17 => Q r16 h17) (fun E q18 h19 => X E q18 h19))))))))))))))))) ∧ (¬ r1 = (43 : Int32) → ((r1 = (45 : Int32) → w_getq h a0 8 1 (fun r20 => w_nn r20 (fun a21 => w_ild G h a21 (0 : Int32) (fun r22 => w_nn x1 (fun a23 => (∃ mc24 ms24, 0 + mc24 ≤ mc ∧ 0 + ms24 ≤ ms ∧ w_is h a23 2 (wp_X2_untell G mc24 ms24 h a23 r22 (fun r25 h26 => Q r25 h26) (fun E q27 h28 => X E q27 h28)))))))) ∧ (¬ r1 = (45 : Int32) → ((r1 = (58 : Int32) → w_getq h a0 8 2 (fun r29 => w_nn x1 (fun a30 => (∃ mc31 ms31, 0 + mc31 ≤ mc ∧ 0 + ms31 ≤ ms ∧ w_is h a30 2 (wp_X2_add G mc31 ms31 h a30 r29 (fun r32 h33 => Q r32 h33) (fun E q34 h35 => X E q34 h35)))))) ∧ (¬ r1 = (58 : Int32) → ((r1 = (102 : Int32) → w_getq h a0 8 1 (fun r36 => w_nn r36 (fun a37 => w_ild G h a37 (0 : Int32) (fun r38 => w_nn x1 (fun a39 => (∃ mc40 ms40, 0 + mc40 ≤ mc ∧ 0 + ms40 ≤ ms ∧ w_is h a39 2 (wp_X2_run G mc40 ms40 h a39 r38 (fun r41 h42 => Q r41 h42) (fun E q43 h44 => X E q43 h44)))))))) ∧ (¬ r1 = (102 : Int32) → ((r1 = (120 : Int32) → w_getq h a0 8 1 (fun r45 => w_nn r45 (fun a46 => w_ild G h a46 (0 : Int32) (fun r47 => w_nn x1 (fun a48 => (∃ mc49 ms49, 0 + mc49 ≤ mc ∧ 0 + ms49 ≤ ms ∧ w_is h a48 2 (wp_X2_drop G mc49 ms49 h a48 r47 (fun r50 h51 => Q r50 h51) (fun E q52 h53 => X E q52 h53)))))))) ∧ (¬ r1 = (120 : Int32) → w_nn x1 (fun a54 => (∃ mc55 ms55, 0 + mc55 ≤ mc ∧ 0 + ms55 ≤ ms ∧ w_is h a54 2 (wp_X2_fireFirst G mc55 ms55 h a54 (fun r56 h57 => Q r56 h57) (fun E q58 h59 => X E q58 h59)))))))))))))))
set_option maxHeartbeats 4000000 in
theorem snd_X5_make (l : Launch) (hl0 : l.stackTraces = false) (G : GG) (sz : Nat) (mc : Nat) (ms : Nat) (h : HH) (a0 : Nat) (x1 : Option Nat) (Q : Int32 → HH → Prop) (X : String → Nat → HH → Prop) (hw : wp_X5_make G mc ms h a0 x1 Q X) : vx_Met l yX5_make (ws_ yX5_make cX5_make 2 (some FieldType.int)) (rm_X5_make mc ms) (hv_Pc G h sz [.ref a0, va_rf x1]) (hv_Qi G h sz Q) (hv_XC G h sz X) mc ms (hv_A h sz) := by
  refine vx_ofW (cc := cX5_make) (maxL := 2) (ret := (some FieldType.int)) (by decide) rfl ?_
  intro p e s m args below meth c s₁ B hml ht hv
  obtain ⟨rfl, rfl, hE, hI⟩ := hv_open B hml hv
  have hE : hv_E p s m ([.ref a0, va_rf x1] : List Value).toArray meth c cX5_make 2 (some FieldType.int) RX5 G h := hE
  obtain ⟨⟨hx, hb, hml, hown, hts⟩, hr, hlocks, hXX⟩ := id hE
  have hl := lv_entry ([.ref a0, va_rf x1] : List Value) (n := 2) (by cases x1 <;> exact Nat.le_of_ble_eq_true rfl)
  rw [lg_entry_eq]
  generalize (lg_sl ([.ref a0, va_rf x1] : List Value) ++ List.replicate (2 - (lg_sl ([.ref a0, va_rf x1] : List Value)).length) Slot.unset).toArray = ls at hl ⊢
  have hl : lv_has ls 2 [(0, .ref a0), (1, va_rf x1)] := (by cases x1 <;> exact hl)
  have hc : 0 ≤ mc := Nat.zero_le _
  have hs : 0 ≤ ms := Nat.zero_le _
  unfold wp_X5_make at hw
  refine lv_aload_n hx hb dX5_make_0 rfl (lv_at hl 0 rfl) ?_
  refine hv_wgeti hE hI in_X5 (ci := 8) rfl 0 (by decide) (hts _ q888) (fun _ hx => hx) hw dX5_make_1 (fun r1 hw => ?_)
  by_cases s4_43 : r1 = (43 : Int32)
  · have hw := hw.1 s4_43
    refine lv_lookup (tgt := 76) (off := 72) hx hb dX5_make_4 (by decide) (by rw [s4_43]; decide) (by decide) ?_
    refine lv_aload_nq hx hb dX5_make_76 rfl (lv_at hl 1 rfl) ?_
    refine lv_aload_n hx hb dX5_make_77 rfl (lv_at hl 0 rfl) ?_
    refine hv_wgetq hE hI in_X5 (ci := 8) rfl 1 (by decide) (hts _ q889) (fun _ hx => hx) hw dX5_make_78 (fun r2 hw => ?_)
    refine lv_iconst (v := 0) hx hb dX5_make_81 (by decide) ?_
    obtain ⟨a3, hz, hwa3⟩ := hw; have hla3 := hl; subst hz; have hw := hwa3; have hl := hla3
    refine hv_wild hE hI hw dX5_make_82 (fun r4 hw => ?_)
    refine lv_i2c (v := ((Int32.toUInt32 r4) % 65536).toInt32) hx hb dX5_make_83 rfl ?_
    refine lv_aload_n hx hb dX5_make_84 rfl (lv_at hl 0 rfl) ?_
    refine hv_wgetq hE hI in_X5 (ci := 8) rfl 1 (by decide) (hts _ q889) (fun _ hx => hx) hw dX5_make_85 (fun r5 hw => ?_)
    refine lv_iconst (v := 1) hx hb dX5_make_88 (by decide) ?_
    obtain ⟨a6, hz, hwa6⟩ := hw; have hla6 := hl; subst hz; have hw := hwa6; have hl := hla6
    refine hv_wild hE hI hw dX5_make_89 (fun r7 hw => ?_)
    refine lv_aload_n hx hb dX5_make_90 rfl (lv_at hl 0 rfl) ?_
    refine hv_wgetq hE hI in_X5 (ci := 8) rfl 1 (by decide) (hts _ q889) (fun _ hx => hx) hw dX5_make_91 (fun r8 hw => ?_)
    refine lv_iconst (v := 2) hx hb dX5_make_94 (by decide) ?_
    obtain ⟨a9, hz, hwa9⟩ := hw; have hla9 := hl; subst hz; have hw := hwa9; have hl := hla9
    refine hv_wild hE hI hw dX5_make_95 (fun r10 hw => ?_)
    refine lv_aload_n hx hb dX5_make_96 rfl (lv_at hl 0 rfl) ?_
    refine hv_wgetq hE hI in_X5 (ci := 8) rfl 1 (by decide) (hts _ q889) (fun _ hx => hx) hw dX5_make_97 (fun r11 hw => ?_)
    refine lv_iconst (v := 3) hx hb dX5_make_100 (by decide) ?_
    obtain ⟨a12, hz, hwa12⟩ := hw; have hla12 := hl; subst hz; have hw := hwa12; have hl := hla12
    refine hv_wild hE hI hw dX5_make_101 (fun r13 hw => ?_)
    obtain ⟨a14, hz, hwa14⟩ := hw; have hla14 := hl; subst hz; have hw := hwa14; have hl := hla14
    obtain ⟨mc15, ms15, hc, hs, hw⟩ := hw
    obtain ⟨⟨fs, hre⟩, hw⟩ := hw
    refine hx_rci hI (vx_runV (As := [.int (((Int32.toUInt32 r4) % 65536).toInt32), .int r7, .int r10, .int r13]) (b := a14) (rest := []) hE.1 (snd_X2_tell l hl0 G _ mc15 ms15 h a14 (((Int32.toUInt32 r4) % 65536).toInt32) r7 r10 r13 _ _ hw) (cwV 4 hts (lw_V q1150 q1151 q1152 q98 q1153) rfl rfl rfl (by decide +kernel) ⟨Nat.le_of_ble_eq_true rfl, Nat.le_of_ble_eq_true rfl⟩) (hv_preV hE hI (ci := 2) rfl hre) rfl rfl hl.1 rfl (lv_room (Nat.le_of_ble_eq_true rfl)) dX5_make_102 ⟨hc, hs⟩) ?_ (fun r16 h17 H locs hw hI => ?_)
    · intro E q18 h19 H locs hw hI hT
      exact hx_out hE hI hT hc hs (fun z hz => (ht z hz).elim) hw
    exact vx_ret (hv_iret hE hI hc hs hw dX5_make_105)
  · have hw := hw.2 s4_43
    by_cases s4_45 : r1 = (45 : Int32)
    · have hw := hw.1 s4_45
      refine lv_lookup (tgt := 106) (off := 102) hx hb dX5_make_4 (by decide) (by rw [s4_45]; decide) (by decide) ?_
      refine lv_aload_nq hx hb dX5_make_106 rfl (lv_at hl 1 rfl) ?_
      refine lv_aload_n hx hb dX5_make_107 rfl (lv_at hl 0 rfl) ?_
      refine hv_wgetq hE hI in_X5 (ci := 8) rfl 1 (by decide) (hts _ q889) (fun _ hx => hx) hw dX5_make_108 (fun r20 hw => ?_)
      refine lv_iconst (v := 0) hx hb dX5_make_111 (by decide) ?_
      obtain ⟨a21, hz, hwa21⟩ := hw; have hla21 := hl; subst hz; have hw := hwa21; have hl := hla21
      refine hv_wild hE hI hw dX5_make_112 (fun r22 hw => ?_)
      obtain ⟨a23, hz, hwa23⟩ := hw; have hla23 := hl; subst hz; have hw := hwa23; have hl := hla23
      obtain ⟨mc24, ms24, hc, hs, hw⟩ := hw
      obtain ⟨⟨fs, hre⟩, hw⟩ := hw
      refine hx_rci hI (vx_runV (As := [.int r22]) (b := a23) (rest := []) hE.1 (snd_X2_untell l G _ mc24 ms24 h a23 r22 _ _ hw) (cwV 1 hts (lw_V q1167 q1168 q1169 q98 q1170) rfl rfl rfl (by decide +kernel) ⟨Nat.le_of_ble_eq_true rfl, Nat.le_of_ble_eq_true rfl⟩) (hv_preV hE hI (ci := 2) rfl hre) rfl rfl hl.1 rfl (lv_room (Nat.le_of_ble_eq_true rfl)) dX5_make_113 ⟨hc, hs⟩) ?_ (fun r25 h26 H locs hw hI => ?_)
      · intro E q27 h28 H locs hw hI hT
        exact hx_out hE hI hT hc hs (fun z hz => (ht z hz).elim) hw
      exact vx_ret (hv_iret hE hI hc hs hw dX5_make_116)
    · have hw := hw.2 s4_45
      by_cases s4_58 : r1 = (58 : Int32)
      · have hw := hw.1 s4_58
        refine lv_lookup (tgt := 56) (off := 52) hx hb dX5_make_4 (by decide) (by rw [s4_58]; decide) (by decide) ?_
        refine lv_aload_nq hx hb dX5_make_56 rfl (lv_at hl 1 rfl) ?_
        refine lv_aload_n hx hb dX5_make_57 rfl (lv_at hl 0 rfl) ?_
        refine hv_wgetq hE hI in_X5 (ci := 8) rfl 2 (by decide) (hts _ q890) (fun _ hx => hx) hw dX5_make_58 (fun r29 hw => ?_)
        obtain ⟨a30, hz, hwa30⟩ := hw; have hla30 := hl; subst hz; have hw := hwa30; have hl := hla30
        obtain ⟨mc31, ms31, hc, hs, hw⟩ := hw
        obtain ⟨⟨fs, hre⟩, hw⟩ := hw
        refine hx_rci hI (vx_runV (As := [va_rf r29]) (b := a30) (rest := []) hE.1 (snd_X2_add l G _ mc31 ms31 h a30 r29 _ _ hw) (cwV 1 hts (lw_V q1047 q1048 q1049 q98 q1050) rfl rfl rfl (by decide +kernel) ⟨Nat.le_of_ble_eq_true rfl, Nat.le_of_ble_eq_true rfl⟩) (hv_preV hE hI (ci := 2) rfl hre) rfl rfl hl.1 rfl (lv_room (Nat.le_of_ble_eq_true rfl)) dX5_make_61 ⟨hc, hs⟩) ?_ (fun r32 h33 H locs hw hI => ?_)
        · intro E q34 h35 H locs hw hI hT
          exact hx_out hE hI hT hc hs (fun z hz => (ht z hz).elim) hw
        exact vx_ret (hv_iret hE hI hc hs hw dX5_make_64)
      · have hw := hw.2 s4_58
        by_cases s4_102 : r1 = (102 : Int32)
        · have hw := hw.1 s4_102
          refine lv_lookup (tgt := 117) (off := 113) hx hb dX5_make_4 (by decide) (by rw [s4_102]; decide) (by decide) ?_
          refine lv_aload_nq hx hb dX5_make_117 rfl (lv_at hl 1 rfl) ?_
          refine lv_aload_n hx hb dX5_make_118 rfl (lv_at hl 0 rfl) ?_
          refine hv_wgetq hE hI in_X5 (ci := 8) rfl 1 (by decide) (hts _ q889) (fun _ hx => hx) hw dX5_make_119 (fun r36 hw => ?_)
          refine lv_iconst (v := 0) hx hb dX5_make_122 (by decide) ?_
          obtain ⟨a37, hz, hwa37⟩ := hw; have hla37 := hl; subst hz; have hw := hwa37; have hl := hla37
          refine hv_wild hE hI hw dX5_make_123 (fun r38 hw => ?_)
          obtain ⟨a39, hz, hwa39⟩ := hw; have hla39 := hl; subst hz; have hw := hwa39; have hl := hla39
          obtain ⟨mc40, ms40, hc, hs, hw⟩ := hw
          obtain ⟨⟨fs, hre⟩, hw⟩ := hw
          refine hx_rci hI (vx_runV (As := [.int r38]) (b := a39) (rest := []) hE.1 (snd_X2_run l hl0 G _ mc40 ms40 h a39 r38 _ _ hw) (cwV 1 hts (lw_V q1171 q1172 q1173 q98 q1174) rfl rfl rfl (by decide +kernel) ⟨Nat.le_of_ble_eq_true rfl, Nat.le_of_ble_eq_true rfl⟩) (hv_preV hE hI (ci := 2) rfl hre) rfl rfl hl.1 rfl (lv_room (Nat.le_of_ble_eq_true rfl)) dX5_make_124 ⟨hc, hs⟩) ?_ (fun r41 h42 H locs hw hI => ?_)
          · intro E q43 h44 H locs hw hI hT
            exact hx_out hE hI hT hc hs (fun z hz => (ht z hz).elim) hw
          exact vx_ret (hv_iret hE hI hc hs hw dX5_make_127)
        · have hw := hw.2 s4_102
          by_cases s4_120 : r1 = (120 : Int32)
          · have hw := hw.1 s4_120
            refine lv_lookup (tgt := 65) (off := 61) hx hb dX5_make_4 (by decide) (by rw [s4_120]; decide) (by decide) ?_
            refine lv_aload_nq hx hb dX5_make_65 rfl (lv_at hl 1 rfl) ?_
            refine lv_aload_n hx hb dX5_make_66 rfl (lv_at hl 0 rfl) ?_
            refine hv_wgetq hE hI in_X5 (ci := 8) rfl 1 (by decide) (hts _ q889) (fun _ hx => hx) hw dX5_make_67 (fun r45 hw => ?_)
            refine lv_iconst (v := 0) hx hb dX5_make_70 (by decide) ?_
            obtain ⟨a46, hz, hwa46⟩ := hw; have hla46 := hl; subst hz; have hw := hwa46; have hl := hla46
            refine hv_wild hE hI hw dX5_make_71 (fun r47 hw => ?_)
            obtain ⟨a48, hz, hwa48⟩ := hw; have hla48 := hl; subst hz; have hw := hwa48; have hl := hla48
            obtain ⟨mc49, ms49, hc, hs, hw⟩ := hw
            obtain ⟨⟨fs, hre⟩, hw⟩ := hw
            refine hx_rci hI (vx_runV (As := [.int r47]) (b := a48) (rest := []) hE.1 (snd_X2_drop l G _ mc49 ms49 h a48 r47 _ _ hw) (cwV 1 hts (lw_V q1077 q1078 q1079 q98 q1080) rfl rfl rfl (by decide +kernel) ⟨Nat.le_of_ble_eq_true rfl, Nat.le_of_ble_eq_true rfl⟩) (hv_preV hE hI (ci := 2) rfl hre) rfl rfl hl.1 rfl (lv_room (Nat.le_of_ble_eq_true rfl)) dX5_make_72 ⟨hc, hs⟩) ?_ (fun r50 h51 H locs hw hI => ?_)
            · intro E q52 h53 H locs hw hI hT
              exact hx_out hE hI hT hc hs (fun z hz => (ht z hz).elim) hw
            exact vx_ret (hv_iret hE hI hc hs hw dX5_make_75)
          · have hw := hw.2 s4_120
            refine lv_lookup (tgt := 128) (off := 124) hx hb dX5_make_4 (by decide) (by refine (lv_osw s4_43 (by decide)).trans ?_; refine (lv_osw s4_45 (by decide)).trans ?_; refine (lv_osw s4_58 (by decide)).trans ?_; refine (lv_osw s4_102 (by decide)).trans ?_; refine (lv_osw s4_120 (by decide)).trans ?_; rfl) (by decide) ?_
            refine lv_aload_nq hx hb dX5_make_128 rfl (lv_at hl 1 rfl) ?_
            obtain ⟨a54, hz, hwa54⟩ := hw; have hla54 := hl; subst hz; have hw := hwa54; have hl := hla54
            obtain ⟨mc55, ms55, hc, hs, hw⟩ := hw
            obtain ⟨⟨fs, hre⟩, hw⟩ := hw
            refine hx_rci hI (vx_runV (As := []) (b := a54) (rest := []) hE.1 (snd_X2_fireFirst l G _ mc55 ms55 h a54 _ _ hw) (cwV 0 hts (lw_V q1234 q1235 q1236 q98 q1237) rfl rfl rfl (by decide +kernel) ⟨Nat.le_of_ble_eq_true rfl, Nat.le_of_ble_eq_true rfl⟩) (hv_preV hE hI (ci := 2) rfl hre) rfl rfl hl.1 rfl (lv_room (Nat.le_of_ble_eq_true rfl)) dX5_make_129 ⟨hc, hs⟩) ?_ (fun r56 h57 H locs hw hI => ?_)
            · intro E q58 h59 H locs hw hI hT
              exact hx_out hE hI hT hc hs (fun z hz => (ht z hz).elim) hw
            exact vx_ret (hv_iret hE hI hc hs hw dX5_make_132)

/-- java/util/ArrayDeque.sub(III)I -/
abbrev rm_J3_sub : Room := { frames := 1, cells := 0, slots := 0, locals := 12 }
def wp_J3_sub (G : GG) (h : HH) (x0 : Int32) (x1 : Int32) (x2 : Int32) (Q : Int32 → HH → Prop) : Prop := ((0 ≤ (x0 - x1) → Q (x0 - x1) h) ∧ (¬ 0 ≤ (x0 - x1) → Q ((x0 - x1) + x2) h))
set_option maxHeartbeats 4000000 in
theorem snd_J3_sub (l : Launch) (G : GG) (sz : Nat) (h : HH) (x0 : Int32) (x1 : Int32) (x2 : Int32) (Q : Int32 → HH → Prop) (hw : wp_J3_sub G h x0 x1 x2 Q) : Met l yJ3_sub (ws_ yJ3_sub cJ3_sub 3 (some FieldType.int)) rm_J3_sub (hv_Pc G h sz [.int x0, .int x1, .int x2]) (hv_Qi G h sz Q) 0 0 (hv_A h sz) := by
  refine Met.ofW (cc := cJ3_sub) (maxL := 3) (ret := (some FieldType.int)) (by decide) rfl ?_
  intro p e s m args below meth c s₁ B hml hv
  obtain ⟨rfl, rfl, hE, hI⟩ := hv_open B hml hv
  have hE : hv_E p s m ([.int x0, .int x1, .int x2] : List Value).toArray meth c cJ3_sub 3 (some FieldType.int) RJ3 G h := hE
  obtain ⟨⟨hx, hb, hml, hown, hts⟩, hr, hlocks, hXX⟩ := id hE
  have hl := lv_entry ([.int x0, .int x1, .int x2] : List Value) (n := 3) (Nat.le_of_ble_eq_true rfl)
  rw [lg_entry_eq]
  generalize (lg_sl ([.int x0, .int x1, .int x2] : List Value) ++ List.replicate (3 - (lg_sl ([.int x0, .int x1, .int x2] : List Value)).length) Slot.unset).toArray = ls at hl ⊢
  have hl : lv_has ls 3 [(0, .int x0), (1, .int x1), (2, .int x2)] := hl
  unfold wp_J3_sub at hw
  refine lv_iload_n hx hb dJ3_sub_0 rfl (lv_at hl 0 rfl) ?_
  refine lv_iload_n hx hb dJ3_sub_1 rfl (lv_at hl 1 rfl) ?_
  refine lv_isub hx hb dJ3_sub_2 ?_
  refine lv_dup hx hb dJ3_sub_3 rfl ?_
  refine lv_istore_n (lv' := [(0, .int (x0 - x1)), (1, .int x1), (2, .int x2)]) hx hb dJ3_sub_4 rfl hl (by decide) rfl (fun ls hl => ?_)
  refine lv_if_ge (tgt := 12) hx hb dJ3_sub_5 (by decide) (fun c_5 => ?_) (fun c_5 => ?_)
  · have hw := hw.1 c_5
    refine lv_iload_n hx hb dJ3_sub_12 rfl (lv_at hl 0 rfl) ?_
    exact hv_iret hE hI (Nat.le_refl _) (Nat.le_refl _) hw dJ3_sub_13
  · have hw := hw.2 c_5
    refine lv_iload_n hx hb dJ3_sub_8 rfl (lv_at hl 0 rfl) ?_
    refine lv_iload_n hx hb dJ3_sub_9 rfl (lv_at hl 2 rfl) ?_
    refine lv_iadd hx hb dJ3_sub_10 ?_
    refine lv_istore_n (lv' := [(0, .int ((x0 - x1) + x2)), (1, .int x1), (2, .int x2)]) hx hb dJ3_sub_11 rfl hl (by decide) rfl (fun ls hl => ?_)
    refine lv_iload_n hx hb dJ3_sub_12 rfl (lv_at hl 0 rfl) ?_
    exact hv_iret hE hI (Nat.le_refl _) (Nat.le_refl _) hw dJ3_sub_13

/-- java/util/ArrayDeque.size()I -/
abbrev rm_J3_size : Room := { frames := 2, cells := 0, slots := 0, locals := 34 }
def wp_J3_size (G : GG) (h : HH) (a0 : Nat) (Q : Int32 → HH → Prop) : Prop := w_geti h a0 5 2 (fun r1 => w_geti h a0 5 1 (fun r2 => w_getq h a0 5 0 (fun r3 => w_nn r3 (fun a4 => w_len G h a4 (fun r5 => wp_J3_sub G h r1 r2 r5 (fun r6 h7 => Q r6 h7))))))
set_option maxHeartbeats 4000000 in
theorem snd_J3_size (l : Launch) (G : GG) (sz : Nat) (h : HH) (a0 : Nat) (Q : Int32 → HH → Prop) (hw : wp_J3_size G h a0 Q) : Met l yJ3_size (ws_ yJ3_size cJ3_size 1 (some FieldType.int)) rm_J3_size (hv_Pc G h sz [.ref a0]) (hv_Qi G h sz Q) 0 0 (hv_A h sz) := by
  refine Met.ofW (cc := cJ3_size) (maxL := 1) (ret := (some FieldType.int)) (by decide) rfl ?_
  intro p e s m args below meth c s₁ B hml hv
  obtain ⟨rfl, rfl, hE, hI⟩ := hv_open B hml hv
  have hE : hv_E p s m ([.ref a0] : List Value).toArray meth c cJ3_size 1 (some FieldType.int) RJ3 G h := hE
  obtain ⟨⟨hx, hb, hml, hown, hts⟩, hr, hlocks, hXX⟩ := id hE
  have hl := lv_entry ([.ref a0] : List Value) (n := 1) (Nat.le_of_ble_eq_true rfl)
  rw [lg_entry_eq]
  generalize (lg_sl ([.ref a0] : List Value) ++ List.replicate (1 - (lg_sl ([.ref a0] : List Value)).length) Slot.unset).toArray = ls at hl ⊢
  have hl : lv_has ls 1 [(0, .ref a0)] := hl
  unfold wp_J3_size at hw
  refine lv_aload_n hx hb dJ3_size_0 rfl (lv_at hl 0 rfl) ?_
  refine hv_wgeti hE hI in_J3 (ci := 5) rfl 2 (by decide) (hts _ q258) (fun _ hx => hx) hw dJ3_size_1 (fun r1 hw => ?_)
  refine lv_aload_n hx hb dJ3_size_4 rfl (lv_at hl 0 rfl) ?_
  refine hv_wgeti hE hI in_J3 (ci := 5) rfl 1 (by decide) (hts _ q257) (fun _ hx => hx) hw dJ3_size_5 (fun r2 hw => ?_)
  refine lv_aload_n hx hb dJ3_size_8 rfl (lv_at hl 0 rfl) ?_
  refine hv_wgetq hE hI in_J3 (ci := 5) rfl 0 (by decide) (hts _ q256) (fun _ hx => hx) hw dJ3_size_9 (fun r3 hw => ?_)
  obtain ⟨a4, hz, hwa4⟩ := hw; have hla4 := hl; subst hz; have hw := hwa4; have hl := hla4
  refine hv_len hE hI hw dJ3_size_12 (fun r5 hw => ?_)
  refine hv_rci hI (va_runS (As := [.int r1, .int r2, .int r5]) (rest := []) hE.1 (snd_J3_sub l G _ h r1 r2 r5 _ hw) (va_cwS 3 hts (lw_S q1261 q1262 q103 q1263) rfl rfl rfl (by decide +kernel) ⟨Nat.le_of_ble_eq_true rfl, Nat.le_of_ble_eq_true rfl⟩) (hv_preS hE hI) rfl rfl hl.1 rfl (lv_room (Nat.le_of_ble_eq_true rfl)) dJ3_size_13 ⟨Nat.le_of_ble_eq_true rfl, Nat.le_of_ble_eq_true rfl⟩) (fun r6 h7 H locs hw hI => ?_)
  exact hv_iret hE hI (Nat.le_refl _) (Nat.le_refl _) hw dJ3_size_16

/-- java/util/ArrayDeque.elementAt([Ljava/lang/Object;I)Ljava/lang/Object; -/
abbrev rm_J3_elementAt : Room := { frames := 1, cells := 0, slots := 0, locals := 12 }
def wp_J3_elementAt (G : GG) (h : HH) (x0 : Option Nat) (x1 : Int32) (Q : Option Nat → HH → Prop) : Prop := w_nn x0 (fun a1 => w_qld G h a1 x1 (fun r2 => Q r2 h))
set_option maxHeartbeats 4000000 in
theorem snd_J3_elementAt (l : Launch) (G : GG) (sz : Nat) (h : HH) (x0 : Option Nat) (x1 : Int32) (Q : Option Nat → HH → Prop) (hw : wp_J3_elementAt G h x0 x1 Q) : Met l yJ3_elementAt (ws_ yJ3_elementAt cJ3_elementAt 2 (some (FieldType.object "java/lang/Object"))) rm_J3_elementAt (hv_Pc G h sz [va_rf x0, .int x1]) (hv_Qq G h sz Q) 0 0 (hv_A h sz) := by
  refine Met.ofW (cc := cJ3_elementAt) (maxL := 2) (ret := (some (FieldType.object "java/lang/Object"))) (by decide) rfl ?_
  intro p e s m args below meth c s₁ B hml hv
  obtain ⟨rfl, rfl, hE, hI⟩ := hv_open B hml hv
  have hE : hv_E p s m ([va_rf x0, .int x1] : List Value).toArray meth c cJ3_elementAt 2 (some (FieldType.object "java/lang/Object")) RJ3 G h := hE
  obtain ⟨⟨hx, hb, hml, hown, hts⟩, hr, hlocks, hXX⟩ := id hE
  have hl := lv_entry ([va_rf x0, .int x1] : List Value) (n := 2) (by cases x0 <;> exact Nat.le_of_ble_eq_true rfl)
  rw [lg_entry_eq]
  generalize (lg_sl ([va_rf x0, .int x1] : List Value) ++ List.replicate (2 - (lg_sl ([va_rf x0, .int x1] : List Value)).length) Slot.unset).toArray = ls at hl ⊢
  have hl : lv_has ls 2 [(0, va_rf x0), (1, .int x1)] := (by cases x0 <;> exact hl)
  unfold wp_J3_elementAt at hw
  refine lv_aload_nq hx hb dJ3_elementAt_0 rfl (lv_at hl 0 rfl) ?_
  refine lv_iload_n hx hb dJ3_elementAt_1 rfl (lv_at hl 1 rfl) ?_
  obtain ⟨a1, hz, hwa1⟩ := hw; have hla1 := hl; subst hz; have hw := hwa1; have hl := hla1
  refine hv_wqld hE hI hw dJ3_elementAt_2 (fun r2 hw => ?_)
  exact hv_qret (v := r2) hE (Or.inl ⟨_, rfl⟩) hI (Nat.le_refl _) (Nat.le_refl _) hw dJ3_elementAt_3

/-- java/util/ArrayDeque.inc(II)I -/
abbrev rm_J3_inc : Room := { frames := 1, cells := 0, slots := 0, locals := 12 }
def wp_J3_inc (G : GG) (h : HH) (x0 : Int32) (x1 : Int32) (Q : Int32 → HH → Prop) : Prop := (((x0 + (1 : Int32)) < x1 → Q (x0 + (1 : Int32)) h) ∧ (¬ (x0 + (1 : Int32)) < x1 → Q (0 : Int32) h))
set_option maxHeartbeats 4000000 in
theorem snd_J3_inc (l : Launch) (G : GG) (sz : Nat) (h : HH) (x0 : Int32) (x1 : Int32) (Q : Int32 → HH → Prop) (hw : wp_J3_inc G h x0 x1 Q) : Met l yJ3_inc (ws_ yJ3_inc cJ3_inc 2 (some FieldType.int)) rm_J3_inc (hv_Pc G h sz [.int x0, .int x1]) (hv_Qi G h sz Q) 0 0 (hv_A h sz) := by
  refine Met.ofW (cc := cJ3_inc) (maxL := 2) (ret := (some FieldType.int)) (by decide) rfl ?_
  intro p e s m args below meth c s₁ B hml hv
  obtain ⟨rfl, rfl, hE, hI⟩ := hv_open B hml hv
  have hE : hv_E p s m ([.int x0, .int x1] : List Value).toArray meth c cJ3_inc 2 (some FieldType.int) RJ3 G h := hE
  obtain ⟨⟨hx, hb, hml, hown, hts⟩, hr, hlocks, hXX⟩ := id hE
  have hl := lv_entry ([.int x0, .int x1] : List Value) (n := 2) (Nat.le_of_ble_eq_true rfl)
  rw [lg_entry_eq]
  generalize (lg_sl ([.int x0, .int x1] : List Value) ++ List.replicate (2 - (lg_sl ([.int x0, .int x1] : List Value)).length) Slot.unset).toArray = ls at hl ⊢
  have hl : lv_has ls 2 [(0, .int x0), (1, .int x1)] := hl
  unfold wp_J3_inc at hw
  refine lv_iinc (v := (x0 + (1 : Int32))) (lv' := [(0, .int (x0 + (1 : Int32))), (1, .int x1)]) hx hb dJ3_inc_0 hl (k := 0) rfl rfl (by decide) rfl (fun ls hl => ?_)
  refine lv_iload_n hx hb dJ3_inc_3 rfl (lv_at hl 0 rfl) ?_
  refine lv_iload_n hx hb dJ3_inc_4 rfl (lv_at hl 1 rfl) ?_
  refine lv_icmp_lt (tgt := 10) hx hb dJ3_inc_5 (by decide) (fun c_5 => ?_) (fun c_5 => ?_)
  · have hw := hw.1 c_5
    refine lv_iload_n hx hb dJ3_inc_10 rfl (lv_at hl 0 rfl) ?_
    exact hv_iret hE hI (Nat.le_refl _) (Nat.le_refl _) hw dJ3_inc_11
  · have hw := hw.2 c_5
    refine lv_iconst (v := 0) hx hb dJ3_inc_8 (by decide) ?_
    refine lv_istore_n (lv' := [(0, .int (0 : Int32)), (1, .int x1)]) hx hb dJ3_inc_9 rfl hl (by decide) rfl (fun ls hl => ?_)
    refine lv_iload_n hx hb dJ3_inc_10 rfl (lv_at hl 0 rfl) ?_
    exact hv_iret hE hI (Nat.le_refl _) (Nat.le_refl _) hw dJ3_inc_11

/-- java/util/ArrayDeque.pollFirst()Ljava/lang/Object; -/
abbrev rm_J3_pollFirst : Room := { frames := 2, cells := 0, slots := 0, locals := 33 }
def wp_J3_pollFirst (G : GG) (h : HH) (a0 : Nat) (Q : Option Nat → HH → Prop) : Prop := w_getq h a0 5 0 (fun r1 => w_geti h a0 5 1 (fun r2 => wp_J3_elementAt G h r1 r2 (fun r3 h4 => ((r3 = none → Q none h4) ∧ (∀ a5, r3 = some a5 → w_nn r1 (fun a6 => w_qst G h4 a6 r2 none (fun h7 => w_len G h7 a6 (fun r8 => wp_J3_inc G h7 r2 r8 (fun r9 h10 => w_put h10 a0 5 1 (.int r9) (fun h11 => Q (some a5) h11))))))))))
set_option maxHeartbeats 4000000 in
theorem snd_J3_pollFirst (l : Launch) (G : GG) (sz : Nat) (h : HH) (a0 : Nat) (Q : Option Nat → HH → Prop) (hw : wp_J3_pollFirst G h a0 Q) : Met l yJ3_pollFirst (ws_ yJ3_pollFirst cJ3_pollFirst 4 (some (FieldType.object "java/lang/Object"))) rm_J3_pollFirst (hv_Pc G h sz [.ref a0]) (hv_Qq G h sz Q) 0 0 (hv_A h sz) := by
  refine Met.ofW (cc := cJ3_pollFirst) (maxL := 4) (ret := (some (FieldType.object "java/lang/Object"))) (by decide) rfl ?_
  intro p e s m args below meth c s₁ B hml hv
  obtain ⟨rfl, rfl, hE, hI⟩ := hv_open B hml hv
  have hE : hv_E p s m ([.ref a0] : List Value).toArray meth c cJ3_pollFirst 4 (some (FieldType.object "java/lang/Object")) RJ3 G h := hE
  obtain ⟨⟨hx, hb, hml, hown, hts⟩, hr, hlocks, hXX⟩ := id hE
  have hl := lv_entry ([.ref a0] : List Value) (n := 4) (Nat.le_of_ble_eq_true rfl)
  rw [lg_entry_eq]
  generalize (lg_sl ([.ref a0] : List Value) ++ List.replicate (4 - (lg_sl ([.ref a0] : List Value)).length) Slot.unset).toArray = ls at hl ⊢
  have hl : lv_has ls 4 [(0, .ref a0)] := hl
  unfold wp_J3_pollFirst at hw
  refine lv_aload_n hx hb dJ3_pollFirst_0 rfl (lv_at hl 0 rfl) ?_
  refine hv_wgetq hE hI in_J3 (ci := 5) rfl 0 (by decide) (hts _ q256) (fun _ hx => hx) hw dJ3_pollFirst_1 (fun r1 hw => ?_)
  refine lv_dup hx hb dJ3_pollFirst_4 (va_rf_cat _) ?_
  refine lv_astore_nq (lv' := [(1, va_rf r1), (0, .ref a0)]) hx hb dJ3_pollFirst_5 rfl hl (by decide) rfl (fun ls hl => ?_)
  refine lv_aload_n hx hb dJ3_pollFirst_6 rfl (lv_at hl 1 rfl) ?_
  refine hv_wgeti hE hI in_J3 (ci := 5) rfl 1 (by decide) (hts _ q257) (fun _ hx => hx) hw dJ3_pollFirst_7 (fun r2 hw => ?_)
  refine lv_dup hx hb dJ3_pollFirst_10 rfl ?_
  refine lv_istore_n (lv' := [(2, .int r2), (1, va_rf r1), (0, .ref a0)]) hx hb dJ3_pollFirst_11 rfl hl (by decide) (by cases r1 <;> exact rfl) (fun ls hl => ?_)
  refine hv_rcq hI (va_runS (As := [va_rf r1, .int r2]) (rest := []) hE.1 (snd_J3_elementAt l G _ h r1 r2 _ hw) (va_cwS 2 hts (lw_S q1272 q1273 q103 q1274) rfl rfl rfl (by decide +kernel) ⟨Nat.le_of_ble_eq_true rfl, Nat.le_of_ble_eq_true rfl⟩) (hv_preS hE hI) rfl rfl hl.1 rfl (lv_room (Nat.le_of_ble_eq_true rfl)) dJ3_pollFirst_12 ⟨Nat.le_of_ble_eq_true rfl, Nat.le_of_ble_eq_true rfl⟩) (fun r3 h4 H locs hw hI => ?_)
  refine lv_astore_nq (lv' := [(3, va_rf r3), (2, .int r2), (1, va_rf r1), (0, .ref a0)]) hx hb dJ3_pollFirst_15 rfl hl (by decide) rfl (fun ls hl => ?_)
  refine lv_aload_nq hx hb dJ3_pollFirst_16 rfl (lv_at hl 0 rfl) ?_
  refine lv_ifnullq (tgt := 34) hx hb dJ3_pollFirst_17 (by decide) (fun c_17 => ?_) (fun c_17 => ?_)
  · have hwa5 := hw.1 c_17; have hla5 := hl; subst c_17; have hw := hwa5; have hl := hla5
    refine lv_aload_nN hx hb dJ3_pollFirst_34 rfl (lv_at hl 0 rfl) ?_
    exact hv_qret (v := none) hE (Or.inl ⟨_, rfl⟩) hI (Nat.le_refl _) (Nat.le_refl _) hw dJ3_pollFirst_35
  · obtain ⟨a5, hz⟩ := Option.ne_none_iff_exists.mp c_17
    have hwa5 := hw.2 a5 hz.symm; have hla5 := hl; subst hz; have hw := hwa5; have hl := hla5
    refine lv_aload_nq hx hb dJ3_pollFirst_20 rfl (lv_at hl 2 rfl) ?_
    refine lv_iload_n hx hb dJ3_pollFirst_21 rfl (lv_at hl 1 rfl) ?_
    refine lv_null hx hb dJ3_pollFirst_22 ?_
    obtain ⟨a6, hz, hwa6⟩ := hw; have hla6 := hl; subst hz; have hw := hwa6; have hl := hla6
    refine hv_wqst (x1 := none) hE hI hw dJ3_pollFirst_23 (fun h7 H locs hw hI => ?_)
    refine lv_aload_n hx hb dJ3_pollFirst_24 rfl (lv_at hl 3 rfl) ?_
    refine lv_iload_n hx hb dJ3_pollFirst_25 rfl (lv_at hl 1 rfl) ?_
    refine lv_aload_n hx hb dJ3_pollFirst_26 rfl (lv_at hl 2 rfl) ?_
    refine hv_len hE hI hw dJ3_pollFirst_27 (fun r8 hw => ?_)
    refine hv_rci hI (va_runS (As := [.int r2, .int r8]) (rest := [.ref a0]) hE.1 (snd_J3_inc l G _ h7 r2 r8 _ hw) (va_cwS 2 hts (lw_S q1275 q1276 q103 q1277) rfl rfl rfl (by decide +kernel) ⟨Nat.le_of_ble_eq_true rfl, Nat.le_of_ble_eq_true rfl⟩) (hv_preS hE hI) rfl rfl hl.1 rfl (lv_room (Nat.le_of_ble_eq_true rfl)) dJ3_pollFirst_28 ⟨Nat.le_of_ble_eq_true rfl, Nat.le_of_ble_eq_true rfl⟩) (fun r9 h10 H locs hw hI => ?_)
    refine hv_wput (v := .int r9) tyJ3 hE hI in_J3 tyJ3_ok nmJ3 (ci := 5) rfl 1 (by decide) (hts _ q257) (fun _ hx => hx) rfl (ty := .int) rfl rfl rfl hw dJ3_pollFirst_31 (fun h11 H locs hw hI => ?_)
    refine lv_aload_n hx hb dJ3_pollFirst_34 rfl (lv_at hl 0 rfl) ?_
    exact hv_qret (v := (some a5)) hE (Or.inl ⟨_, rfl⟩) hI (Nat.le_refl _) (Nat.le_refl _) hw dJ3_pollFirst_35

/-- java/util/ArrayDeque.removeFirst()Ljava/lang/Object; -/
abbrev rm_J3_removeFirst : Room := { frames := 3, cells := 0, slots := 0, locals := 56 }
def wp_J3_removeFirst (G : GG) (h : HH) (a0 : Nat) (Q : Option Nat → HH → Prop) : Prop := w_is h a0 5 (wp_J3_pollFirst G h a0 (fun r1 h2 => ((r1 = none → False) ∧ (∀ a3, r1 = some a3 → Q (some a3) h2))))
set_option maxHeartbeats 4000000 in
theorem snd_J3_removeFirst (l : Launch) (G : GG) (sz : Nat) (h : HH) (a0 : Nat) (Q : Option Nat → HH → Prop) (hw : wp_J3_removeFirst G h a0 Q) : Met l yJ3_removeFirst (ws_ yJ3_removeFirst cJ3_removeFirst 2 (some (FieldType.object "java/lang/Object"))) rm_J3_removeFirst (hv_Pc G h sz [.ref a0]) (hv_Qq G h sz Q) 0 0 (hv_A h sz) := by
  refine Met.ofW (cc := cJ3_removeFirst) (maxL := 2) (ret := (some (FieldType.object "java/lang/Object"))) (by decide) rfl ?_
  intro p e s m args below meth c s₁ B hml hv
  obtain ⟨rfl, rfl, hE, hI⟩ := hv_open B hml hv
  have hE : hv_E p s m ([.ref a0] : List Value).toArray meth c cJ3_removeFirst 2 (some (FieldType.object "java/lang/Object")) RJ3 G h := hE
  obtain ⟨⟨hx, hb, hml, hown, hts⟩, hr, hlocks, hXX⟩ := id hE
  have hl := lv_entry ([.ref a0] : List Value) (n := 2) (Nat.le_of_ble_eq_true rfl)
  rw [lg_entry_eq]
  generalize (lg_sl ([.ref a0] : List Value) ++ List.replicate (2 - (lg_sl ([.ref a0] : List Value)).length) Slot.unset).toArray = ls at hl ⊢
  have hl : lv_has ls 2 [(0, .ref a0)] := hl
  unfold wp_J3_removeFirst at hw
  refine lv_aload_n hx hb dJ3_removeFirst_0 rfl (lv_at hl 0 rfl) ?_
  obtain ⟨⟨fs, hre⟩, hw⟩ := hw
  refine hv_rcq hI (va_runV (As := []) (b := a0) (rest := []) hE.1 (snd_J3_pollFirst l G _ h a0 _ hw) (cwV 0 hts (lw_V q1268 q1269 q1270 q103 q1271) rfl rfl rfl (by decide +kernel) ⟨Nat.le_of_ble_eq_true rfl, Nat.le_of_ble_eq_true rfl⟩) (hv_preV hE hI (ci := 5) rfl hre) rfl rfl hl.1 rfl (lv_room (Nat.le_of_ble_eq_true rfl)) dJ3_removeFirst_1 ⟨Nat.le_of_ble_eq_true rfl, Nat.le_of_ble_eq_true rfl⟩) (fun r1 h2 H locs hw hI => ?_)
  refine lv_astore_nq (lv' := [(1, va_rf r1), (0, .ref a0)]) hx hb dJ3_removeFirst_4 rfl hl (by decide) rfl (fun ls hl => ?_)
  refine lv_aload_nq hx hb dJ3_removeFirst_5 rfl (lv_at hl 0 rfl) ?_
  refine lv_ifnonnullq (tgt := 17) hx hb dJ3_removeFirst_6 (by decide) (fun c_6 => ?_) (fun c_6 => ?_)
  · obtain ⟨a3, hz⟩ := Option.ne_none_iff_exists.mp c_6
    have hwa3 := hw.2 a3 hz.symm; have hla3 := hl; subst hz; have hw := hwa3; have hl := hla3
    refine lv_aload_n hx hb dJ3_removeFirst_17 rfl (lv_at hl 0 rfl) ?_
    exact hv_qret (v := (some a3)) hE (Or.inl ⟨_, rfl⟩) hI (Nat.le_refl _) (Nat.le_refl _) hw dJ3_removeFirst_18
  · have hwa3 := hw.1 c_6; have hla3 := hl; subst c_6; have hw := hwa3; have hl := hla3
    exact hw.elim

/-- java/util/ArrayDeque.newCapacity(II)I -/
abbrev rm_J3_newCapacity : Room := { frames := 1, cells := 0, slots := 0, locals := 12 }
def wp_J3_newCapacity (G : GG) (h : HH) (a0 : Nat) (x1 : Int32) (x2 : Int32) (Q : Int32 → HH → Prop) : Prop := w_getq h a0 5 0 (fun r1 => w_nn r1 (fun a2 => w_len G h a2 (fun r3 => ((((r3 + x1) - (2147483639 : Int32)) ≤ 0 → ((x1 ≤ x2 → ((0 ≤ ((r3 + x2) - (2147483639 : Int32)) → Q (2147483639 : Int32) h) ∧ (¬ 0 ≤ ((r3 + x2) - (2147483639 : Int32)) → Q (r3 + x2) h))) ∧ (¬ x1 ≤ x2 → Q (r3 + x1) h))) ∧ (¬ ((r3 + x1) - (2147483639 : Int32)) ≤ 0 → ((0 ≤ (r3 + x1) → Q (2147483647 : Int32) h) ∧ (¬ 0 ≤ (r3 + x1) → False)))))))
set_option maxHeartbeats 4000000 in
theorem snd_J3_newCapacity (l : Launch) (G : GG) (sz : Nat) (h : HH) (a0 : Nat) (x1 : Int32) (x2 : Int32) (Q : Int32 → HH → Prop) (hw : wp_J3_newCapacity G h a0 x1 x2 Q) : Met l yJ3_newCapacity (ws_ yJ3_newCapacity cJ3_newCapacity 5 (some FieldType.int)) rm_J3_newCapacity (hv_Pc G h sz [.ref a0, .int x1, .int x2]) (hv_Qi G h sz Q) 0 0 (hv_A h sz) := by
  refine Met.ofW (cc := cJ3_newCapacity) (maxL := 5) (ret := (some FieldType.int)) (by decide) rfl ?_
  intro p e s m args below meth c s₁ B hml hv
  obtain ⟨rfl, rfl, hE, hI⟩ := hv_open B hml hv
  have hE : hv_E p s m ([.ref a0, .int x1, .int x2] : List Value).toArray meth c cJ3_newCapacity 5 (some FieldType.int) RJ3 G h := hE
  obtain ⟨⟨hx, hb, hml, hown, hts⟩, hr, hlocks, hXX⟩ := id hE
  have hl := lv_entry ([.ref a0, .int x1, .int x2] : List Value) (n := 5) (Nat.le_of_ble_eq_true rfl)
  rw [lg_entry_eq]
  generalize (lg_sl ([.ref a0, .int x1, .int x2] : List Value) ++ List.replicate (5 - (lg_sl ([.ref a0, .int x1, .int x2] : List Value)).length) Slot.unset).toArray = ls at hl ⊢
  have hl : lv_has ls 5 [(0, .ref a0), (1, .int x1), (2, .int x2)] := hl
  unfold wp_J3_newCapacity at hw
  refine lv_aload_n hx hb dJ3_newCapacity_0 rfl (lv_at hl 0 rfl) ?_
  refine hv_wgetq hE hI in_J3 (ci := 5) rfl 0 (by decide) (hts _ q256) (fun _ hx => hx) hw dJ3_newCapacity_1 (fun r1 hw => ?_)
  obtain ⟨a2, hz, hwa2⟩ := hw; have hla2 := hl; subst hz; have hw := hwa2; have hl := hla2
  refine hv_len hE hI hw dJ3_newCapacity_4 (fun r3 hw => ?_)
  refine lv_istore_n (lv' := [(3, .int r3), (0, .ref a0), (1, .int x1), (2, .int x2)]) hx hb dJ3_newCapacity_5 rfl hl (by decide) rfl (fun ls hl => ?_)
  refine lv_iload_n hx hb dJ3_newCapacity_6 rfl (lv_at hl 0 rfl) ?_
  refine lv_iload_n hx hb dJ3_newCapacity_7 rfl (lv_at hl 2 rfl) ?_
  refine lv_iadd hx hb dJ3_newCapacity_8 ?_
  refine lv_dup hx hb dJ3_newCapacity_9 rfl ?_
  refine lv_istore (lv' := [(4, .int (r3 + x1)), (3, .int r3), (0, .ref a0), (1, .int x1), (2, .int x2)]) hx hb dJ3_newCapacity_10 hl (by decide) rfl (fun ls hl => ?_)
  refine lv_ldc (v := 2147483639) hx hb hown (hts _ q1288) dJ3_newCapacity_12 ?_
  refine lv_isub hx hb dJ3_newCapacity_14 ?_
  refine lv_if_le (tgt := 36) hx hb dJ3_newCapacity_15 (by decide) (fun c_15 => ?_) (fun c_15 => ?_)
  · have hw := hw.1 c_15
    refine lv_iload_n hx hb dJ3_newCapacity_36 rfl (lv_at hl 3 rfl) ?_
    refine lv_iload_n hx hb dJ3_newCapacity_37 rfl (lv_at hl 4 rfl) ?_
    refine lv_icmp_le (tgt := 44) hx hb dJ3_newCapacity_38 (by decide) (fun c_38 => ?_) (fun c_38 => ?_)
    · have hw := hw.1 c_38
      refine lv_iload_n hx hb dJ3_newCapacity_44 rfl (lv_at hl 1 rfl) ?_
      refine lv_iload_n hx hb dJ3_newCapacity_45 rfl (lv_at hl 4 rfl) ?_
      refine lv_iadd hx hb dJ3_newCapacity_46 ?_
      refine lv_ldc (v := 2147483639) hx hb hown (hts _ q1288) dJ3_newCapacity_47 ?_
      refine lv_isub hx hb dJ3_newCapacity_49 ?_
      refine lv_if_ge (tgt := 59) hx hb dJ3_newCapacity_50 (by decide) (fun c_50 => ?_) (fun c_50 => ?_)
      · have hw := hw.1 c_50
        refine lv_ldc (v := 2147483639) hx hb hown (hts _ q1288) dJ3_newCapacity_59 ?_
        exact hv_iret hE hI (Nat.le_refl _) (Nat.le_refl _) hw dJ3_newCapacity_61
      · have hw := hw.2 c_50
        refine lv_iload_n hx hb dJ3_newCapacity_53 rfl (lv_at hl 1 rfl) ?_
        refine lv_iload_n hx hb dJ3_newCapacity_54 rfl (lv_at hl 4 rfl) ?_
        refine lv_iadd hx hb dJ3_newCapacity_55 ?_
        refine lv_goto (tgt := 61) hx hb dJ3_newCapacity_56 (by decide) ?_
        exact hv_iret hE hI (Nat.le_refl _) (Nat.le_refl _) hw dJ3_newCapacity_61
    · have hw := hw.2 c_38
      refine lv_iload hx hb dJ3_newCapacity_41 (lv_at hl 0 rfl) ?_
      exact hv_iret hE hI (Nat.le_refl _) (Nat.le_refl _) hw dJ3_newCapacity_43
  · have hw := hw.2 c_15
    refine lv_iload hx hb dJ3_newCapacity_18 (lv_at hl 0 rfl) ?_
    refine lv_if_ge (tgt := 33) hx hb dJ3_newCapacity_20 (by decide) (fun c_20 => ?_) (fun c_20 => ?_)
    · have hw := hw.1 c_20
      refine lv_ldc (v := 2147483647) hx hb hown (hts _ q1307) dJ3_newCapacity_33 ?_
      exact hv_iret hE hI (Nat.le_refl _) (Nat.le_refl _) hw dJ3_newCapacity_35
    · have hw := hw.2 c_20
      exact hw.elim

/-- java/util/ArrayDeque.grow(I)V -/
abbrev rm_J3_grow (mc ms : Nat) : Room := { frames := 3, cells := mc, slots := ms, locals := 108 }
def wp_J3_grow_L145 (G : GG) (mc : Nat) (ms : Nat) (a0 : Nat) (Q : HH → Prop) : Nat → (HH) → (Nat) → (Nat) → (Nat) → (Int32) → (Int32) → Prop
  | 0, _, _, _, _, _, _ => False
  | n + 1, h, nc, nk, x5, x7, x8 => ((x8 ≤ x7 → Q h) ∧ (¬ x8 ≤ x7 → w_qst G h x5 x7 none (fun h21 => wp_J3_grow_L145 G mc ms a0 Q n h21 nc nk x5 (x7 + (1 : Int32)) x8)))
set_option maxHeartbeats 4000000 in
theorem snd_J3_grow_L145 {p : Program} {l : Launch} {e : Env} {s : State} {m : MethodId} {args : Array Value} {below : List Frame} {meth : Method} {c : Code} {h0 : HH} (G : GG) (mc : Nat) (ms : Nat) (a0 : Nat) (Q : HH → Prop) (hE : hv_E p s m args meth c cJ3_grow 9 (none : Option FieldType) RJ3 G h0) : ∀ (n : Nat) (h : HH) (nc : Nat) (nk : Nat) (x5 : Nat) (x7 : Int32) (x8 : Int32), wp_J3_grow_L145 G mc ms a0 Q n h nc nk x5 x7 x8 → nc ≤ mc → nk ≤ ms → ∀ (H : Heap) (locs : List Loc) (ls : Array Slot), hv_I G h0 s.heap h H locs → lv_has ls 9 [(5, .ref x5), (7, .int x7), (8, .int x8)] → W p l e (headSpec (ws_ yJ3_grow cJ3_grow 9 (none : Option FieldType)) (rm_J3_grow mc ms)).room s m args below meth c H locs nc nk (MQ below (hv_Qv G h0 s.heap.size Q) args s mc ms (hv_A h0 s.heap.size)) (F0 m 145 ls []) := by
  obtain ⟨⟨hx, hb, hml, hown, hts⟩, hr, hlocks, hXX⟩ := id hE
  intro n
  induction n with
  | zero => intro h nc nk x5 x7 x8 hw; exact hw.elim
  | succ n ih =>
    intro h nc nk x5 x7 x8 hw hc hs H locs ls hI hl
    unfold wp_J3_grow_L145 at hw
    refine lv_iload hx hb dJ3_grow_145 (lv_at hl 1 rfl) ?_
    refine lv_iload hx hb dJ3_grow_147 (lv_at hl 2 rfl) ?_
    refine lv_icmp_ge (tgt := 164) hx hb dJ3_grow_149 (by decide) (fun c_149 => ?_) (fun c_149 => ?_)
    · have hw := hw.1 c_149
      exact hv_vret hE hI hc hs hw dJ3_grow_164
    · have hw := hw.2 c_149
      refine lv_aload hx hb dJ3_grow_152 (lv_at hl 0 rfl) ?_
      refine lv_iload hx hb dJ3_grow_154 (lv_at hl 1 rfl) ?_
      refine lv_null hx hb dJ3_grow_156 ?_
      refine hv_wqst (x1 := none) hE hI hw dJ3_grow_157 (fun h21 H locs hw hI => ?_)
      refine lv_iinc (v := (x7 + (1 : Int32))) (lv' := [(7, .int (x7 + (1 : Int32))), (5, .ref x5), (8, .int x8)]) hx hb dJ3_grow_158 hl (k := 1) rfl rfl (by decide) rfl (fun ls hl => ?_)
      refine lv_goto (tgt := 145) hx hb dJ3_grow_161 (by decide) ?_
      exact ih h21 nc nk x5 (x7 + (1 : Int32)) x8 hw hc hs _ _ _ hI (lv_sub hl [1, 0, 2] rfl)
def wp_J3_grow_L96 (G : GG) (mc : Nat) (ms : Nat) (a0 : Nat) (Q : HH → Prop) (h : HH) (nc : Nat) (nk : Nat) (x2 : Int32) (x3 : Int32) (x5 : Option Nat) : Prop := w_geti h a0 5 1 (fun r13 => w_geti h a0 5 1 (fun r14 => w_geti h a0 5 1 (fun r15 => w_nn x5 (fun a16 => w_cpq G h a16 r13 a16 (r14 + (x3 - x2)) (x2 - r15) (fun h17 => w_geti h17 a0 5 1 (fun r18 => w_geti h17 a0 5 1 (fun r19 => w_put h17 a0 5 1 (.int (r19 + (x3 - x2))) (fun h20 => (∃ n145, wp_J3_grow_L145 G mc ms a0 Q n145 h20 nc nk a16 r18 (r19 + (x3 - x2)))))))))))
set_option maxHeartbeats 4000000 in
theorem snd_J3_grow_L96 {p : Program} {l : Launch} {e : Env} {s : State} {m : MethodId} {args : Array Value} {below : List Frame} {meth : Method} {c : Code} {h0 : HH} (G : GG) (mc : Nat) (ms : Nat) (a0 : Nat) (Q : HH → Prop) (hE : hv_E p s m args meth c cJ3_grow 9 (none : Option FieldType) RJ3 G h0) : ∀ (h : HH) (nc : Nat) (nk : Nat) (x2 : Int32) (x3 : Int32) (x5 : Option Nat), wp_J3_grow_L96 G mc ms a0 Q h nc nk x2 x3 x5 → nc ≤ mc → nk ≤ ms → ∀ (H : Heap) (locs : List Loc) (ls : Array Slot), hv_I G h0 s.heap h H locs → lv_has ls 9 [(0, .ref a0), (2, .int x2), (3, .int x3), (5, va_rf x5)] → W p l e (headSpec (ws_ yJ3_grow cJ3_grow 9 (none : Option FieldType)) (rm_J3_grow mc ms)).room s m args below meth c H locs nc nk (MQ below (hv_Qv G h0 s.heap.size Q) args s mc ms (hv_A h0 s.heap.size)) (F0 m 96 ls []) := by
  obtain ⟨⟨hx, hb, hml, hown, hts⟩, hr, hlocks, hXX⟩ := id hE
  intro h nc nk x2 x3 x5 hw hc hs H locs ls hI hl
  unfold wp_J3_grow_L96 at hw
  refine lv_iload_n hx hb dJ3_grow_96 rfl (lv_at hl 2 rfl) ?_
  refine lv_iload_n hx hb dJ3_grow_97 rfl (lv_at hl 1 rfl) ?_
  refine lv_isub hx hb dJ3_grow_98 ?_
  refine lv_istore (lv' := [(6, .int (x3 - x2)), (0, .ref a0), (2, .int x2), (3, .int x3), (5, va_rf x5)]) hx hb dJ3_grow_99 hl (by decide) (by cases x5 <;> exact rfl) (fun ls hl => ?_)
  refine lv_aloadq hx hb dJ3_grow_101 (lv_at hl 4 rfl) ?_
  refine lv_aload_n hx hb dJ3_grow_103 rfl (lv_at hl 1 rfl) ?_
  refine hv_wgeti hE hI in_J3 (ci := 5) rfl 1 (by decide) (hts _ q257) (fun _ hx => hx) hw dJ3_grow_104 (fun r13 hw => ?_)
  refine lv_aloadq hx hb dJ3_grow_107 (lv_at hl 4 rfl) ?_
  refine lv_aload_n hx hb dJ3_grow_109 rfl (lv_at hl 1 rfl) ?_
  refine hv_wgeti hE hI in_J3 (ci := 5) rfl 1 (by decide) (hts _ q257) (fun _ hx => hx) hw dJ3_grow_110 (fun r14 hw => ?_)
  refine lv_iload hx hb dJ3_grow_113 (lv_at hl 0 rfl) ?_
  refine lv_iadd hx hb dJ3_grow_115 ?_
  refine lv_iload_n hx hb dJ3_grow_116 rfl (lv_at hl 2 rfl) ?_
  refine lv_aload_n hx hb dJ3_grow_117 rfl (lv_at hl 1 rfl) ?_
  refine hv_wgeti hE hI in_J3 (ci := 5) rfl 1 (by decide) (hts _ q257) (fun _ hx => hx) hw dJ3_grow_118 (fun r15 hw => ?_)
  refine lv_isub hx hb dJ3_grow_121 ?_
  obtain ⟨a16, hz, hwa16⟩ := hw; have hla16 := hl; subst hz; have hw := hwa16; have hl := hla16
  refine hv_cpq (rest := []) hE hI hw hl.1 (hts _ q1309) (hts _ q523) (hts _ q522) (hts _ q125) (Nat.le_of_ble_eq_true rfl) (Nat.le_of_ble_eq_true rfl) dJ3_grow_122 (fun h17 H locs hw hI => ?_)
  refine lv_aload_n hx hb dJ3_grow_125 rfl (lv_at hl 1 rfl) ?_
  refine hv_wgeti hE hI in_J3 (ci := 5) rfl 1 (by decide) (hts _ q257) (fun _ hx => hx) hw dJ3_grow_126 (fun r18 hw => ?_)
  refine lv_istore (lv' := [(7, .int r18), (6, .int (x3 - x2)), (0, .ref a0), (2, .int x2), (3, .int x3), (5, .ref a16)]) hx hb dJ3_grow_129 hl (by decide) rfl (fun ls hl => ?_)
  refine lv_aload_n hx hb dJ3_grow_131 rfl (lv_at hl 2 rfl) ?_
  refine lv_dup hx hb dJ3_grow_132 rfl ?_
  refine hv_wgeti hE hI in_J3 (ci := 5) rfl 1 (by decide) (hts _ q257) (fun _ hx => hx) hw dJ3_grow_133 (fun r19 hw => ?_)
  refine lv_iload hx hb dJ3_grow_136 (lv_at hl 1 rfl) ?_
  refine lv_iadd hx hb dJ3_grow_138 ?_
  refine lv_dup_x1 hx hb dJ3_grow_139 rfl rfl ?_
  refine hv_wput (v := .int (r19 + (x3 - x2))) tyJ3 hE hI in_J3 tyJ3_ok nmJ3 (ci := 5) rfl 1 (by decide) (hts _ q257) (fun _ hx => hx) rfl (ty := .int) rfl rfl rfl hw dJ3_grow_140 (fun h20 H locs hw hI => ?_)
  refine lv_istore (lv' := [(8, .int (r19 + (x3 - x2))), (7, .int r18), (6, .int (x3 - x2)), (0, .ref a0), (2, .int x2), (3, .int x3), (5, .ref a16)]) hx hb dJ3_grow_143 hl (by decide) rfl (fun ls hl => ?_)
  obtain ⟨n145, hw⟩ := hw
  exact snd_J3_grow_L145 G mc ms a0 Q hE n145 h20 nc nk a16 r18 (r19 + (x3 - x2)) hw hc hs _ _ _ hI (lv_sub hl [6, 1, 0] rfl)
def wp_J3_grow_L49 (G : GG) (mc : Nat) (ms : Nat) (a0 : Nat) (Q : HH → Prop) (h : HH) (nc : Nat) (nk : Nat) (x2 : Int32) (x3 : Int32) : Prop := w_getq h a0 5 0 (fun r6 => (∃ mc7 ms7, nc + mc7 ≤ mc ∧ nk + ms7 ≤ ms ∧ wp_J18_copyOf G mc7 ms7 h r6 x3 (fun r8 h9 => w_put h9 a0 5 0 (va_rf r8) (fun h10 => w_geti h10 a0 5 2 (fun r11 => w_geti h10 a0 5 1 (fun r12 => ((r11 < r12 → wp_J3_grow_L96 G mc ms a0 Q h10 (nc + mc7) (nk + ms7) x2 x3 r8) ∧ (¬ r11 < r12 → w_geti h10 a0 5 2 (fun r22 => w_geti h10 a0 5 1 (fun r23 => ((¬ r22 = r23 → Q h10) ∧ (r22 = r23 → w_geti h10 a0 5 1 (fun r24 => w_nn r8 (fun a25 => w_qld G h10 a25 r24 (fun r26 => ((r26 = none → Q h10) ∧ (∀ a27, r26 = some a27 → wp_J3_grow_L96 G mc ms a0 Q h10 (nc + mc7) (nk + ms7) x2 x3 (some a25))))))))))))))))))
set_option maxHeartbeats 4000000 in
theorem snd_J3_grow_L49 {p : Program} {l : Launch} {e : Env} {s : State} {m : MethodId} {args : Array Value} {below : List Frame} {meth : Method} {c : Code} {h0 : HH} (G : GG) (mc : Nat) (ms : Nat) (a0 : Nat) (Q : HH → Prop) (hE : hv_E p s m args meth c cJ3_grow 9 (none : Option FieldType) RJ3 G h0) : ∀ (h : HH) (nc : Nat) (nk : Nat) (x2 : Int32) (x3 : Int32), wp_J3_grow_L49 G mc ms a0 Q h nc nk x2 x3 → nc ≤ mc → nk ≤ ms → ∀ (H : Heap) (locs : List Loc) (ls : Array Slot), hv_I G h0 s.heap h H locs → lv_has ls 9 [(0, .ref a0), (2, .int x2), (3, .int x3)] → W p l e (headSpec (ws_ yJ3_grow cJ3_grow 9 (none : Option FieldType)) (rm_J3_grow mc ms)).room s m args below meth c H locs nc nk (MQ below (hv_Qv G h0 s.heap.size Q) args s mc ms (hv_A h0 s.heap.size)) (F0 m 49 ls []) := by
  obtain ⟨⟨hx, hb, hml, hown, hts⟩, hr, hlocks, hXX⟩ := id hE
  intro h nc nk x2 x3 hw hc hs H locs ls hI hl
  unfold wp_J3_grow_L49 at hw
  refine lv_aload_n hx hb dJ3_grow_49 rfl (lv_at hl 0 rfl) ?_
  refine lv_aload_n hx hb dJ3_grow_50 rfl (lv_at hl 0 rfl) ?_
  refine hv_wgetq hE hI in_J3 (ci := 5) rfl 0 (by decide) (hts _ q256) (fun _ hx => hx) hw dJ3_grow_51 (fun r6 hw => ?_)
  refine lv_iload_n hx hb dJ3_grow_54 rfl (lv_at hl 2 rfl) ?_
  obtain ⟨mc7, ms7, hc, hs, hw⟩ := hw
  refine hv_rcq hI (va_runS (As := [va_rf r6, .int x3]) (rest := [.ref a0]) hE.1 (snd_J18_copyOf l G _ mc7 ms7 h r6 x3 _ hw) (va_cwS 2 hts (lw_S q1308 q934 q124 q935) rfl rfl rfl (by decide +kernel) ⟨Nat.le_of_ble_eq_true rfl, Nat.le_of_ble_eq_true rfl⟩) (hv_preS hE hI) rfl rfl hl.1 rfl (lv_room (Nat.le_of_ble_eq_true rfl)) dJ3_grow_55 ⟨hc, hs⟩) (fun r8 h9 H locs hw hI => ?_)
  refine lv_dup_x1 hx hb dJ3_grow_58 (va_rf_cat _) rfl ?_
  refine hv_wput (v := va_rf r8) tyJ3 hE hI in_J3 tyJ3_ok nmJ3 (ci := 5) rfl 0 (by decide) (hts _ q256) (fun _ hx => hx) rfl (ty := (.array (.object "java/lang/Object"))) rfl (va_rf_narA _ _) (va_rf_fitA _ _) hw dJ3_grow_59 (fun h10 H locs hw hI => ?_)
  refine lv_astoreq (lv' := [(5, va_rf r8), (0, .ref a0), (2, .int x2), (3, .int x3)]) hx hb dJ3_grow_62 hl (by decide) rfl (fun ls hl => ?_)
  refine lv_aload_n hx hb dJ3_grow_64 rfl (lv_at hl 1 rfl) ?_
  refine hv_wgeti hE hI in_J3 (ci := 5) rfl 2 (by decide) (hts _ q258) (fun _ hx => hx) hw dJ3_grow_65 (fun r11 hw => ?_)
  refine lv_aload_n hx hb dJ3_grow_68 rfl (lv_at hl 1 rfl) ?_
  refine hv_wgeti hE hI in_J3 (ci := 5) rfl 1 (by decide) (hts _ q257) (fun _ hx => hx) hw dJ3_grow_69 (fun r12 hw => ?_)
  refine lv_icmp_lt (tgt := 96) hx hb dJ3_grow_72 (by decide) (fun c_72 => ?_) (fun c_72 => ?_)
  · have hw := hw.1 c_72
    exact snd_J3_grow_L96 G mc ms a0 Q hE h10 (nc + mc7) (nk + ms7) x2 x3 r8 hw hc hs _ _ _ hI (lv_sub hl [1, 2, 3, 0] rfl)
  · have hw := hw.2 c_72
    refine lv_aload_n hx hb dJ3_grow_75 rfl (lv_at hl 1 rfl) ?_
    refine hv_wgeti hE hI in_J3 (ci := 5) rfl 2 (by decide) (hts _ q258) (fun _ hx => hx) hw dJ3_grow_76 (fun r22 hw => ?_)
    refine lv_aload_n hx hb dJ3_grow_79 rfl (lv_at hl 1 rfl) ?_
    refine hv_wgeti hE hI in_J3 (ci := 5) rfl 1 (by decide) (hts _ q257) (fun _ hx => hx) hw dJ3_grow_80 (fun r23 hw => ?_)
    refine lv_icmp_ne (tgt := 164) hx hb dJ3_grow_83 (by decide) (fun c_83 => ?_) (fun c_83 => ?_)
    · have hw := hw.1 c_83
      exact hv_vret hE hI hc hs hw dJ3_grow_164
    · have hw := hw.2 c_83
      refine lv_aloadq hx hb dJ3_grow_86 (lv_at hl 0 rfl) ?_
      refine lv_aload_n hx hb dJ3_grow_88 rfl (lv_at hl 1 rfl) ?_
      refine hv_wgeti hE hI in_J3 (ci := 5) rfl 1 (by decide) (hts _ q257) (fun _ hx => hx) hw dJ3_grow_89 (fun r24 hw => ?_)
      obtain ⟨a25, hz, hwa25⟩ := hw; have hla25 := hl; subst hz; have hw := hwa25; have hl := hla25
      refine hv_wqld hE hI hw dJ3_grow_92 (fun r26 hw => ?_)
      refine lv_ifnullq (tgt := 164) hx hb dJ3_grow_93 (by decide) (fun c_93 => ?_) (fun c_93 => ?_)
      · have hwa27 := hw.1 c_93; have hla27 := hl; subst c_93; have hw := hwa27; have hl := hla27
        exact hv_vret hE hI hc hs hw dJ3_grow_164
      · obtain ⟨a27, hz⟩ := Option.ne_none_iff_exists.mp c_93
        have hwa27 := hw.2 a27 hz.symm; have hla27 := hl; subst hz; have hw := hwa27; have hl := hla27
        exact snd_J3_grow_L96 G mc ms a0 Q hE h10 (nc + mc7) (nk + ms7) x2 x3 (some a25) hw hc hs _ _ _ hI (lv_sub hl [1, 2, 3, 0] rfl)
def wp_J3_grow_L41 (G : GG) (mc : Nat) (ms : Nat) (a0 : Nat) (Q : HH → Prop) (h : HH) (nc : Nat) (nk : Nat) (x1 : Int32) (x2 : Int32) (x4 : Int32) : Prop := w_is h a0 5 (wp_J3_newCapacity G h a0 x1 x4 (fun r4 h5 => wp_J3_grow_L49 G mc ms a0 Q h5 nc nk x2 r4))
set_option maxHeartbeats 4000000 in
theorem snd_J3_grow_L41 {p : Program} {l : Launch} {e : Env} {s : State} {m : MethodId} {args : Array Value} {below : List Frame} {meth : Method} {c : Code} {h0 : HH} (G : GG) (mc : Nat) (ms : Nat) (a0 : Nat) (Q : HH → Prop) (hE : hv_E p s m args meth c cJ3_grow 9 (none : Option FieldType) RJ3 G h0) : ∀ (h : HH) (nc : Nat) (nk : Nat) (x1 : Int32) (x2 : Int32) (x4 : Int32), wp_J3_grow_L41 G mc ms a0 Q h nc nk x1 x2 x4 → nc ≤ mc → nk ≤ ms → ∀ (H : Heap) (locs : List Loc) (ls : Array Slot), hv_I G h0 s.heap h H locs → lv_has ls 9 [(0, .ref a0), (1, .int x1), (2, .int x2), (4, .int x4)] → W p l e (headSpec (ws_ yJ3_grow cJ3_grow 9 (none : Option FieldType)) (rm_J3_grow mc ms)).room s m args below meth c H locs nc nk (MQ below (hv_Qv G h0 s.heap.size Q) args s mc ms (hv_A h0 s.heap.size)) (F0 m 41 ls []) := by
  obtain ⟨⟨hx, hb, hml, hown, hts⟩, hr, hlocks, hXX⟩ := id hE
  intro h nc nk x1 x2 x4 hw hc hs H locs ls hI hl
  unfold wp_J3_grow_L41 at hw
  refine lv_aload_n hx hb dJ3_grow_41 rfl (lv_at hl 0 rfl) ?_
  refine lv_iload_n hx hb dJ3_grow_42 rfl (lv_at hl 1 rfl) ?_
  refine lv_iload hx hb dJ3_grow_43 (lv_at hl 3 rfl) ?_
  obtain ⟨⟨fs, hre⟩, hw⟩ := hw
  refine hv_rci hI (va_runV (As := [.int x1, .int x4]) (b := a0) (rest := []) hE.1 (snd_J3_newCapacity l G _ h a0 x1 x4 _ hw) (cwV 2 hts (lw_V q1289 q1291 qs27 q103 q1292) rfl rfl rfl (by decide +kernel) ⟨Nat.le_of_ble_eq_true rfl, Nat.le_of_ble_eq_true rfl⟩) (hv_preV hE hI (ci := 5) rfl hre) rfl rfl hl.1 rfl (lv_room (Nat.le_of_ble_eq_true rfl)) dJ3_grow_45 ⟨hc, hs⟩) (fun r4 h5 H locs hw hI => ?_)
  refine lv_istore_n (lv' := [(3, .int r4), (0, .ref a0), (1, .int x1), (2, .int x2), (4, .int x4)]) hx hb dJ3_grow_48 rfl hl (by decide) rfl (fun ls hl => ?_)
  exact snd_J3_grow_L49 G mc ms a0 Q hE h5 nc nk x2 r4 hw hc hs _ _ _ hI (lv_sub hl [1, 3, 0] rfl)
def wp_J3_grow_L21 (G : GG) (mc : Nat) (ms : Nat) (a0 : Nat) (Q : HH → Prop) (h : HH) (nc : Nat) (nk : Nat) (x1 : Int32) (x2 : Int32) (t0 : Int32) : Prop := ((t0 < x1 → wp_J3_grow_L41 G mc ms a0 Q h nc nk x1 x2 t0) ∧ (¬ t0 < x1 → ((((x2 + t0) - (2147483639 : Int32)) ≤ 0 → wp_J3_grow_L49 G mc ms a0 Q h nc nk x2 (x2 + t0)) ∧ (¬ ((x2 + t0) - (2147483639 : Int32)) ≤ 0 → wp_J3_grow_L41 G mc ms a0 Q h nc nk x1 x2 t0))))
set_option maxHeartbeats 4000000 in
theorem snd_J3_grow_L21 {p : Program} {l : Launch} {e : Env} {s : State} {m : MethodId} {args : Array Value} {below : List Frame} {meth : Method} {c : Code} {h0 : HH} (G : GG) (mc : Nat) (ms : Nat) (a0 : Nat) (Q : HH → Prop) (hE : hv_E p s m args meth c cJ3_grow 9 (none : Option FieldType) RJ3 G h0) : ∀ (h : HH) (nc : Nat) (nk : Nat) (x1 : Int32) (x2 : Int32) (t0 : Int32), wp_J3_grow_L21 G mc ms a0 Q h nc nk x1 x2 t0 → nc ≤ mc → nk ≤ ms → ∀ (H : Heap) (locs : List Loc) (ls : Array Slot), hv_I G h0 s.heap h H locs → lv_has ls 9 [(0, .ref a0), (1, .int x1), (2, .int x2)] → W p l e (headSpec (ws_ yJ3_grow cJ3_grow 9 (none : Option FieldType)) (rm_J3_grow mc ms)).room s m args below meth c H locs nc nk (MQ below (hv_Qv G h0 s.heap.size Q) args s mc ms (hv_A h0 s.heap.size)) (F0 m 21 ls [.int t0]) := by
  obtain ⟨⟨hx, hb, hml, hown, hts⟩, hr, hlocks, hXX⟩ := id hE
  intro h nc nk x1 x2 t0 hw hc hs H locs ls hI hl
  unfold wp_J3_grow_L21 at hw
  refine lv_istore (lv' := [(4, .int t0), (0, .ref a0), (1, .int x1), (2, .int x2)]) hx hb dJ3_grow_21 hl (by decide) rfl (fun ls hl => ?_)
  refine lv_iload hx hb dJ3_grow_23 (lv_at hl 0 rfl) ?_
  refine lv_iload_n hx hb dJ3_grow_25 rfl (lv_at hl 2 rfl) ?_
  refine lv_icmp_lt (tgt := 41) hx hb dJ3_grow_26 (by decide) (fun c_26 => ?_) (fun c_26 => ?_)
  · have hw := hw.1 c_26
    exact snd_J3_grow_L41 G mc ms a0 Q hE h nc nk x1 x2 t0 hw hc hs _ _ _ hI (lv_sub hl [1, 2, 3, 0] rfl)
  · have hw := hw.2 c_26
    refine lv_iload_n hx hb dJ3_grow_29 rfl (lv_at hl 3 rfl) ?_
    refine lv_iload hx hb dJ3_grow_30 (lv_at hl 0 rfl) ?_
    refine lv_iadd hx hb dJ3_grow_32 ?_
    refine lv_dup hx hb dJ3_grow_33 rfl ?_
    refine lv_istore_n (lv' := [(3, .int (x2 + t0)), (4, .int t0), (0, .ref a0), (1, .int x1), (2, .int x2)]) hx hb dJ3_grow_34 rfl hl (by decide) rfl (fun ls hl => ?_)
    refine lv_ldc (v := 2147483639) hx hb hown (hts _ q1288) dJ3_grow_35 ?_
    refine lv_isub hx hb dJ3_grow_37 ?_
    refine lv_if_le (tgt := 49) hx hb dJ3_grow_38 (by decide) (fun c_38 => ?_) (fun c_38 => ?_)
    · have hw := hw.1 c_38
      exact snd_J3_grow_L49 G mc ms a0 Q hE h nc nk x2 (x2 + t0) hw hc hs _ _ _ hI (lv_sub hl [2, 4, 0] rfl)
    · have hw := hw.2 c_38
      exact snd_J3_grow_L41 G mc ms a0 Q hE h nc nk x1 x2 t0 hw hc hs _ _ _ hI (lv_sub hl [2, 3, 4, 1] rfl)
def wp_J3_grow (G : GG) (mc : Nat) (ms : Nat) (h : HH) (a0 : Nat) (x1 : Int32) (Q : HH → Prop) : Prop := w_getq h a0 5 0 (fun r1 => w_nn r1 (fun a2 => w_len G h a2 (fun r3 => (((64 : Int32) ≤ r3 → wp_J3_grow_L21 G mc ms a0 Q h 0 0 x1 r3 (r3 >>> ((1 : Int32) &&& 31))) ∧ (¬ (64 : Int32) ≤ r3 → wp_J3_grow_L21 G mc ms a0 Q h 0 0 x1 r3 (r3 + (2 : Int32)))))))
set_option maxHeartbeats 4000000 in
theorem snd_J3_grow (l : Launch) (G : GG) (sz : Nat) (mc : Nat) (ms : Nat) (h : HH) (a0 : Nat) (x1 : Int32) (Q : HH → Prop) (hw : wp_J3_grow G mc ms h a0 x1 Q) : Met l yJ3_grow (ws_ yJ3_grow cJ3_grow 9 (none : Option FieldType)) (rm_J3_grow mc ms) (hv_Pc G h sz [.ref a0, .int x1]) (hv_Qv G h sz Q) mc ms (hv_A h sz) := by
  refine Met.ofW (cc := cJ3_grow) (maxL := 9) (ret := (none : Option FieldType)) (by decide) rfl ?_
  intro p e s m args below meth c s₁ B hml hv
  obtain ⟨rfl, rfl, hE, hI⟩ := hv_open B hml hv
  have hE : hv_E p s m ([.ref a0, .int x1] : List Value).toArray meth c cJ3_grow 9 (none : Option FieldType) RJ3 G h := hE
  obtain ⟨⟨hx, hb, hml, hown, hts⟩, hr, hlocks, hXX⟩ := id hE
  have hl := lv_entry ([.ref a0, .int x1] : List Value) (n := 9) (Nat.le_of_ble_eq_true rfl)
  rw [lg_entry_eq]
  generalize (lg_sl ([.ref a0, .int x1] : List Value) ++ List.replicate (9 - (lg_sl ([.ref a0, .int x1] : List Value)).length) Slot.unset).toArray = ls at hl ⊢
  have hl : lv_has ls 9 [(0, .ref a0), (1, .int x1)] := hl
  have hc : 0 ≤ mc := Nat.zero_le _
  have hs : 0 ≤ ms := Nat.zero_le _
  unfold wp_J3_grow at hw
  refine lv_aload_n hx hb dJ3_grow_0 rfl (lv_at hl 0 rfl) ?_
  refine hv_wgetq hE hI in_J3 (ci := 5) rfl 0 (by decide) (hts _ q256) (fun _ hx => hx) hw dJ3_grow_1 (fun r1 hw => ?_)
  obtain ⟨a2, hz, hwa2⟩ := hw; have hla2 := hl; subst hz; have hw := hwa2; have hl := hla2
  refine hv_len hE hI hw dJ3_grow_4 (fun r3 hw => ?_)
  refine lv_istore_n (lv' := [(2, .int r3), (0, .ref a0), (1, .int x1)]) hx hb dJ3_grow_5 rfl hl (by decide) rfl (fun ls hl => ?_)
  refine lv_iload_n hx hb dJ3_grow_6 rfl (lv_at hl 0 rfl) ?_
  refine lv_bipush (v := 64) hx hb dJ3_grow_7 (by decide) ?_
  refine lv_icmp_ge (tgt := 18) hx hb dJ3_grow_9 (by decide) (fun c_9 => ?_) (fun c_9 => ?_)
  · have hw := hw.1 c_9
    refine lv_iload_n hx hb dJ3_grow_18 rfl (lv_at hl 0 rfl) ?_
    refine lv_iconst (v := 1) hx hb dJ3_grow_19 (by decide) ?_
    refine lv_ishr hx hb dJ3_grow_20 ?_
    exact snd_J3_grow_L21 G mc ms a0 Q hE h 0 0 x1 r3 (r3 >>> ((1 : Int32) &&& 31)) hw hc hs _ _ _ hI (lv_sub hl [1, 2, 0] rfl)
  · have hw := hw.2 c_9
    refine lv_iload_n hx hb dJ3_grow_12 rfl (lv_at hl 0 rfl) ?_
    refine lv_iconst (v := 2) hx hb dJ3_grow_13 (by decide) ?_
    refine lv_iadd hx hb dJ3_grow_14 ?_
    refine lv_goto (tgt := 21) hx hb dJ3_grow_15 (by decide) ?_
    exact snd_J3_grow_L21 G mc ms a0 Q hE h 0 0 x1 r3 (r3 + (2 : Int32)) hw hc hs _ _ _ hI (lv_sub hl [1, 2, 0] rfl)
