/-! walks over a world (by gen/hvrun.py) -/
set_option maxRecDepth 100000
theorem ha_MatchmakerRules_12_IllegalStateException {p : Program} {s : State} {m : MethodId} {args : Array Value} {meth : Method} {c : Code} {cc : ByteArray} {nL : Nat} {ret : Option FieldType} {own : String} {G : GG} {h0 : HH} (hE : hv_E p s m args meth c cc nL ret own G h0) : ∀ w ∈ vx_at0 "MatchmakerRules" 12 "java/lang/IllegalStateException" ["java/lang/RuntimeException", "java/lang/Exception"], w.before args s = true := by
  obtain ⟨⟨-, -, -, -, hts⟩, -, -, -, hX, -⟩ := hE
  have h1 : ∀ w ∈ Bundle.ownAtoms0 "MatchmakerRules" 12 "java/lang/IllegalStateException" ["java/lang/RuntimeException", "java/lang/Exception"], vx_no w = true → w.before args s = true := (List.forall_mem_cons.mpr ⟨(fun _ => hts _ q114), (List.forall_mem_cons.mpr ⟨(fun _ => hts _ q419), (List.forall_mem_cons.mpr ⟨(fun _ => hts _ q428), (List.forall_mem_cons.mpr ⟨(fun _ => hts _ q440), (List.forall_mem_cons.mpr ⟨(fun _ => hts _ q443), (List.forall_mem_cons.mpr ⟨(fun _ => hts _ q445), (List.forall_mem_cons.mpr ⟨(fun _ => hts _ q420), (List.forall_mem_cons.mpr ⟨(fun _ => hts _ q421), (List.forall_mem_cons.mpr ⟨(fun _ => hts _ q146), (List.forall_mem_cons.mpr ⟨(fun _ => hts _ q147), (List.forall_mem_cons.mpr ⟨(fun _ => hts _ q422), (List.forall_mem_cons.mpr ⟨(fun _ => hts _ q427), (List.forall_mem_cons.mpr ⟨(fun _ => hts _ q441), (List.forall_mem_cons.mpr ⟨(fun _ => hts _ q458), (List.forall_mem_cons.mpr ⟨(fun _ => hts _ q409), (List.forall_mem_cons.mpr ⟨(fun _ => hts _ q459), (List.forall_mem_cons.mpr ⟨(fun _ => hts _ q411), (List.forall_mem_cons.mpr ⟨(fun _ => hts _ q460), (List.forall_mem_cons.mpr ⟨(fun _ => hts _ q413), (List.forall_mem_cons.mpr ⟨(fun _ => hts _ q423), (List.forall_mem_cons.mpr ⟨(fun hz => absurd hz (by decide +kernel)), (List.forall_mem_cons.mpr ⟨(fun _ => hts _ q425), (List.forall_mem_cons.mpr ⟨(fun hz => absurd hz (by decide +kernel)), (List.forall_mem_cons.mpr ⟨(fun _ => hts _ q415), (List.forall_mem_cons.mpr ⟨(fun _ => hts _ q1115), (List.forall_mem_cons.mpr ⟨(fun _ => hts _ q1116), (List.forall_mem_cons.mpr ⟨(fun _ => hts _ q1117), (List.forall_mem_cons.mpr ⟨(fun _ => hts _ q450), (List.forall_mem_cons.mpr ⟨(fun _ => (hX.D 4 rfl).use rfl), (List.forall_mem_cons.mpr ⟨(fun _ => hts _ q450), (List.forall_mem_cons.mpr ⟨(fun _ => hts _ q451), (List.forall_mem_cons.mpr ⟨(fun _ => hts _ q452), (List.forall_mem_cons.mpr ⟨(fun _ => hts _ q453), (List.forall_mem_cons.mpr ⟨(fun _ => (hX.D 2 rfl).use rfl), (List.forall_mem_cons.mpr ⟨(fun _ => hts _ q453), (List.forall_mem_cons.mpr ⟨(fun _ => hts _ q454), (List.forall_mem_cons.mpr ⟨(fun _ => hts _ q455), (List.forall_mem_cons.mpr ⟨(fun _ => hts _ q420), (List.forall_mem_cons.mpr ⟨(fun _ => (hX.D 0 rfl).use rfl), (List.forall_mem_cons.mpr ⟨(fun _ => hts _ q1783), (List.forall_mem_cons.mpr ⟨(fun _ => hts _ q1106), (List.forall_mem_cons.mpr ⟨(fun _ => (hX.C 28 rfl).use rfl), (List.forall_mem_cons.mpr ⟨(fun _ => hts _ q1108), (List.forall_mem_cons.mpr ⟨(fun _ => hts _ q436), (List.forall_mem_cons.mpr ⟨(fun _ => hts _ q1109), (List.forall_mem_cons.mpr ⟨(fun _ => hts _ q1110), (List.forall_mem_cons.mpr ⟨(fun _ => hts _ q1111), (List.forall_mem_cons.mpr ⟨(fun _ => hts _ q1112), (List.forall_mem_cons.mpr ⟨(fun hz => absurd hz (by decide +kernel)), (List.forall_mem_cons.mpr ⟨(fun hz => absurd hz (by decide +kernel)), (List.forall_mem_cons.mpr ⟨(fun _ => hts _ q418), (List.forall_mem_cons.mpr ⟨(fun _ => hts _ q417), (List.forall_mem_cons.mpr ⟨(fun _ => hts _ q1113), (fun _ hz => absurd hz List.not_mem_nil)⟩)⟩)⟩)⟩)⟩)⟩)⟩)⟩)⟩)⟩)⟩)⟩)⟩)⟩)⟩)⟩)⟩)⟩)⟩)⟩)⟩)⟩)⟩)⟩)⟩)⟩)⟩)⟩)⟩)⟩)⟩)⟩)⟩)⟩)⟩)⟩)⟩)⟩)⟩)⟩)⟩)⟩)⟩)⟩)⟩)⟩)⟩)⟩)⟩)⟩)⟩)⟩)⟩)
  exact fun w hw => h1 w (List.mem_filter.mp hw).1 (List.mem_filter.mp hw).2

/-- MatchmakerRules.checkState(Z)V -/
abbrev rm_X1_checkState (mc ms : Nat) : Room := { frames := 6, cells := mc, slots := ms, locals := 89 }
def wp_X1_checkState (G : GG) (mc : Nat) (ms : Nat) (h : HH) (x0 : Int32) (Q : HH → Prop) (X : String → Nat → HH → Prop) : Prop := ((¬ x0 = 0 → Q h) ∧ (x0 = 0 → (0 + 1 ≤ mc ∧ 0 + 6 ≤ ms ∧ ∀ q1, h q1 = none → X "java/lang/IllegalStateException" q1 h)))
set_option maxHeartbeats 4000000 in
theorem snd_X1_checkState (l : Launch) (hl0 : l.stackTraces = false) (G : GG) (sz : Nat) (mc : Nat) (ms : Nat) (h : HH) (x0 : Int32) (Q : HH → Prop) (X : String → Nat → HH → Prop) (hw : wp_X1_checkState G mc ms h x0 Q X) : vx_Met l yX1_checkState (ws_ yX1_checkState cX1_checkState 1 (none : Option FieldType)) (rm_X1_checkState mc ms) (hv_Pc G h sz [.int x0]) (hv_Qv G h sz Q) (hv_XC G h sz X) mc ms (hv_A h sz) := by
  refine vx_ofW (cc := cX1_checkState) (maxL := 1) (ret := (none : Option FieldType)) (by decide) rfl ?_
  intro p e s m args below meth c s₁ B hml ht hv
  obtain ⟨rfl, rfl, hE, hI⟩ := hv_open B hml hv
  have hE : hv_E p s m ([.int x0] : List Value).toArray meth c cX1_checkState 1 (none : Option FieldType) RX1 G h := hE
  obtain ⟨⟨hx, hb, hml, hown, hts⟩, hr, hlocks, hXX⟩ := id hE
  have hl := lv_entry ([.int x0] : List Value) (n := 1) (Nat.le_of_ble_eq_true rfl)
  rw [lg_entry_eq]
  generalize (lg_sl ([.int x0] : List Value) ++ List.replicate (1 - (lg_sl ([.int x0] : List Value)).length) Slot.unset).toArray = ls at hl ⊢
  have hl : lv_has ls 1 [(0, .int x0)] := hl
  have hc : 0 ≤ mc := Nat.zero_le _
  have hs : 0 ≤ ms := Nat.zero_le _
  unfold wp_X1_checkState at hw
  refine lv_iload_n hx hb dX1_checkState_0 rfl (lv_at hl 0 rfl) ?_
  refine lv_if_ne (tgt := 12) hx hb dX1_checkState_1 (by decide) (fun c_1 => ?_) (fun c_1 => ?_)
  · have hw := hw.1 c_1
    exact vx_ret (hv_vret hE hI hc hs hw dX1_checkState_12)
  · have hw := hw.2 c_1
    obtain ⟨hc, hs, hw⟩ := hw
    exact hx_throw0 (names := ["java/lang/RuntimeException", "java/lang/Exception"]) (rest := []) hl0 hE hI (by decide +kernel) (by decide +kernel) (hts _ q1782) (hts _ q130) (ha_MatchmakerRules_12_IllegalStateException hE) (by decide +kernel) hl.1 dX1_checkState_4 dX1_checkState_7 dX1_checkState_8 dX1_checkState_11 (fun z hz => (ht z hz).elim) (Nat.le_of_ble_eq_true rfl) (Nat.le_of_ble_eq_true rfl) (Nat.le_refl _) (Nat.le_refl _) hc hs hw

/-- MatchmakerRules.refusal(Z)I -/
abbrev rm_X1_refusal (mc ms : Nat) : Room := { frames := 7, cells := mc, slots := ms, locals := 109 }
def wp_X1_refusal_L12 (G : GG) (mc : Nat) (ms : Nat) (a0 : Nat) (Q : Int32 → HH → Prop) (X : String → Nat → HH → Prop) (h : HH) (nc : Nat) (nk : Nat) (x1 : Int32) (t0 : Int32) : Prop := (∃ mc3 ms3, nc + mc3 ≤ mc ∧ nk + ms3 ≤ ms ∧ wp_X1_checkState G mc3 ms3 h t0 (fun h4 => ((x1 = 0 → w_getq h4 a0 1 8 (fun r7 => w_nn r7 (fun a8 => w_geti h4 a8 15 6 (fun r9 => Q r9 h4)))) ∧ (¬ x1 = 0 → w_getq h4 a0 1 8 (fun r10 => w_nn r10 (fun a11 => w_geti h4 a11 15 7 (fun r12 => Q r12 h4)))))) (fun E q5 h6 => X E q5 h6))
set_option maxHeartbeats 4000000 in
theorem snd_X1_refusal_L12 {p : Program} {l : Launch} {e : Env} {s : State} {m : MethodId} {args : Array Value} {below : List Frame} {meth : Method} {c : Code} {h0 : HH} (G : GG) (mc : Nat) (ms : Nat) (a0 : Nat) (Q : Int32 → HH → Prop) (X : String → Nat → HH → Prop) (hl0 : l.stackTraces = false) (ht : ∀ x ∈ c.exceptionTable.toList, False) (hE : hv_E p s m args meth c cX1_refusal 2 (some FieldType.int) RX1 G h0) : ∀ (h : HH) (nc : Nat) (nk : Nat) (x1 : Int32) (t0 : Int32), wp_X1_refusal_L12 G mc ms a0 Q X h nc nk x1 t0 → nc ≤ mc → nk ≤ ms → ∀ (H : Heap) (locs : List Loc) (ls : Array Slot), hv_I G h0 s.heap h H locs → lv_has ls 2 [(0, .ref a0), (1, .int x1)] → W p l e (headSpec (ws_ yX1_refusal cX1_refusal 2 (some FieldType.int)) (rm_X1_refusal mc ms)).room s m args below meth c H locs nc nk (vx_MQ below (hv_Qi G h0 s.heap.size Q) (hv_XC G h0 s.heap.size X) args s mc ms (hv_A h0 s.heap.size)) (F0 m 12 ls [.int t0]) := by
  obtain ⟨⟨hx, hb, hml, hown, hts⟩, hr, hlocks, hXX⟩ := id hE
  intro h nc nk x1 t0 hw hc hs H locs ls hI hl
  unfold wp_X1_refusal_L12 at hw
  obtain ⟨mc3, ms3, hc, hs, hw⟩ := hw
  refine hx_rcv hI (vx_runS (As := [.int t0]) (rest := []) hE.1 (snd_X1_checkState l hl0 G _ mc3 ms3 h t0 _ _ hw) (va_cwS 1 hts (lw_S q1779 q1780 q97 q1781) rfl rfl rfl (by decide +kernel) ⟨Nat.le_of_ble_eq_true rfl, Nat.le_of_ble_eq_true rfl⟩) (hv_preS hE hI) rfl rfl hl.1 rfl (lv_room (Nat.le_of_ble_eq_true rfl)) dX1_refusal_12 ⟨hc, hs⟩) ?_ (fun h4 H locs hw hI => ?_)
  · intro E q5 h6 H locs hw hI hT
    exact hx_out hE hI hT hc hs (fun z hz => (ht z hz).elim) hw
  refine lv_iload_n hx hb dX1_refusal_15 rfl (lv_at hl 1 rfl) ?_
  refine lv_if_eq (tgt := 29) hx hb dX1_refusal_16 (by decide) (fun c_16 => ?_) (fun c_16 => ?_)
  · have hw := hw.1 c_16
    refine lv_aload_n hx hb dX1_refusal_29 rfl (lv_at hl 0 rfl) ?_
    refine hv_wgetq hE hI in_X1 (ci := 1) rfl 8 (by decide) (hts _ q308) (fun _ hx => hx) hw dX1_refusal_30 (fun r7 hw => ?_)
    obtain ⟨a8, hz, hwa8⟩ := hw; have hla8 := hl; subst hz; have hw := hwa8; have hl := hla8
    refine hv_wgetiN hE hI in_X11 (ci := 15) rfl 6 (by decide) (hE.2.2.2.2.1.F 15 rfl) (fun _ hx => hx) hw dX1_refusal_33 (fun r9 hw => ?_)
    exact vx_ret (hv_iret hE hI hc hs hw dX1_refusal_36)
  · have hw := hw.2 c_16
    refine lv_aload_n hx hb dX1_refusal_19 rfl (lv_at hl 0 rfl) ?_
    refine hv_wgetq hE hI in_X1 (ci := 1) rfl 8 (by decide) (hts _ q308) (fun _ hx => hx) hw dX1_refusal_20 (fun r10 hw => ?_)
    obtain ⟨a11, hz, hwa11⟩ := hw; have hla11 := hl; subst hz; have hw := hwa11; have hl := hla11
    refine hv_wgetiN hE hI in_X11 (ci := 15) rfl 7 (by decide) (hE.2.2.2.2.1.F 16 rfl) (fun _ hx => hx) hw dX1_refusal_23 (fun r12 hw => ?_)
    refine lv_goto (tgt := 36) hx hb dX1_refusal_26 (by decide) ?_
    exact vx_ret (hv_iret hE hI hc hs hw dX1_refusal_36)
def wp_X1_refusal (G : GG) (mc : Nat) (ms : Nat) (h : HH) (a0 : Nat) (x1 : Int32) (Q : Int32 → HH → Prop) (X : String → Nat → HH → Prop) : Prop := w_getq h a0 1 8 (fun r1 => ((r1 = none → wp_X1_refusal_L12 G mc ms a0 Q X h 0 0 x1 (0 : Int32)) ∧ (∀ a2, r1 = some a2 → wp_X1_refusal_L12 G mc ms a0 Q X h 0 0 x1 (1 : Int32))))
set_option maxHeartbeats 4000000 in
theorem snd_X1_refusal (l : Launch) (hl0 : l.stackTraces = false) (G : GG) (sz : Nat) (mc : Nat) (ms : Nat) (h : HH) (a0 : Nat) (x1 : Int32) (Q : Int32 → HH → Prop) (X : String → Nat → HH → Prop) (hw : wp_X1_refusal G mc ms h a0 x1 Q X) : vx_Met l yX1_refusal (ws_ yX1_refusal cX1_refusal 2 (some FieldType.int)) (rm_X1_refusal mc ms) (hv_Pc G h sz [.ref a0, .int x1]) (hv_Qi G h sz Q) (hv_XC G h sz X) mc ms (hv_A h sz) := by
  refine vx_ofW (cc := cX1_refusal) (maxL := 2) (ret := (some FieldType.int)) (by decide) rfl ?_
  intro p e s m args below meth c s₁ B hml ht hv
  obtain ⟨rfl, rfl, hE, hI⟩ := hv_open B hml hv
  have hE : hv_E p s m ([.ref a0, .int x1] : List Value).toArray meth c cX1_refusal 2 (some FieldType.int) RX1 G h := hE
  obtain ⟨⟨hx, hb, hml, hown, hts⟩, hr, hlocks, hXX⟩ := id hE
  have hl := lv_entry ([.ref a0, .int x1] : List Value) (n := 2) (Nat.le_of_ble_eq_true rfl)
  rw [lg_entry_eq]
  generalize (lg_sl ([.ref a0, .int x1] : List Value) ++ List.replicate (2 - (lg_sl ([.ref a0, .int x1] : List Value)).length) Slot.unset).toArray = ls at hl ⊢
  have hl : lv_has ls 2 [(0, .ref a0), (1, .int x1)] := hl
  have hc : 0 ≤ mc := Nat.zero_le _
  have hs : 0 ≤ ms := Nat.zero_le _
  unfold wp_X1_refusal at hw
  refine lv_aload_n hx hb dX1_refusal_0 rfl (lv_at hl 0 rfl) ?_
  refine hv_wgetq hE hI in_X1 (ci := 1) rfl 8 (by decide) (hts _ q308) (fun _ hx => hx) hw dX1_refusal_1 (fun r1 hw => ?_)
  refine lv_ifnullq (tgt := 11) hx hb dX1_refusal_4 (by decide) (fun c_4 => ?_) (fun c_4 => ?_)
  · have hwa2 := hw.1 c_4; have hla2 := hl; subst c_4; have hw := hwa2; have hl := hla2
    refine lv_iconst (v := 0) hx hb dX1_refusal_11 (by decide) ?_
    exact snd_X1_refusal_L12 G mc ms a0 Q X hl0 ht hE h 0 0 x1 (0 : Int32) hw hc hs _ _ _ hI (lv_sub hl [0, 1] rfl)
  · obtain ⟨a2, hz⟩ := Option.ne_none_iff_exists.mp c_4
    have hwa2 := hw.2 a2 hz.symm; have hla2 := hl; subst hz; have hw := hwa2; have hl := hla2
    refine lv_iconst (v := 1) hx hb dX1_refusal_7 (by decide) ?_
    refine lv_goto (tgt := 12) hx hb dX1_refusal_8 (by decide) ?_
    exact snd_X1_refusal_L12 G mc ms a0 Q X hl0 ht hE h 0 0 x1 (1 : Int32) hw hc hs _ _ _ hI (lv_sub hl [0, 1] rfl)

/-- MatchmakerRules$Book.told()I -/
abbrev rm_X2_told_2 (mc ms : Nat) : Room := { frames := 3, cells := mc, slots := ms, locals := 73 }
def wp_X2_told_2_L10 (G : GG) (mc : Nat) (ms : Nat) (a0 : Nat) (Q : Int32 → HH → Prop) : Nat → (HH) → (Nat) → (Nat) → (Int32) → (Option Nat) → Prop
  | 0, _, _, _, _, _ => False
  | n + 1, h, nc, nk, x1, x2 => w_nn x2 (fun a6 => w_is h a6 13 (wp_J15_hasNext G h a6 (fun r7 h8 => ((r7 = 0 → Q x1 h8) ∧ (¬ r7 = 0 → w_is h8 a6 13 (wp_J15_next G h8 a6 (fun r9 h10 => w_nn r9 (fun a11 => w_cast h10 a11 14 (w_geti h10 a11 14 6 (fun r12 => ((r12 = 0 → wp_X2_told_2_L10 G mc ms a0 Q n h10 nc nk (x1 + (0 : Int32)) (some a6)) ∧ (¬ r12 = 0 → wp_X2_told_2_L10 G mc ms a0 Q n h10 nc nk (x1 + (1 : Int32)) (some a6)))))))))))))
set_option maxHeartbeats 4000000 in
theorem snd_X2_told_2_L10 {p : Program} {l : Launch} {e : Env} {s : State} {m : MethodId} {args : Array Value} {below : List Frame} {meth : Method} {c : Code} {h0 : HH} (G : GG) (mc : Nat) (ms : Nat) (a0 : Nat) (Q : Int32 → HH → Prop) (hE : hv_E p s m args meth c cX2_told_2 4 (some FieldType.int) RX2 G h0) : ∀ (n : Nat) (h : HH) (nc : Nat) (nk : Nat) (x1 : Int32) (x2 : Option Nat), wp_X2_told_2_L10 G mc ms a0 Q n h nc nk x1 x2 → nc ≤ mc → nk ≤ ms → ∀ (H : Heap) (locs : List Loc) (ls : Array Slot), hv_I G h0 s.heap h H locs → lv_has ls 4 [(1, .int x1), (2, va_rf x2)] → W p l e (headSpec (ws_ yX2_told_2 cX2_told_2 4 (some FieldType.int)) (rm_X2_told_2 mc ms)).room s m args below meth c H locs nc nk (MQ below (hv_Qi G h0 s.heap.size Q) args s mc ms (hv_A h0 s.heap.size)) (F0 m 10 ls []) := by
  obtain ⟨⟨hx, hb, hml, hown, hts⟩, hr, hlocks, hXX⟩ := id hE
  intro n
  induction n with
  | zero => intro h nc nk x1 x2 hw; exact hw.elim
  | succ n ih =>
    intro h nc nk x1 x2 hw hc hs H locs ls hI hl
    unfold wp_X2_told_2_L10 at hw
    refine lv_aload_nq hx hb dX2_told_2_10 rfl (lv_at hl 1 rfl) ?_
    obtain ⟨a6, hz, hwa6⟩ := hw; have hla6 := hl; subst hz; have hw := hwa6; have hl := hla6
    obtain ⟨⟨fs, hre⟩, hw⟩ := hw
    refine hv_rFi hI (va_runF (As := []) (b := a6) (rest := []) (hXX.1.1 13 _ rfl).2 hE.1 (snd_J15_hasNext l G _ h a6 _ hw) (va_cwF 0 hts (lw_F q375 q379 q381 q121 q383) rfl rfl rfl (hv_fw0 hE.2.2.2.2.1) (by decide +kernel) ⟨Nat.le_of_ble_eq_true rfl, Nat.le_of_ble_eq_true rfl⟩) (hv_preV hE hI (ci := 13) rfl hre) rfl rfl hl.1 rfl (lv_room (Nat.le_of_ble_eq_true rfl)) dX2_told_2_11 ⟨hc, hs⟩) (fun r7 h8 H locs hw hI => ?_)
    refine lv_if_eq (tgt := 47) hx hb dX2_told_2_16 (by decide) (fun c_16 => ?_) (fun c_16 => ?_)
    · have hw := hw.1 c_16
      refine lv_iload_n hx hb dX2_told_2_47 rfl (lv_at hl 0 rfl) ?_
      exact hv_iret hE hI hc hs hw dX2_told_2_48
    · have hw := hw.2 c_16
      refine lv_aload_n hx hb dX2_told_2_19 rfl (lv_at hl 1 rfl) ?_
      obtain ⟨⟨fs, hre⟩, hw⟩ := hw
      refine hv_rFq hI (va_runF (As := []) (b := a6) (rest := []) (hXX.1.1 13 _ rfl).2 hE.1 (snd_J15_next l G _ h8 a6 _ hw) (va_cwF 0 hts (lw_F q385 q388 q390 q121 q392) rfl rfl rfl (hv_fw1 hE.2.2.2.2.1) (by decide +kernel) ⟨Nat.le_of_ble_eq_true rfl, Nat.le_of_ble_eq_true rfl⟩) (hv_preV hE hI (ci := 13) rfl hre) rfl rfl hl.1 rfl (lv_room (Nat.le_of_ble_eq_true rfl)) dX2_told_2_20 ⟨hc, hs⟩) (fun r9 h10 H locs hw hI => ?_)
      obtain ⟨a11, hz, hwa11⟩ := hw; have hla11 := hl; subst hz; have hw := hwa11; have hl := hla11
      refine hv_wcast (ci := 14) hE hI (hts _ q469) rfl hw dX2_told_2_25 (fun hw => ?_)
      refine lv_astore_n (lv' := [(3, .ref a11), (1, .int x1), (2, .ref a6)]) hx hb dX2_told_2_28 rfl hl (by decide) rfl (fun ls hl => ?_)
      refine lv_iload_n hx hb dX2_told_2_29 rfl (lv_at hl 1 rfl) ?_
      refine lv_aload_n hx hb dX2_told_2_30 rfl (lv_at hl 0 rfl) ?_
      refine hv_wgetiN hE hI in_X10 (ci := 14) rfl 6 (by decide) (hE.2.2.2.2.1.F 29 rfl) (fun _ hx => hx) hw dX2_told_2_31 (fun r12 hw => ?_)
      refine lv_if_eq (tgt := 41) hx hb dX2_told_2_34 (by decide) (fun c_34 => ?_) (fun c_34 => ?_)
      · have hw := hw.1 c_34
        refine lv_iconst (v := 0) hx hb dX2_told_2_41 (by decide) ?_
        refine lv_iadd hx hb dX2_told_2_42 ?_
        refine lv_istore_n (lv' := [(1, .int (x1 + (0 : Int32))), (3, .ref a11), (2, .ref a6)]) hx hb dX2_told_2_43 rfl hl (by decide) rfl (fun ls hl => ?_)
        refine lv_goto (tgt := 10) hx hb dX2_told_2_44 (by decide) ?_
        exact ih h10 nc nk (x1 + (0 : Int32)) (some a6) hw hc hs _ _ _ hI (lv_sub hl [0, 2] rfl)
      · have hw := hw.2 c_34
        refine lv_iconst (v := 1) hx hb dX2_told_2_37 (by decide) ?_
        refine lv_goto (tgt := 42) hx hb dX2_told_2_38 (by decide) ?_
        refine lv_iadd hx hb dX2_told_2_42 ?_
        refine lv_istore_n (lv' := [(1, .int (x1 + (1 : Int32))), (3, .ref a11), (2, .ref a6)]) hx hb dX2_told_2_43 rfl hl (by decide) rfl (fun ls hl => ?_)
        refine lv_goto (tgt := 10) hx hb dX2_told_2_44 (by decide) ?_
        exact ih h10 nc nk (x1 + (1 : Int32)) (some a6) hw hc hs _ _ _ hI (lv_sub hl [0, 2] rfl)
def wp_X2_told_2 (G : GG) (mc : Nat) (ms : Nat) (h : HH) (a0 : Nat) (Q : Int32 → HH → Prop) : Prop := w_getq h a0 2 2 (fun r1 => w_nn r1 (fun a2 => (∃ mc3 ms3, 0 + mc3 ≤ mc ∧ 0 + ms3 ≤ ms ∧ w_is h a2 4 (wp_J2_iterator G mc3 ms3 h a2 (fun r4 h5 => (∃ n10, wp_X2_told_2_L10 G mc ms a0 Q n10 h5 (0 + mc3) (0 + ms3) (0 : Int32) r4))))))
set_option maxHeartbeats 4000000 in
theorem snd_X2_told_2 (l : Launch) (G : GG) (sz : Nat) (mc : Nat) (ms : Nat) (h : HH) (a0 : Nat) (Q : Int32 → HH → Prop) (hw : wp_X2_told_2 G mc ms h a0 Q) : Met l yX2_told_2 (ws_ yX2_told_2 cX2_told_2 4 (some FieldType.int)) (rm_X2_told_2 mc ms) (hv_Pc G h sz [.ref a0]) (hv_Qi G h sz Q) mc ms (hv_A h sz) := by
  refine Met.ofW (cc := cX2_told_2) (maxL := 4) (ret := (some FieldType.int)) (by decide) rfl ?_
  intro p e s m args below meth c s₁ B hml hv
  obtain ⟨rfl, rfl, hE, hI⟩ := hv_open B hml hv
  have hE : hv_E p s m ([.ref a0] : List Value).toArray meth c cX2_told_2 4 (some FieldType.int) RX2 G h := hE
  obtain ⟨⟨hx, hb, hml, hown, hts⟩, hr, hlocks, hXX⟩ := id hE
  have hl := lv_entry ([.ref a0] : List Value) (n := 4) (Nat.le_of_ble_eq_true rfl)
  rw [lg_entry_eq]
  generalize (lg_sl ([.ref a0] : List Value) ++ List.replicate (4 - (lg_sl ([.ref a0] : List Value)).length) Slot.unset).toArray = ls at hl ⊢
  have hl : lv_has ls 4 [(0, .ref a0)] := hl
  have hc : 0 ≤ mc := Nat.zero_le _
  have hs : 0 ≤ ms := Nat.zero_le _
  unfold wp_X2_told_2 at hw
  refine lv_iconst (v := 0) hx hb dX2_told_2_0 (by decide) ?_
  refine lv_istore_n (lv' := [(1, .int (0 : Int32)), (0, .ref a0)]) hx hb dX2_told_2_1 rfl hl (by decide) rfl (fun ls hl => ?_)
  refine lv_aload_n hx hb dX2_told_2_2 rfl (lv_at hl 1 rfl) ?_
  refine hv_wgetq hE hI in_X2 (ci := 2) rfl 2 (by decide) (hts _ q222) (fun _ hx => hx) hw dX2_told_2_3 (fun r1 hw => ?_)
  obtain ⟨a2, hz, hwa2⟩ := hw; have hla2 := hl; subst hz; have hw := hwa2; have hl := hla2
  obtain ⟨mc3, ms3, hc, hs, hw⟩ := hw
  obtain ⟨⟨fs, hre⟩, hw⟩ := hw
  refine hv_rcq hI (va_runV (As := []) (b := a2) (rest := []) hE.1 (snd_J2_iterator l G _ mc3 ms3 h a2 _ hw) (cwV 0 hts (lw_V q351 q352 q353 q102 q354) rfl rfl rfl (by decide +kernel) ⟨Nat.le_of_ble_eq_true rfl, Nat.le_of_ble_eq_true rfl⟩) (hv_preV hE hI (ci := 4) rfl hre) rfl rfl hl.1 rfl (lv_room (Nat.le_of_ble_eq_true rfl)) dX2_told_2_6 ⟨hc, hs⟩) (fun r4 h5 H locs hw hI => ?_)
  refine lv_astore_nq (lv' := [(2, va_rf r4), (1, .int (0 : Int32)), (0, .ref a0)]) hx hb dX2_told_2_9 rfl hl (by decide) rfl (fun ls hl => ?_)
  obtain ⟨n10, hw⟩ := hw
  exact snd_X2_told_2_L10 G mc ms a0 Q hE n10 h5 (0 + mc3) (0 + ms3) (0 : Int32) r4 hw hc hs _ _ _ hI (lv_sub hl [1, 0] rfl)

/-- MatchmakerRules$Book.reasons()I -/
abbrev rm_X2_reasons (mc ms : Nat) : Room := { frames := 3, cells := mc, slots := ms, locals := 73 }
def wp_X2_reasons_L10 (G : GG) (mc : Nat) (ms : Nat) (a0 : Nat) (Q : Int32 → HH → Prop) : Nat → (HH) → (Nat) → (Nat) → (Int32) → (Option Nat) → Prop
  | 0, _, _, _, _, _ => False
  | n + 1, h, nc, nk, x1, x2 => w_nn x2 (fun a6 => w_is h a6 13 (wp_J15_hasNext G h a6 (fun r7 h8 => ((r7 = 0 → Q x1 h8) ∧ (¬ r7 = 0 → w_is h8 a6 13 (wp_J15_next G h8 a6 (fun r9 h10 => w_nn r9 (fun a11 => w_cast h10 a11 14 (w_getq h10 a11 14 7 (fun r12 => w_nn r12 (fun a13 => w_is h10 a13 4 (wp_J2_size G h10 a13 (fun r14 h15 => wp_X2_reasons_L10 G mc ms a0 Q n h15 nc nk (x1 + r14) (some a6))))))))))))))
set_option maxHeartbeats 4000000 in
theorem snd_X2_reasons_L10 {p : Program} {l : Launch} {e : Env} {s : State} {m : MethodId} {args : Array Value} {below : List Frame} {meth : Method} {c : Code} {h0 : HH} (G : GG) (mc : Nat) (ms : Nat) (a0 : Nat) (Q : Int32 → HH → Prop) (hE : hv_E p s m args meth c cX2_reasons 4 (some FieldType.int) RX2 G h0) : ∀ (n : Nat) (h : HH) (nc : Nat) (nk : Nat) (x1 : Int32) (x2 : Option Nat), wp_X2_reasons_L10 G mc ms a0 Q n h nc nk x1 x2 → nc ≤ mc → nk ≤ ms → ∀ (H : Heap) (locs : List Loc) (ls : Array Slot), hv_I G h0 s.heap h H locs → lv_has ls 4 [(1, .int x1), (2, va_rf x2)] → W p l e (headSpec (ws_ yX2_reasons cX2_reasons 4 (some FieldType.int)) (rm_X2_reasons mc ms)).room s m args below meth c H locs nc nk (MQ below (hv_Qi G h0 s.heap.size Q) args s mc ms (hv_A h0 s.heap.size)) (F0 m 10 ls []) := by
  obtain ⟨⟨hx, hb, hml, hown, hts⟩, hr, hlocks, hXX⟩ := id hE
  intro n
  induction n with
  | zero => intro h nc nk x1 x2 hw; exact hw.elim
  | succ n ih =>
    intro h nc nk x1 x2 hw hc hs H locs ls hI hl
    unfold wp_X2_reasons_L10 at hw
    refine lv_aload_nq hx hb dX2_reasons_10 rfl (lv_at hl 1 rfl) ?_
    obtain ⟨a6, hz, hwa6⟩ := hw; have hla6 := hl; subst hz; have hw := hwa6; have hl := hla6
    obtain ⟨⟨fs, hre⟩, hw⟩ := hw
    refine hv_rFi hI (va_runF (As := []) (b := a6) (rest := []) (hXX.1.1 13 _ rfl).2 hE.1 (snd_J15_hasNext l G _ h a6 _ hw) (va_cwF 0 hts (lw_F q375 q379 q381 q121 q383) rfl rfl rfl (hv_fw0 hE.2.2.2.2.1) (by decide +kernel) ⟨Nat.le_of_ble_eq_true rfl, Nat.le_of_ble_eq_true rfl⟩) (hv_preV hE hI (ci := 13) rfl hre) rfl rfl hl.1 rfl (lv_room (Nat.le_of_ble_eq_true rfl)) dX2_reasons_11 ⟨hc, hs⟩) (fun r7 h8 H locs hw hI => ?_)
    refine lv_if_eq (tgt := 42) hx hb dX2_reasons_16 (by decide) (fun c_16 => ?_) (fun c_16 => ?_)
    · have hw := hw.1 c_16
      refine lv_iload_n hx hb dX2_reasons_42 rfl (lv_at hl 0 rfl) ?_
      exact hv_iret hE hI hc hs hw dX2_reasons_43
    · have hw := hw.2 c_16
      refine lv_aload_n hx hb dX2_reasons_19 rfl (lv_at hl 1 rfl) ?_
      obtain ⟨⟨fs, hre⟩, hw⟩ := hw
      refine hv_rFq hI (va_runF (As := []) (b := a6) (rest := []) (hXX.1.1 13 _ rfl).2 hE.1 (snd_J15_next l G _ h8 a6 _ hw) (va_cwF 0 hts (lw_F q385 q388 q390 q121 q392) rfl rfl rfl (hv_fw1 hE.2.2.2.2.1) (by decide +kernel) ⟨Nat.le_of_ble_eq_true rfl, Nat.le_of_ble_eq_true rfl⟩) (hv_preV hE hI (ci := 13) rfl hre) rfl rfl hl.1 rfl (lv_room (Nat.le_of_ble_eq_true rfl)) dX2_reasons_20 ⟨hc, hs⟩) (fun r9 h10 H locs hw hI => ?_)
      obtain ⟨a11, hz, hwa11⟩ := hw; have hla11 := hl; subst hz; have hw := hwa11; have hl := hla11
      refine hv_wcast (ci := 14) hE hI (hts _ q469) rfl hw dX2_reasons_25 (fun hw => ?_)
      refine lv_astore_n (lv' := [(3, .ref a11), (1, .int x1), (2, .ref a6)]) hx hb dX2_reasons_28 rfl hl (by decide) rfl (fun ls hl => ?_)
      refine lv_iload_n hx hb dX2_reasons_29 rfl (lv_at hl 1 rfl) ?_
      refine lv_aload_n hx hb dX2_reasons_30 rfl (lv_at hl 0 rfl) ?_
      refine hv_wgetqN hE hI in_X10 (ci := 14) rfl 7 (by decide) (hE.2.2.2.2.1.F 30 rfl) (fun _ hx => hx) hw dX2_reasons_31 (fun r12 hw => ?_)
      obtain ⟨a13, hz, hwa13⟩ := hw; have hla13 := hl; subst hz; have hw := hwa13; have hl := hla13
      obtain ⟨⟨fs, hre⟩, hw⟩ := hw
      refine hv_rci hI (va_runV (As := []) (b := a13) (rest := [.int x1]) hE.1 (snd_J2_size l G _ h10 a13 _ hw) (cwV 0 hts (lw_V q470 q333 q334 q102 q335) rfl rfl rfl (by decide +kernel) ⟨Nat.le_of_ble_eq_true rfl, Nat.le_of_ble_eq_true rfl⟩) (hv_preV hE hI (ci := 4) rfl hre) rfl rfl hl.1 rfl (lv_room (Nat.le_of_ble_eq_true rfl)) dX2_reasons_34 ⟨hc, hs⟩) (fun r14 h15 H locs hw hI => ?_)
      refine lv_iadd hx hb dX2_reasons_37 ?_
      refine lv_istore_n (lv' := [(1, .int (x1 + r14)), (3, .ref a11), (2, .ref a6)]) hx hb dX2_reasons_38 rfl hl (by decide) rfl (fun ls hl => ?_)
      refine lv_goto (tgt := 10) hx hb dX2_reasons_39 (by decide) ?_
      exact ih h15 nc nk (x1 + r14) (some a6) hw hc hs _ _ _ hI (lv_sub hl [0, 2] rfl)
def wp_X2_reasons (G : GG) (mc : Nat) (ms : Nat) (h : HH) (a0 : Nat) (Q : Int32 → HH → Prop) : Prop := w_getq h a0 2 2 (fun r1 => w_nn r1 (fun a2 => (∃ mc3 ms3, 0 + mc3 ≤ mc ∧ 0 + ms3 ≤ ms ∧ w_is h a2 4 (wp_J2_iterator G mc3 ms3 h a2 (fun r4 h5 => (∃ n10, wp_X2_reasons_L10 G mc ms a0 Q n10 h5 (0 + mc3) (0 + ms3) (0 : Int32) r4))))))
set_option maxHeartbeats 4000000 in
theorem snd_X2_reasons (l : Launch) (G : GG) (sz : Nat) (mc : Nat) (ms : Nat) (h : HH) (a0 : Nat) (Q : Int32 → HH → Prop) (hw : wp_X2_reasons G mc ms h a0 Q) : Met l yX2_reasons (ws_ yX2_reasons cX2_reasons 4 (some FieldType.int)) (rm_X2_reasons mc ms) (hv_Pc G h sz [.ref a0]) (hv_Qi G h sz Q) mc ms (hv_A h sz) := by
  refine Met.ofW (cc := cX2_reasons) (maxL := 4) (ret := (some FieldType.int)) (by decide) rfl ?_
  intro p e s m args below meth c s₁ B hml hv
  obtain ⟨rfl, rfl, hE, hI⟩ := hv_open B hml hv
  have hE : hv_E p s m ([.ref a0] : List Value).toArray meth c cX2_reasons 4 (some FieldType.int) RX2 G h := hE
  obtain ⟨⟨hx, hb, hml, hown, hts⟩, hr, hlocks, hXX⟩ := id hE
  have hl := lv_entry ([.ref a0] : List Value) (n := 4) (Nat.le_of_ble_eq_true rfl)
  rw [lg_entry_eq]
  generalize (lg_sl ([.ref a0] : List Value) ++ List.replicate (4 - (lg_sl ([.ref a0] : List Value)).length) Slot.unset).toArray = ls at hl ⊢
  have hl : lv_has ls 4 [(0, .ref a0)] := hl
  have hc : 0 ≤ mc := Nat.zero_le _
  have hs : 0 ≤ ms := Nat.zero_le _
  unfold wp_X2_reasons at hw
  refine lv_iconst (v := 0) hx hb dX2_reasons_0 (by decide) ?_
  refine lv_istore_n (lv' := [(1, .int (0 : Int32)), (0, .ref a0)]) hx hb dX2_reasons_1 rfl hl (by decide) rfl (fun ls hl => ?_)
  refine lv_aload_n hx hb dX2_reasons_2 rfl (lv_at hl 1 rfl) ?_
  refine hv_wgetq hE hI in_X2 (ci := 2) rfl 2 (by decide) (hts _ q222) (fun _ hx => hx) hw dX2_reasons_3 (fun r1 hw => ?_)
  obtain ⟨a2, hz, hwa2⟩ := hw; have hla2 := hl; subst hz; have hw := hwa2; have hl := hla2
  obtain ⟨mc3, ms3, hc, hs, hw⟩ := hw
  obtain ⟨⟨fs, hre⟩, hw⟩ := hw
  refine hv_rcq hI (va_runV (As := []) (b := a2) (rest := []) hE.1 (snd_J2_iterator l G _ mc3 ms3 h a2 _ hw) (cwV 0 hts (lw_V q351 q352 q353 q102 q354) rfl rfl rfl (by decide +kernel) ⟨Nat.le_of_ble_eq_true rfl, Nat.le_of_ble_eq_true rfl⟩) (hv_preV hE hI (ci := 4) rfl hre) rfl rfl hl.1 rfl (lv_room (Nat.le_of_ble_eq_true rfl)) dX2_reasons_6 ⟨hc, hs⟩) (fun r4 h5 H locs hw hI => ?_)
  refine lv_astore_nq (lv' := [(2, va_rf r4), (1, .int (0 : Int32)), (0, .ref a0)]) hx hb dX2_reasons_9 rfl hl (by decide) rfl (fun ls hl => ?_)
  obtain ⟨n10, hw⟩ := hw
  exact snd_X2_reasons_L10 G mc ms a0 Q hE n10 h5 (0 + mc3) (0 + ms3) (0 : Int32) r4 hw hc hs _ _ _ hI (lv_sub hl [1, 0] rfl)

/-- MatchmakerRules.account(I)I -/
abbrev rm_X1_account (mc ms : Nat) : Room := { frames := 8, cells := mc, slots := ms, locals := 183 }
def wp_X1_account (G : GG) (mc : Nat) (ms : Nat) (h : HH) (a0 : Nat) (x1 : Int32) (Q : Int32 → HH → Prop) (X : String → Nat → HH → Prop) : Prop := ((x1 = (0 : Int32) → w_getq h a0 1 0 (fun r1 => w_nn r1 (fun a2 => w_getq h a2 2 2 (fun r3 => w_nn r3 (fun a4 => w_is h a4 4 (wp_J2_size G h a4 (fun r5 h6 => Q r5 h6))))))) ∧ (¬ x1 = (0 : Int32) → ((x1 = (1 : Int32) → w_getq h a0 1 0 (fun r7 => w_nn r7 (fun a8 => w_geti h a8 2 3 (fun r9 => Q r9 h)))) ∧ (¬ x1 = (1 : Int32) → ((x1 = (2 : Int32) → w_getq h a0 1 0 (fun r10 => w_nn r10 (fun a11 => (∃ mc12 ms12, 0 + mc12 ≤ mc ∧ 0 + ms12 ≤ ms ∧ w_is h a11 2 (wp_X2_told_2 G mc12 ms12 h a11 (fun r13 h14 => Q r13 h14)))))) ∧ (¬ x1 = (2 : Int32) → ((x1 = (3 : Int32) → w_getq h a0 1 0 (fun r15 => w_nn r15 (fun a16 => w_getq h a16 2 1 (fun r17 => w_nn r17 (fun a18 => w_is h a18 4 (wp_J2_size G h a18 (fun r19 h20 => Q r19 h20))))))) ∧ (¬ x1 = (3 : Int32) → ((x1 = (4 : Int32) → w_getq h a0 1 0 (fun r21 => w_nn r21 (fun a22 => w_geti h a22 2 5 (fun r23 => Q r23 h)))) ∧ (¬ x1 = (4 : Int32) → ((x1 = (5 : Int32) → w_getq h a0 1 0 (fun r24 => w_nn r24 (fun a25 => (∃ mc26 ms26, 0 + mc26 ≤ mc ∧ 0 + ms26 ≤ ms ∧ w_is h a25 2 (wp_X2_due G mc26 ms26 h a25 (fun r27 h28 => Q r27 h28)))))) ∧ (¬ x1 = (5 : Int32) → ((x1 = (6 : Int32) → w_getq h a0 1 0 (fun r29 => w_nn r29 (fun a30 => (∃ mc31 ms31, 0 + mc31 ≤ mc ∧ 0 + ms31 ≤ ms ∧ w_is h a30 2 (wp_X2_reasons G mc31 ms31 h a30 (fun r32 h33 => Q r32 h33)))))) ∧ (¬ x1 = (6 : Int32) → ((x1 = (7 : Int32) → w_getq h a0 1 0 (fun r34 => w_nn r34 (fun a35 => w_geti h a35 2 4 (fun r36 => Q r36 h)))) ∧ (¬ x1 = (7 : Int32) → ((x1 = (8 : Int32) → w_getq h a0 1 0 (fun r37 => w_nn r37 (fun a38 => (∃ mc39 ms39, 0 + mc39 ≤ mc ∧ 0 + ms39 ≤ ms ∧ w_is h a38 2 (wp_X2_greatestDepth G mc39 ms39 h a38 (fun r40 h41 => Q r40 h41)))))) ∧ (¬ x1 = (8 : Int32) → ((x1 = (9 : Int32) → w_getq h a0 1 0 (fun r42 => w_nn r42 (fun a43 => w_geti h a43 2 6 (fun r44 => Q r44 h)))) ∧ (¬ x1 = (9 : Int32) → ((x1 = (10 : Int32) → w_getq h a0 1 4 (fun r45 => w_nn r45 (fun a46 => w_is h a46 6 (wp_J5_length G h a46 (fun r47 h48 => Q r47 h48))))) ∧ (¬ x1 = (10 : Int32) → ((x1 = (11 : Int32) → w_getq h a0 1 1 (fun r49 => w_nn r49 (fun a50 => w_is h a50 5 (wp_J3_size G h a50 (fun r51 h52 => Q r51 h52))))) ∧ (¬ x1 = (11 : Int32) → (0 + 1 ≤ mc ∧ 0 + 6 ≤ ms ∧ ∀ q53, h q53 = none → X "java/lang/IllegalArgumentException" q53 h)))))))))))))))))))))))))
set_option maxHeartbeats 4000000 in
theorem snd_X1_account (l : Launch) (hl0 : l.stackTraces = false) (G : GG) (sz : Nat) (mc : Nat) (ms : Nat) (h : HH) (a0 : Nat) (x1 : Int32) (Q : Int32 → HH → Prop) (X : String → Nat → HH → Prop) (hw : wp_X1_account G mc ms h a0 x1 Q X) : vx_Met l yX1_account (ws_ yX1_account cX1_account 2 (some FieldType.int)) (rm_X1_account mc ms) (hv_Pc G h sz [.ref a0, .int x1]) (hv_Qi G h sz Q) (hv_XC G h sz X) mc ms (hv_A h sz) := by
  refine vx_ofW (cc := cX1_account) (maxL := 2) (ret := (some FieldType.int)) (by decide) rfl ?_
  intro p e s m args below meth c s₁ B hml ht hv
  obtain ⟨rfl, rfl, hE, hI⟩ := hv_open B hml hv
  have hE : hv_E p s m ([.ref a0, .int x1] : List Value).toArray meth c cX1_account 2 (some FieldType.int) RX1 G h := hE
  obtain ⟨⟨hx, hb, hml, hown, hts⟩, hr, hlocks, hXX⟩ := id hE
  have hl := lv_entry ([.ref a0, .int x1] : List Value) (n := 2) (Nat.le_of_ble_eq_true rfl)
  rw [lg_entry_eq]
  generalize (lg_sl ([.ref a0, .int x1] : List Value) ++ List.replicate (2 - (lg_sl ([.ref a0, .int x1] : List Value)).length) Slot.unset).toArray = ls at hl ⊢
  have hl : lv_has ls 2 [(0, .ref a0), (1, .int x1)] := hl
  have hc : 0 ≤ mc := Nat.zero_le _
  have hs : 0 ≤ ms := Nat.zero_le _
  unfold wp_X1_account at hw
  refine lv_iload_n hx hb dX1_account_0 rfl (lv_at hl 1 rfl) ?_
  by_cases s1_0 : x1 = (0 : Int32)
  · have hw := hw.1 s1_0
    refine lv_tableIn (tgt := 64) (off := 63) hx hb dX1_account_1 (by rw [s1_0]; decide) (by rw [s1_0]; decide) (by rw [s1_0]; decide) (by decide) ?_
    refine lv_aload_n hx hb dX1_account_64 rfl (lv_at hl 0 rfl) ?_
    refine hv_wgetq hE hI in_X1 (ci := 1) rfl 0 (by decide) (hts _ q300) (fun _ hx => hx) hw dX1_account_65 (fun r1 hw => ?_)
    obtain ⟨a2, hz, hwa2⟩ := hw; have hla2 := hl; subst hz; have hw := hwa2; have hl := hla2
    refine hv_wgetqN hE hI in_X2 (ci := 2) rfl 2 (by decide) (hE.2.2.2.2.1.F 1 rfl) (fun _ hx => hx) hw dX1_account_68 (fun r3 hw => ?_)
    obtain ⟨a4, hz, hwa4⟩ := hw; have hla4 := hl; subst hz; have hw := hwa4; have hl := hla4
    obtain ⟨⟨fs, hre⟩, hw⟩ := hw
    refine hv_rci hI (va_runV (As := []) (b := a4) (rest := []) hE.1 (snd_J2_size l G _ h a4 _ hw) (cwV 0 hts (lw_V q332 q333 q334 q102 q335) rfl rfl rfl (by decide +kernel) ⟨Nat.le_of_ble_eq_true rfl, Nat.le_of_ble_eq_true rfl⟩) (hv_preV hE hI (ci := 4) rfl hre) rfl rfl hl.1 rfl (lv_room (Nat.le_of_ble_eq_true rfl)) dX1_account_71 ⟨hc, hs⟩) (fun r5 h6 H locs hw hI => ?_)
    exact vx_ret (hv_iret hE hI hc hs hw dX1_account_74)
  · have hw := hw.2 s1_0
    by_cases s1_1 : x1 = (1 : Int32)
    · have hw := hw.1 s1_1
      refine lv_tableIn (tgt := 75) (off := 74) hx hb dX1_account_1 (by rw [s1_1]; decide) (by rw [s1_1]; decide) (by rw [s1_1]; decide) (by decide) ?_
      refine lv_aload_n hx hb dX1_account_75 rfl (lv_at hl 0 rfl) ?_
      refine hv_wgetq hE hI in_X1 (ci := 1) rfl 0 (by decide) (hts _ q300) (fun _ hx => hx) hw dX1_account_76 (fun r7 hw => ?_)
      obtain ⟨a8, hz, hwa8⟩ := hw; have hla8 := hl; subst hz; have hw := hwa8; have hl := hla8
      refine hv_wgetiN hE hI in_X2 (ci := 2) rfl 3 (by decide) (hE.2.2.2.2.1.F 2 rfl) (fun _ hx => hx) hw dX1_account_79 (fun r9 hw => ?_)
      exact vx_ret (hv_iret hE hI hc hs hw dX1_account_82)
    · have hw := hw.2 s1_1
      by_cases s1_2 : x1 = (2 : Int32)
      · have hw := hw.1 s1_2
        refine lv_tableIn (tgt := 83) (off := 82) hx hb dX1_account_1 (by rw [s1_2]; decide) (by rw [s1_2]; decide) (by rw [s1_2]; decide) (by decide) ?_
        refine lv_aload_n hx hb dX1_account_83 rfl (lv_at hl 0 rfl) ?_
        refine hv_wgetq hE hI in_X1 (ci := 1) rfl 0 (by decide) (hts _ q300) (fun _ hx => hx) hw dX1_account_84 (fun r10 hw => ?_)
        obtain ⟨a11, hz, hwa11⟩ := hw; have hla11 := hl; subst hz; have hw := hwa11; have hl := hla11
        obtain ⟨mc12, ms12, hc, hs, hw⟩ := hw
        obtain ⟨⟨fs, hre⟩, hw⟩ := hw
        refine hv_rci hI (va_runV (As := []) (b := a11) (rest := []) hE.1 (snd_X2_told_2 l G _ mc12 ms12 h a11 _ hw) (cwV 0 hts (lw_V q1791 q1792 q1793 q98 q1794) rfl rfl rfl (by decide +kernel) ⟨Nat.le_of_ble_eq_true rfl, Nat.le_of_ble_eq_true rfl⟩) (hv_preV hE hI (ci := 2) rfl hre) rfl rfl hl.1 rfl (lv_room (Nat.le_of_ble_eq_true rfl)) dX1_account_87 ⟨hc, hs⟩) (fun r13 h14 H locs hw hI => ?_)
        exact vx_ret (hv_iret hE hI hc hs hw dX1_account_90)
      · have hw := hw.2 s1_2
        by_cases s1_3 : x1 = (3 : Int32)
        · have hw := hw.1 s1_3
          refine lv_tableIn (tgt := 91) (off := 90) hx hb dX1_account_1 (by rw [s1_3]; decide) (by rw [s1_3]; decide) (by rw [s1_3]; decide) (by decide) ?_
          refine lv_aload_n hx hb dX1_account_91 rfl (lv_at hl 0 rfl) ?_
          refine hv_wgetq hE hI in_X1 (ci := 1) rfl 0 (by decide) (hts _ q300) (fun _ hx => hx) hw dX1_account_92 (fun r15 hw => ?_)
          obtain ⟨a16, hz, hwa16⟩ := hw; have hla16 := hl; subst hz; have hw := hwa16; have hl := hla16
          refine hv_wgetqN hE hI in_X2 (ci := 2) rfl 1 (by decide) (hE.2.2.2.2.1.F 0 rfl) (fun _ hx => hx) hw dX1_account_95 (fun r17 hw => ?_)
          obtain ⟨a18, hz, hwa18⟩ := hw; have hla18 := hl; subst hz; have hw := hwa18; have hl := hla18
          obtain ⟨⟨fs, hre⟩, hw⟩ := hw
          refine hv_rci hI (va_runV (As := []) (b := a18) (rest := []) hE.1 (snd_J2_size l G _ h a18 _ hw) (cwV 0 hts (lw_V q332 q333 q334 q102 q335) rfl rfl rfl (by decide +kernel) ⟨Nat.le_of_ble_eq_true rfl, Nat.le_of_ble_eq_true rfl⟩) (hv_preV hE hI (ci := 4) rfl hre) rfl rfl hl.1 rfl (lv_room (Nat.le_of_ble_eq_true rfl)) dX1_account_98 ⟨hc, hs⟩) (fun r19 h20 H locs hw hI => ?_)
          exact vx_ret (hv_iret hE hI hc hs hw dX1_account_101)
        · have hw := hw.2 s1_3
          by_cases s1_4 : x1 = (4 : Int32)
          · have hw := hw.1 s1_4
            refine lv_tableIn (tgt := 102) (off := 101) hx hb dX1_account_1 (by rw [s1_4]; decide) (by rw [s1_4]; decide) (by rw [s1_4]; decide) (by decide) ?_
            refine lv_aload_n hx hb dX1_account_102 rfl (lv_at hl 0 rfl) ?_
            refine hv_wgetq hE hI in_X1 (ci := 1) rfl 0 (by decide) (hts _ q300) (fun _ hx => hx) hw dX1_account_103 (fun r21 hw => ?_)
            obtain ⟨a22, hz, hwa22⟩ := hw; have hla22 := hl; subst hz; have hw := hwa22; have hl := hla22
            refine hv_wgetiN hE hI in_X2 (ci := 2) rfl 5 (by decide) (hE.2.2.2.2.1.F 4 rfl) (fun _ hx => hx) hw dX1_account_106 (fun r23 hw => ?_)
            exact vx_ret (hv_iret hE hI hc hs hw dX1_account_109)
          · have hw := hw.2 s1_4
            by_cases s1_5 : x1 = (5 : Int32)
            · have hw := hw.1 s1_5
              refine lv_tableIn (tgt := 110) (off := 109) hx hb dX1_account_1 (by rw [s1_5]; decide) (by rw [s1_5]; decide) (by rw [s1_5]; decide) (by decide) ?_
              refine lv_aload_n hx hb dX1_account_110 rfl (lv_at hl 0 rfl) ?_
              refine hv_wgetq hE hI in_X1 (ci := 1) rfl 0 (by decide) (hts _ q300) (fun _ hx => hx) hw dX1_account_111 (fun r24 hw => ?_)
              obtain ⟨a25, hz, hwa25⟩ := hw; have hla25 := hl; subst hz; have hw := hwa25; have hl := hla25
              obtain ⟨mc26, ms26, hc, hs, hw⟩ := hw
              obtain ⟨⟨fs, hre⟩, hw⟩ := hw
              refine hv_rci hI (va_runV (As := []) (b := a25) (rest := []) hE.1 (snd_X2_due l G _ mc26 ms26 h a25 _ hw) (cwV 0 hts (lw_V q540 q541 q542 q98 q543) rfl rfl rfl (by decide +kernel) ⟨Nat.le_of_ble_eq_true rfl, Nat.le_of_ble_eq_true rfl⟩) (hv_preV hE hI (ci := 2) rfl hre) rfl rfl hl.1 rfl (lv_room (Nat.le_of_ble_eq_true rfl)) dX1_account_114 ⟨hc, hs⟩) (fun r27 h28 H locs hw hI => ?_)
              exact vx_ret (hv_iret hE hI hc hs hw dX1_account_117)
            · have hw := hw.2 s1_5
              by_cases s1_6 : x1 = (6 : Int32)
              · have hw := hw.1 s1_6
                refine lv_tableIn (tgt := 118) (off := 117) hx hb dX1_account_1 (by rw [s1_6]; decide) (by rw [s1_6]; decide) (by rw [s1_6]; decide) (by decide) ?_
                refine lv_aload_n hx hb dX1_account_118 rfl (lv_at hl 0 rfl) ?_
                refine hv_wgetq hE hI in_X1 (ci := 1) rfl 0 (by decide) (hts _ q300) (fun _ hx => hx) hw dX1_account_119 (fun r29 hw => ?_)
                obtain ⟨a30, hz, hwa30⟩ := hw; have hla30 := hl; subst hz; have hw := hwa30; have hl := hla30
                obtain ⟨mc31, ms31, hc, hs, hw⟩ := hw
                obtain ⟨⟨fs, hre⟩, hw⟩ := hw
                refine hv_rci hI (va_runV (As := []) (b := a30) (rest := []) hE.1 (snd_X2_reasons l G _ mc31 ms31 h a30 _ hw) (cwV 0 hts (lw_V q1795 q1796 q1797 q98 q1798) rfl rfl rfl (by decide +kernel) ⟨Nat.le_of_ble_eq_true rfl, Nat.le_of_ble_eq_true rfl⟩) (hv_preV hE hI (ci := 2) rfl hre) rfl rfl hl.1 rfl (lv_room (Nat.le_of_ble_eq_true rfl)) dX1_account_122 ⟨hc, hs⟩) (fun r32 h33 H locs hw hI => ?_)
                exact vx_ret (hv_iret hE hI hc hs hw dX1_account_125)
              · have hw := hw.2 s1_6
                by_cases s1_7 : x1 = (7 : Int32)
                · have hw := hw.1 s1_7
                  refine lv_tableIn (tgt := 126) (off := 125) hx hb dX1_account_1 (by rw [s1_7]; decide) (by rw [s1_7]; decide) (by rw [s1_7]; decide) (by decide) ?_
                  refine lv_aload_n hx hb dX1_account_126 rfl (lv_at hl 0 rfl) ?_
                  refine hv_wgetq hE hI in_X1 (ci := 1) rfl 0 (by decide) (hts _ q300) (fun _ hx => hx) hw dX1_account_127 (fun r34 hw => ?_)
                  obtain ⟨a35, hz, hwa35⟩ := hw; have hla35 := hl; subst hz; have hw := hwa35; have hl := hla35
                  refine hv_wgetiN hE hI in_X2 (ci := 2) rfl 4 (by decide) (hE.2.2.2.2.1.F 3 rfl) (fun _ hx => hx) hw dX1_account_130 (fun r36 hw => ?_)
                  exact vx_ret (hv_iret hE hI hc hs hw dX1_account_133)
                · have hw := hw.2 s1_7
                  by_cases s1_8 : x1 = (8 : Int32)
                  · have hw := hw.1 s1_8
                    refine lv_tableIn (tgt := 134) (off := 133) hx hb dX1_account_1 (by rw [s1_8]; decide) (by rw [s1_8]; decide) (by rw [s1_8]; decide) (by decide) ?_
                    refine lv_aload_n hx hb dX1_account_134 rfl (lv_at hl 0 rfl) ?_
                    refine hv_wgetq hE hI in_X1 (ci := 1) rfl 0 (by decide) (hts _ q300) (fun _ hx => hx) hw dX1_account_135 (fun r37 hw => ?_)
                    obtain ⟨a38, hz, hwa38⟩ := hw; have hla38 := hl; subst hz; have hw := hwa38; have hl := hla38
                    obtain ⟨mc39, ms39, hc, hs, hw⟩ := hw
                    obtain ⟨⟨fs, hre⟩, hw⟩ := hw
                    refine hv_rci hI (va_runV (As := []) (b := a38) (rest := []) hE.1 (snd_X2_greatestDepth l G _ mc39 ms39 h a38 _ hw) (cwV 0 hts (lw_V q1799 q553 q554 q98 q555) rfl rfl rfl (by decide +kernel) ⟨Nat.le_of_ble_eq_true rfl, Nat.le_of_ble_eq_true rfl⟩) (hv_preV hE hI (ci := 2) rfl hre) rfl rfl hl.1 rfl (lv_room (Nat.le_of_ble_eq_true rfl)) dX1_account_138 ⟨hc, hs⟩) (fun r40 h41 H locs hw hI => ?_)
                    exact vx_ret (hv_iret hE hI hc hs hw dX1_account_141)
                  · have hw := hw.2 s1_8
                    by_cases s1_9 : x1 = (9 : Int32)
                    · have hw := hw.1 s1_9
                      refine lv_tableIn (tgt := 142) (off := 141) hx hb dX1_account_1 (by rw [s1_9]; decide) (by rw [s1_9]; decide) (by rw [s1_9]; decide) (by decide) ?_
                      refine lv_aload_n hx hb dX1_account_142 rfl (lv_at hl 0 rfl) ?_
                      refine hv_wgetq hE hI in_X1 (ci := 1) rfl 0 (by decide) (hts _ q300) (fun _ hx => hx) hw dX1_account_143 (fun r42 hw => ?_)
                      obtain ⟨a43, hz, hwa43⟩ := hw; have hla43 := hl; subst hz; have hw := hwa43; have hl := hla43
                      refine hv_wgetiN hE hI in_X2 (ci := 2) rfl 6 (by decide) (hE.2.2.2.2.1.F 5 rfl) (fun _ hx => hx) hw dX1_account_146 (fun r44 hw => ?_)
                      exact vx_ret (hv_iret hE hI hc hs hw dX1_account_149)
                    · have hw := hw.2 s1_9
                      by_cases s1_10 : x1 = (10 : Int32)
                      · have hw := hw.1 s1_10
                        refine lv_tableIn (tgt := 150) (off := 149) hx hb dX1_account_1 (by rw [s1_10]; decide) (by rw [s1_10]; decide) (by rw [s1_10]; decide) (by decide) ?_
                        refine lv_aload_n hx hb dX1_account_150 rfl (lv_at hl 0 rfl) ?_
                        refine hv_wgetq hE hI in_X1 (ci := 1) rfl 4 (by decide) (hts _ q304) (fun _ hx => hx) hw dX1_account_151 (fun r45 hw => ?_)
                        obtain ⟨a46, hz, hwa46⟩ := hw; have hla46 := hl; subst hz; have hw := hwa46; have hl := hla46
                        obtain ⟨⟨fs, hre⟩, hw⟩ := hw
                        refine hv_rci hI (va_runV (As := []) (b := a46) (rest := []) hE.1 (snd_J5_length l G _ h a46 _ hw) (cwV 0 hts (lw_V q1800 q723 q2524 q105 q725) rfl rfl rfl (by decide +kernel) ⟨Nat.le_of_ble_eq_true rfl, Nat.le_of_ble_eq_true rfl⟩) (hv_preV hE hI (ci := 6) rfl hre) rfl rfl hl.1 rfl (lv_room (Nat.le_of_ble_eq_true rfl)) dX1_account_154 ⟨hc, hs⟩) (fun r47 h48 H locs hw hI => ?_)
                        exact vx_ret (hv_iret hE hI hc hs hw dX1_account_157)
                      · have hw := hw.2 s1_10
                        by_cases s1_11 : x1 = (11 : Int32)
                        · have hw := hw.1 s1_11
                          refine lv_tableIn (tgt := 158) (off := 157) hx hb dX1_account_1 (by rw [s1_11]; decide) (by rw [s1_11]; decide) (by rw [s1_11]; decide) (by decide) ?_
                          refine lv_aload_n hx hb dX1_account_158 rfl (lv_at hl 0 rfl) ?_
                          refine hv_wgetq hE hI in_X1 (ci := 1) rfl 1 (by decide) (hts _ q301) (fun _ hx => hx) hw dX1_account_159 (fun r49 hw => ?_)
                          obtain ⟨a50, hz, hwa50⟩ := hw; have hla50 := hl; subst hz; have hw := hwa50; have hl := hla50
                          obtain ⟨⟨fs, hre⟩, hw⟩ := hw
                          refine hv_rci hI (va_runV (As := []) (b := a50) (rest := []) hE.1 (snd_J3_size l G _ h a50 _ hw) (cwV 0 hts (lw_V q1257 q1258 q1259 q103 q1260) rfl rfl rfl (by decide +kernel) ⟨Nat.le_of_ble_eq_true rfl, Nat.le_of_ble_eq_true rfl⟩) (hv_preV hE hI (ci := 5) rfl hre) rfl rfl hl.1 rfl (lv_room (Nat.le_of_ble_eq_true rfl)) dX1_account_162 ⟨hc, hs⟩) (fun r51 h52 H locs hw hI => ?_)
                          exact vx_ret (hv_iret hE hI hc hs hw dX1_account_165)
                        · have hw := hw.2 s1_11
                          have ts1_0 := lv_neT s1_0 (show ((0 : Int32)).toInt = 0 by decide)
                          have ts1_1 := lv_neT s1_1 (show ((1 : Int32)).toInt = 1 by decide)
                          have ts1_2 := lv_neT s1_2 (show ((2 : Int32)).toInt = 2 by decide)
                          have ts1_3 := lv_neT s1_3 (show ((3 : Int32)).toInt = 3 by decide)
                          have ts1_4 := lv_neT s1_4 (show ((4 : Int32)).toInt = 4 by decide)
                          have ts1_5 := lv_neT s1_5 (show ((5 : Int32)).toInt = 5 by decide)
                          have ts1_6 := lv_neT s1_6 (show ((6 : Int32)).toInt = 6 by decide)
                          have ts1_7 := lv_neT s1_7 (show ((7 : Int32)).toInt = 7 by decide)
                          have ts1_8 := lv_neT s1_8 (show ((8 : Int32)).toInt = 8 by decide)
                          have ts1_9 := lv_neT s1_9 (show ((9 : Int32)).toInt = 9 by decide)
                          have ts1_10 := lv_neT s1_10 (show ((10 : Int32)).toInt = 10 by decide)
                          have ts1_11 := lv_neT s1_11 (show ((11 : Int32)).toInt = 11 by decide)
                          refine lv_tableOut (tgt := 166) hx hb dX1_account_1 (by omega) (by decide) ?_
                          obtain ⟨hc, hs, hw⟩ := hw
                          exact hx_throw0 (names := ["java/lang/RuntimeException", "java/lang/Exception"]) (rest := []) hl0 hE hI (by decide +kernel) (by decide +kernel) (hts _ q869) (hts _ q120) (ha_MatchmakerRules_3_IllegalArgumentException hE) (by decide +kernel) hl.1 dX1_account_166 dX1_account_169 dX1_account_170 dX1_account_173 (fun z hz => (ht z hz).elim) (Nat.le_of_ble_eq_true rfl) (Nat.le_of_ble_eq_true rfl) (Nat.le_refl _) (Nat.le_refl _) hc hs hw

/-- java/util/ArrayList.isEmpty()Z -/
abbrev rm_J2_isEmpty : Room := { frames := 1, cells := 0, slots := 0, locals := 12 }
def wp_J2_isEmpty (G : GG) (h : HH) (a0 : Nat) (Q : Int32 → HH → Prop) : Prop := w_geti h a0 4 2 (fun r1 => ((¬ r1 = 0 → Q (0 : Int32) h) ∧ (r1 = 0 → Q (1 : Int32) h)))
set_option maxHeartbeats 4000000 in
theorem snd_J2_isEmpty (l : Launch) (G : GG) (sz : Nat) (h : HH) (a0 : Nat) (Q : Int32 → HH → Prop) (hw : wp_J2_isEmpty G h a0 Q) : Met l yJ2_isEmpty (ws_ yJ2_isEmpty cJ2_isEmpty 1 (some FieldType.boolean)) rm_J2_isEmpty (hv_Pc G h sz [.ref a0]) (hv_Qi G h sz Q) 0 0 (hv_A h sz) := by
  refine Met.ofW (cc := cJ2_isEmpty) (maxL := 1) (ret := (some FieldType.boolean)) (by decide) rfl ?_
  intro p e s m args below meth c s₁ B hml hv
  obtain ⟨rfl, rfl, hE, hI⟩ := hv_open B hml hv
  have hE : hv_E p s m ([.ref a0] : List Value).toArray meth c cJ2_isEmpty 1 (some FieldType.boolean) RJ2 G h := hE
  obtain ⟨⟨hx, hb, hml, hown, hts⟩, hr, hlocks, hXX⟩ := id hE
  have hl := lv_entry ([.ref a0] : List Value) (n := 1) (Nat.le_of_ble_eq_true rfl)
  rw [lg_entry_eq]
  generalize (lg_sl ([.ref a0] : List Value) ++ List.replicate (1 - (lg_sl ([.ref a0] : List Value)).length) Slot.unset).toArray = ls at hl ⊢
  have hl : lv_has ls 1 [(0, .ref a0)] := hl
  unfold wp_J2_isEmpty at hw
  refine lv_aload_n hx hb dJ2_isEmpty_0 rfl (lv_at hl 0 rfl) ?_
  refine hv_wgeti hE hI in_J2 (ci := 4) rfl 2 (by decide) (hts _ q206) (fun _ hx => hx) hw dJ2_isEmpty_1 (fun r1 hw => ?_)
  refine lv_if_ne (tgt := 11) hx hb dJ2_isEmpty_4 (by decide) (fun c_4 => ?_) (fun c_4 => ?_)
  · have hw := hw.1 c_4
    refine lv_iconst (v := 0) hx hb dJ2_isEmpty_11 (by decide) ?_
    exact hv_zret hE hI (Nat.le_refl _) (Nat.le_refl _) rfl hw dJ2_isEmpty_12
  · have hw := hw.2 c_4
    refine lv_iconst (v := 1) hx hb dJ2_isEmpty_7 (by decide) ?_
    refine lv_goto (tgt := 12) hx hb dJ2_isEmpty_8 (by decide) ?_
    exact hv_zret hE hI (Nat.le_refl _) (Nat.le_refl _) rfl hw dJ2_isEmpty_12

theorem ha_MatchmakerRules_18_ArithmeticException {p : Program} {s : State} {m : MethodId} {args : Array Value} {meth : Method} {c : Code} {cc : ByteArray} {nL : Nat} {ret : Option FieldType} {own : String} {G : GG} {h0 : HH} (hE : hv_E p s m args meth c cc nL ret own G h0) : ∀ w ∈ vx_at0 "MatchmakerRules" 18 "java/lang/ArithmeticException" ["java/lang/RuntimeException", "java/lang/Exception"], w.before args s = true := by
  obtain ⟨⟨-, -, -, -, hts⟩, -, -, -, hX, -⟩ := hE
  have h1 : ∀ w ∈ Bundle.ownAtoms0 "MatchmakerRules" 18 "java/lang/ArithmeticException" ["java/lang/RuntimeException", "java/lang/Exception"], vx_no w = true → w.before args s = true := (List.forall_mem_cons.mpr ⟨(fun _ => hts _ q114), (List.forall_mem_cons.mpr ⟨(fun _ => hts _ q419), (List.forall_mem_cons.mpr ⟨(fun _ => hts _ q428), (List.forall_mem_cons.mpr ⟨(fun _ => hts _ q440), (List.forall_mem_cons.mpr ⟨(fun _ => hts _ q443), (List.forall_mem_cons.mpr ⟨(fun _ => hts _ q445), (List.forall_mem_cons.mpr ⟨(fun _ => hts _ q420), (List.forall_mem_cons.mpr ⟨(fun _ => hts _ q421), (List.forall_mem_cons.mpr ⟨(fun _ => hts _ q146), (List.forall_mem_cons.mpr ⟨(fun _ => hts _ q147), (List.forall_mem_cons.mpr ⟨(fun _ => hts _ q422), (List.forall_mem_cons.mpr ⟨(fun _ => hts _ q427), (List.forall_mem_cons.mpr ⟨(fun _ => hts _ q441), (List.forall_mem_cons.mpr ⟨(fun _ => hts _ q458), (List.forall_mem_cons.mpr ⟨(fun _ => hts _ q409), (List.forall_mem_cons.mpr ⟨(fun _ => hts _ q459), (List.forall_mem_cons.mpr ⟨(fun _ => hts _ q411), (List.forall_mem_cons.mpr ⟨(fun _ => hts _ q460), (List.forall_mem_cons.mpr ⟨(fun _ => hts _ q413), (List.forall_mem_cons.mpr ⟨(fun _ => hts _ q423), (List.forall_mem_cons.mpr ⟨(fun hz => absurd hz (by decide +kernel)), (List.forall_mem_cons.mpr ⟨(fun _ => hts _ q425), (List.forall_mem_cons.mpr ⟨(fun hz => absurd hz (by decide +kernel)), (List.forall_mem_cons.mpr ⟨(fun _ => hts _ q415), (List.forall_mem_cons.mpr ⟨(fun _ => hts _ q1831), (List.forall_mem_cons.mpr ⟨(fun _ => hts _ q1832), (List.forall_mem_cons.mpr ⟨(fun _ => hts _ q1833), (List.forall_mem_cons.mpr ⟨(fun _ => hts _ q450), (List.forall_mem_cons.mpr ⟨(fun _ => (hX.D 4 rfl).use rfl), (List.forall_mem_cons.mpr ⟨(fun _ => hts _ q450), (List.forall_mem_cons.mpr ⟨(fun _ => hts _ q451), (List.forall_mem_cons.mpr ⟨(fun _ => hts _ q452), (List.forall_mem_cons.mpr ⟨(fun _ => hts _ q453), (List.forall_mem_cons.mpr ⟨(fun _ => (hX.D 2 rfl).use rfl), (List.forall_mem_cons.mpr ⟨(fun _ => hts _ q453), (List.forall_mem_cons.mpr ⟨(fun _ => hts _ q454), (List.forall_mem_cons.mpr ⟨(fun _ => hts _ q455), (List.forall_mem_cons.mpr ⟨(fun _ => hts _ q420), (List.forall_mem_cons.mpr ⟨(fun _ => (hX.D 0 rfl).use rfl), (List.forall_mem_cons.mpr ⟨(fun _ => hts _ q1830), (List.forall_mem_cons.mpr ⟨(fun _ => hts _ q1805), (List.forall_mem_cons.mpr ⟨(fun _ => (hX.C 38 rfl).use rfl), (List.forall_mem_cons.mpr ⟨(fun _ => hts _ q1817), (List.forall_mem_cons.mpr ⟨(fun _ => hts _ q432), (List.forall_mem_cons.mpr ⟨(fun _ => hts _ q1811), (List.forall_mem_cons.mpr ⟨(fun _ => hts _ q1812), (List.forall_mem_cons.mpr ⟨(fun _ => hts _ q1814), (List.forall_mem_cons.mpr ⟨(fun _ => hts _ q1810), (List.forall_mem_cons.mpr ⟨(fun hz => absurd hz (by decide +kernel)), (List.forall_mem_cons.mpr ⟨(fun hz => absurd hz (by decide +kernel)), (List.forall_mem_cons.mpr ⟨(fun _ => hts _ q418), (List.forall_mem_cons.mpr ⟨(fun _ => hts _ q417), (List.forall_mem_cons.mpr ⟨(fun _ => hts _ q1809), (fun _ hz => absurd hz List.not_mem_nil)⟩)⟩)⟩)⟩)⟩)⟩)⟩)⟩)⟩)⟩)⟩)⟩)⟩)⟩)⟩)⟩)⟩)⟩)⟩)⟩)⟩)⟩)⟩)⟩)⟩)⟩)⟩)⟩)⟩)⟩)⟩)⟩)⟩)⟩)⟩)⟩)⟩)⟩)⟩)⟩)⟩)⟩)⟩)⟩)⟩)⟩)⟩)⟩)⟩)⟩)⟩)⟩)⟩)
  exact fun w hw => h1 w (List.mem_filter.mp hw).1 (List.mem_filter.mp hw).2

/-- MatchmakerRules.checkNumbers(Z)V -/
abbrev rm_X1_checkNumbers (mc ms : Nat) : Room := { frames := 6, cells := mc, slots := ms, locals := 89 }
def wp_X1_checkNumbers (G : GG) (mc : Nat) (ms : Nat) (h : HH) (x0 : Int32) (Q : HH → Prop) (X : String → Nat → HH → Prop) : Prop := ((¬ x0 = 0 → Q h) ∧ (x0 = 0 → (0 + 1 ≤ mc ∧ 0 + 6 ≤ ms ∧ ∀ q1, h q1 = none → X "java/lang/ArithmeticException" q1 h)))
set_option maxHeartbeats 4000000 in
theorem snd_X1_checkNumbers (l : Launch) (hl0 : l.stackTraces = false) (G : GG) (sz : Nat) (mc : Nat) (ms : Nat) (h : HH) (x0 : Int32) (Q : HH → Prop) (X : String → Nat → HH → Prop) (hw : wp_X1_checkNumbers G mc ms h x0 Q X) : vx_Met l yX1_checkNumbers (ws_ yX1_checkNumbers cX1_checkNumbers 1 (none : Option FieldType)) (rm_X1_checkNumbers mc ms) (hv_Pc G h sz [.int x0]) (hv_Qv G h sz Q) (hv_XC G h sz X) mc ms (hv_A h sz) := by
  refine vx_ofW (cc := cX1_checkNumbers) (maxL := 1) (ret := (none : Option FieldType)) (by decide) rfl ?_
  intro p e s m args below meth c s₁ B hml ht hv
  obtain ⟨rfl, rfl, hE, hI⟩ := hv_open B hml hv
  have hE : hv_E p s m ([.int x0] : List Value).toArray meth c cX1_checkNumbers 1 (none : Option FieldType) RX1 G h := hE
  obtain ⟨⟨hx, hb, hml, hown, hts⟩, hr, hlocks, hXX⟩ := id hE
  have hl := lv_entry ([.int x0] : List Value) (n := 1) (Nat.le_of_ble_eq_true rfl)
  rw [lg_entry_eq]
  generalize (lg_sl ([.int x0] : List Value) ++ List.replicate (1 - (lg_sl ([.int x0] : List Value)).length) Slot.unset).toArray = ls at hl ⊢
  have hl : lv_has ls 1 [(0, .int x0)] := hl
  have hc : 0 ≤ mc := Nat.zero_le _
  have hs : 0 ≤ ms := Nat.zero_le _
  unfold wp_X1_checkNumbers at hw
  refine lv_iload_n hx hb dX1_checkNumbers_0 rfl (lv_at hl 0 rfl) ?_
  refine lv_if_ne (tgt := 12) hx hb dX1_checkNumbers_1 (by decide) (fun c_1 => ?_) (fun c_1 => ?_)
  · have hw := hw.1 c_1
    exact vx_ret (hv_vret hE hI hc hs hw dX1_checkNumbers_12)
  · have hw := hw.2 c_1
    obtain ⟨hc, hs, hw⟩ := hw
    exact hx_throw0 (names := ["java/lang/RuntimeException", "java/lang/Exception"]) (rest := []) hl0 hE hI (by decide +kernel) (by decide +kernel) (hts _ q1829) (hts _ q138) (ha_MatchmakerRules_18_ArithmeticException hE) (by decide +kernel) hl.1 dX1_checkNumbers_4 dX1_checkNumbers_7 dX1_checkNumbers_8 dX1_checkNumbers_11 (fun z hz => (ht z hz).elim) (Nat.le_of_ble_eq_true rfl) (Nat.le_of_ble_eq_true rfl) (Nat.le_refl _) (Nat.le_refl _) hc hs hw

/-- MatchmakerRules.meanTrust()D -/
abbrev rm_X1_meanTrust (mc ms : Nat) : Room := { frames := 7, cells := mc, slots := ms, locals := 109 }
def wp_X1_meanTrust_L34 (G : GG) (mc : Nat) (ms : Nat) (a0 : Nat) (Q : UInt64 → HH → Prop) (X : String → Nat → HH → Prop) : Nat → (HH) → (Nat) → (Nat) → (UInt64) → (Option Nat) → Prop
  | 0, _, _, _, _, _ => False
  | n + 1, h, nc, nk, x1, x3 => w_nn x3 (fun a18 => w_is h a18 13 (wp_J15_hasNext G h a18 (fun r19 h20 => ((r19 = 0 → w_getq h20 a0 1 0 (fun r21 => w_nn r21 (fun a22 => w_getq h20 a22 2 2 (fun r23 => w_nn r23 (fun a24 => w_is h20 a24 4 (wp_J2_size G h20 a24 (fun r25 h26 => (vf_n64 (FP.ddiv x1 (FP.i2d r25)) ∧ Q (FP.ddiv x1 (FP.i2d r25)) h26)))))))) ∧ (¬ r19 = 0 → w_is h20 a18 13 (wp_J15_next G h20 a18 (fun r27 h28 => w_nn r27 (fun a29 => w_cast h28 a29 14 (w_getf h28 a29 14 4 (fun r30 => (vf_n64 (FP.f2d r30) ∧ (vf_n64 (FP.dadd x1 (FP.f2d r30)) ∧ wp_X1_meanTrust_L34 G mc ms a0 Q X n h28 nc nk (FP.dadd x1 (FP.f2d r30)) (some a18)))))))))))))
set_option maxHeartbeats 4000000 in
theorem snd_X1_meanTrust_L34 {p : Program} {l : Launch} {e : Env} {s : State} {m : MethodId} {args : Array Value} {below : List Frame} {meth : Method} {c : Code} {h0 : HH} (G : GG) (mc : Nat) (ms : Nat) (a0 : Nat) (Q : UInt64 → HH → Prop) (X : String → Nat → HH → Prop) (hl0 : l.stackTraces = false) (ht : ∀ x ∈ c.exceptionTable.toList, False) (hE : hv_E p s m args meth c cX1_meanTrust 5 (some FieldType.double) RX1 G h0) : ∀ (n : Nat) (h : HH) (nc : Nat) (nk : Nat) (x1 : UInt64) (x3 : Option Nat), wp_X1_meanTrust_L34 G mc ms a0 Q X n h nc nk x1 x3 → nc ≤ mc → nk ≤ ms → ∀ (H : Heap) (locs : List Loc) (ls : Array Slot), hv_I G h0 s.heap h H locs → lv_has ls 5 [(0, .ref a0), (1, .double x1), (3, va_rf x3)] → W p l e (headSpec (ws_ yX1_meanTrust cX1_meanTrust 5 (some FieldType.double)) (rm_X1_meanTrust mc ms)).room s m args below meth c H locs nc nk (vx_MQ below (hv_Qd G h0 s.heap.size Q) (hv_XC G h0 s.heap.size X) args s mc ms (hv_A h0 s.heap.size)) (F0 m 34 ls []) := by
  obtain ⟨⟨hx, hb, hml, hown, hts⟩, hr, hlocks, hXX⟩ := id hE
  intro n
  induction n with
  | zero => intro h nc nk x1 x3 hw; exact hw.elim
  | succ n ih =>
    intro h nc nk x1 x3 hw hc hs H locs ls hI hl
    unfold wp_X1_meanTrust_L34 at hw
    refine lv_aload_nq hx hb dX1_meanTrust_34 rfl (lv_at hl 2 rfl) ?_
    obtain ⟨a18, hz, hwa18⟩ := hw; have hla18 := hl; subst hz; have hw := hwa18; have hl := hla18
    obtain ⟨⟨fs, hre⟩, hw⟩ := hw
    refine hv_rFi hI (va_runF (As := []) (b := a18) (rest := []) (hXX.1.1 13 _ rfl).2 hE.1 (snd_J15_hasNext l G _ h a18 _ hw) (va_cwF 0 hts (lw_F q637 q379 q381 q121 q383) rfl rfl rfl (hv_fw0 hE.2.2.2.2.1) (by decide +kernel) ⟨Nat.le_of_ble_eq_true rfl, Nat.le_of_ble_eq_true rfl⟩) (hv_preV hE hI (ci := 13) rfl hre) rfl rfl hl.1 rfl (lv_room (Nat.le_of_ble_eq_true rfl)) dX1_meanTrust_35 ⟨hc, hs⟩) (fun r19 h20 H locs hw hI => ?_)
    refine lv_if_eq (tgt := 66) hx hb dX1_meanTrust_40 (by decide) (fun c_40 => ?_) (fun c_40 => ?_)
    · have hw := hw.1 c_40
      refine lv_dload_n hx hb dX1_meanTrust_66 rfl (lv_at hl 1 rfl) ?_
      refine lv_aload_n hx hb dX1_meanTrust_67 rfl (lv_at hl 0 rfl) ?_
      refine hv_wgetq hE hI in_X1 (ci := 1) rfl 0 (by decide) (hts _ q300) (fun _ hx => hx) hw dX1_meanTrust_68 (fun r21 hw => ?_)
      obtain ⟨a22, hz, hwa22⟩ := hw; have hla22 := hl; subst hz; have hw := hwa22; have hl := hla22
      refine hv_wgetqN hE hI in_X2 (ci := 2) rfl 2 (by decide) (hE.2.2.2.2.1.F 1 rfl) (fun _ hx => hx) hw dX1_meanTrust_71 (fun r23 hw => ?_)
      obtain ⟨a24, hz, hwa24⟩ := hw; have hla24 := hl; subst hz; have hw := hwa24; have hl := hla24
      obtain ⟨⟨fs, hre⟩, hw⟩ := hw
      refine hv_rci hI (va_runV (As := []) (b := a24) (rest := [.double x1]) hE.1 (snd_J2_size l G _ h20 a24 _ hw) (cwV 0 hts (lw_V q332 q333 q334 q102 q335) rfl rfl rfl (by decide +kernel) ⟨Nat.le_of_ble_eq_true rfl, Nat.le_of_ble_eq_true rfl⟩) (hv_preV hE hI (ci := 4) rfl hre) rfl rfl hl.1 rfl (lv_room (Nat.le_of_ble_eq_true rfl)) dX1_meanTrust_74 ⟨hc, hs⟩) (fun r25 h26 H locs hw hI => ?_)
      refine lv_i2d hx hb dX1_meanTrust_77 ?_
      obtain ⟨hne, hw⟩ := hw
      refine lv_ddiv hx hb dX1_meanTrust_78 hne ?_
      exact vx_ret (hv_dret hE hI hc hs hw dX1_meanTrust_79)
    · have hw := hw.2 c_40
      refine lv_aload_n hx hb dX1_meanTrust_43 rfl (lv_at hl 2 rfl) ?_
      obtain ⟨⟨fs, hre⟩, hw⟩ := hw
      refine hv_rFq hI (va_runF (As := []) (b := a18) (rest := []) (hXX.1.1 13 _ rfl).2 hE.1 (snd_J15_next l G _ h20 a18 _ hw) (va_cwF 0 hts (lw_F q639 q388 q390 q121 q392) rfl rfl rfl (hv_fw1 hE.2.2.2.2.1) (by decide +kernel) ⟨Nat.le_of_ble_eq_true rfl, Nat.le_of_ble_eq_true rfl⟩) (hv_preV hE hI (ci := 13) rfl hre) rfl rfl hl.1 rfl (lv_room (Nat.le_of_ble_eq_true rfl)) dX1_meanTrust_44 ⟨hc, hs⟩) (fun r27 h28 H locs hw hI => ?_)
      obtain ⟨a29, hz, hwa29⟩ := hw; have hla29 := hl; subst hz; have hw := hwa29; have hl := hla29
      refine hv_wcast (ci := 14) hE hI (hts _ q1360) rfl hw dX1_meanTrust_49 (fun hw => ?_)
      refine lv_astore (lv' := [(4, .ref a29), (0, .ref a0), (1, .double x1), (3, .ref a18)]) hx hb dX1_meanTrust_52 hl (by decide) rfl (fun ls hl => ?_)
      refine lv_dload_n hx hb dX1_meanTrust_54 rfl (lv_at hl 2 rfl) ?_
      refine lv_aload hx hb dX1_meanTrust_55 (lv_at hl 0 rfl) ?_
      refine hv_wgetfN hE hI in_X10 (ci := 14) rfl 4 (by decide) (hE.2.2.2.2.1.F 11 rfl) (fun _ hx => hx) hw dX1_meanTrust_57 (fun r30 hw => ?_)
      obtain ⟨hne, hw⟩ := hw
      refine lv_f2d hx hb dX1_meanTrust_60 hne ?_
      obtain ⟨hne, hw⟩ := hw
      refine lv_dadd hx hb dX1_meanTrust_61 hne ?_
      refine lv_dstore_n (lv' := [(1, .double (FP.dadd x1 (FP.f2d r30))), (4, .ref a29), (0, .ref a0), (3, .ref a18)]) hx hb dX1_meanTrust_62 rfl hl (by decide) rfl (fun ls hl => ?_)
      refine lv_goto (tgt := 34) hx hb dX1_meanTrust_63 (by decide) ?_
      exact ih h28 nc nk (FP.dadd x1 (FP.f2d r30)) (some a18) hw hc hs _ _ _ hI (lv_sub hl [2, 0, 3] rfl)
def wp_X1_meanTrust_L18 (G : GG) (mc : Nat) (ms : Nat) (a0 : Nat) (Q : UInt64 → HH → Prop) (X : String → Nat → HH → Prop) (h : HH) (nc : Nat) (nk : Nat) (t0 : Int32) : Prop := (∃ mc7 ms7, nc + mc7 ≤ mc ∧ nk + ms7 ≤ ms ∧ wp_X1_checkNumbers G mc7 ms7 h t0 (fun h8 => w_getq h8 a0 1 0 (fun r11 => w_nn r11 (fun a12 => w_getq h8 a12 2 2 (fun r13 => w_nn r13 (fun a14 => (∃ mc15 ms15, (nc + mc7) + mc15 ≤ mc ∧ (nk + ms7) + ms15 ≤ ms ∧ w_is h8 a14 4 (wp_J2_iterator G mc15 ms15 h8 a14 (fun r16 h17 => (∃ n34, wp_X1_meanTrust_L34 G mc ms a0 Q X n34 h17 ((nc + mc7) + mc15) ((nk + ms7) + ms15) FP.dconst0 r16))))))))) (fun E q9 h10 => X E q9 h10))
set_option maxHeartbeats 4000000 in
theorem snd_X1_meanTrust_L18 {p : Program} {l : Launch} {e : Env} {s : State} {m : MethodId} {args : Array Value} {below : List Frame} {meth : Method} {c : Code} {h0 : HH} (G : GG) (mc : Nat) (ms : Nat) (a0 : Nat) (Q : UInt64 → HH → Prop) (X : String → Nat → HH → Prop) (hl0 : l.stackTraces = false) (ht : ∀ x ∈ c.exceptionTable.toList, False) (hE : hv_E p s m args meth c cX1_meanTrust 5 (some FieldType.double) RX1 G h0) : ∀ (h : HH) (nc : Nat) (nk : Nat) (t0 : Int32), wp_X1_meanTrust_L18 G mc ms a0 Q X h nc nk t0 → nc ≤ mc → nk ≤ ms → ∀ (H : Heap) (locs : List Loc) (ls : Array Slot), hv_I G h0 s.heap h H locs → lv_has ls 5 [(0, .ref a0)] → W p l e (headSpec (ws_ yX1_meanTrust cX1_meanTrust 5 (some FieldType.double)) (rm_X1_meanTrust mc ms)).room s m args below meth c H locs nc nk (vx_MQ below (hv_Qd G h0 s.heap.size Q) (hv_XC G h0 s.heap.size X) args s mc ms (hv_A h0 s.heap.size)) (F0 m 18 ls [.int t0]) := by
  obtain ⟨⟨hx, hb, hml, hown, hts⟩, hr, hlocks, hXX⟩ := id hE
  intro h nc nk t0 hw hc hs H locs ls hI hl
  unfold wp_X1_meanTrust_L18 at hw
  obtain ⟨mc7, ms7, hc, hs, hw⟩ := hw
  refine hx_rcv hI (vx_runS (As := [.int t0]) (rest := []) hE.1 (snd_X1_checkNumbers l hl0 G _ mc7 ms7 h t0 _ _ hw) (va_cwS 1 hts (lw_S q1826 q1827 q97 q1828) rfl rfl rfl (by decide +kernel) ⟨Nat.le_of_ble_eq_true rfl, Nat.le_of_ble_eq_true rfl⟩) (hv_preS hE hI) rfl rfl hl.1 rfl (lv_room (Nat.le_of_ble_eq_true rfl)) dX1_meanTrust_18 ⟨hc, hs⟩) ?_ (fun h8 H locs hw hI => ?_)
  · intro E q9 h10 H locs hw hI hT
    exact hx_out hE hI hT hc hs (fun z hz => (ht z hz).elim) hw
  refine lv_dconst0 hx hb dX1_meanTrust_21 ?_
  refine lv_dstore_n (lv' := [(1, .double FP.dconst0), (0, .ref a0)]) hx hb dX1_meanTrust_22 rfl hl (by decide) rfl (fun ls hl => ?_)
  refine lv_aload_n hx hb dX1_meanTrust_23 rfl (lv_at hl 1 rfl) ?_
  refine hv_wgetq hE hI in_X1 (ci := 1) rfl 0 (by decide) (hts _ q300) (fun _ hx => hx) hw dX1_meanTrust_24 (fun r11 hw => ?_)
  obtain ⟨a12, hz, hwa12⟩ := hw; have hla12 := hl; subst hz; have hw := hwa12; have hl := hla12
  refine hv_wgetqN hE hI in_X2 (ci := 2) rfl 2 (by decide) (hE.2.2.2.2.1.F 1 rfl) (fun _ hx => hx) hw dX1_meanTrust_27 (fun r13 hw => ?_)
  obtain ⟨a14, hz, hwa14⟩ := hw; have hla14 := hl; subst hz; have hw := hwa14; have hl := hla14
  obtain ⟨mc15, ms15, hc, hs, hw⟩ := hw
  obtain ⟨⟨fs, hre⟩, hw⟩ := hw
  refine hv_rcq hI (va_runV (As := []) (b := a14) (rest := []) hE.1 (snd_J2_iterator l G _ mc15 ms15 h8 a14 _ hw) (cwV 0 hts (lw_V q635 q352 q353 q102 q354) rfl rfl rfl (by decide +kernel) ⟨Nat.le_of_ble_eq_true rfl, Nat.le_of_ble_eq_true rfl⟩) (hv_preV hE hI (ci := 4) rfl hre) rfl rfl hl.1 rfl (lv_room (Nat.le_of_ble_eq_true rfl)) dX1_meanTrust_30 ⟨hc, hs⟩) (fun r16 h17 H locs hw hI => ?_)
  refine lv_astore_nq (lv' := [(3, va_rf r16), (1, .double FP.dconst0), (0, .ref a0)]) hx hb dX1_meanTrust_33 rfl hl (by decide) rfl (fun ls hl => ?_)
  obtain ⟨n34, hw⟩ := hw
  exact snd_X1_meanTrust_L34 G mc ms a0 Q X hl0 ht hE n34 h17 ((nc + mc7) + mc15) ((nk + ms7) + ms15) FP.dconst0 r16 hw hc hs _ _ _ hI (lv_sub hl [2, 1, 0] rfl)
def wp_X1_meanTrust (G : GG) (mc : Nat) (ms : Nat) (h : HH) (a0 : Nat) (Q : UInt64 → HH → Prop) (X : String → Nat → HH → Prop) : Prop := w_getq h a0 1 0 (fun r1 => w_nn r1 (fun a2 => w_getq h a2 2 2 (fun r3 => w_nn r3 (fun a4 => w_is h a4 4 (wp_J2_isEmpty G h a4 (fun r5 h6 => ((¬ r5 = 0 → wp_X1_meanTrust_L18 G mc ms a0 Q X h6 0 0 (0 : Int32)) ∧ (r5 = 0 → wp_X1_meanTrust_L18 G mc ms a0 Q X h6 0 0 (1 : Int32)))))))))
set_option maxHeartbeats 4000000 in
theorem snd_X1_meanTrust (l : Launch) (hl0 : l.stackTraces = false) (G : GG) (sz : Nat) (mc : Nat) (ms : Nat) (h : HH) (a0 : Nat) (Q : UInt64 → HH → Prop) (X : String → Nat → HH → Prop) (hw : wp_X1_meanTrust G mc ms h a0 Q X) : vx_Met l yX1_meanTrust (ws_ yX1_meanTrust cX1_meanTrust 5 (some FieldType.double)) (rm_X1_meanTrust mc ms) (hv_Pc G h sz [.ref a0]) (hv_Qd G h sz Q) (hv_XC G h sz X) mc ms (hv_A h sz) := by
  refine vx_ofW (cc := cX1_meanTrust) (maxL := 5) (ret := (some FieldType.double)) (by decide) rfl ?_
  intro p e s m args below meth c s₁ B hml ht hv
  obtain ⟨rfl, rfl, hE, hI⟩ := hv_open B hml hv
  have hE : hv_E p s m ([.ref a0] : List Value).toArray meth c cX1_meanTrust 5 (some FieldType.double) RX1 G h := hE
  obtain ⟨⟨hx, hb, hml, hown, hts⟩, hr, hlocks, hXX⟩ := id hE
  have hl := lv_entry ([.ref a0] : List Value) (n := 5) (Nat.le_of_ble_eq_true rfl)
  rw [lg_entry_eq]
  generalize (lg_sl ([.ref a0] : List Value) ++ List.replicate (5 - (lg_sl ([.ref a0] : List Value)).length) Slot.unset).toArray = ls at hl ⊢
  have hl : lv_has ls 5 [(0, .ref a0)] := hl
  have hc : 0 ≤ mc := Nat.zero_le _
  have hs : 0 ≤ ms := Nat.zero_le _
  unfold wp_X1_meanTrust at hw
  refine lv_aload_n hx hb dX1_meanTrust_0 rfl (lv_at hl 0 rfl) ?_
  refine hv_wgetq hE hI in_X1 (ci := 1) rfl 0 (by decide) (hts _ q300) (fun _ hx => hx) hw dX1_meanTrust_1 (fun r1 hw => ?_)
  obtain ⟨a2, hz, hwa2⟩ := hw; have hla2 := hl; subst hz; have hw := hwa2; have hl := hla2
  refine hv_wgetqN hE hI in_X2 (ci := 2) rfl 2 (by decide) (hE.2.2.2.2.1.F 1 rfl) (fun _ hx => hx) hw dX1_meanTrust_4 (fun r3 hw => ?_)
  obtain ⟨a4, hz, hwa4⟩ := hw; have hla4 := hl; subst hz; have hw := hwa4; have hl := hla4
  obtain ⟨⟨fs, hre⟩, hw⟩ := hw
  refine hv_rci hI (va_runV (As := []) (b := a4) (rest := []) hE.1 (snd_J2_isEmpty l G _ h a4 _ hw) (cwV 0 hts (lw_V q1822 q1823 q1824 q102 q1825) rfl rfl rfl (by decide +kernel) ⟨Nat.le_of_ble_eq_true rfl, Nat.le_of_ble_eq_true rfl⟩) (hv_preV hE hI (ci := 4) rfl hre) rfl rfl hl.1 rfl (lv_room (Nat.le_of_ble_eq_true rfl)) dX1_meanTrust_7 ⟨hc, hs⟩) (fun r5 h6 H locs hw hI => ?_)
  refine lv_if_ne (tgt := 17) hx hb dX1_meanTrust_10 (by decide) (fun c_10 => ?_) (fun c_10 => ?_)
  · have hw := hw.1 c_10
    refine lv_iconst (v := 0) hx hb dX1_meanTrust_17 (by decide) ?_
    exact snd_X1_meanTrust_L18 G mc ms a0 Q X hl0 ht hE h6 0 0 (0 : Int32) hw hc hs _ _ _ hI (lv_sub hl [0] rfl)
  · have hw := hw.2 c_10
    refine lv_iconst (v := 1) hx hb dX1_meanTrust_13 (by decide) ?_
    refine lv_goto (tgt := 18) hx hb dX1_meanTrust_14 (by decide) ?_
    exact snd_X1_meanTrust_L18 G mc ms a0 Q X hl0 ht hE h6 0 0 (1 : Int32) hw hc hs _ _ _ hI (lv_sub hl [0] rfl)
