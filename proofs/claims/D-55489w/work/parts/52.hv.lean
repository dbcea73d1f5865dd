/-! walks over a world (by gen/hvrun.py) -/
set_option maxRecDepth 100000
/-- java/util/ArrayDeque.addLast(Ljava/lang/Object;)V -/
abbrev rm_J3_addLast (mc ms : Nat) : Room := { frames := 4, cells := mc, slots := ms, locals := 136 }
def wp_J3_addLast (G : GG) (mc : Nat) (ms : Nat) (h : HH) (a0 : Nat) (x1 : Option Nat) (Q : HH → Prop) : Prop := ((x1 = none → False) ∧ (∀ a1, x1 = some a1 → w_getq h a0 5 0 (fun r2 => w_geti h a0 5 2 (fun r3 => w_nn r2 (fun a4 => w_qst G h a4 r3 (some a1) (fun h5 => w_geti h5 a0 5 1 (fun r6 => w_geti h5 a0 5 2 (fun r7 => w_len G h5 a4 (fun r8 => wp_J3_inc G h5 r7 r8 (fun r9 h10 => w_put h10 a0 5 2 (.int r9) (fun h11 => ((¬ r6 = r9 → Q h11) ∧ (r6 = r9 → (∃ mc12 ms12, 0 + mc12 ≤ mc ∧ 0 + ms12 ≤ ms ∧ w_is h11 a0 5 (wp_J3_grow G mc12 ms12 h11 a0 (1 : Int32) (fun h13 => Q h13))))))))))))))))
set_option maxHeartbeats 4000000 in
theorem snd_J3_addLast (l : Launch) (G : GG) (sz : Nat) (mc : Nat) (ms : Nat) (h : HH) (a0 : Nat) (x1 : Option Nat) (Q : HH → Prop) (hw : wp_J3_addLast G mc ms h a0 x1 Q) : Met l yJ3_addLast (ws_ yJ3_addLast cJ3_addLast 3 (none : Option FieldType)) (rm_J3_addLast mc ms) (hv_Pc G h sz [.ref a0, va_rf x1]) (hv_Qv G h sz Q) mc ms (hv_A h sz) := by
  refine Met.ofW (cc := cJ3_addLast) (maxL := 3) (ret := (none : Option FieldType)) (by decide) rfl ?_
  intro p e s m args below meth c s₁ B hml hv
  obtain ⟨rfl, rfl, hE, hI⟩ := hv_open B hml hv
  have hE : hv_E p s m ([.ref a0, va_rf x1] : List Value).toArray meth c cJ3_addLast 3 (none : Option FieldType) RJ3 G h := hE
  obtain ⟨⟨hx, hb, hml, hown, hts⟩, hr, hlocks, hXX⟩ := id hE
  have hl := lv_entry ([.ref a0, va_rf x1] : List Value) (n := 3) (by cases x1 <;> exact Nat.le_of_ble_eq_true rfl)
  rw [lg_entry_eq]
  generalize (lg_sl ([.ref a0, va_rf x1] : List Value) ++ List.replicate (3 - (lg_sl ([.ref a0, va_rf x1] : List Value)).length) Slot.unset).toArray = ls at hl ⊢
  have hl : lv_has ls 3 [(0, .ref a0), (1, va_rf x1)] := (by cases x1 <;> exact hl)
  have hc : 0 ≤ mc := Nat.zero_le _
  have hs : 0 ≤ ms := Nat.zero_le _
  unfold wp_J3_addLast at hw
  refine lv_aload_nq hx hb dJ3_addLast_0 rfl (lv_at hl 1 rfl) ?_
  refine lv_ifnonnullq (tgt := 12) hx hb dJ3_addLast_1 (by decide) (fun c_1 => ?_) (fun c_1 => ?_)
  · obtain ⟨a1, hz⟩ := Option.ne_none_iff_exists.mp c_1
    have hwa1 := hw.2 a1 hz.symm; have hla1 := hl; subst hz; have hw := hwa1; have hl := hla1
    refine lv_aload_n hx hb dJ3_addLast_12 rfl (lv_at hl 0 rfl) ?_
    refine hv_wgetq hE hI in_J3 (ci := 5) rfl 0 (by decide) (hts _ q256) (fun _ hx => hx) hw dJ3_addLast_13 (fun r2 hw => ?_)
    refine lv_astore_nq (lv' := [(2, va_rf r2), (0, .ref a0), (1, .ref a1)]) hx hb dJ3_addLast_16 rfl hl (by decide) rfl (fun ls hl => ?_)
    refine lv_aload_nq hx hb dJ3_addLast_17 rfl (lv_at hl 0 rfl) ?_
    refine lv_aload_n hx hb dJ3_addLast_18 rfl (lv_at hl 1 rfl) ?_
    refine hv_wgeti hE hI in_J3 (ci := 5) rfl 2 (by decide) (hts _ q258) (fun _ hx => hx) hw dJ3_addLast_19 (fun r3 hw => ?_)
    refine lv_aload_n hx hb dJ3_addLast_22 rfl (lv_at hl 2 rfl) ?_
    obtain ⟨a4, hz, hwa4⟩ := hw; have hla4 := hl; subst hz; have hw := hwa4; have hl := hla4
    refine hv_wqst (x1 := (some a1)) hE hI hw dJ3_addLast_23 (fun h5 H locs hw hI => ?_)
    refine lv_aload_n hx hb dJ3_addLast_24 rfl (lv_at hl 1 rfl) ?_
    refine hv_wgeti hE hI in_J3 (ci := 5) rfl 1 (by decide) (hts _ q257) (fun _ hx => hx) hw dJ3_addLast_25 (fun r6 hw => ?_)
    refine lv_aload_n hx hb dJ3_addLast_28 rfl (lv_at hl 1 rfl) ?_
    refine lv_aload_n hx hb dJ3_addLast_29 rfl (lv_at hl 1 rfl) ?_
    refine hv_wgeti hE hI in_J3 (ci := 5) rfl 2 (by decide) (hts _ q258) (fun _ hx => hx) hw dJ3_addLast_30 (fun r7 hw => ?_)
    refine lv_aload_n hx hb dJ3_addLast_33 rfl (lv_at hl 0 rfl) ?_
    refine hv_len hE hI hw dJ3_addLast_34 (fun r8 hw => ?_)
    refine hv_rci hI (va_runS (As := [.int r7, .int r8]) (rest := [.ref a0, .int r6]) hE.1 (snd_J3_inc l G _ h5 r7 r8 _ hw) (va_cwS 2 hts (lw_S q1275 q1276 q103 q1277) rfl rfl rfl (by decide +kernel) ⟨Nat.le_of_ble_eq_true rfl, Nat.le_of_ble_eq_true rfl⟩) (hv_preS hE hI) rfl rfl hl.1 rfl (lv_room (Nat.le_of_ble_eq_true rfl)) dJ3_addLast_35 ⟨hc, hs⟩) (fun r9 h10 H locs hw hI => ?_)
    refine lv_dup_x1 hx hb dJ3_addLast_38 rfl rfl ?_
    refine hv_wput (v := .int r9) tyJ3 hE hI in_J3 tyJ3_ok nmJ3 (ci := 5) rfl 2 (by decide) (hts _ q258) (fun _ hx => hx) rfl (ty := .int) rfl rfl rfl hw dJ3_addLast_39 (fun h11 H locs hw hI => ?_)
    refine lv_icmp_ne (tgt := 50) hx hb dJ3_addLast_42 (by decide) (fun c_42 => ?_) (fun c_42 => ?_)
    · have hw := hw.1 c_42
      exact hv_vret hE hI hc hs hw dJ3_addLast_50
    · have hw := hw.2 c_42
      refine lv_aload_n hx hb dJ3_addLast_45 rfl (lv_at hl 1 rfl) ?_
      refine lv_iconst (v := 1) hx hb dJ3_addLast_46 (by decide) ?_
      obtain ⟨mc12, ms12, hc, hs, hw⟩ := hw
      obtain ⟨⟨fs, hre⟩, hw⟩ := hw
      refine hv_rcv hI (va_runV (As := [.int (1 : Int32)]) (b := a0) (rest := []) hE.1 (snd_J3_grow l G _ mc12 ms12 h11 a0 (1 : Int32) _ hw) (cwV 1 hts (lw_V q1284 q1286 qs26 q103 q1287) rfl rfl rfl (by decide +kernel) ⟨Nat.le_of_ble_eq_true rfl, Nat.le_of_ble_eq_true rfl⟩) (hv_preV hE hI (ci := 5) rfl hre) rfl rfl hl.1 rfl (lv_room (Nat.le_of_ble_eq_true rfl)) dJ3_addLast_47 ⟨hc, hs⟩) (fun h13 H locs hw hI => ?_)
      exact hv_vret hE hI hc hs hw dJ3_addLast_50
  · have hwa1 := hw.1 c_1; have hla1 := hl; subst c_1; have hw := hwa1; have hl := hla1
    exact hw.elim

/-- MatchmakerRules.become(LMatchmakerRules$Book;)V -/
abbrev rm_X1_become (mc ms : Nat) : Room := { frames := 5, cells := mc, slots := ms, locals := 158 }
def wp_X1_become_L23 (G : GG) (mc : Nat) (ms : Nat) (a0 : Nat) (Q : HH → Prop) (h : HH) (nc : Nat) (nk : Nat) (x1 : Option Nat) : Prop := w_getq h a0 1 1 (fun r5 => w_getq h a0 1 0 (fun r6 => w_nn r5 (fun a7 => (∃ mc8 ms8, nc + mc8 ≤ mc ∧ nk + ms8 ≤ ms ∧ w_is h a7 5 (wp_J3_addLast G mc8 ms8 h a7 r6 (fun h9 => w_put h9 a0 1 0 (va_rf x1) (fun h10 => Q h10)))))))
set_option maxHeartbeats 4000000 in
theorem snd_X1_become_L23 {p : Program} {l : Launch} {e : Env} {s : State} {m : MethodId} {args : Array Value} {below : List Frame} {meth : Method} {c : Code} {h0 : HH} (G : GG) (mc : Nat) (ms : Nat) (a0 : Nat) (Q : HH → Prop) (hE : hv_E p s m args meth c cX1_become 3 (none : Option FieldType) RX1 G h0) : ∀ (h : HH) (nc : Nat) (nk : Nat) (x1 : Option Nat), wp_X1_become_L23 G mc ms a0 Q h nc nk x1 → nc ≤ mc → nk ≤ ms → ∀ (H : Heap) (locs : List Loc) (ls : Array Slot), hv_I G h0 s.heap h H locs → lv_has ls 3 [(0, .ref a0), (1, va_rf x1)] → W p l e (headSpec (ws_ yX1_become cX1_become 3 (none : Option FieldType)) (rm_X1_become mc ms)).room s m args below meth c H locs nc nk (MQ below (hv_Qv G h0 s.heap.size Q) args s mc ms (hv_A h0 s.heap.size)) (F0 m 23 ls []) := by
  obtain ⟨⟨hx, hb, hml, hown, hts⟩, hr, hlocks, hXX⟩ := id hE
  intro h nc nk x1 hw hc hs H locs ls hI hl
  unfold wp_X1_become_L23 at hw
  refine lv_aload_n hx hb dX1_become_23 rfl (lv_at hl 0 rfl) ?_
  refine hv_wgetq hE hI in_X1 (ci := 1) rfl 1 (by decide) (hts _ q301) (fun _ hx => hx) hw dX1_become_24 (fun r5 hw => ?_)
  refine lv_aload_n hx hb dX1_become_27 rfl (lv_at hl 0 rfl) ?_
  refine hv_wgetq hE hI in_X1 (ci := 1) rfl 0 (by decide) (hts _ q300) (fun _ hx => hx) hw dX1_become_28 (fun r6 hw => ?_)
  obtain ⟨a7, hz, hwa7⟩ := hw; have hla7 := hl; subst hz; have hw := hwa7; have hl := hla7
  obtain ⟨mc8, ms8, hc, hs, hw⟩ := hw
  obtain ⟨⟨fs, hre⟩, hw⟩ := hw
  refine hv_rcv hI (va_runV (As := [va_rf r6]) (b := a7) (rest := []) hE.1 (snd_J3_addLast l G _ mc8 ms8 h a7 r6 _ hw) (cwV 1 hts (lw_V q1280 q1281 q1282 q103 q1283) rfl rfl rfl (by decide +kernel) ⟨Nat.le_of_ble_eq_true rfl, Nat.le_of_ble_eq_true rfl⟩) (hv_preV hE hI (ci := 5) rfl hre) rfl rfl hl.1 rfl (lv_room (Nat.le_of_ble_eq_true rfl)) dX1_become_31 ⟨hc, hs⟩) (fun h9 H locs hw hI => ?_)
  refine lv_aload_n hx hb dX1_become_34 rfl (lv_at hl 0 rfl) ?_
  refine lv_aload_nq hx hb dX1_become_35 rfl (lv_at hl 1 rfl) ?_
  refine hv_wput (v := va_rf x1) tyX1 hE hI in_X1 tyX1_ok nmX1 (ci := 1) rfl 0 (by decide) (hts _ q300) (fun _ hx => hx) rfl (ty := (.object "MatchmakerRules$Book")) rfl (va_rf_nar _ _) (va_rf_fit _ _) hw dX1_become_36 (fun h10 H locs hw hI => ?_)
  exact hv_vret hE hI hc hs hw dX1_become_39
def wp_X1_become (G : GG) (mc : Nat) (ms : Nat) (h : HH) (a0 : Nat) (x1 : Option Nat) (Q : HH → Prop) : Prop := w_getq h a0 1 1 (fun r1 => w_nn r1 (fun a2 => w_is h a2 5 (wp_J3_size G h a2 (fun r3 h4 => ((¬ r3 = (8 : Int32) → wp_X1_become_L23 G mc ms a0 Q h4 0 0 x1) ∧ (r3 = (8 : Int32) → w_getq h4 a0 1 1 (fun r11 => w_nn r11 (fun a12 => w_is h4 a12 5 (wp_J3_removeFirst G h4 a12 (fun r13 h14 => w_nn r13 (fun a15 => w_cast h14 a15 2 (wp_X1_become_L23 G mc ms a0 Q h14 0 0 x1))))))))))))
set_option maxHeartbeats 4000000 in
theorem snd_X1_become (l : Launch) (G : GG) (sz : Nat) (mc : Nat) (ms : Nat) (h : HH) (a0 : Nat) (x1 : Option Nat) (Q : HH → Prop) (hw : wp_X1_become G mc ms h a0 x1 Q) : Met l yX1_become (ws_ yX1_become cX1_become 3 (none : Option FieldType)) (rm_X1_become mc ms) (hv_Pc G h sz [.ref a0, va_rf x1]) (hv_Qv G h sz Q) mc ms (hv_A h sz) := by
  refine Met.ofW (cc := cX1_become) (maxL := 3) (ret := (none : Option FieldType)) (by decide) rfl ?_
  intro p e s m args below meth c s₁ B hml hv
  obtain ⟨rfl, rfl, hE, hI⟩ := hv_open B hml hv
  have hE : hv_E p s m ([.ref a0, va_rf x1] : List Value).toArray meth c cX1_become 3 (none : Option FieldType) RX1 G h := hE
  obtain ⟨⟨hx, hb, hml, hown, hts⟩, hr, hlocks, hXX⟩ := id hE
  have hl := lv_entry ([.ref a0, va_rf x1] : List Value) (n := 3) (by cases x1 <;> exact Nat.le_of_ble_eq_true rfl)
  rw [lg_entry_eq]
  generalize (lg_sl ([.ref a0, va_rf x1] : List Value) ++ List.replicate (3 - (lg_sl ([.ref a0, va_rf x1] : List Value)).length) Slot.unset).toArray = ls at hl ⊢
  have hl : lv_has ls 3 [(0, .ref a0), (1, va_rf x1)] := (by cases x1 <;> exact hl)
  have hc : 0 ≤ mc := Nat.zero_le _
  have hs : 0 ≤ ms := Nat.zero_le _
  unfold wp_X1_become at hw
  refine lv_aload_n hx hb dX1_become_0 rfl (lv_at hl 0 rfl) ?_
  refine hv_wgetq hE hI in_X1 (ci := 1) rfl 1 (by decide) (hts _ q301) (fun _ hx => hx) hw dX1_become_1 (fun r1 hw => ?_)
  obtain ⟨a2, hz, hwa2⟩ := hw; have hla2 := hl; subst hz; have hw := hwa2; have hl := hla2
  obtain ⟨⟨fs, hre⟩, hw⟩ := hw
  refine hv_rci hI (va_runV (As := []) (b := a2) (rest := []) hE.1 (snd_J3_size l G _ h a2 _ hw) (cwV 0 hts (lw_V q1257 q1258 q1259 q103 q1260) rfl rfl rfl (by decide +kernel) ⟨Nat.le_of_ble_eq_true rfl, Nat.le_of_ble_eq_true rfl⟩) (hv_preV hE hI (ci := 5) rfl hre) rfl rfl hl.1 rfl (lv_room (Nat.le_of_ble_eq_true rfl)) dX1_become_4 ⟨hc, hs⟩) (fun r3 h4 H locs hw hI => ?_)
  refine lv_bipush (v := 8) hx hb dX1_become_7 (by decide) ?_
  refine lv_icmp_ne (tgt := 23) hx hb dX1_become_9 (by decide) (fun c_9 => ?_) (fun c_9 => ?_)
  · have hw := hw.1 c_9
    exact snd_X1_become_L23 G mc ms a0 Q hE h4 0 0 x1 hw hc hs _ _ _ hI (lv_sub hl [0, 1] rfl)
  · have hw := hw.2 c_9
    refine lv_aload_n hx hb dX1_become_12 rfl (lv_at hl 0 rfl) ?_
    refine hv_wgetq hE hI in_X1 (ci := 1) rfl 1 (by decide) (hts _ q301) (fun _ hx => hx) hw dX1_become_13 (fun r11 hw => ?_)
    obtain ⟨a12, hz, hwa12⟩ := hw; have hla12 := hl; subst hz; have hw := hwa12; have hl := hla12
    obtain ⟨⟨fs, hre⟩, hw⟩ := hw
    refine hv_rcq hI (va_runV (As := []) (b := a12) (rest := []) hE.1 (snd_J3_removeFirst l G _ h4 a12 _ hw) (cwV 0 hts (lw_V q1264 q1265 q1266 q103 q1267) rfl rfl rfl (by decide +kernel) ⟨Nat.le_of_ble_eq_true rfl, Nat.le_of_ble_eq_true rfl⟩) (hv_preV hE hI (ci := 5) rfl hre) rfl rfl hl.1 rfl (lv_room (Nat.le_of_ble_eq_true rfl)) dX1_become_16 ⟨hc, hs⟩) (fun r13 h14 H locs hw hI => ?_)
    obtain ⟨a15, hz, hwa15⟩ := hw; have hla15 := hl; subst hz; have hw := hwa15; have hl := hla15
    refine hv_wcast (ci := 2) hE hI (hts _ q148) rfl hw dX1_become_19 (fun hw => ?_)
    refine lv_astore_n (lv' := [(2, .ref a15), (0, .ref a0), (1, va_rf x1)]) hx hb dX1_become_22 rfl hl (by decide) (by cases x1 <;> exact rfl) (fun ls hl => ?_)
    exact snd_X1_become_L23 G mc ms a0 Q hE h14 0 0 x1 hw hc hs _ _ _ hI (lv_sub hl [1, 2] rfl)

theorem ha_MatchmakerRules_115_UnsupportedOperationException {p : Program} {s : State} {m : MethodId} {args : Array Value} {meth : Method} {c : Code} {cc : ByteArray} {nL : Nat} {ret : Option FieldType} {own : String} {G : GG} {h0 : HH} (hE : hv_E p s m args meth c cc nL ret own G h0) : ∀ w ∈ vx_at0 "MatchmakerRules" 115 "java/lang/UnsupportedOperationException" ["java/lang/RuntimeException", "java/lang/Exception"], w.before args s = true := by
  obtain ⟨⟨-, -, -, -, hts⟩, -, -, -, hX, -⟩ := hE
  have h1 : ∀ w ∈ Bundle.ownAtoms0 "MatchmakerRules" 115 "java/lang/UnsupportedOperationException" ["java/lang/RuntimeException", "java/lang/Exception"], vx_no w = true → w.before args s = true := (List.forall_mem_cons.mpr ⟨(fun _ => hts _ q114), (List.forall_mem_cons.mpr ⟨(fun _ => hts _ q419), (List.forall_mem_cons.mpr ⟨(fun _ => hts _ q428), (List.forall_mem_cons.mpr ⟨(fun _ => hts _ q440), (List.forall_mem_cons.mpr ⟨(fun _ => hts _ q443), (List.forall_mem_cons.mpr ⟨(fun _ => hts _ q445), (List.forall_mem_cons.mpr ⟨(fun _ => hts _ q420), (List.forall_mem_cons.mpr ⟨(fun _ => hts _ q421), (List.forall_mem_cons.mpr ⟨(fun _ => hts _ q146), (List.forall_mem_cons.mpr ⟨(fun _ => hts _ q147), (List.forall_mem_cons.mpr ⟨(fun _ => hts _ q422), (List.forall_mem_cons.mpr ⟨(fun _ => hts _ q427), (List.forall_mem_cons.mpr ⟨(fun _ => hts _ q441), (List.forall_mem_cons.mpr ⟨(fun _ => hts _ q458), (List.forall_mem_cons.mpr ⟨(fun _ => hts _ q409), (List.forall_mem_cons.mpr ⟨(fun _ => hts _ q459), (List.forall_mem_cons.mpr ⟨(fun _ => hts _ q411), (List.forall_mem_cons.mpr ⟨(fun _ => hts _ q460), (List.forall_mem_cons.mpr ⟨(fun _ => hts _ q413), (List.forall_mem_cons.mpr ⟨(fun _ => hts _ q423), (List.forall_mem_cons.mpr ⟨(fun hz => absurd hz (by decide +kernel)), (List.forall_mem_cons.mpr ⟨(fun _ => hts _ q425), (List.forall_mem_cons.mpr ⟨(fun hz => absurd hz (by decide +kernel)), (List.forall_mem_cons.mpr ⟨(fun _ => hts _ q415), (List.forall_mem_cons.mpr ⟨(fun _ => hts _ q1248), (List.forall_mem_cons.mpr ⟨(fun _ => hts _ q1249), (List.forall_mem_cons.mpr ⟨(fun _ => hts _ q1250), (List.forall_mem_cons.mpr ⟨(fun _ => hts _ q450), (List.forall_mem_cons.mpr ⟨(fun _ => (hX.D 4 rfl).use rfl), (List.forall_mem_cons.mpr ⟨(fun _ => hts _ q450), (List.forall_mem_cons.mpr ⟨(fun _ => hts _ q451), (List.forall_mem_cons.mpr ⟨(fun _ => hts _ q452), (List.forall_mem_cons.mpr ⟨(fun _ => hts _ q453), (List.forall_mem_cons.mpr ⟨(fun _ => (hX.D 2 rfl).use rfl), (List.forall_mem_cons.mpr ⟨(fun _ => hts _ q453), (List.forall_mem_cons.mpr ⟨(fun _ => hts _ q454), (List.forall_mem_cons.mpr ⟨(fun _ => hts _ q455), (List.forall_mem_cons.mpr ⟨(fun _ => hts _ q420), (List.forall_mem_cons.mpr ⟨(fun _ => (hX.D 0 rfl).use rfl), (List.forall_mem_cons.mpr ⟨(fun _ => hts _ q1247), (List.forall_mem_cons.mpr ⟨(fun _ => hts _ q1239), (List.forall_mem_cons.mpr ⟨(fun _ => (hX.C 26 rfl).use rfl), (List.forall_mem_cons.mpr ⟨(fun _ => hts _ q1241), (List.forall_mem_cons.mpr ⟨(fun _ => hts _ q438), (List.forall_mem_cons.mpr ⟨(fun _ => hts _ q1242), (List.forall_mem_cons.mpr ⟨(fun _ => hts _ q1243), (List.forall_mem_cons.mpr ⟨(fun _ => hts _ q1244), (List.forall_mem_cons.mpr ⟨(fun _ => hts _ q1245), (List.forall_mem_cons.mpr ⟨(fun hz => absurd hz (by decide +kernel)), (List.forall_mem_cons.mpr ⟨(fun hz => absurd hz (by decide +kernel)), (List.forall_mem_cons.mpr ⟨(fun _ => hts _ q418), (List.forall_mem_cons.mpr ⟨(fun _ => hts _ q417), (List.forall_mem_cons.mpr ⟨(fun _ => hts _ q1246), (fun _ hz => absurd hz List.not_mem_nil)⟩)⟩)⟩)⟩)⟩)⟩)⟩)⟩)⟩)⟩)⟩)⟩)⟩)⟩)⟩)⟩)⟩)⟩)⟩)⟩)⟩)⟩)⟩)⟩)⟩)⟩)⟩)⟩)⟩)⟩)⟩)⟩)⟩)⟩)⟩)⟩)⟩)⟩)⟩)⟩)⟩)⟩)⟩)⟩)⟩)⟩)⟩)⟩)⟩)⟩)⟩)⟩)⟩)
  exact fun w hw => h1 w (List.mem_filter.mp hw).1 (List.mem_filter.mp hw).2

/-- MatchmakerRules.change(LMatchmakerRules$Change;)I -/
abbrev rm_X1_change (mc ms : Nat) : Room := { frames := 11, cells := mc, slots := ms, locals := 3171 }
def wp_X1_change (G : GG) (mc : Nat) (ms : Nat) (h : HH) (a0 : Nat) (x1 : Option Nat) (Q : Int32 → HH → Prop) (X : String → Nat → HH → Prop) : Prop := w_getq h a0 1 0 (fun r1 => w_nn r1 (fun a2 => (∃ mc3 ms3, 0 + mc3 ≤ mc ∧ 0 + ms3 ≤ ms ∧ w_is h a2 2 (wp_X2_copy G mc3 ms3 h a2 (fun r4 h5 => w_nn x1 (fun a6 => (∃ mc7 ms7, (0 + mc3) + mc7 ≤ mc ∧ (0 + ms3) + ms7 ≤ ms ∧ w_is h5 a6 8 (wp_X5_make G mc7 ms7 h5 a6 r4 (fun r8 h9 => (∃ mc14 ms14, ((0 + mc3) + mc7) + mc14 ≤ mc ∧ ((0 + ms3) + ms7) + ms14 ≤ ms ∧ w_is h9 a0 1 (wp_X1_become G mc14 ms14 h9 a0 r4 (fun h15 => Q r8 h15)))) (fun E q10 h11 => ((E = "MatchmakerRules$Refused" ∧ w_put h11 a0 1 8 (.ref q10) (fun h12 => (((0 + mc3) + mc7) + 1 ≤ mc ∧ ((0 + ms3) + ms7) + 6 ≤ ms ∧ ∀ q13, h12 q13 = none → X "java/lang/UnsupportedOperationException" q13 h12))) ∨ (E = "java/lang/IllegalArgumentException" ∧ X E q10 h11)))))))))))
set_option maxHeartbeats 4000000 in
theorem snd_X1_change (l : Launch) (hl0 : l.stackTraces = false) (G : GG) (sz : Nat) (mc : Nat) (ms : Nat) (h : HH) (a0 : Nat) (x1 : Option Nat) (Q : Int32 → HH → Prop) (X : String → Nat → HH → Prop) (hw : wp_X1_change G mc ms h a0 x1 Q X) : vx_Met l yX1_change (wsW_ yX1_change cX1_change 5 (some FieldType.int) [(8, 14, 17, 107)]) (rm_X1_change mc ms) (hv_Pc G h sz [.ref a0, va_rf x1]) (hv_Qi G h sz Q) (hv_XC G h sz X) mc ms (hv_A h sz) := by
  refine vx_ofWH (cc := cX1_change) (maxL := 5) (ret := (some FieldType.int)) (hh := [(8, 14, 17, 107)]) (by decide) rfl ?_
  intro p e s m args below meth c s₁ B hml hv
  have ht : c.exceptionTable.toList = tableOf [(8, 14, 17, 107)] := vx_table (x := yX1_change) B (atoms_spec (ws := (wsW_ yX1_change cX1_change 5 (some FieldType.int) [(8, 14, 17, 107)])) B.pre _ List.mem_cons_self)
  obtain ⟨rfl, rfl, hE, hI⟩ := hv_openW B hml hv
  have hE : hv_E p s m ([.ref a0, va_rf x1] : List Value).toArray meth c cX1_change 5 (some FieldType.int) RX1 G h := hE
  obtain ⟨⟨hx, hb, hml, hown, hts⟩, hr, hlocks, hXX⟩ := id hE
  have hl := lv_entry ([.ref a0, va_rf x1] : List Value) (n := 5) (by cases x1 <;> exact Nat.le_of_ble_eq_true rfl)
  rw [lg_entry_eq]
  generalize (lg_sl ([.ref a0, va_rf x1] : List Value) ++ List.replicate (5 - (lg_sl ([.ref a0, va_rf x1] : List Value)).length) Slot.unset).toArray = ls at hl ⊢
  have hl : lv_has ls 5 [(0, .ref a0), (1, va_rf x1)] := (by cases x1 <;> exact hl)
  have hc : 0 ≤ mc := Nat.zero_le _
  have hs : 0 ≤ ms := Nat.zero_le _
  unfold wp_X1_change at hw
  refine lv_aload_n hx hb dX1_change_0 rfl (lv_at hl 0 rfl) ?_
  refine hv_wgetq hE hI in_X1 (ci := 1) rfl 0 (by decide) (hts _ q300) (fun _ hx => hx) hw dX1_change_1 (fun r1 hw => ?_)
  obtain ⟨a2, hz, hwa2⟩ := hw; have hla2 := hl; subst hz; have hw := hwa2; have hl := hla2
  obtain ⟨mc3, ms3, hc, hs, hw⟩ := hw
  obtain ⟨⟨fs, hre⟩, hw⟩ := hw
  refine hv_rcq hI (va_runV (As := []) (b := a2) (rest := []) hE.1 (snd_X2_copy l G _ mc3 ms3 h a2 _ hw) (cwV 0 hts (lw_V q903 q904 q905 q98 q906) rfl rfl rfl (by decide +kernel) ⟨Nat.le_of_ble_eq_true rfl, Nat.le_of_ble_eq_true rfl⟩) (hv_preV hE hI (ci := 2) rfl hre) rfl rfl hl.1 rfl (lv_room (Nat.le_of_ble_eq_true rfl)) dX1_change_4 ⟨hc, hs⟩) (fun r4 h5 H locs hw hI => ?_)
  refine lv_astore_nq (lv' := [(2, va_rf r4), (0, .ref a0), (1, va_rf x1)]) hx hb dX1_change_7 rfl hl (by decide) (by cases x1 <;> exact rfl) (fun ls hl => ?_)
  refine lv_aload_nq hx hb dX1_change_8 rfl (lv_at hl 2 rfl) ?_
  refine lv_aload_nq hx hb dX1_change_9 rfl (lv_at hl 0 rfl) ?_
  obtain ⟨a6, hz, hwa6⟩ := hw; have hla6 := hl; subst hz; have hw := hwa6; have hl := hla6
  obtain ⟨mc7, ms7, hc, hs, hw⟩ := hw
  obtain ⟨⟨fs, hre⟩, hw⟩ := hw
  refine hx_rci hI (vx_runV (As := [va_rf r4]) (b := a6) (rest := []) hE.1 (snd_X5_make l hl0 G _ mc7 ms7 h5 a6 r4 _ _ hw) (cwV 1 hts (lw_V q1043 q1044 q1045 q109 q1046) rfl rfl rfl (by decide +kernel) ⟨Nat.le_of_ble_eq_true rfl, Nat.le_of_ble_eq_true rfl⟩) (hv_preV hE hI (ci := 8) rfl hre) rfl rfl hl.1 rfl (lv_room (Nat.le_of_ble_eq_true rfl)) dX1_change_10 ⟨hc, hs⟩) ?_ (fun r8 h9 H locs hw hI => ?_)
  · intro E q10 h11 H locs hw hI hT
    rcases hw with ⟨rfl, hw⟩ | hw
    · refine hx_catch hE hT [] ⟨8, 14, 17, 107⟩ [] ht (fun _ hz => absurd hz List.not_mem_nil) rfl (by decide) (hts _ q902) ((hE.2.2.2.2.1.C 24 rfl).use rfl) ?_
      refine lv_astore (lv' := [(4, .ref q10), (2, va_rf r4), (0, .ref a0), (1, .ref a6)]) hx hb dX1_change_17 hl (by decide) rfl (fun ls hl => ?_)
      refine lv_aload_n hx hb dX1_change_19 rfl (lv_at hl 2 rfl) ?_
      refine lv_aload hx hb dX1_change_20 (lv_at hl 0 rfl) ?_
      refine hv_wput (v := .ref q10) tyX1 hE hI in_X1 tyX1_ok nmX1 (ci := 1) rfl 8 (by decide) (hts _ q308) (fun _ hx => hx) rfl (ty := (.object "MatchmakerRules$Refused")) rfl rfl rfl hw dX1_change_22 (fun h12 H locs hw hI => ?_)
      obtain ⟨hc, hs, hw⟩ := hw
      exact hx_throw0 (names := ["java/lang/RuntimeException", "java/lang/Exception"]) (rest := []) hl0 hE hI (by decide +kernel) (by decide +kernel) (hts _ q1238) (hts _ q129) (ha_MatchmakerRules_115_UnsupportedOperationException hE) (by decide +kernel) hl.1 dX1_change_25 dX1_change_28 dX1_change_29 dX1_change_32 (by rw [ht]; exact (List.forall_mem_cons.mpr ⟨rfl, (fun _ hz => absurd hz List.not_mem_nil)⟩)) (Nat.le_of_ble_eq_true rfl) (Nat.le_of_ble_eq_true rfl) (Nat.le_refl _) (Nat.le_refl _) hc hs hw
    obtain ⟨rfl, hw⟩ := hw
    exact hx_outP hE hI hT hc hs (by rw [ht]; exact (List.forall_mem_cons.mpr ⟨(Or.inr ⟨by decide, "MatchmakerRules$Refused", hts _ q902, hE.2.2.2.2.1.N 41 rfl⟩), (fun _ hz => absurd hz List.not_mem_nil)⟩)) hw
  refine lv_istore_n (lv' := [(3, .int r8), (2, va_rf r4), (0, .ref a0), (1, .ref a6)]) hx hb dX1_change_13 rfl hl (by decide) (by cases r4 <;> exact rfl) (fun ls hl => ?_)
  refine lv_goto (tgt := 33) hx hb dX1_change_14 (by decide) ?_
  refine lv_aload_n hx hb dX1_change_33 rfl (lv_at hl 2 rfl) ?_
  refine lv_aload_nq hx hb dX1_change_34 rfl (lv_at hl 1 rfl) ?_
  obtain ⟨mc14, ms14, hc, hs, hw⟩ := hw
  obtain ⟨⟨fs, hre⟩, hw⟩ := hw
  refine hv_rcv hI (va_runV (As := [va_rf r4]) (b := a0) (rest := []) hE.1 (snd_X1_become l G _ mc14 ms14 h9 a0 r4 _ hw) (cwV 1 hts (lw_V q1253 q1255 qs25 q97 q1256) rfl rfl rfl (by decide +kernel) ⟨Nat.le_of_ble_eq_true rfl, Nat.le_of_ble_eq_true rfl⟩) (hv_preV hE hI (ci := 1) rfl hre) rfl rfl hl.1 rfl (lv_room (Nat.le_of_ble_eq_true rfl)) dX1_change_35 ⟨hc, hs⟩) (fun h15 H locs hw hI => ?_)
  refine lv_iload_n hx hb dX1_change_38 rfl (lv_at hl 0 rfl) ?_
  exact vx_ret (hv_iret hE hI hc hs hw dX1_change_39)

/-- MatchmakerRules.rule()I -/
abbrev rm_X1_rule (mc ms : Nat) : Room := { frames := 13, cells := mc, slots := ms, locals := 3195 }
def wp_X1_rule (G : GG) (mc : Nat) (ms : Nat) (h : HH) (a0 : Nat) (Q : Int32 → HH → Prop) (X : String → Nat → HH → Prop) : Prop := (0 + 1 ≤ mc ∧ 0 + 3 ≤ ms ∧ w_new h (.inr (8, df_X5)) (fun a1 h2 => (∃ mc3 ms3, (0 + 1) + mc3 ≤ mc ∧ (0 + 3) + ms3 ≤ ms ∧ w_is h2 a0 1 (wp_X1_takeRule G mc3 ms3 h2 a0 (fun r4 h5 => (∃ mc8 ms8, ((0 + 1) + mc3) + mc8 ≤ mc ∧ ((0 + 3) + ms3) + ms8 ≤ ms ∧ wp_X5_init G mc8 ms8 h5 a1 r4 (fun h9 => (∃ mc10 ms10, (((0 + 1) + mc3) + mc8) + mc10 ≤ mc ∧ (((0 + 3) + ms3) + ms8) + ms10 ≤ ms ∧ w_is h9 a0 1 (wp_X1_change G mc10 ms10 h9 a0 (some a1) (fun r11 h12 => Q r11 h12) (fun E q13 h14 => X E q13 h14)))))) (fun E q6 h7 => X E q6 h7)))))
set_option maxHeartbeats 4000000 in
theorem snd_X1_rule (l : Launch) (hl0 : l.stackTraces = false) (G : GG) (sz : Nat) (mc : Nat) (ms : Nat) (h : HH) (a0 : Nat) (Q : Int32 → HH → Prop) (X : String → Nat → HH → Prop) (hw : wp_X1_rule G mc ms h a0 Q X) : vx_Met l yX1_rule (ws_ yX1_rule cX1_rule 1 (some FieldType.int)) (rm_X1_rule mc ms) (hv_Pc G h sz [.ref a0]) (hv_Qi G h sz Q) (hv_XC G h sz X) mc ms (hv_A h sz) := by
  refine vx_ofW (cc := cX1_rule) (maxL := 1) (ret := (some FieldType.int)) (by decide) rfl ?_
  intro p e s m args below meth c s₁ B hml ht hv
  obtain ⟨rfl, rfl, hE, hI⟩ := hv_open B hml hv
  have hE : hv_E p s m ([.ref a0] : List Value).toArray meth c cX1_rule 1 (some FieldType.int) RX1 G h := hE
  obtain ⟨⟨hx, hb, hml, hown, hts⟩, hr, hlocks, hXX⟩ := id hE
  have hl := lv_entry ([.ref a0] : List Value) (n := 1) (Nat.le_of_ble_eq_true rfl)
  rw [lg_entry_eq]
  generalize (lg_sl ([.ref a0] : List Value) ++ List.replicate (1 - (lg_sl ([.ref a0] : List Value)).length) Slot.unset).toArray = ls at hl ⊢
  have hl : lv_has ls 1 [(0, .ref a0)] := hl
  have hc : 0 ≤ mc := Nat.zero_le _
  have hs : 0 ≤ ms := Nat.zero_le _
  unfold wp_X1_rule at hw
  refine lv_aload_n hx hb dX1_rule_0 rfl (lv_at hl 0 rfl) ?_
  obtain ⟨hc, hs, hw⟩ := hw
  refine hv_wnew tyX5 hE hI in_X5 tyX5_ok (hts _ q658) (hts _ q659) (hts _ q109) (ci := 8) rfl df_X5_ok hw hc hs dX1_rule_1 (fun a1 h2 H hw hI => ?_)
  refine lv_dup hx hb dX1_rule_4 rfl ?_
  refine lv_aload_n hx hb dX1_rule_5 rfl (lv_at hl 0 rfl) ?_
  obtain ⟨mc3, ms3, hc, hs, hw⟩ := hw
  obtain ⟨⟨fs, hre⟩, hw⟩ := hw
  refine hx_rcq hI (vx_runVX (As := []) (b := a0) (rest := [.ref a1, .ref a1, .ref a0]) hE.1 (snd_X1_takeRule l hl0 G _ mc3 ms3 h2 a0 _ _ hw) (vx_cwVW 0 hts (lw_VW q660 q662 qs7 q97 q663) rfl rfl rfl (by decide +kernel) ⟨Nat.le_of_ble_eq_true rfl, Nat.le_of_ble_eq_true rfl⟩) (hv_preV hE hI (ci := 1) rfl hre) rfl rfl hl.1 rfl (lv_room (Nat.le_of_ble_eq_true rfl)) dX1_rule_6 ⟨hc, hs⟩) ?_ (fun r4 h5 H locs hw hI => ?_)
  · intro E q6 h7 H locs hw hI hT
    exact hx_out hE hI hT hc hs (fun z hz => (ht z hz).elim) hw
  obtain ⟨mc8, ms8, hc, hs, hw⟩ := hw
  refine hv_rcv hI (va_runI (As := [va_rf r4]) (b := a1) (rest := [.ref a1, .ref a0]) hE.1 (snd_X5_init l G _ mc8 ms8 h5 a1 r4 _ hw) (cwI 1 hts (lw_meth q886) rfl rfl rfl (hts _ q109) (hts _ q884) (hts _ q885) rfl (by decide +kernel) ⟨Nat.le_of_ble_eq_true rfl, Nat.le_of_ble_eq_true rfl⟩) (hv_preS hE hI) rfl rfl hl.1 rfl (lv_room (Nat.le_of_ble_eq_true rfl)) dX1_rule_9 ⟨hc, hs⟩) (fun h9 H locs hw hI => ?_)
  obtain ⟨mc10, ms10, hc, hs, hw⟩ := hw
  obtain ⟨⟨fs, hre⟩, hw⟩ := hw
  refine hx_rci hI (vx_runVX (As := [.ref a1]) (b := a0) (rest := []) hE.1 (snd_X1_change l hl0 G _ mc10 ms10 h9 a0 (some a1) _ _ hw) (vx_cwVW 1 hts (lw_VW q898 q900 qs15 q97 q901) rfl rfl rfl (by decide +kernel) ⟨Nat.le_of_ble_eq_true rfl, Nat.le_of_ble_eq_true rfl⟩) (hv_preV hE hI (ci := 1) rfl hre) rfl rfl hl.1 rfl (lv_room (Nat.le_of_ble_eq_true rfl)) dX1_rule_12 ⟨hc, hs⟩) ?_ (fun r11 h12 H locs hw hI => ?_)
  · intro E q13 h14 H locs hw hI hT
    exact hx_out hE hI hT hc hs (fun z hz => (ht z hz).elim) hw
  exact vx_ret (hv_iret hE hI hc hs hw dX1_rule_15)

/-- MatchmakerRules$Change.<init>(C[I)V -/
abbrev rm_X5_init_2 : Room := { frames := 1, cells := 0, slots := 0, locals := 32 }
def wp_X5_init_2 (G : GG) (h : HH) (a0 : Nat) (x1 : Int32) (x2 : Option Nat) (Q : HH → Prop) : Prop := ((narrow .char (.int x1) = .int x1 ∧ fits .char (.int x1) = true) ∧ w_put h a0 8 0 (.int x1) (fun h1 => w_put h1 a0 8 1 (va_rf x2) (fun h2 => w_put h2 a0 8 2 (.null) (fun h3 => Q h3))))
set_option maxHeartbeats 4000000 in
theorem snd_X5_init_2 (l : Launch) (G : GG) (sz : Nat) (h : HH) (a0 : Nat) (x1 : Int32) (x2 : Option Nat) (Q : HH → Prop) (hw : wp_X5_init_2 G h a0 x1 x2 Q) : Met l yX5_init_2 (ws_ yX5_init_2 cX5_init_2 3 (none : Option FieldType)) rm_X5_init_2 (hv_Pc G h sz [.ref a0, .int x1, va_rf x2]) (hv_Qv G h sz Q) 0 0 (hv_A h sz) := by
  refine Met.ofW (cc := cX5_init_2) (maxL := 3) (ret := (none : Option FieldType)) (by decide) rfl ?_
  intro p e s m args below meth c s₁ B hml hv
  have hin2 : meth.name = "<init>" := (name_of_methodNamed B.named B.method).1
  obtain ⟨rfl, rfl, hE, hI⟩ := hv_open B hml hv
  have hE : hv_E p s m ([.ref a0, .int x1, va_rf x2] : List Value).toArray meth c cX5_init_2 3 (none : Option FieldType) RX5 G h := hE
  obtain ⟨⟨hx, hb, hml, hown, hts⟩, hr, hlocks, hXX⟩ := id hE
  have hl := lv_entry ([.ref a0, .int x1, va_rf x2] : List Value) (n := 3) (by cases x2 <;> exact Nat.le_of_ble_eq_true rfl)
  rw [lg_entry_eq]
  generalize (lg_sl ([.ref a0, .int x1, va_rf x2] : List Value) ++ List.replicate (3 - (lg_sl ([.ref a0, .int x1, va_rf x2] : List Value)).length) Slot.unset).toArray = ls at hl ⊢
  have hl : lv_has ls 3 [(0, .ref a0), (1, .int x1), (2, va_rf x2)] := (by cases x2 <;> exact hl)
  unfold wp_X5_init_2 at hw
  refine lv_aload_n hx hb dX5_init_2_0 rfl (lv_at hl 0 rfl) ?_
  refine hv_objI (rest := []) hE (hts _ q887) (hts _ q146) (hts _ q147) hl.1 dX5_init_2_1 (Nat.le_of_ble_eq_true rfl) (Nat.le_of_ble_eq_true rfl) ?_
  refine lv_aload_n hx hb dX5_init_2_4 rfl (lv_at hl 0 rfl) ?_
  refine lv_iload_n hx hb dX5_init_2_5 rfl (lv_at hl 1 rfl) ?_
  obtain ⟨⟨hn1, hn2⟩, hw⟩ := hw
  refine hv_wputF (v := .int x1) tyX5 hE hI in_X5 tyX5_ok nmX5 (ci := 8) rfl 0 (by decide) (hts _ q888) (fun _ hx => hx) rfl hin2 rfl (ty := .char) rfl hn1 hn2 hw dX5_init_2_6 (fun h1 H locs hw hI => ?_)
  refine lv_aload_n hx hb dX5_init_2_9 rfl (lv_at hl 0 rfl) ?_
  refine lv_aload_nq hx hb dX5_init_2_10 rfl (lv_at hl 2 rfl) ?_
  refine hv_wputF (v := va_rf x2) tyX5 hE hI in_X5 tyX5_ok nmX5 (ci := 8) rfl 1 (by decide) (hts _ q889) (fun _ hx => hx) rfl hin2 rfl (ty := (.array .int)) rfl (va_rf_narA _ _) (va_rf_fitA _ _) hw dX5_init_2_11 (fun h2 H locs hw hI => ?_)
  refine lv_aload_n hx hb dX5_init_2_14 rfl (lv_at hl 0 rfl) ?_
  refine lv_null hx hb dX5_init_2_15 ?_
  refine hv_wputF (v := .null) tyX5 hE hI in_X5 tyX5_ok nmX5 (ci := 8) rfl 2 (by decide) (hts _ q890) (fun _ hx => hx) rfl hin2 rfl (ty := (.object "MatchmakerRules$Rule")) rfl rfl rfl hw dX5_init_2_16 (fun h3 H locs hw hI => ?_)
  exact hv_vret hE hI (Nat.le_refl _) (Nat.le_refl _) hw dX5_init_2_19

/-- MatchmakerRules.drop(I)I -/
abbrev rm_X1_drop (mc ms : Nat) : Room := { frames := 12, cells := mc, slots := ms, locals := 3195 }
def wp_X1_drop (G : GG) (mc : Nat) (ms : Nat) (h : HH) (a0 : Nat) (x1 : Int32) (Q : Int32 → HH → Prop) (X : String → Nat → HH → Prop) : Prop := (0 + 1 ≤ mc ∧ 0 + 3 ≤ ms ∧ w_new h (.inr (8, df_X5)) (fun a1 h2 => ((0 + 1) + 1 ≤ mc ∧ (0 + 3) + 1 ≤ ms ∧ w_new h2 (.inl (G.2.1 0, 1, .inl (fun _ => 0))) (fun a3 h4 => w_ist G h4 a3 (0 : Int32) x1 (fun h5 => wp_X5_init_2 G h5 a1 (120 : Int32) (some a3) (fun h6 => (∃ mc7 ms7, ((0 + 1) + 1) + mc7 ≤ mc ∧ ((0 + 3) + 1) + ms7 ≤ ms ∧ w_is h6 a0 1 (wp_X1_change G mc7 ms7 h6 a0 (some a1) (fun r8 h9 => Q r8 h9) (fun E q10 h11 => X E q10 h11)))))))))
set_option maxHeartbeats 4000000 in
theorem snd_X1_drop (l : Launch) (hl0 : l.stackTraces = false) (G : GG) (sz : Nat) (mc : Nat) (ms : Nat) (h : HH) (a0 : Nat) (x1 : Int32) (Q : Int32 → HH → Prop) (X : String → Nat → HH → Prop) (hw : wp_X1_drop G mc ms h a0 x1 Q X) : vx_Met l yX1_drop (ws_ yX1_drop cX1_drop 2 (some FieldType.int)) (rm_X1_drop mc ms) (hv_Pc G h sz [.ref a0, .int x1]) (hv_Qi G h sz Q) (hv_XC G h sz X) mc ms (hv_A h sz) := by
  refine vx_ofW (cc := cX1_drop) (maxL := 2) (ret := (some FieldType.int)) (by decide) rfl ?_
  intro p e s m args below meth c s₁ B hml ht hv
  obtain ⟨rfl, rfl, hE, hI⟩ := hv_open B hml hv
  have hE : hv_E p s m ([.ref a0, .int x1] : List Value).toArray meth c cX1_drop 2 (some FieldType.int) RX1 G h := hE
  obtain ⟨⟨hx, hb, hml, hown, hts⟩, hr, hlocks, hXX⟩ := id hE
  have hl := lv_entry ([.ref a0, .int x1] : List Value) (n := 2) (Nat.le_of_ble_eq_true rfl)
  rw [lg_entry_eq]
  generalize (lg_sl ([.ref a0, .int x1] : List Value) ++ List.replicate (2 - (lg_sl ([.ref a0, .int x1] : List Value)).length) Slot.unset).toArray = ls at hl ⊢
  have hl : lv_has ls 2 [(0, .ref a0), (1, .int x1)] := hl
  have hc : 0 ≤ mc := Nat.zero_le _
  have hs : 0 ≤ ms := Nat.zero_le _
  unfold wp_X1_drop at hw
  refine lv_aload_n hx hb dX1_drop_0 rfl (lv_at hl 0 rfl) ?_
  obtain ⟨hc, hs, hw⟩ := hw
  refine hv_wnew tyX5 hE hI in_X5 tyX5_ok (hts _ q658) (hts _ q659) (hts _ q109) (ci := 8) rfl df_X5_ok hw hc hs dX1_drop_1 (fun a1 h2 H hw hI => ?_)
  refine lv_dup hx hb dX1_drop_4 rfl ?_
  refine lv_bipush (v := 120) hx hb dX1_drop_5 (by decide) ?_
  refine lv_iconst (v := 1) hx hb dX1_drop_7 (by decide) ?_
  obtain ⟨hc, hs, hw⟩ := hw
  refine hv_wnewa_int (N' := 1) hE hI (hts _ q188) (by decide +kernel) (by decide +kernel) (by decide) hw hc hs dX1_drop_8 (fun a3 h4 H hw hI => ?_)
  refine lv_dup hx hb dX1_drop_10 rfl ?_
  refine lv_iconst (v := 0) hx hb dX1_drop_11 (by decide) ?_
  refine lv_iload_n hx hb dX1_drop_12 rfl (lv_at hl 1 rfl) ?_
  refine hv_wist hE hI hw dX1_drop_13 (fun h5 H locs hw hI => ?_)
  refine hv_rcv hI (va_runI (As := [.int (120 : Int32), .ref a3]) (b := a1) (rest := [.ref a1, .ref a0]) hE.1 (snd_X5_init_2 l G _ h5 a1 (120 : Int32) (some a3) _ hw) (cwI 2 hts (lw_meth q1319) rfl rfl rfl (hts _ q109) (hts _ q1317) (hts _ q1318) rfl (by decide +kernel) ⟨Nat.le_of_ble_eq_true rfl, Nat.le_of_ble_eq_true rfl⟩) (hv_preS hE hI) rfl rfl hl.1 rfl (lv_room (Nat.le_of_ble_eq_true rfl)) dX1_drop_14 ⟨hc, hs⟩) (fun h6 H locs hw hI => ?_)
  obtain ⟨mc7, ms7, hc, hs, hw⟩ := hw
  obtain ⟨⟨fs, hre⟩, hw⟩ := hw
  refine hx_rci hI (vx_runVX (As := [.ref a1]) (b := a0) (rest := []) hE.1 (snd_X1_change l hl0 G _ mc7 ms7 h6 a0 (some a1) _ _ hw) (vx_cwVW 1 hts (lw_VW q898 q900 qs15 q97 q901) rfl rfl rfl (by decide +kernel) ⟨Nat.le_of_ble_eq_true rfl, Nat.le_of_ble_eq_true rfl⟩) (hv_preV hE hI (ci := 1) rfl hre) rfl rfl hl.1 rfl (lv_room (Nat.le_of_ble_eq_true rfl)) dX1_drop_17 ⟨hc, hs⟩) ?_ (fun r8 h9 H locs hw hI => ?_)
  · intro E q10 h11 H locs hw hI hT
    exact hx_out hE hI hT hc hs (fun z hz => (ht z hz).elim) hw
  exact vx_ret (hv_iret hE hI hc hs hw dX1_drop_20)

/-- MatchmakerRules.tell(CIII)I -/
abbrev rm_X1_tell (mc ms : Nat) : Room := { frames := 12, cells := mc, slots := ms, locals := 3195 }
def wp_X1_tell (G : GG) (mc : Nat) (ms : Nat) (h : HH) (a0 : Nat) (x1 : Int32) (x2 : Int32) (x3 : Int32) (x4 : Int32) (Q : Int32 → HH → Prop) (X : String → Nat → HH → Prop) : Prop := (0 + 1 ≤ mc ∧ 0 + 3 ≤ ms ∧ w_new h (.inr (8, df_X5)) (fun a1 h2 => ((0 + 1) + 1 ≤ mc ∧ (0 + 3) + 4 ≤ ms ∧ w_new h2 (.inl (G.2.1 0, 4, .inl (fun _ => 0))) (fun a3 h4 => w_ist G h4 a3 (0 : Int32) x1 (fun h5 => w_ist G h5 a3 (1 : Int32) x2 (fun h6 => w_ist G h6 a3 (2 : Int32) x3 (fun h7 => w_ist G h7 a3 (3 : Int32) x4 (fun h8 => wp_X5_init_2 G h8 a1 (43 : Int32) (some a3) (fun h9 => (∃ mc10 ms10, ((0 + 1) + 1) + mc10 ≤ mc ∧ ((0 + 3) + 4) + ms10 ≤ ms ∧ w_is h9 a0 1 (wp_X1_change G mc10 ms10 h9 a0 (some a1) (fun r11 h12 => Q r11 h12) (fun E q13 h14 => X E q13 h14))))))))))))
set_option maxHeartbeats 4000000 in
theorem snd_X1_tell (l : Launch) (hl0 : l.stackTraces = false) (G : GG) (sz : Nat) (mc : Nat) (ms : Nat) (h : HH) (a0 : Nat) (x1 : Int32) (x2 : Int32) (x3 : Int32) (x4 : Int32) (Q : Int32 → HH → Prop) (X : String → Nat → HH → Prop) (hw : wp_X1_tell G mc ms h a0 x1 x2 x3 x4 Q X) : vx_Met l yX1_tell (ws_ yX1_tell cX1_tell 5 (some FieldType.int)) (rm_X1_tell mc ms) (hv_Pc G h sz [.ref a0, .int x1, .int x2, .int x3, .int x4]) (hv_Qi G h sz Q) (hv_XC G h sz X) mc ms (hv_A h sz) := by
  refine vx_ofW (cc := cX1_tell) (maxL := 5) (ret := (some FieldType.int)) (by decide) rfl ?_
  intro p e s m args below meth c s₁ B hml ht hv
  obtain ⟨rfl, rfl, hE, hI⟩ := hv_open B hml hv
  have hE : hv_E p s m ([.ref a0, .int x1, .int x2, .int x3, .int x4] : List Value).toArray meth c cX1_tell 5 (some FieldType.int) RX1 G h := hE
  obtain ⟨⟨hx, hb, hml, hown, hts⟩, hr, hlocks, hXX⟩ := id hE
  have hl := lv_entry ([.ref a0, .int x1, .int x2, .int x3, .int x4] : List Value) (n := 5) (Nat.le_of_ble_eq_true rfl)
  rw [lg_entry_eq]
  generalize (lg_sl ([.ref a0, .int x1, .int x2, .int x3, .int x4] : List Value) ++ List.replicate (5 - (lg_sl ([.ref a0, .int x1, .int x2, .int x3, .int x4] : List Value)).length) Slot.unset).toArray = ls at hl ⊢
  have hl : lv_has ls 5 [(0, .ref a0), (1, .int x1), (2, .int x2), (3, .int x3), (4, .int x4)] := hl
  have hc : 0 ≤ mc := Nat.zero_le _
  have hs : 0 ≤ ms := Nat.zero_le _
  unfold wp_X1_tell at hw
  refine lv_aload_n hx hb dX1_tell_0 rfl (lv_at hl 0 rfl) ?_
  obtain ⟨hc, hs, hw⟩ := hw
  refine hv_wnew tyX5 hE hI in_X5 tyX5_ok (hts _ q658) (hts _ q659) (hts _ q109) (ci := 8) rfl df_X5_ok hw hc hs dX1_tell_1 (fun a1 h2 H hw hI => ?_)
  refine lv_dup hx hb dX1_tell_4 rfl ?_
  refine lv_bipush (v := 43) hx hb dX1_tell_5 (by decide) ?_
  refine lv_iconst (v := 4) hx hb dX1_tell_7 (by decide) ?_
  obtain ⟨hc, hs, hw⟩ := hw
  refine hv_wnewa_int (N' := 4) hE hI (hts _ q188) (by decide +kernel) (by decide +kernel) (by decide) hw hc hs dX1_tell_8 (fun a3 h4 H hw hI => ?_)
  refine lv_dup hx hb dX1_tell_10 rfl ?_
  refine lv_iconst (v := 0) hx hb dX1_tell_11 (by decide) ?_
  refine lv_iload_n hx hb dX1_tell_12 rfl (lv_at hl 1 rfl) ?_
  refine hv_wist hE hI hw dX1_tell_13 (fun h5 H locs hw hI => ?_)
  refine lv_dup hx hb dX1_tell_14 rfl ?_
  refine lv_iconst (v := 1) hx hb dX1_tell_15 (by decide) ?_
  refine lv_iload_n hx hb dX1_tell_16 rfl (lv_at hl 2 rfl) ?_
  refine hv_wist hE hI hw dX1_tell_17 (fun h6 H locs hw hI => ?_)
  refine lv_dup hx hb dX1_tell_18 rfl ?_
  refine lv_iconst (v := 2) hx hb dX1_tell_19 (by decide) ?_
  refine lv_iload_n hx hb dX1_tell_20 rfl (lv_at hl 3 rfl) ?_
  refine hv_wist hE hI hw dX1_tell_21 (fun h7 H locs hw hI => ?_)
  refine lv_dup hx hb dX1_tell_22 rfl ?_
  refine lv_iconst (v := 3) hx hb dX1_tell_23 (by decide) ?_
  refine lv_iload hx hb dX1_tell_24 (lv_at hl 4 rfl) ?_
  refine hv_wist hE hI hw dX1_tell_26 (fun h8 H locs hw hI => ?_)
  refine hv_rcv hI (va_runI (As := [.int (43 : Int32), .ref a3]) (b := a1) (rest := [.ref a1, .ref a0]) hE.1 (snd_X5_init_2 l G _ h8 a1 (43 : Int32) (some a3) _ hw) (cwI 2 hts (lw_meth q1319) rfl rfl rfl (hts _ q109) (hts _ q1317) (hts _ q1318) rfl (by decide +kernel) ⟨Nat.le_of_ble_eq_true rfl, Nat.le_of_ble_eq_true rfl⟩) (hv_preS hE hI) rfl rfl hl.1 rfl (lv_room (Nat.le_of_ble_eq_true rfl)) dX1_tell_27 ⟨hc, hs⟩) (fun h9 H locs hw hI => ?_)
  obtain ⟨mc10, ms10, hc, hs, hw⟩ := hw
  obtain ⟨⟨fs, hre⟩, hw⟩ := hw
  refine hx_rci hI (vx_runVX (As := [.ref a1]) (b := a0) (rest := []) hE.1 (snd_X1_change l hl0 G _ mc10 ms10 h9 a0 (some a1) _ _ hw) (vx_cwVW 1 hts (lw_VW q898 q900 qs15 q97 q901) rfl rfl rfl (by decide +kernel) ⟨Nat.le_of_ble_eq_true rfl, Nat.le_of_ble_eq_true rfl⟩) (hv_preV hE hI (ci := 1) rfl hre) rfl rfl hl.1 rfl (lv_room (Nat.le_of_ble_eq_true rfl)) dX1_tell_30 ⟨hc, hs⟩) ?_ (fun r11 h12 H locs hw hI => ?_)
  · intro E q13 h14 H locs hw hI hT
    exact hx_out hE hI hT hc hs (fun z hz => (ht z hz).elim) hw
  exact vx_ret (hv_iret hE hI hc hs hw dX1_tell_33)

/-- MatchmakerRules.untell(I)I -/
abbrev rm_X1_untell (mc ms : Nat) : Room := { frames := 12, cells := mc, slots := ms, locals := 3195 }
def wp_X1_untell (G : GG) (mc : Nat) (ms : Nat) (h : HH) (a0 : Nat) (x1 : Int32) (Q : Int32 → HH → Prop) (X : String → Nat → HH → Prop) : Prop := (0 + 1 ≤ mc ∧ 0 + 3 ≤ ms ∧ w_new h (.inr (8, df_X5)) (fun a1 h2 => ((0 + 1) + 1 ≤ mc ∧ (0 + 3) + 1 ≤ ms ∧ w_new h2 (.inl (G.2.1 0, 1, .inl (fun _ => 0))) (fun a3 h4 => w_ist G h4 a3 (0 : Int32) x1 (fun h5 => wp_X5_init_2 G h5 a1 (45 : Int32) (some a3) (fun h6 => (∃ mc7 ms7, ((0 + 1) + 1) + mc7 ≤ mc ∧ ((0 + 3) + 1) + ms7 ≤ ms ∧ w_is h6 a0 1 (wp_X1_change G mc7 ms7 h6 a0 (some a1) (fun r8 h9 => Q r8 h9) (fun E q10 h11 => X E q10 h11)))))))))
set_option maxHeartbeats 4000000 in
theorem snd_X1_untell (l : Launch) (hl0 : l.stackTraces = false) (G : GG) (sz : Nat) (mc : Nat) (ms : Nat) (h : HH) (a0 : Nat) (x1 : Int32) (Q : Int32 → HH → Prop) (X : String → Nat → HH → Prop) (hw : wp_X1_untell G mc ms h a0 x1 Q X) : vx_Met l yX1_untell (ws_ yX1_untell cX1_untell 2 (some FieldType.int)) (rm_X1_untell mc ms) (hv_Pc G h sz [.ref a0, .int x1]) (hv_Qi G h sz Q) (hv_XC G h sz X) mc ms (hv_A h sz) := by
  refine vx_ofW (cc := cX1_untell) (maxL := 2) (ret := (some FieldType.int)) (by decide) rfl ?_
  intro p e s m args below meth c s₁ B hml ht hv
  obtain ⟨rfl, rfl, hE, hI⟩ := hv_open B hml hv
  have hE : hv_E p s m ([.ref a0, .int x1] : List Value).toArray meth c cX1_untell 2 (some FieldType.int) RX1 G h := hE
  obtain ⟨⟨hx, hb, hml, hown, hts⟩, hr, hlocks, hXX⟩ := id hE
  have hl := lv_entry ([.ref a0, .int x1] : List Value) (n := 2) (Nat.le_of_ble_eq_true rfl)
  rw [lg_entry_eq]
  generalize (lg_sl ([.ref a0, .int x1] : List Value) ++ List.replicate (2 - (lg_sl ([.ref a0, .int x1] : List Value)).length) Slot.unset).toArray = ls at hl ⊢
  have hl : lv_has ls 2 [(0, .ref a0), (1, .int x1)] := hl
  have hc : 0 ≤ mc := Nat.zero_le _
  have hs : 0 ≤ ms := Nat.zero_le _
  unfold wp_X1_untell at hw
  refine lv_aload_n hx hb dX1_untell_0 rfl (lv_at hl 0 rfl) ?_
  obtain ⟨hc, hs, hw⟩ := hw
  refine hv_wnew tyX5 hE hI in_X5 tyX5_ok (hts _ q658) (hts _ q659) (hts _ q109) (ci := 8) rfl df_X5_ok hw hc hs dX1_untell_1 (fun a1 h2 H hw hI => ?_)
  refine lv_dup hx hb dX1_untell_4 rfl ?_
  refine lv_bipush (v := 45) hx hb dX1_untell_5 (by decide) ?_
  refine lv_iconst (v := 1) hx hb dX1_untell_7 (by decide) ?_
  obtain ⟨hc, hs, hw⟩ := hw
  refine hv_wnewa_int (N' := 1) hE hI (hts _ q188) (by decide +kernel) (by decide +kernel) (by decide) hw hc hs dX1_untell_8 (fun a3 h4 H hw hI => ?_)
  refine lv_dup hx hb dX1_untell_10 rfl ?_
  refine lv_iconst (v := 0) hx hb dX1_untell_11 (by decide) ?_
  refine lv_iload_n hx hb dX1_untell_12 rfl (lv_at hl 1 rfl) ?_
  refine hv_wist hE hI hw dX1_untell_13 (fun h5 H locs hw hI => ?_)
  refine hv_rcv hI (va_runI (As := [.int (45 : Int32), .ref a3]) (b := a1) (rest := [.ref a1, .ref a0]) hE.1 (snd_X5_init_2 l G _ h5 a1 (45 : Int32) (some a3) _ hw) (cwI 2 hts (lw_meth q1319) rfl rfl rfl (hts _ q109) (hts _ q1317) (hts _ q1318) rfl (by decide +kernel) ⟨Nat.le_of_ble_eq_true rfl, Nat.le_of_ble_eq_true rfl⟩) (hv_preS hE hI) rfl rfl hl.1 rfl (lv_room (Nat.le_of_ble_eq_true rfl)) dX1_untell_14 ⟨hc, hs⟩) (fun h6 H locs hw hI => ?_)
  obtain ⟨mc7, ms7, hc, hs, hw⟩ := hw
  obtain ⟨⟨fs, hre⟩, hw⟩ := hw
  refine hx_rci hI (vx_runVX (As := [.ref a1]) (b := a0) (rest := []) hE.1 (snd_X1_change l hl0 G _ mc7 ms7 h6 a0 (some a1) _ _ hw) (vx_cwVW 1 hts (lw_VW q898 q900 qs15 q97 q901) rfl rfl rfl (by decide +kernel) ⟨Nat.le_of_ble_eq_true rfl, Nat.le_of_ble_eq_true rfl⟩) (hv_preV hE hI (ci := 1) rfl hre) rfl rfl hl.1 rfl (lv_room (Nat.le_of_ble_eq_true rfl)) dX1_untell_17 ⟨hc, hs⟩) ?_ (fun r8 h9 H locs hw hI => ?_)
  · intro E q10 h11 H locs hw hI hT
    exact hx_out hE hI hT hc hs (fun z hz => (ht z hz).elim) hw
  exact vx_ret (hv_iret hE hI hc hs hw dX1_untell_20)

theorem ha_MatchmakerRules_15_NoSuchElementException {p : Program} {s : State} {m : MethodId} {args : Array Value} {meth : Method} {c : Code} {cc : ByteArray} {nL : Nat} {ret : Option FieldType} {own : String} {G : GG} {h0 : HH} (hE : hv_E p s m args meth c cc nL ret own G h0) : ∀ w ∈ vx_at0 "MatchmakerRules" 15 "java/util/NoSuchElementException" ["java/lang/RuntimeException", "java/lang/Exception"], w.before args s = true := by
  obtain ⟨⟨-, -, -, -, hts⟩, -, -, -, hX, -⟩ := hE
  have h1 : ∀ w ∈ Bundle.ownAtoms0 "MatchmakerRules" 15 "java/util/NoSuchElementException" ["java/lang/RuntimeException", "java/lang/Exception"], vx_no w = true → w.before args s = true := (List.forall_mem_cons.mpr ⟨(fun _ => hts _ q114), (List.forall_mem_cons.mpr ⟨(fun _ => hts _ q419), (List.forall_mem_cons.mpr ⟨(fun _ => hts _ q428), (List.forall_mem_cons.mpr ⟨(fun _ => hts _ q440), (List.forall_mem_cons.mpr ⟨(fun _ => hts _ q443), (List.forall_mem_cons.mpr ⟨(fun _ => hts _ q445), (List.forall_mem_cons.mpr ⟨(fun _ => hts _ q420), (List.forall_mem_cons.mpr ⟨(fun _ => hts _ q421), (List.forall_mem_cons.mpr ⟨(fun _ => hts _ q146), (List.forall_mem_cons.mpr ⟨(fun _ => hts _ q147), (List.forall_mem_cons.mpr ⟨(fun _ => hts _ q422), (List.forall_mem_cons.mpr ⟨(fun _ => hts _ q427), (List.forall_mem_cons.mpr ⟨(fun _ => hts _ q441), (List.forall_mem_cons.mpr ⟨(fun _ => hts _ q458), (List.forall_mem_cons.mpr ⟨(fun _ => hts _ q409), (List.forall_mem_cons.mpr ⟨(fun _ => hts _ q459), (List.forall_mem_cons.mpr ⟨(fun _ => hts _ q411), (List.forall_mem_cons.mpr ⟨(fun _ => hts _ q460), (List.forall_mem_cons.mpr ⟨(fun _ => hts _ q413), (List.forall_mem_cons.mpr ⟨(fun _ => hts _ q423), (List.forall_mem_cons.mpr ⟨(fun hz => absurd hz (by decide +kernel)), (List.forall_mem_cons.mpr ⟨(fun _ => hts _ q425), (List.forall_mem_cons.mpr ⟨(fun hz => absurd hz (by decide +kernel)), (List.forall_mem_cons.mpr ⟨(fun _ => hts _ q415), (List.forall_mem_cons.mpr ⟨(fun _ => hts _ q447), (List.forall_mem_cons.mpr ⟨(fun _ => hts _ q448), (List.forall_mem_cons.mpr ⟨(fun _ => hts _ q449), (List.forall_mem_cons.mpr ⟨(fun _ => hts _ q450), (List.forall_mem_cons.mpr ⟨(fun _ => (hX.D 4 rfl).use rfl), (List.forall_mem_cons.mpr ⟨(fun _ => hts _ q450), (List.forall_mem_cons.mpr ⟨(fun _ => hts _ q451), (List.forall_mem_cons.mpr ⟨(fun _ => hts _ q452), (List.forall_mem_cons.mpr ⟨(fun _ => hts _ q453), (List.forall_mem_cons.mpr ⟨(fun _ => (hX.D 2 rfl).use rfl), (List.forall_mem_cons.mpr ⟨(fun _ => hts _ q453), (List.forall_mem_cons.mpr ⟨(fun _ => hts _ q454), (List.forall_mem_cons.mpr ⟨(fun _ => hts _ q455), (List.forall_mem_cons.mpr ⟨(fun _ => hts _ q420), (List.forall_mem_cons.mpr ⟨(fun _ => (hX.D 0 rfl).use rfl), (List.forall_mem_cons.mpr ⟨(fun _ => hts _ q1350), (List.forall_mem_cons.mpr ⟨(fun _ => hts _ q398), (List.forall_mem_cons.mpr ⟨(fun _ => (hX.C 21 rfl).use rfl), (List.forall_mem_cons.mpr ⟨(fun _ => hts _ q406), (List.forall_mem_cons.mpr ⟨(fun _ => hts _ q407), (List.forall_mem_cons.mpr ⟨(fun _ => hts _ q408), (List.forall_mem_cons.mpr ⟨(fun _ => hts _ q410), (List.forall_mem_cons.mpr ⟨(fun _ => hts _ q412), (List.forall_mem_cons.mpr ⟨(fun _ => hts _ q414), (List.forall_mem_cons.mpr ⟨(fun hz => absurd hz (by decide +kernel)), (List.forall_mem_cons.mpr ⟨(fun hz => absurd hz (by decide +kernel)), (List.forall_mem_cons.mpr ⟨(fun _ => hts _ q418), (List.forall_mem_cons.mpr ⟨(fun _ => hts _ q417), (List.forall_mem_cons.mpr ⟨(fun _ => hts _ q416), (fun _ hz => absurd hz List.not_mem_nil)⟩)⟩)⟩)⟩)⟩)⟩)⟩)⟩)⟩)⟩)⟩)⟩)⟩)⟩)⟩)⟩)⟩)⟩)⟩)⟩)⟩)⟩)⟩)⟩)⟩)⟩)⟩)⟩)⟩)⟩)⟩)⟩)⟩)⟩)⟩)⟩)⟩)⟩)⟩)⟩)⟩)⟩)⟩)⟩)⟩)⟩)⟩)⟩)⟩)⟩)⟩)⟩)⟩)
  exact fun w hw => h1 w (List.mem_filter.mp hw).1 (List.mem_filter.mp hw).2

/-- MatchmakerRules.checkElement(Z)V -/
abbrev rm_X1_checkElement (mc ms : Nat) : Room := { frames := 6, cells := mc, slots := ms, locals := 89 }
def wp_X1_checkElement (G : GG) (mc : Nat) (ms : Nat) (h : HH) (x0 : Int32) (Q : HH → Prop) (X : String → Nat → HH → Prop) : Prop := ((¬ x0 = 0 → Q h) ∧ (x0 = 0 → (0 + 1 ≤ mc ∧ 0 + 6 ≤ ms ∧ ∀ q1, h q1 = none → X "java/util/NoSuchElementException" q1 h)))
set_option maxHeartbeats 4000000 in
theorem snd_X1_checkElement (l : Launch) (hl0 : l.stackTraces = false) (G : GG) (sz : Nat) (mc : Nat) (ms : Nat) (h : HH) (x0 : Int32) (Q : HH → Prop) (X : String → Nat → HH → Prop) (hw : wp_X1_checkElement G mc ms h x0 Q X) : vx_Met l yX1_checkElement (ws_ yX1_checkElement cX1_checkElement 1 (none : Option FieldType)) (rm_X1_checkElement mc ms) (hv_Pc G h sz [.int x0]) (hv_Qv G h sz Q) (hv_XC G h sz X) mc ms (hv_A h sz) := by
  refine vx_ofW (cc := cX1_checkElement) (maxL := 1) (ret := (none : Option FieldType)) (by decide) rfl ?_
  intro p e s m args below meth c s₁ B hml ht hv
  obtain ⟨rfl, rfl, hE, hI⟩ := hv_open B hml hv
  have hE : hv_E p s m ([.int x0] : List Value).toArray meth c cX1_checkElement 1 (none : Option FieldType) RX1 G h := hE
  obtain ⟨⟨hx, hb, hml, hown, hts⟩, hr, hlocks, hXX⟩ := id hE
  have hl := lv_entry ([.int x0] : List Value) (n := 1) (Nat.le_of_ble_eq_true rfl)
  rw [lg_entry_eq]
  generalize (lg_sl ([.int x0] : List Value) ++ List.replicate (1 - (lg_sl ([.int x0] : List Value)).length) Slot.unset).toArray = ls at hl ⊢
  have hl : lv_has ls 1 [(0, .int x0)] := hl
  have hc : 0 ≤ mc := Nat.zero_le _
  have hs : 0 ≤ ms := Nat.zero_le _
  unfold wp_X1_checkElement at hw
  refine lv_iload_n hx hb dX1_checkElement_0 rfl (lv_at hl 0 rfl) ?_
  refine lv_if_ne (tgt := 12) hx hb dX1_checkElement_1 (by decide) (fun c_1 => ?_) (fun c_1 => ?_)
  · have hw := hw.1 c_1
    exact vx_ret (hv_vret hE hI hc hs hw dX1_checkElement_12)
  · have hw := hw.2 c_1
    obtain ⟨hc, hs, hw⟩ := hw
    exact hx_throw0 (names := ["java/lang/RuntimeException", "java/lang/Exception"]) (rest := []) hl0 hE hI (by decide +kernel) (by decide +kernel) (hts _ q1349) (hts _ q122) (ha_MatchmakerRules_15_NoSuchElementException hE) (by decide +kernel) hl.1 dX1_checkElement_4 dX1_checkElement_7 dX1_checkElement_8 dX1_checkElement_11 (fun z hz => (ht z hz).elim) (Nat.le_of_ble_eq_true rfl) (Nat.le_of_ble_eq_true rfl) (Nat.le_refl _) (Nat.le_refl _) hc hs hw

/-- MatchmakerRules.numberOf(LMatchmakerRules$Fact;)I -/
abbrev rm_X1_numberOf (mc ms : Nat) : Room := { frames := 7, cells := mc, slots := ms, locals := 109 }
def wp_X1_numberOf (G : GG) (mc : Nat) (ms : Nat) (h : HH) (x0 : Option Nat) (Q : Int32 → HH → Prop) (X : String → Nat → HH → Prop) : Prop := ((x0 = none → (∃ mc2 ms2, 0 + mc2 ≤ mc ∧ 0 + ms2 ≤ ms ∧ wp_X1_checkElement G mc2 ms2 h (0 : Int32) (fun h3 => (False ∧ True)) (fun E q4 h5 => X E q4 h5))) ∧ (∀ a1, x0 = some a1 → (∃ mc6 ms6, 0 + mc6 ≤ mc ∧ 0 + ms6 ≤ ms ∧ wp_X1_checkElement G mc6 ms6 h (1 : Int32) (fun h7 => w_geti h7 a1 14 0 (fun r10 => Q r10 h7)) (fun E q8 h9 => X E q8 h9))))
set_option maxHeartbeats 4000000 in
theorem snd_X1_numberOf (l : Launch) (hl0 : l.stackTraces = false) (G : GG) (sz : Nat) (mc : Nat) (ms : Nat) (h : HH) (x0 : Option Nat) (Q : Int32 → HH → Prop) (X : String → Nat → HH → Prop) (hw : wp_X1_numberOf G mc ms h x0 Q X) : vx_Met l yX1_numberOf (ws_ yX1_numberOf cX1_numberOf 1 (some FieldType.int)) (rm_X1_numberOf mc ms) (hv_Pc G h sz [va_rf x0]) (hv_Qi G h sz Q) (hv_XC G h sz X) mc ms (hv_A h sz) := by
  refine vx_ofW (cc := cX1_numberOf) (maxL := 1) (ret := (some FieldType.int)) (by decide) rfl ?_
  intro p e s m args below meth c s₁ B hml ht hv
  obtain ⟨rfl, rfl, hE, hI⟩ := hv_open B hml hv
  have hE : hv_E p s m ([va_rf x0] : List Value).toArray meth c cX1_numberOf 1 (some FieldType.int) RX1 G h := hE
  obtain ⟨⟨hx, hb, hml, hown, hts⟩, hr, hlocks, hXX⟩ := id hE
  have hl := lv_entry ([va_rf x0] : List Value) (n := 1) (by cases x0 <;> exact Nat.le_of_ble_eq_true rfl)
  rw [lg_entry_eq]
  generalize (lg_sl ([va_rf x0] : List Value) ++ List.replicate (1 - (lg_sl ([va_rf x0] : List Value)).length) Slot.unset).toArray = ls at hl ⊢
  have hl : lv_has ls 1 [(0, va_rf x0)] := (by cases x0 <;> exact hl)
  have hc : 0 ≤ mc := Nat.zero_le _
  have hs : 0 ≤ ms := Nat.zero_le _
  unfold wp_X1_numberOf at hw
  refine lv_aload_nq hx hb dX1_numberOf_0 rfl (lv_at hl 0 rfl) ?_
  refine lv_ifnullq (tgt := 8) hx hb dX1_numberOf_1 (by decide) (fun c_1 => ?_) (fun c_1 => ?_)
  · have hwa1 := hw.1 c_1; have hla1 := hl; subst c_1; have hw := hwa1; have hl := hla1
    refine lv_iconst (v := 0) hx hb dX1_numberOf_8 (by decide) ?_
    obtain ⟨mc2, ms2, hc, hs, hw⟩ := hw
    refine hx_rcv hI (vx_runS (As := [.int (0 : Int32)]) (rest := []) hE.1 (snd_X1_checkElement l hl0 G _ mc2 ms2 h (0 : Int32) _ _ hw) (va_cwS 1 hts (lw_S q1346 q1347 q97 q1348) rfl rfl rfl (by decide +kernel) ⟨Nat.le_of_ble_eq_true rfl, Nat.le_of_ble_eq_true rfl⟩) (hv_preS hE hI) rfl rfl hl.1 rfl (lv_room (Nat.le_of_ble_eq_true rfl)) dX1_numberOf_9 ⟨hc, hs⟩) ?_ (fun h3 H locs hw hI => ?_)
    · intro E q4 h5 H locs hw hI hT
      exact hx_out hE hI hT hc hs (fun z hz => (ht z hz).elim) hw
    refine lv_aload_nN hx hb dX1_numberOf_12 rfl (lv_at hl 0 rfl) ?_
    exact hw.1.elim
  · obtain ⟨a1, hz⟩ := Option.ne_none_iff_exists.mp c_1
    have hwa1 := hw.2 a1 hz.symm; have hla1 := hl; subst hz; have hw := hwa1; have hl := hla1
    refine lv_iconst (v := 1) hx hb dX1_numberOf_4 (by decide) ?_
    refine lv_goto (tgt := 9) hx hb dX1_numberOf_5 (by decide) ?_
    obtain ⟨mc6, ms6, hc, hs, hw⟩ := hw
    refine hx_rcv hI (vx_runS (As := [.int (1 : Int32)]) (rest := []) hE.1 (snd_X1_checkElement l hl0 G _ mc6 ms6 h (1 : Int32) _ _ hw) (va_cwS 1 hts (lw_S q1346 q1347 q97 q1348) rfl rfl rfl (by decide +kernel) ⟨Nat.le_of_ble_eq_true rfl, Nat.le_of_ble_eq_true rfl⟩) (hv_preS hE hI) rfl rfl hl.1 rfl (lv_room (Nat.le_of_ble_eq_true rfl)) dX1_numberOf_9 ⟨hc, hs⟩) ?_ (fun h7 H locs hw hI => ?_)
    · intro E q8 h9 H locs hw hI hT
      exact hx_out hE hI hT hc hs (fun z hz => (ht z hz).elim) hw
    refine lv_aload_n hx hb dX1_numberOf_12 rfl (lv_at hl 0 rfl) ?_
    refine hv_wgetiN hE hI in_X10 (ci := 14) rfl 0 (by decide) (hE.2.2.2.2.1.F 7 rfl) (fun _ hx => hx) hw dX1_numberOf_13 (fun r10 hw => ?_)
    exact vx_ret (hv_iret hE hI hc hs hw dX1_numberOf_16)

/-- MatchmakerRules.find(CII)I -/
abbrev rm_X1_find (mc ms : Nat) : Room := { frames := 8, cells := mc, slots := ms, locals := 129 }
def wp_X1_find (G : GG) (mc : Nat) (ms : Nat) (h : HH) (a0 : Nat) (x1 : Int32) (x2 : Int32) (x3 : Int32) (Q : Int32 → HH → Prop) (X : String → Nat → HH → Prop) : Prop := w_getq h a0 1 0 (fun r1 => w_nn r1 (fun a2 => (∃ mc3 ms3, 0 + mc3 ≤ mc ∧ 0 + ms3 ≤ ms ∧ w_is h a2 2 (wp_X2_find_2 G mc3 ms3 h a2 x1 x2 x3 (fun r4 h5 => (∃ mc6 ms6, (0 + mc3) + mc6 ≤ mc ∧ (0 + ms3) + ms6 ≤ ms ∧ wp_X1_numberOf G mc6 ms6 h5 r4 (fun r7 h8 => Q r7 h8) (fun E q9 h10 => X E q9 h10)))))))
set_option maxHeartbeats 4000000 in
theorem snd_X1_find (l : Launch) (hl0 : l.stackTraces = false) (G : GG) (sz : Nat) (mc : Nat) (ms : Nat) (h : HH) (a0 : Nat) (x1 : Int32) (x2 : Int32) (x3 : Int32) (Q : Int32 → HH → Prop) (X : String → Nat → HH → Prop) (hw : wp_X1_find G mc ms h a0 x1 x2 x3 Q X) : vx_Met l yX1_find (ws_ yX1_find cX1_find 4 (some FieldType.int)) (rm_X1_find mc ms) (hv_Pc G h sz [.ref a0, .int x1, .int x2, .int x3]) (hv_Qi G h sz Q) (hv_XC G h sz X) mc ms (hv_A h sz) := by
  refine vx_ofW (cc := cX1_find) (maxL := 4) (ret := (some FieldType.int)) (by decide) rfl ?_
  intro p e s m args below meth c s₁ B hml ht hv
  obtain ⟨rfl, rfl, hE, hI⟩ := hv_open B hml hv
  have hE : hv_E p s m ([.ref a0, .int x1, .int x2, .int x3] : List Value).toArray meth c cX1_find 4 (some FieldType.int) RX1 G h := hE
  obtain ⟨⟨hx, hb, hml, hown, hts⟩, hr, hlocks, hXX⟩ := id hE
  have hl := lv_entry ([.ref a0, .int x1, .int x2, .int x3] : List Value) (n := 4) (Nat.le_of_ble_eq_true rfl)
  rw [lg_entry_eq]
  generalize (lg_sl ([.ref a0, .int x1, .int x2, .int x3] : List Value) ++ List.replicate (4 - (lg_sl ([.ref a0, .int x1, .int x2, .int x3] : List Value)).length) Slot.unset).toArray = ls at hl ⊢
  have hl : lv_has ls 4 [(0, .ref a0), (1, .int x1), (2, .int x2), (3, .int x3)] := hl
  have hc : 0 ≤ mc := Nat.zero_le _
  have hs : 0 ≤ ms := Nat.zero_le _
  unfold wp_X1_find at hw
  refine lv_aload_n hx hb dX1_find_0 rfl (lv_at hl 0 rfl) ?_
  refine hv_wgetq hE hI in_X1 (ci := 1) rfl 0 (by decide) (hts _ q300) (fun _ hx => hx) hw dX1_find_1 (fun r1 hw => ?_)
  refine lv_iload_n hx hb dX1_find_4 rfl (lv_at hl 1 rfl) ?_
  refine lv_iload_n hx hb dX1_find_5 rfl (lv_at hl 2 rfl) ?_
  refine lv_iload_n hx hb dX1_find_6 rfl (lv_at hl 3 rfl) ?_
  obtain ⟨a2, hz, hwa2⟩ := hw; have hla2 := hl; subst hz; have hw := hwa2; have hl := hla2
  obtain ⟨mc3, ms3, hc, hs, hw⟩ := hw
  obtain ⟨⟨fs, hre⟩, hw⟩ := hw
  refine hv_rcq hI (va_runV (As := [.int x1, .int x2, .int x3]) (b := a2) (rest := []) hE.1 (snd_X2_find_2 l G _ mc3 ms3 h a2 x1 x2 x3 _ hw) (cwV 3 hts (lw_V q1342 q615 q616 q98 q617) rfl rfl rfl (by decide +kernel) ⟨Nat.le_of_ble_eq_true rfl, Nat.le_of_ble_eq_true rfl⟩) (hv_preV hE hI (ci := 2) rfl hre) rfl rfl hl.1 rfl (lv_room (Nat.le_of_ble_eq_true rfl)) dX1_find_7 ⟨hc, hs⟩) (fun r4 h5 H locs hw hI => ?_)
  obtain ⟨mc6, ms6, hc, hs, hw⟩ := hw
  refine hx_rci hI (vx_runS (As := [va_rf r4]) (rest := []) hE.1 (snd_X1_numberOf l hl0 G _ mc6 ms6 h5 r4 _ _ hw) (va_cwS 1 hts (lw_S q1343 q1344 q97 q1345) rfl rfl rfl (by decide +kernel) ⟨Nat.le_of_ble_eq_true rfl, Nat.le_of_ble_eq_true rfl⟩) (hv_preS hE hI) rfl rfl hl.1 rfl (lv_room (Nat.le_of_ble_eq_true rfl)) dX1_find_10 ⟨hc, hs⟩) ?_ (fun r7 h8 H locs hw hI => ?_)
  · intro E q9 h10 H locs hw hI hT
    exact hx_out hE hI hT hc hs (fun z hz => (ht z hz).elim) hw
  exact vx_ret (hv_iret hE hI hc hs hw dX1_find_13)

/-- MatchmakerRules.factAt(I)I -/
abbrev rm_X1_factAt (mc ms : Nat) : Room := { frames := 7, cells := mc, slots := ms, locals := 109 }
def wp_X1_factAt (G : GG) (mc : Nat) (ms : Nat) (h : HH) (a0 : Nat) (x1 : Int32) (Q : Int32 → HH → Prop) (X : String → Nat → HH → Prop) : Prop := w_getq h a0 1 0 (fun r1 => w_nn r1 (fun a2 => w_getq h a2 2 2 (fun r3 => w_nn r3 (fun a4 => w_is h a4 4 (wp_J2_size G h a4 (fun r5 h6 => wp_X1_inRange G h6 (Int32.toInt64 x1) (0 : Int64) (Int32.toInt64 (r5 - (1 : Int32))) (fun r7 h8 => (∃ mc9 ms9, 0 + mc9 ≤ mc ∧ 0 + ms9 ≤ ms ∧ wp_X1_checkElement G mc9 ms9 h8 r7 (fun h10 => w_getq h10 a0 1 0 (fun r13 => w_nn r13 (fun a14 => w_getq h10 a14 2 2 (fun r15 => w_nn r15 (fun a16 => w_is h10 a16 4 (wp_J2_get G h10 a16 x1 (fun r17 h18 => w_nn r17 (fun a19 => w_cast h18 a19 14 (w_geti h18 a19 14 0 (fun r20 => Q r20 h18)))))))))) (fun E q11 h12 => X E q11 h12)))))))))
set_option maxHeartbeats 4000000 in
theorem snd_X1_factAt (l : Launch) (hl0 : l.stackTraces = false) (G : GG) (sz : Nat) (mc : Nat) (ms : Nat) (h : HH) (a0 : Nat) (x1 : Int32) (Q : Int32 → HH → Prop) (X : String → Nat → HH → Prop) (hw : wp_X1_factAt G mc ms h a0 x1 Q X) : vx_Met l yX1_factAt (ws_ yX1_factAt cX1_factAt 2 (some FieldType.int)) (rm_X1_factAt mc ms) (hv_Pc G h sz [.ref a0, .int x1]) (hv_Qi G h sz Q) (hv_XC G h sz X) mc ms (hv_A h sz) := by
  refine vx_ofW (cc := cX1_factAt) (maxL := 2) (ret := (some FieldType.int)) (by decide) rfl ?_
  intro p e s m args below meth c s₁ B hml ht hv
  obtain ⟨rfl, rfl, hE, hI⟩ := hv_open B hml hv
  have hE : hv_E p s m ([.ref a0, .int x1] : List Value).toArray meth c cX1_factAt 2 (some FieldType.int) RX1 G h := hE
  obtain ⟨⟨hx, hb, hml, hown, hts⟩, hr, hlocks, hXX⟩ := id hE
  have hl := lv_entry ([.ref a0, .int x1] : List Value) (n := 2) (Nat.le_of_ble_eq_true rfl)
  rw [lg_entry_eq]
  generalize (lg_sl ([.ref a0, .int x1] : List Value) ++ List.replicate (2 - (lg_sl ([.ref a0, .int x1] : List Value)).length) Slot.unset).toArray = ls at hl ⊢
  have hl : lv_has ls 2 [(0, .ref a0), (1, .int x1)] := hl
  have hc : 0 ≤ mc := Nat.zero_le _
  have hs : 0 ≤ ms := Nat.zero_le _
  unfold wp_X1_factAt at hw
  refine lv_iload_n hx hb dX1_factAt_0 rfl (lv_at hl 1 rfl) ?_
  refine lv_i2l (v := (Int32.toInt64 x1)) hx hb dX1_factAt_1 rfl ?_
  refine lv_lconst (v := 0) hx hb dX1_factAt_2 (by decide) ?_
  refine lv_aload_n hx hb dX1_factAt_3 rfl (lv_at hl 0 rfl) ?_
  refine hv_wgetq hE hI in_X1 (ci := 1) rfl 0 (by decide) (hts _ q300) (fun _ hx => hx) hw dX1_factAt_4 (fun r1 hw => ?_)
  obtain ⟨a2, hz, hwa2⟩ := hw; have hla2 := hl; subst hz; have hw := hwa2; have hl := hla2
  refine hv_wgetqN hE hI in_X2 (ci := 2) rfl 2 (by decide) (hE.2.2.2.2.1.F 1 rfl) (fun _ hx => hx) hw dX1_factAt_7 (fun r3 hw => ?_)
  obtain ⟨a4, hz, hwa4⟩ := hw; have hla4 := hl; subst hz; have hw := hwa4; have hl := hla4
  obtain ⟨⟨fs, hre⟩, hw⟩ := hw
  refine hv_rci hI (va_runV (As := []) (b := a4) (rest := [.long (0 : Int64), .long (Int32.toInt64 x1)]) hE.1 (snd_J2_size l G _ h a4 _ hw) (cwV 0 hts (lw_V q332 q333 q334 q102 q335) rfl rfl rfl (by decide +kernel) ⟨Nat.le_of_ble_eq_true rfl, Nat.le_of_ble_eq_true rfl⟩) (hv_preV hE hI (ci := 4) rfl hre) rfl rfl hl.1 rfl (lv_room (Nat.le_of_ble_eq_true rfl)) dX1_factAt_10 ⟨hc, hs⟩) (fun r5 h6 H locs hw hI => ?_)
  refine lv_iconst (v := 1) hx hb dX1_factAt_13 (by decide) ?_
  refine lv_isub hx hb dX1_factAt_14 ?_
  refine lv_i2l (v := (Int32.toInt64 (r5 - (1 : Int32)))) hx hb dX1_factAt_15 rfl ?_
  refine hv_rci hI (va_runS (As := [.long (Int32.toInt64 x1), .long (0 : Int64), .long (Int32.toInt64 (r5 - (1 : Int32)))]) (rest := []) hE.1 (snd_X1_inRange l G _ h6 (Int32.toInt64 x1) (0 : Int64) (Int32.toInt64 (r5 - (1 : Int32))) _ hw) (va_cwS 3 hts (lw_S q1358 q782 q97 q783) rfl rfl rfl (by decide +kernel) ⟨Nat.le_of_ble_eq_true rfl, Nat.le_of_ble_eq_true rfl⟩) (hv_preS hE hI) rfl rfl hl.1 rfl (lv_room (Nat.le_of_ble_eq_true rfl)) dX1_factAt_16 ⟨hc, hs⟩) (fun r7 h8 H locs hw hI => ?_)
  obtain ⟨mc9, ms9, hc, hs, hw⟩ := hw
  refine hx_rcv hI (vx_runS (As := [.int r7]) (rest := []) hE.1 (snd_X1_checkElement l hl0 G _ mc9 ms9 h8 r7 _ _ hw) (va_cwS 1 hts (lw_S q1346 q1347 q97 q1348) rfl rfl rfl (by decide +kernel) ⟨Nat.le_of_ble_eq_true rfl, Nat.le_of_ble_eq_true rfl⟩) (hv_preS hE hI) rfl rfl hl.1 rfl (lv_room (Nat.le_of_ble_eq_true rfl)) dX1_factAt_19 ⟨hc, hs⟩) ?_ (fun h10 H locs hw hI => ?_)
  · intro E q11 h12 H locs hw hI hT
    exact hx_out hE hI hT hc hs (fun z hz => (ht z hz).elim) hw
  refine lv_aload_n hx hb dX1_factAt_22 rfl (lv_at hl 0 rfl) ?_
  refine hv_wgetq hE hI in_X1 (ci := 1) rfl 0 (by decide) (hts _ q300) (fun _ hx => hx) hw dX1_factAt_23 (fun r13 hw => ?_)
  obtain ⟨a14, hz, hwa14⟩ := hw; have hla14 := hl; subst hz; have hw := hwa14; have hl := hla14
  refine hv_wgetqN hE hI in_X2 (ci := 2) rfl 2 (by decide) (hE.2.2.2.2.1.F 1 rfl) (fun _ hx => hx) hw dX1_factAt_26 (fun r15 hw => ?_)
  refine lv_iload_n hx hb dX1_factAt_29 rfl (lv_at hl 1 rfl) ?_
  obtain ⟨a16, hz, hwa16⟩ := hw; have hla16 := hl; subst hz; have hw := hwa16; have hl := hla16
  obtain ⟨⟨fs, hre⟩, hw⟩ := hw
  refine hv_rcq hI (va_runV (As := [.int x1]) (b := a16) (rest := []) hE.1 (snd_J2_get l G _ h10 a16 x1 _ hw) (cwV 1 hts (lw_V q1359 q472 q473 q102 q474) rfl rfl rfl (by decide +kernel) ⟨Nat.le_of_ble_eq_true rfl, Nat.le_of_ble_eq_true rfl⟩) (hv_preV hE hI (ci := 4) rfl hre) rfl rfl hl.1 rfl (lv_room (Nat.le_of_ble_eq_true rfl)) dX1_factAt_30 ⟨hc, hs⟩) (fun r17 h18 H locs hw hI => ?_)
  obtain ⟨a19, hz, hwa19⟩ := hw; have hla19 := hl; subst hz; have hw := hwa19; have hl := hla19
  refine hv_wcast (ci := 14) hE hI (hts _ q1360) rfl hw dX1_factAt_33 (fun hw => ?_)
  refine hv_wgetiN hE hI in_X10 (ci := 14) rfl 0 (by decide) (hE.2.2.2.2.1.F 7 rfl) (fun _ hx => hx) hw dX1_factAt_36 (fun r20 hw => ?_)
  exact vx_ret (hv_iret hE hI hc hs hw dX1_factAt_39)
