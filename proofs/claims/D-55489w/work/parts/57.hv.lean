/-! walks over a world (by gen/hvrun.py) -/
set_option maxRecDepth 100000
/-- MatchmakerRules$Rule.told()Ljava/lang/String; -/
abbrev rm_X9_told (mc ms : Nat) : Room := { frames := 7, cells := mc, slots := ms, locals := 175 }
def wp_X9_told_L49 (G : GG) (mc : Nat) (ms : Nat) (a0 : Nat) (Q : Option Nat → HH → Prop) (h : HH) (nc : Nat) (nk : Nat) (x1 : Nat) : Prop := (∃ mc11 ms11, nc + mc11 ≤ mc ∧ nk + ms11 ≤ ms ∧ w_is h x1 6 (wp_J5_append G mc11 ms11 h x1 (62 : Int32) (fun r12 h13 => w_getq h13 a0 12 3 (fun r14 => w_nn r14 (fun a15 => (∃ mc16 ms16, (nc + mc11) + mc16 ≤ mc ∧ (nk + ms11) + ms16 ≤ ms ∧ w_is h13 a15 11 (wp_X8_tell G mc16 ms16 h13 a15 r12 (fun h17 => w_nn r12 (fun a18 => (∃ mc19 ms19, ((nc + mc11) + mc16) + mc19 ≤ mc ∧ ((nk + ms11) + ms16) + ms19 ≤ ms ∧ w_is h17 a18 6 (wp_J5_append G mc19 ms19 h17 a18 (42 : Int32) (fun r20 h21 => w_geti h21 a0 12 4 (fun r22 => w_nn r20 (fun a23 => (∃ mc24 ms24, (((nc + mc11) + mc16) + mc19) + mc24 ≤ mc ∧ (((nk + ms11) + ms16) + ms19) + ms24 ≤ ms ∧ w_is h21 a23 6 (wp_J5_append_2 G mc24 ms24 h21 a23 r22 (fun r25 h26 => w_nn r25 (fun a27 => (∃ mc28 ms28, ((((nc + mc11) + mc16) + mc19) + mc24) + mc28 ≤ mc ∧ ((((nk + ms11) + ms16) + ms19) + ms24) + ms28 ≤ ms ∧ w_is h26 a27 6 (wp_J5_toString G mc28 ms28 h26 a27 (fun r29 h30 => Q r29 h30)))))))))))))))))))))
set_option maxHeartbeats 4000000 in
theorem snd_X9_told_L49 {p : Program} {l : Launch} {e : Env} {s : State} {m : MethodId} {args : Array Value} {below : List Frame} {meth : Method} {c : Code} {h0 : HH} (G : GG) (mc : Nat) (ms : Nat) (a0 : Nat) (Q : Option Nat → HH → Prop) (hE : hv_E p s m args meth c cX9_told 3 (some (FieldType.object "java/lang/String")) RX9 G h0) : ∀ (h : HH) (nc : Nat) (nk : Nat) (x1 : Nat), wp_X9_told_L49 G mc ms a0 Q h nc nk x1 → nc ≤ mc → nk ≤ ms → ∀ (H : Heap) (locs : List Loc) (ls : Array Slot), hv_I G h0 s.heap h H locs → lv_has ls 3 [(0, .ref a0), (1, .ref x1)] → W p l e (headSpec (ws_ yX9_told cX9_told 3 (some (FieldType.object "java/lang/String"))) (rm_X9_told mc ms)).room s m args below meth c H locs nc nk (MQ below (hv_Qq G h0 s.heap.size Q) args s mc ms (hv_A h0 s.heap.size)) (F0 m 49 ls []) := by
  obtain ⟨⟨hx, hb, hml, hown, hts⟩, hr, hlocks, hXX⟩ := id hE
  intro h nc nk x1 hw hc hs H locs ls hI hl
  unfold wp_X9_told_L49 at hw
  refine lv_aload_n hx hb dX9_told_49 rfl (lv_at hl 1 rfl) ?_
  refine lv_bipush (v := 62) hx hb dX9_told_50 (by decide) ?_
  obtain ⟨mc11, ms11, hc, hs, hw⟩ := hw
  obtain ⟨⟨fs, hre⟩, hw⟩ := hw
  refine hv_rcq hI (va_runV (As := [.int (62 : Int32)]) (b := x1) (rest := []) hE.1 (snd_J5_append l G _ mc11 ms11 h x1 (62 : Int32) _ hw) (cwV 1 hts (lw_V q1619 q1559 q1560 q105 q1561) rfl rfl rfl (by decide +kernel) ⟨Nat.le_of_ble_eq_true rfl, Nat.le_of_ble_eq_true rfl⟩) (hv_preV hE hI (ci := 6) rfl hre) rfl rfl hl.1 rfl (lv_room (Nat.le_of_ble_eq_true rfl)) dX9_told_52 ⟨hc, hs⟩) (fun r12 h13 H locs hw hI => ?_)
  refine lv_astore_nq (lv' := [(2, va_rf r12), (0, .ref a0), (1, .ref x1)]) hx hb dX9_told_55 rfl hl (by decide) rfl (fun ls hl => ?_)
  refine lv_aload_n hx hb dX9_told_56 rfl (lv_at hl 1 rfl) ?_
  refine hv_wgetq hE hI in_X9 (ci := 12) rfl 3 (by decide) (hts _ q854) (fun _ hx => hx) hw dX9_told_57 (fun r14 hw => ?_)
  refine lv_aload_nq hx hb dX9_told_60 rfl (lv_at hl 0 rfl) ?_
  obtain ⟨a15, hz, hwa15⟩ := hw; have hla15 := hl; subst hz; have hw := hwa15; have hl := hla15
  obtain ⟨mc16, ms16, hc, hs, hw⟩ := hw
  obtain ⟨⟨fs, hre⟩, hw⟩ := hw
  refine hv_rcv hI (va_runV (As := [va_rf r12]) (b := a15) (rest := []) hE.1 (snd_X8_tell l G _ mc16 ms16 h13 a15 r12 _ hw) (cwV 1 hts (lw_V q1554 q1555 q1556 q117 q1557) rfl rfl rfl (by decide +kernel) ⟨Nat.le_of_ble_eq_true rfl, Nat.le_of_ble_eq_true rfl⟩) (hv_preV hE hI (ci := 11) rfl hre) rfl rfl hl.1 rfl (lv_room (Nat.le_of_ble_eq_true rfl)) dX9_told_61 ⟨hc, hs⟩) (fun h17 H locs hw hI => ?_)
  refine lv_aload_nq hx hb dX9_told_64 rfl (lv_at hl 0 rfl) ?_
  refine lv_bipush (v := 42) hx hb dX9_told_65 (by decide) ?_
  obtain ⟨a18, hz, hwa18⟩ := hw; have hla18 := hl; subst hz; have hw := hwa18; have hl := hla18
  obtain ⟨mc19, ms19, hc, hs, hw⟩ := hw
  obtain ⟨⟨fs, hre⟩, hw⟩ := hw
  refine hv_rcq hI (va_runV (As := [.int (42 : Int32)]) (b := a18) (rest := []) hE.1 (snd_J5_append l G _ mc19 ms19 h17 a18 (42 : Int32) _ hw) (cwV 1 hts (lw_V q1619 q1559 q1560 q105 q1561) rfl rfl rfl (by decide +kernel) ⟨Nat.le_of_ble_eq_true rfl, Nat.le_of_ble_eq_true rfl⟩) (hv_preV hE hI (ci := 6) rfl hre) rfl rfl hl.1 rfl (lv_room (Nat.le_of_ble_eq_true rfl)) dX9_told_67 ⟨hc, hs⟩) (fun r20 h21 H locs hw hI => ?_)
  refine lv_aload_n hx hb dX9_told_70 rfl (lv_at hl 1 rfl) ?_
  refine hv_wgeti hE hI in_X9 (ci := 12) rfl 4 (by decide) (hts _ q856) (fun _ hx => hx) hw dX9_told_71 (fun r22 hw => ?_)
  obtain ⟨a23, hz, hwa23⟩ := hw; have hla23 := hl; subst hz; have hw := hwa23; have hl := hla23
  obtain ⟨mc24, ms24, hc, hs, hw⟩ := hw
  obtain ⟨⟨fs, hre⟩, hw⟩ := hw
  refine hv_rcq hI (va_runV (As := [.int r22]) (b := a23) (rest := []) hE.1 (snd_J5_append_2 l G _ mc24 ms24 h21 a23 r22 _ hw) (cwV 1 hts (lw_V q1620 q1621 q1622 q105 q1623) rfl rfl rfl (by decide +kernel) ⟨Nat.le_of_ble_eq_true rfl, Nat.le_of_ble_eq_true rfl⟩) (hv_preV hE hI (ci := 6) rfl hre) rfl rfl hl.1 rfl (lv_room (Nat.le_of_ble_eq_true rfl)) dX9_told_74 ⟨hc, hs⟩) (fun r25 h26 H locs hw hI => ?_)
  obtain ⟨a27, hz, hwa27⟩ := hw; have hla27 := hl; subst hz; have hw := hwa27; have hl := hla27
  obtain ⟨mc28, ms28, hc, hs, hw⟩ := hw
  obtain ⟨⟨fs, hre⟩, hw⟩ := hw
  refine hv_rcq hI (va_runV (As := []) (b := a27) (rest := []) hE.1 (snd_J5_toString l G _ mc28 ms28 h26 a27 _ hw) (cwV 0 hts (lw_V q1654 q1655 q1656 q105 q1657) rfl rfl rfl (by decide +kernel) ⟨Nat.le_of_ble_eq_true rfl, Nat.le_of_ble_eq_true rfl⟩) (hv_preV hE hI (ci := 6) rfl hre) rfl rfl hl.1 rfl (lv_room (Nat.le_of_ble_eq_true rfl)) dX9_told_77 ⟨hc, hs⟩) (fun r29 h30 H locs hw hI => ?_)
  exact hv_qret (v := r29) hE (Or.inl ⟨_, rfl⟩) hI hc hs hw dX9_told_80
def wp_X9_told_L40 (G : GG) (mc : Nat) (ms : Nat) (a0 : Nat) (Q : Option Nat → HH → Prop) (h : HH) (nc : Nat) (nk : Nat) (x1 : Nat) (t0 : Option Nat) : Prop := w_getq h a0 12 1 (fun r32 => w_nn r32 (fun a33 => (∃ mc34 ms34, nc + mc34 ≤ mc ∧ nk + ms34 ≤ ms ∧ w_is h a33 11 (wp_X8_tell G mc34 ms34 h a33 t0 (fun h35 => wp_X9_told_L49 G mc ms a0 Q h35 (nc + mc34) (nk + ms34) x1)))))
set_option maxHeartbeats 4000000 in
theorem snd_X9_told_L40 {p : Program} {l : Launch} {e : Env} {s : State} {m : MethodId} {args : Array Value} {below : List Frame} {meth : Method} {c : Code} {h0 : HH} (G : GG) (mc : Nat) (ms : Nat) (a0 : Nat) (Q : Option Nat → HH → Prop) (hE : hv_E p s m args meth c cX9_told 3 (some (FieldType.object "java/lang/String")) RX9 G h0) : ∀ (h : HH) (nc : Nat) (nk : Nat) (x1 : Nat) (t0 : Option Nat), wp_X9_told_L40 G mc ms a0 Q h nc nk x1 t0 → nc ≤ mc → nk ≤ ms → ∀ (H : Heap) (locs : List Loc) (ls : Array Slot), hv_I G h0 s.heap h H locs → lv_has ls 3 [(0, .ref a0), (1, .ref x1)] → W p l e (headSpec (ws_ yX9_told cX9_told 3 (some (FieldType.object "java/lang/String"))) (rm_X9_told mc ms)).room s m args below meth c H locs nc nk (MQ below (hv_Qq G h0 s.heap.size Q) args s mc ms (hv_A h0 s.heap.size)) (F0 m 40 ls [va_rf t0]) := by
  obtain ⟨⟨hx, hb, hml, hown, hts⟩, hr, hlocks, hXX⟩ := id hE
  intro h nc nk x1 t0 hw hc hs H locs ls hI hl
  unfold wp_X9_told_L40 at hw
  refine lv_astore_nq (lv' := [(2, va_rf t0), (0, .ref a0), (1, .ref x1)]) hx hb dX9_told_40 rfl hl (by decide) rfl (fun ls hl => ?_)
  refine lv_aload_n hx hb dX9_told_41 rfl (lv_at hl 1 rfl) ?_
  refine hv_wgetq hE hI in_X9 (ci := 12) rfl 1 (by decide) (hts _ q849) (fun _ hx => hx) hw dX9_told_42 (fun r32 hw => ?_)
  refine lv_aload_nq hx hb dX9_told_45 rfl (lv_at hl 0 rfl) ?_
  obtain ⟨a33, hz, hwa33⟩ := hw; have hla33 := hl; subst hz; have hw := hwa33; have hl := hla33
  obtain ⟨mc34, ms34, hc, hs, hw⟩ := hw
  obtain ⟨⟨fs, hre⟩, hw⟩ := hw
  refine hv_rcv hI (va_runV (As := [va_rf t0]) (b := a33) (rest := []) hE.1 (snd_X8_tell l G _ mc34 ms34 h a33 t0 _ hw) (cwV 1 hts (lw_V q1554 q1555 q1556 q117 q1557) rfl rfl rfl (by decide +kernel) ⟨Nat.le_of_ble_eq_true rfl, Nat.le_of_ble_eq_true rfl⟩) (hv_preV hE hI (ci := 11) rfl hre) rfl rfl hl.1 rfl (lv_room (Nat.le_of_ble_eq_true rfl)) dX9_told_46 ⟨hc, hs⟩) (fun h35 H locs hw hI => ?_)
  exact snd_X9_told_L49 G mc ms a0 Q hE h35 (nc + mc34) (nk + ms34) x1 hw hc hs _ _ _ hI (lv_sub hl [1, 2] rfl)
def wp_X9_told (G : GG) (mc : Nat) (ms : Nat) (h : HH) (a0 : Nat) (Q : Option Nat → HH → Prop) : Prop := (0 + 1 ≤ mc ∧ 0 + 4 ≤ ms ∧ w_new h (.inr (6, df_J5)) (fun a1 h2 => (∃ mc3 ms3, (0 + 1) + mc3 ≤ mc ∧ (0 + 4) + ms3 ≤ ms ∧ wp_J5_init G mc3 ms3 h2 a1 (fun h4 => w_getq h4 a0 12 0 (fun r5 => w_nn r5 (fun a6 => (∃ mc7 ms7, ((0 + 1) + mc3) + mc7 ≤ mc ∧ ((0 + 4) + ms3) + ms7 ≤ ms ∧ w_is h4 a6 11 (wp_X8_tell G mc7 ms7 h4 a6 (some a1) (fun h8 => w_getq h8 a0 12 1 (fun r9 => ((r9 = none → wp_X9_told_L49 G mc ms a0 Q h8 (((0 + 1) + mc3) + mc7) (((0 + 4) + ms3) + ms7) a1) ∧ (∀ a10, r9 = some a10 → w_geti h8 a0 12 2 (fun r31 => ((r31 = 0 → wp_X9_told_L40 G mc ms a0 Q h8 (((0 + 1) + mc3) + mc7) (((0 + 4) + ms3) + ms7) a1 (some a1)) ∧ (¬ r31 = 0 → (∃ mc36 ms36, (((0 + 1) + mc3) + mc7) + mc36 ≤ mc ∧ (((0 + 4) + ms3) + ms7) + ms36 ≤ ms ∧ w_is h8 a1 6 (wp_J5_append G mc36 ms36 h8 a1 (33 : Int32) (fun r37 h38 => wp_X9_told_L40 G mc ms a0 Q h38 ((((0 + 1) + mc3) + mc7) + mc36) ((((0 + 4) + ms3) + ms7) + ms36) a1 r37))))))))))))))))))
set_option maxHeartbeats 4000000 in
theorem snd_X9_told (l : Launch) (G : GG) (sz : Nat) (mc : Nat) (ms : Nat) (h : HH) (a0 : Nat) (Q : Option Nat → HH → Prop) (hw : wp_X9_told G mc ms h a0 Q) : Met l yX9_told (ws_ yX9_told cX9_told 3 (some (FieldType.object "java/lang/String"))) (rm_X9_told mc ms) (hv_Pc G h sz [.ref a0]) (hv_Qq G h sz Q) mc ms (hv_A h sz) := by
  refine Met.ofW (cc := cX9_told) (maxL := 3) (ret := (some (FieldType.object "java/lang/String"))) (by decide) rfl ?_
  intro p e s m args below meth c s₁ B hml hv
  obtain ⟨rfl, rfl, hE, hI⟩ := hv_open B hml hv
  have hE : hv_E p s m ([.ref a0] : List Value).toArray meth c cX9_told 3 (some (FieldType.object "java/lang/String")) RX9 G h := hE
  obtain ⟨⟨hx, hb, hml, hown, hts⟩, hr, hlocks, hXX⟩ := id hE
  have hl := lv_entry ([.ref a0] : List Value) (n := 3) (Nat.le_of_ble_eq_true rfl)
  rw [lg_entry_eq]
  generalize (lg_sl ([.ref a0] : List Value) ++ List.replicate (3 - (lg_sl ([.ref a0] : List Value)).length) Slot.unset).toArray = ls at hl ⊢
  have hl : lv_has ls 3 [(0, .ref a0)] := hl
  have hc : 0 ≤ mc := Nat.zero_le _
  have hs : 0 ≤ ms := Nat.zero_le _
  unfold wp_X9_told at hw
  obtain ⟨hc, hs, hw⟩ := hw
  refine hv_wnew tyJ5 hE hI in_J5 tyJ5_ok (hts _ q1552) (hts _ q268) (hts _ q105) (ci := 6) rfl df_J5_ok hw hc hs dX9_told_0 (fun a1 h2 H hw hI => ?_)
  refine lv_dup hx hb dX9_told_3 rfl ?_
  obtain ⟨mc3, ms3, hc, hs, hw⟩ := hw
  refine hv_rcv hI (va_runI (As := []) (b := a1) (rest := [.ref a1]) hE.1 (snd_J5_init l G _ mc3 ms3 h2 a1 _ hw) (cwI 0 hts (lw_meth q271) rfl rfl rfl (hts _ q105) (hts _ q1553) (hts _ q270) rfl (by decide +kernel) ⟨Nat.le_of_ble_eq_true rfl, Nat.le_of_ble_eq_true rfl⟩) (hv_preS hE hI) rfl rfl hl.1 rfl (lv_room (Nat.le_of_ble_eq_true rfl)) dX9_told_4 ⟨hc, hs⟩) (fun h4 H locs hw hI => ?_)
  refine lv_astore_n (lv' := [(1, .ref a1), (0, .ref a0)]) hx hb dX9_told_7 rfl hl (by decide) rfl (fun ls hl => ?_)
  refine lv_aload_n hx hb dX9_told_8 rfl (lv_at hl 1 rfl) ?_
  refine hv_wgetq hE hI in_X9 (ci := 12) rfl 0 (by decide) (hts _ q846) (fun _ hx => hx) hw dX9_told_9 (fun r5 hw => ?_)
  refine lv_aload_n hx hb dX9_told_12 rfl (lv_at hl 0 rfl) ?_
  obtain ⟨a6, hz, hwa6⟩ := hw; have hla6 := hl; subst hz; have hw := hwa6; have hl := hla6
  obtain ⟨mc7, ms7, hc, hs, hw⟩ := hw
  obtain ⟨⟨fs, hre⟩, hw⟩ := hw
  refine hv_rcv hI (va_runV (As := [.ref a1]) (b := a6) (rest := []) hE.1 (snd_X8_tell l G _ mc7 ms7 h4 a6 (some a1) _ hw) (cwV 1 hts (lw_V q1554 q1555 q1556 q117 q1557) rfl rfl rfl (by decide +kernel) ⟨Nat.le_of_ble_eq_true rfl, Nat.le_of_ble_eq_true rfl⟩) (hv_preV hE hI (ci := 11) rfl hre) rfl rfl hl.1 rfl (lv_room (Nat.le_of_ble_eq_true rfl)) dX9_told_13 ⟨hc, hs⟩) (fun h8 H locs hw hI => ?_)
  refine lv_aload_n hx hb dX9_told_16 rfl (lv_at hl 1 rfl) ?_
  refine hv_wgetq hE hI in_X9 (ci := 12) rfl 1 (by decide) (hts _ q849) (fun _ hx => hx) hw dX9_told_17 (fun r9 hw => ?_)
  refine lv_ifnullq (tgt := 49) hx hb dX9_told_20 (by decide) (fun c_20 => ?_) (fun c_20 => ?_)
  · have hwa10 := hw.1 c_20; have hla10 := hl; subst c_20; have hw := hwa10; have hl := hla10
    exact snd_X9_told_L49 G mc ms a0 Q hE h8 (((0 + 1) + mc3) + mc7) (((0 + 4) + ms3) + ms7) a1 hw hc hs _ _ _ hI (lv_sub hl [1, 0] rfl)
  · obtain ⟨a10, hz⟩ := Option.ne_none_iff_exists.mp c_20
    have hwa10 := hw.2 a10 hz.symm; have hla10 := hl; subst hz; have hw := hwa10; have hl := hla10
    refine lv_aload_n hx hb dX9_told_23 rfl (lv_at hl 1 rfl) ?_
    refine hv_wgeti hE hI in_X9 (ci := 12) rfl 2 (by decide) (hts _ q852) (fun _ hx => hx) hw dX9_told_24 (fun r31 hw => ?_)
    refine lv_if_eq (tgt := 39) hx hb dX9_told_27 (by decide) (fun c_27 => ?_) (fun c_27 => ?_)
    · have hw := hw.1 c_27
      refine lv_aload_n hx hb dX9_told_39 rfl (lv_at hl 0 rfl) ?_
      exact snd_X9_told_L40 G mc ms a0 Q hE h8 (((0 + 1) + mc3) + mc7) (((0 + 4) + ms3) + ms7) a1 (some a1) hw hc hs _ _ _ hI (lv_sub hl [1, 0] rfl)
    · have hw := hw.2 c_27
      refine lv_aload_n hx hb dX9_told_30 rfl (lv_at hl 0 rfl) ?_
      refine lv_bipush (v := 33) hx hb dX9_told_31 (by decide) ?_
      obtain ⟨mc36, ms36, hc, hs, hw⟩ := hw
      obtain ⟨⟨fs, hre⟩, hw⟩ := hw
      refine hv_rcq hI (va_runV (As := [.int (33 : Int32)]) (b := a1) (rest := []) hE.1 (snd_J5_append l G _ mc36 ms36 h8 a1 (33 : Int32) _ hw) (cwV 1 hts (lw_V q1619 q1559 q1560 q105 q1561) rfl rfl rfl (by decide +kernel) ⟨Nat.le_of_ble_eq_true rfl, Nat.le_of_ble_eq_true rfl⟩) (hv_preV hE hI (ci := 6) rfl hre) rfl rfl hl.1 rfl (lv_room (Nat.le_of_ble_eq_true rfl)) dX9_told_33 ⟨hc, hs⟩) (fun r37 h38 H locs hw hI => ?_)
      refine lv_goto (tgt := 40) hx hb dX9_told_36 (by decide) ?_
      exact snd_X9_told_L40 G mc ms a0 Q hE h38 ((((0 + 1) + mc3) + mc7) + mc36) ((((0 + 4) + ms3) + ms7) + ms36) a1 r37 hw hc hs _ _ _ hI (lv_sub hl [1, 0] rfl)

/-- MatchmakerRules.line(I)I -/
abbrev rm_X1_line (mc ms : Nat) : Room := { frames := 8, cells := mc, slots := ms, locals := 197 }
def wp_X1_line (G : GG) (mc : Nat) (ms : Nat) (h : HH) (a0 : Nat) (x1 : Int32) (Q : Int32 → HH → Prop) (X : String → Nat → HH → Prop) : Prop := w_getq h a0 1 0 (fun r1 => w_nn r1 (fun a2 => (∃ mc3 ms3, 0 + mc3 ≤ mc ∧ 0 + ms3 ≤ ms ∧ w_is h a2 2 (wp_X2_rule G mc3 ms3 h a2 x1 (fun r4 h5 => w_nn r4 (fun a8 => (∃ mc9 ms9, (0 + mc3) + mc9 ≤ mc ∧ (0 + ms3) + ms9 ≤ ms ∧ w_is h5 a8 12 (wp_X9_told G mc9 ms9 h5 a8 (fun r10 h11 => w_put h11 a0 1 5 (va_rf r10) (fun h12 => w_getq h12 a0 1 5 (fun r13 => w_nn r13 (fun a14 => w_isS G h12 a14 (wp_J6_length G h12 a14 (fun r15 h16 => Q r15 h16)))))))))) (fun E q6 h7 => X E q6 h7)))))
set_option maxHeartbeats 4000000 in
theorem snd_X1_line (l : Launch) (hl0 : l.stackTraces = false) (G : GG) (sz : Nat) (mc : Nat) (ms : Nat) (h : HH) (a0 : Nat) (x1 : Int32) (Q : Int32 → HH → Prop) (X : String → Nat → HH → Prop) (hw : wp_X1_line G mc ms h a0 x1 Q X) : vx_Met l yX1_line (ws_ yX1_line cX1_line 2 (some FieldType.int)) (rm_X1_line mc ms) (hv_Pc G h sz [.ref a0, .int x1]) (hv_Qi G h sz Q) (hv_XC G h sz X) mc ms (hv_A h sz) := by
  refine vx_ofW (cc := cX1_line) (maxL := 2) (ret := (some FieldType.int)) (by decide) rfl ?_
  intro p e s m args below meth c s₁ B hml ht hv
  obtain ⟨rfl, rfl, hE, hI⟩ := hv_open B hml hv
  have hE : hv_E p s m ([.ref a0, .int x1] : List Value).toArray meth c cX1_line 2 (some FieldType.int) RX1 G h := hE
  obtain ⟨⟨hx, hb, hml, hown, hts⟩, hr, hlocks, hXX⟩ := id hE
  have hl := lv_entry ([.ref a0, .int x1] : List Value) (n := 2) (Nat.le_of_ble_eq_true rfl)
  rw [lg_entry_eq]
  generalize (lg_sl ([.ref a0, .int x1] : List Value) ++ List.replicate (2 - (lg_sl ([.ref a0, .int x1] : List Value)).length) Slot.unset).toArray = ls at hl ⊢
  have hl : lv_has ls 2 [(0, .ref a0), (1, .int x1)] := hl
  have hc : 0 ≤ mc := Nat.zero_le _
  have hs : 0 ≤ ms := Nat.zero_le _
  unfold wp_X1_line at hw
  refine lv_aload_n hx hb dX1_line_0 rfl (lv_at hl 0 rfl) ?_
  refine lv_aload_n hx hb dX1_line_1 rfl (lv_at hl 0 rfl) ?_
  refine hv_wgetq hE hI in_X1 (ci := 1) rfl 0 (by decide) (hts _ q300) (fun _ hx => hx) hw dX1_line_2 (fun r1 hw => ?_)
  refine lv_iload_n hx hb dX1_line_5 rfl (lv_at hl 1 rfl) ?_
  obtain ⟨a2, hz, hwa2⟩ := hw; have hla2 := hl; subst hz; have hw := hwa2; have hl := hla2
  obtain ⟨mc3, ms3, hc, hs, hw⟩ := hw
  obtain ⟨⟨fs, hre⟩, hw⟩ := hw
  refine hx_rcq hI (vx_runV (As := [.int x1]) (b := a2) (rest := [.ref a0]) hE.1 (snd_X2_rule l hl0 G _ mc3 ms3 h a2 x1 _ _ hw) (cwV 1 hts (lw_V q1470 q1471 q1472 q98 q1473) rfl rfl rfl (by decide +kernel) ⟨Nat.le_of_ble_eq_true rfl, Nat.le_of_ble_eq_true rfl⟩) (hv_preV hE hI (ci := 2) rfl hre) rfl rfl hl.1 rfl (lv_room (Nat.le_of_ble_eq_true rfl)) dX1_line_6 ⟨hc, hs⟩) ?_ (fun r4 h5 H locs hw hI => ?_)
  · intro E q6 h7 H locs hw hI hT
    exact hx_out hE hI hT hc hs (fun z hz => (ht z hz).elim) hw
  obtain ⟨a8, hz, hwa8⟩ := hw; have hla8 := hl; subst hz; have hw := hwa8; have hl := hla8
  obtain ⟨mc9, ms9, hc, hs, hw⟩ := hw
  obtain ⟨⟨fs, hre⟩, hw⟩ := hw
  refine hv_rcq hI (va_runV (As := []) (b := a8) (rest := [.ref a0]) hE.1 (snd_X9_told l G _ mc9 ms9 h5 a8 _ hw) (cwV 0 hts (lw_V q1548 q1549 q1550 q118 q1551) rfl rfl rfl (by decide +kernel) ⟨Nat.le_of_ble_eq_true rfl, Nat.le_of_ble_eq_true rfl⟩) (hv_preV hE hI (ci := 12) rfl hre) rfl rfl hl.1 rfl (lv_room (Nat.le_of_ble_eq_true rfl)) dX1_line_9 ⟨hc, hs⟩) (fun r10 h11 H locs hw hI => ?_)
  refine hv_wput (v := va_rf r10) tyX1 hE hI in_X1 tyX1_ok nmX1 (ci := 1) rfl 5 (by decide) (hts _ q305) (fun _ hx => hx) rfl (ty := (.object "java/lang/String")) rfl (va_rf_nar _ _) (va_rf_fit _ _) hw dX1_line_12 (fun h12 H locs hw hI => ?_)
  refine lv_aload_n hx hb dX1_line_15 rfl (lv_at hl 0 rfl) ?_
  refine hv_wgetq hE hI in_X1 (ci := 1) rfl 5 (by decide) (hts _ q305) (fun _ hx => hx) hw dX1_line_16 (fun r13 hw => ?_)
  obtain ⟨a14, hz, hwa14⟩ := hw; have hla14 := hl; subst hz; have hw := hwa14; have hl := hla14
  obtain ⟨hre, hw⟩ := hw
  refine hv_rci hI (va_runV (As := []) (b := a14) (rest := []) hE.1 (snd_J6_length l G _ h12 a14 _ hw) (cwV 0 hts (lw_V q1739 q713 q2520 q106 q715) rfl rfl rfl (by decide +kernel) ⟨Nat.le_of_ble_eq_true rfl, Nat.le_of_ble_eq_true rfl⟩) (hv_preVS hE hI hre) rfl rfl hl.1 rfl (lv_room (Nat.le_of_ble_eq_true rfl)) dX1_line_19 ⟨hc, hs⟩) (fun r15 h16 H locs hw hI => ?_)
  exact vx_ret (hv_iret hE hI hc hs hw dX1_line_22)

/-- MatchmakerRules$Book.tell(LMatchmakerRules$Firing;Ljava/lang/StringBuilder;)V -/
abbrev rm_X2_tell_2 (mc ms : Nat) : Room := { frames := 6, cells := mc, slots := ms, locals := 152 }
def wp_X2_tell_2 (G : GG) (mc : Nat) (ms : Nat) (h : HH) (a0 : Nat) (x1 : Option Nat) (x2 : Option Nat) (Q : HH → Prop) : Prop := w_nn x2 (fun a1 => (∃ mc2 ms2, 0 + mc2 ≤ mc ∧ 0 + ms2 ≤ ms ∧ w_is h a1 6 (wp_J5_append_3 G mc2 ms2 h a1 (some (G.2.2 5)) (fun r3 h4 => w_getq h4 a0 2 1 (fun r5 => w_nn x1 (fun a6 => w_getq h4 a6 16 0 (fun r7 => w_nn r5 (fun a8 => w_is h4 a8 4 (wp_J2_indexOf G h4 a8 r7 (fun r9 h10 => w_nn r3 (fun a11 => (∃ mc12 ms12, (0 + mc2) + mc12 ≤ mc ∧ (0 + ms2) + ms12 ≤ ms ∧ w_is h10 a11 6 (wp_J5_append_2 G mc12 ms12 h10 a11 r9 (fun r13 h14 => w_nn r13 (fun a15 => (∃ mc16 ms16, ((0 + mc2) + mc12) + mc16 ≤ mc ∧ ((0 + ms2) + ms12) + ms16 ≤ ms ∧ w_is h14 a15 6 (wp_J5_append G mc16 ms16 h14 a15 (44 : Int32) (fun r17 h18 => w_geti h18 a6 16 1 (fun r19 => w_nn r17 (fun a20 => (∃ mc21 ms21, (((0 + mc2) + mc12) + mc16) + mc21 ≤ mc ∧ (((0 + ms2) + ms12) + ms16) + ms21 ≤ ms ∧ w_is h18 a20 6 (wp_J5_append_2 G mc21 ms21 h18 a20 r19 (fun r22 h23 => w_geti h23 a6 16 2 (fun r24 => ((¬ r24 = (-1 : Int32) → w_nn r22 (fun a25 => (∃ mc26 ms26, ((((0 + mc2) + mc12) + mc16) + mc21) + mc26 ≤ mc ∧ ((((0 + ms2) + ms12) + ms16) + ms21) + ms26 ≤ ms ∧ w_is h23 a25 6 (wp_J5_append G mc26 ms26 h23 a25 (44 : Int32) (fun r27 h28 => w_geti h28 a6 16 2 (fun r29 => w_nn r27 (fun a30 => (∃ mc31 ms31, (((((0 + mc2) + mc12) + mc16) + mc21) + mc26) + mc31 ≤ mc ∧ (((((0 + ms2) + ms12) + ms16) + ms21) + ms26) + ms31 ≤ ms ∧ w_is h28 a30 6 (wp_J5_append_2 G mc31 ms31 h28 a30 r29 (fun r32 h33 => Q h33)))))))))) ∧ (r24 = (-1 : Int32) → Q h23))))))))))))))))))))))))))
set_option maxHeartbeats 4000000 in
theorem snd_X2_tell_2 (l : Launch) (G : GG) (sz : Nat) (mc : Nat) (ms : Nat) (h : HH) (a0 : Nat) (x1 : Option Nat) (x2 : Option Nat) (Q : HH → Prop) (hw : wp_X2_tell_2 G mc ms h a0 x1 x2 Q) : Met l yX2_tell_2 (ws_ yX2_tell_2 cX2_tell_2 4 (none : Option FieldType)) (rm_X2_tell_2 mc ms) (hv_Pc G h sz [.ref a0, va_rf x1, va_rf x2]) (hv_Qv G h sz Q) mc ms (hv_A h sz) := by
  refine Met.ofW (cc := cX2_tell_2) (maxL := 4) (ret := (none : Option FieldType)) (by decide) rfl ?_
  intro p e s m args below meth c s₁ B hml hv
  obtain ⟨rfl, rfl, hE, hI⟩ := hv_open B hml hv
  have hE : hv_E p s m ([.ref a0, va_rf x1, va_rf x2] : List Value).toArray meth c cX2_tell_2 4 (none : Option FieldType) RX2 G h := hE
  obtain ⟨⟨hx, hb, hml, hown, hts⟩, hr, hlocks, hXX⟩ := id hE
  have hl := lv_entry ([.ref a0, va_rf x1, va_rf x2] : List Value) (n := 4) (by cases x1 <;> cases x2 <;> exact Nat.le_of_ble_eq_true rfl)
  rw [lg_entry_eq]
  generalize (lg_sl ([.ref a0, va_rf x1, va_rf x2] : List Value) ++ List.replicate (4 - (lg_sl ([.ref a0, va_rf x1, va_rf x2] : List Value)).length) Slot.unset).toArray = ls at hl ⊢
  have hl : lv_has ls 4 [(0, .ref a0), (1, va_rf x1), (2, va_rf x2)] := (by cases x1 <;> cases x2 <;> exact hl)
  have hc : 0 ≤ mc := Nat.zero_le _
  have hs : 0 ≤ ms := Nat.zero_le _
  unfold wp_X2_tell_2 at hw
  refine lv_aload_nq hx hb dX2_tell_2_0 rfl (lv_at hl 2 rfl) ?_
  refine hv_ldcwS hE (hv_zH hE).2.2.2.2.2.2.2.2.2.2.2.2.1.1 rfl dX2_tell_2_1 ?_
  obtain ⟨a1, hz, hwa1⟩ := hw; have hla1 := hl; subst hz; have hw := hwa1; have hl := hla1
  obtain ⟨mc2, ms2, hc, hs, hw⟩ := hw
  obtain ⟨⟨fs, hre⟩, hw⟩ := hw
  refine hv_rcq hI (va_runV (As := [.ref (G.2.2 5)]) (b := a1) (rest := []) hE.1 (snd_J5_append_3 l G _ mc2 ms2 h a1 (some (G.2.2 5)) _ hw) (cwV 1 hts (lw_V q1760 q1688 q1689 q105 q1690) rfl rfl rfl (by decide +kernel) ⟨Nat.le_of_ble_eq_true rfl, Nat.le_of_ble_eq_true rfl⟩) (hv_preV hE hI (ci := 6) rfl hre) rfl rfl hl.1 rfl (lv_room (Nat.le_of_ble_eq_true rfl)) dX2_tell_2_4 ⟨hc, hs⟩) (fun r3 h4 H locs hw hI => ?_)
  refine lv_aload_n hx hb dX2_tell_2_7 rfl (lv_at hl 0 rfl) ?_
  refine hv_wgetq hE hI in_X2 (ci := 2) rfl 1 (by decide) (hts _ q219) (fun _ hx => hx) hw dX2_tell_2_8 (fun r5 hw => ?_)
  refine lv_aload_nq hx hb dX2_tell_2_11 rfl (lv_at hl 1 rfl) ?_
  obtain ⟨a6, hz, hwa6⟩ := hw; have hla6 := hl; subst hz; have hw := hwa6; have hl := hla6
  refine hv_wgetqN hE hI in_X12 (ci := 16) rfl 0 (by decide) (hE.2.2.2.2.1.F 32 rfl) (fun _ hx => hx) hw dX2_tell_2_12 (fun r7 hw => ?_)
  obtain ⟨a8, hz, hwa8⟩ := hw; have hla8 := hl; subst hz; have hw := hwa8; have hl := hla8
  obtain ⟨⟨fs, hre⟩, hw⟩ := hw
  refine hv_rci hI (va_runV (As := [va_rf r7]) (b := a8) (rest := [va_rf r3]) hE.1 (snd_J2_indexOf l G _ h4 a8 r7 _ hw) (cwV 1 hts (lw_V q569 q570 q571 q102 q572) rfl rfl rfl (by decide +kernel) ⟨Nat.le_of_ble_eq_true rfl, Nat.le_of_ble_eq_true rfl⟩) (hv_preV hE hI (ci := 4) rfl hre) rfl rfl hl.1 rfl (lv_room (by cases r3 <;> exact Nat.le_of_ble_eq_true rfl)) dX2_tell_2_15 ⟨hc, hs⟩) (fun r9 h10 H locs hw hI => ?_)
  obtain ⟨a11, hz, hwa11⟩ := hw; have hla11 := hl; subst hz; have hw := hwa11; have hl := hla11
  obtain ⟨mc12, ms12, hc, hs, hw⟩ := hw
  obtain ⟨⟨fs, hre⟩, hw⟩ := hw
  refine hv_rcq hI (va_runV (As := [.int r9]) (b := a11) (rest := []) hE.1 (snd_J5_append_2 l G _ mc12 ms12 h10 a11 r9 _ hw) (cwV 1 hts (lw_V q1753 q1621 q1622 q105 q1623) rfl rfl rfl (by decide +kernel) ⟨Nat.le_of_ble_eq_true rfl, Nat.le_of_ble_eq_true rfl⟩) (hv_preV hE hI (ci := 6) rfl hre) rfl rfl hl.1 rfl (lv_room (Nat.le_of_ble_eq_true rfl)) dX2_tell_2_18 ⟨hc, hs⟩) (fun r13 h14 H locs hw hI => ?_)
  refine lv_bipush (v := 44) hx hb dX2_tell_2_21 (by decide) ?_
  obtain ⟨a15, hz, hwa15⟩ := hw; have hla15 := hl; subst hz; have hw := hwa15; have hl := hla15
  obtain ⟨mc16, ms16, hc, hs, hw⟩ := hw
  obtain ⟨⟨fs, hre⟩, hw⟩ := hw
  refine hv_rcq hI (va_runV (As := [.int (44 : Int32)]) (b := a15) (rest := []) hE.1 (snd_J5_append l G _ mc16 ms16 h14 a15 (44 : Int32) _ hw) (cwV 1 hts (lw_V q1754 q1559 q1560 q105 q1561) rfl rfl rfl (by decide +kernel) ⟨Nat.le_of_ble_eq_true rfl, Nat.le_of_ble_eq_true rfl⟩) (hv_preV hE hI (ci := 6) rfl hre) rfl rfl hl.1 rfl (lv_room (Nat.le_of_ble_eq_true rfl)) dX2_tell_2_23 ⟨hc, hs⟩) (fun r17 h18 H locs hw hI => ?_)
  refine lv_aload_n hx hb dX2_tell_2_26 rfl (lv_at hl 1 rfl) ?_
  refine hv_wgetiN hE hI in_X12 (ci := 16) rfl 1 (by decide) (hE.2.2.2.2.1.F 33 rfl) (fun _ hx => hx) hw dX2_tell_2_27 (fun r19 hw => ?_)
  obtain ⟨a20, hz, hwa20⟩ := hw; have hla20 := hl; subst hz; have hw := hwa20; have hl := hla20
  obtain ⟨mc21, ms21, hc, hs, hw⟩ := hw
  obtain ⟨⟨fs, hre⟩, hw⟩ := hw
  refine hv_rcq hI (va_runV (As := [.int r19]) (b := a20) (rest := []) hE.1 (snd_J5_append_2 l G _ mc21 ms21 h18 a20 r19 _ hw) (cwV 1 hts (lw_V q1753 q1621 q1622 q105 q1623) rfl rfl rfl (by decide +kernel) ⟨Nat.le_of_ble_eq_true rfl, Nat.le_of_ble_eq_true rfl⟩) (hv_preV hE hI (ci := 6) rfl hre) rfl rfl hl.1 rfl (lv_room (Nat.le_of_ble_eq_true rfl)) dX2_tell_2_30 ⟨hc, hs⟩) (fun r22 h23 H locs hw hI => ?_)
  refine lv_astore_nq (lv' := [(3, va_rf r22), (0, .ref a0), (1, .ref a6), (2, .ref a1)]) hx hb dX2_tell_2_33 rfl hl (by decide) rfl (fun ls hl => ?_)
  refine lv_aload_n hx hb dX2_tell_2_34 rfl (lv_at hl 2 rfl) ?_
  refine hv_wgetiN hE hI in_X12 (ci := 16) rfl 2 (by decide) (hE.2.2.2.2.1.F 34 rfl) (fun _ hx => hx) hw dX2_tell_2_35 (fun r24 hw => ?_)
  refine lv_iconst (v := -1) hx hb dX2_tell_2_38 (by decide) ?_
  refine lv_icmp_ne (tgt := 46) hx hb dX2_tell_2_39 (by decide) (fun c_39 => ?_) (fun c_39 => ?_)
  · have hw := hw.1 c_39
    refine lv_aload_nq hx hb dX2_tell_2_46 rfl (lv_at hl 0 rfl) ?_
    refine lv_bipush (v := 44) hx hb dX2_tell_2_47 (by decide) ?_
    obtain ⟨a25, hz, hwa25⟩ := hw; have hla25 := hl; subst hz; have hw := hwa25; have hl := hla25
    obtain ⟨mc26, ms26, hc, hs, hw⟩ := hw
    obtain ⟨⟨fs, hre⟩, hw⟩ := hw
    refine hv_rcq hI (va_runV (As := [.int (44 : Int32)]) (b := a25) (rest := []) hE.1 (snd_J5_append l G _ mc26 ms26 h23 a25 (44 : Int32) _ hw) (cwV 1 hts (lw_V q1754 q1559 q1560 q105 q1561) rfl rfl rfl (by decide +kernel) ⟨Nat.le_of_ble_eq_true rfl, Nat.le_of_ble_eq_true rfl⟩) (hv_preV hE hI (ci := 6) rfl hre) rfl rfl hl.1 rfl (lv_room (Nat.le_of_ble_eq_true rfl)) dX2_tell_2_49 ⟨hc, hs⟩) (fun r27 h28 H locs hw hI => ?_)
    refine lv_aload_n hx hb dX2_tell_2_52 rfl (lv_at hl 2 rfl) ?_
    refine hv_wgetiN hE hI in_X12 (ci := 16) rfl 2 (by decide) (hE.2.2.2.2.1.F 34 rfl) (fun _ hx => hx) hw dX2_tell_2_53 (fun r29 hw => ?_)
    obtain ⟨a30, hz, hwa30⟩ := hw; have hla30 := hl; subst hz; have hw := hwa30; have hl := hla30
    obtain ⟨mc31, ms31, hc, hs, hw⟩ := hw
    obtain ⟨⟨fs, hre⟩, hw⟩ := hw
    refine hv_rcq hI (va_runV (As := [.int r29]) (b := a30) (rest := []) hE.1 (snd_J5_append_2 l G _ mc31 ms31 h28 a30 r29 _ hw) (cwV 1 hts (lw_V q1753 q1621 q1622 q105 q1623) rfl rfl rfl (by decide +kernel) ⟨Nat.le_of_ble_eq_true rfl, Nat.le_of_ble_eq_true rfl⟩) (hv_preV hE hI (ci := 6) rfl hre) rfl rfl hl.1 rfl (lv_room (Nat.le_of_ble_eq_true rfl)) dX2_tell_2_56 ⟨hc, hs⟩) (fun r32 h33 H locs hw hI => ?_)
    refine lv_astore_nq (lv' := [(3, va_rf r32), (0, .ref a0), (1, .ref a6), (2, .ref a1)]) hx hb dX2_tell_2_59 rfl hl (by decide) rfl (fun ls hl => ?_)
    exact hv_vret hE hI hc hs hw dX2_tell_2_60
  · have hw := hw.2 c_39
    refine lv_aload_nq hx hb dX2_tell_2_42 rfl (lv_at hl 0 rfl) ?_
    refine lv_goto (tgt := 59) hx hb dX2_tell_2_43 (by decide) ?_
    refine lv_astore_nq (lv' := [(3, va_rf r22), (0, .ref a0), (1, .ref a6), (2, .ref a1)]) hx hb dX2_tell_2_59 rfl hl (by decide) rfl (fun ls hl => ?_)
    exact hv_vret hE hI hc hs hw dX2_tell_2_60

/-- MatchmakerRules$Book.told(LMatchmakerRules$Fact;)Ljava/lang/String; -/
abbrev rm_X2_told (mc ms : Nat) : Room := { frames := 7, cells := mc, slots := ms, locals := 175 }
def wp_X2_told_L70 (G : GG) (mc : Nat) (ms : Nat) (a0 : Nat) (Q : Option Nat → HH → Prop) : Nat → (HH) → (Nat) → (Nat) → (Option Nat) → (Option Nat) → Prop
  | 0, _, _, _, _, _ => False
  | n + 1, h, nc, nk, x3, x4 => w_nn x4 (fun a35 => w_is h a35 13 (wp_J15_hasNext G h a35 (fun r36 h37 => ((r36 = 0 → w_nn x3 (fun a38 => (∃ mc39 ms39, nc + mc39 ≤ mc ∧ nk + ms39 ≤ ms ∧ w_is h37 a38 6 (wp_J5_toString G mc39 ms39 h37 a38 (fun r40 h41 => Q r40 h41))))) ∧ (¬ r36 = 0 → w_is h37 a35 13 (wp_J15_next G h37 a35 (fun r42 h43 => w_nn r42 (fun a44 => w_cast h43 a44 16 ((∃ mc45 ms45, nc + mc45 ≤ mc ∧ nk + ms45 ≤ ms ∧ w_is h43 a0 2 (wp_X2_tell_2 G mc45 ms45 h43 a0 (some a44) x3 (fun h46 => wp_X2_told_L70 G mc ms a0 Q n h46 (nc + mc45) (nk + ms45) x3 (some a35)))))))))))))
set_option maxHeartbeats 4000000 in
theorem snd_X2_told_L70 {p : Program} {l : Launch} {e : Env} {s : State} {m : MethodId} {args : Array Value} {below : List Frame} {meth : Method} {c : Code} {h0 : HH} (G : GG) (mc : Nat) (ms : Nat) (a0 : Nat) (Q : Option Nat → HH → Prop) (hE : hv_E p s m args meth c cX2_told 6 (some (FieldType.object "java/lang/String")) RX2 G h0) : ∀ (n : Nat) (h : HH) (nc : Nat) (nk : Nat) (x3 : Option Nat) (x4 : Option Nat), wp_X2_told_L70 G mc ms a0 Q n h nc nk x3 x4 → nc ≤ mc → nk ≤ ms → ∀ (H : Heap) (locs : List Loc) (ls : Array Slot), hv_I G h0 s.heap h H locs → lv_has ls 6 [(0, .ref a0), (3, va_rf x3), (4, va_rf x4)] → W p l e (headSpec (ws_ yX2_told cX2_told 6 (some (FieldType.object "java/lang/String"))) (rm_X2_told mc ms)).room s m args below meth c H locs nc nk (MQ below (hv_Qq G h0 s.heap.size Q) args s mc ms (hv_A h0 s.heap.size)) (F0 m 70 ls []) := by
  obtain ⟨⟨hx, hb, hml, hown, hts⟩, hr, hlocks, hXX⟩ := id hE
  intro n
  induction n with
  | zero => intro h nc nk x3 x4 hw; exact hw.elim
  | succ n ih =>
    intro h nc nk x3 x4 hw hc hs H locs ls hI hl
    unfold wp_X2_told_L70 at hw
    refine lv_aloadq hx hb dX2_told_70 (lv_at hl 2 rfl) ?_
    obtain ⟨a35, hz, hwa35⟩ := hw; have hla35 := hl; subst hz; have hw := hwa35; have hl := hla35
    obtain ⟨⟨fs, hre⟩, hw⟩ := hw
    refine hv_rFi hI (va_runF (As := []) (b := a35) (rest := []) (hXX.1.1 13 _ rfl).2 hE.1 (snd_J15_hasNext l G _ h a35 _ hw) (va_cwF 0 hts (lw_F q375 q379 q381 q121 q383) rfl rfl rfl (hv_fw0 hE.2.2.2.2.1) (by decide +kernel) ⟨Nat.le_of_ble_eq_true rfl, Nat.le_of_ble_eq_true rfl⟩) (hv_preV hE hI (ci := 13) rfl hre) rfl rfl hl.1 rfl (lv_room (Nat.le_of_ble_eq_true rfl)) dX2_told_72 ⟨hc, hs⟩) (fun r36 h37 H locs hw hI => ?_)
    refine lv_if_eq (tgt := 102) hx hb dX2_told_77 (by decide) (fun c_77 => ?_) (fun c_77 => ?_)
    · have hw := hw.1 c_77
      refine lv_aload_nq hx hb dX2_told_102 rfl (lv_at hl 1 rfl) ?_
      obtain ⟨a38, hz, hwa38⟩ := hw; have hla38 := hl; subst hz; have hw := hwa38; have hl := hla38
      obtain ⟨mc39, ms39, hc, hs, hw⟩ := hw
      obtain ⟨⟨fs, hre⟩, hw⟩ := hw
      refine hv_rcq hI (va_runV (As := []) (b := a38) (rest := []) hE.1 (snd_J5_toString l G _ mc39 ms39 h37 a38 _ hw) (cwV 0 hts (lw_V q1761 q1655 q1656 q105 q1657) rfl rfl rfl (by decide +kernel) ⟨Nat.le_of_ble_eq_true rfl, Nat.le_of_ble_eq_true rfl⟩) (hv_preV hE hI (ci := 6) rfl hre) rfl rfl hl.1 rfl (lv_room (Nat.le_of_ble_eq_true rfl)) dX2_told_103 ⟨hc, hs⟩) (fun r40 h41 H locs hw hI => ?_)
      exact hv_qret (v := r40) hE (Or.inl ⟨_, rfl⟩) hI hc hs hw dX2_told_106
    · have hw := hw.2 c_77
      refine lv_aload hx hb dX2_told_80 (lv_at hl 2 rfl) ?_
      obtain ⟨⟨fs, hre⟩, hw⟩ := hw
      refine hv_rFq hI (va_runF (As := []) (b := a35) (rest := []) (hXX.1.1 13 _ rfl).2 hE.1 (snd_J15_next l G _ h37 a35 _ hw) (va_cwF 0 hts (lw_F q385 q388 q390 q121 q392) rfl rfl rfl (hv_fw1 hE.2.2.2.2.1) (by decide +kernel) ⟨Nat.le_of_ble_eq_true rfl, Nat.le_of_ble_eq_true rfl⟩) (hv_preV hE hI (ci := 13) rfl hre) rfl rfl hl.1 rfl (lv_room (Nat.le_of_ble_eq_true rfl)) dX2_told_82 ⟨hc, hs⟩) (fun r42 h43 H locs hw hI => ?_)
      obtain ⟨a44, hz, hwa44⟩ := hw; have hla44 := hl; subst hz; have hw := hwa44; have hl := hla44
      refine hv_wcast (ci := 16) hE hI (hts _ q560) rfl hw dX2_told_87 (fun hw => ?_)
      refine lv_astore (lv' := [(5, .ref a44), (0, .ref a0), (3, va_rf x3), (4, .ref a35)]) hx hb dX2_told_90 hl (by decide) rfl (fun ls hl => ?_)
      refine lv_aload_n hx hb dX2_told_92 rfl (lv_at hl 1 rfl) ?_
      refine lv_aload hx hb dX2_told_93 (lv_at hl 0 rfl) ?_
      refine lv_aload_nq hx hb dX2_told_95 rfl (lv_at hl 2 rfl) ?_
      obtain ⟨mc45, ms45, hc, hs, hw⟩ := hw
      obtain ⟨⟨fs, hre⟩, hw⟩ := hw
      refine hv_rcv hI (va_runV (As := [.ref a44, va_rf x3]) (b := a0) (rest := []) hE.1 (snd_X2_tell_2 l G _ mc45 ms45 h43 a0 (some a44) x3 _ hw) (cwV 2 hts (lw_V q1755 q1757 qs29 q98 q1758) rfl rfl rfl (by decide +kernel) ⟨Nat.le_of_ble_eq_true rfl, Nat.le_of_ble_eq_true rfl⟩) (hv_preV hE hI (ci := 2) rfl hre) rfl rfl hl.1 rfl (lv_room (Nat.le_of_ble_eq_true rfl)) dX2_told_96 ⟨hc, hs⟩) (fun h46 H locs hw hI => ?_)
      refine lv_goto (tgt := 70) hx hb dX2_told_99 (by decide) ?_
      exact ih h46 (nc + mc45) (nk + ms45) x3 (some a35) hw hc hs _ _ _ hI (lv_sub hl [1, 2, 3] rfl)
def wp_X2_told (G : GG) (mc : Nat) (ms : Nat) (h : HH) (a0 : Nat) (x1 : Option Nat) (Q : Option Nat → HH → Prop) : Prop := (0 + 1 ≤ mc ∧ 0 + 4 ≤ ms ∧ w_new h (.inr (6, df_J5)) (fun a1 h2 => (∃ mc3 ms3, (0 + 1) + mc3 ≤ mc ∧ (0 + 4) + ms3 ≤ ms ∧ wp_J5_init G mc3 ms3 h2 a1 (fun h4 => w_nn x1 (fun a5 => w_geti h4 a5 14 0 (fun r6 => (∃ mc7 ms7, ((0 + 1) + mc3) + mc7 ≤ mc ∧ ((0 + 4) + ms3) + ms7 ≤ ms ∧ w_is h4 a1 6 (wp_J5_append_2 G mc7 ms7 h4 a1 r6 (fun r8 h9 => w_nn r8 (fun a10 => (∃ mc11 ms11, (((0 + 1) + mc3) + mc7) + mc11 ≤ mc ∧ (((0 + 4) + ms3) + ms7) + ms11 ≤ ms ∧ w_is h9 a10 6 (wp_J5_append G mc11 ms11 h9 a10 (58 : Int32) (fun r12 h13 => w_geti h13 a5 14 1 (fun r14 => w_nn r12 (fun a15 => (∃ mc16 ms16, ((((0 + 1) + mc3) + mc7) + mc11) + mc16 ≤ mc ∧ ((((0 + 4) + ms3) + ms7) + ms11) + ms16 ≤ ms ∧ w_is h13 a15 6 (wp_J5_append G mc16 ms16 h13 a15 r14 (fun r17 h18 => w_geti h18 a5 14 2 (fun r19 => w_nn r17 (fun a20 => (∃ mc21 ms21, (((((0 + 1) + mc3) + mc7) + mc11) + mc16) + mc21 ≤ mc ∧ (((((0 + 4) + ms3) + ms7) + ms11) + ms16) + ms21 ≤ ms ∧ w_is h18 a20 6 (wp_J5_append_2 G mc21 ms21 h18 a20 r19 (fun r22 h23 => w_geti h23 a5 14 3 (fun r24 => w_nn r22 (fun a25 => (∃ mc26 ms26, ((((((0 + 1) + mc3) + mc7) + mc11) + mc16) + mc21) + mc26 ≤ mc ∧ ((((((0 + 4) + ms3) + ms7) + ms11) + ms16) + ms21) + ms26 ≤ ms ∧ w_is h23 a25 6 (wp_J5_append_2 G mc26 ms26 h23 a25 r24 (fun r27 h28 => w_geti h28 a5 14 6 (fun r29 => ((r29 = 0 → w_getq h28 a5 14 7 (fun r30 => w_nn r30 (fun a31 => (∃ mc32 ms32, (((((((0 + 1) + mc3) + mc7) + mc11) + mc16) + mc21) + mc26) + mc32 ≤ mc ∧ (((((((0 + 4) + ms3) + ms7) + ms11) + ms16) + ms21) + ms26) + ms32 ≤ ms ∧ w_is h28 a31 4 (wp_J2_iterator G mc32 ms32 h28 a31 (fun r33 h34 => (∃ n70, wp_X2_told_L70 G mc ms a0 Q n70 h34 ((((((((0 + 1) + mc3) + mc7) + mc11) + mc16) + mc21) + mc26) + mc32) ((((((((0 + 4) + ms3) + ms7) + ms11) + ms16) + ms21) + ms26) + ms32) (some a1) r33))))))) ∧ (¬ r29 = 0 → (∃ mc47 ms47, (((((((0 + 1) + mc3) + mc7) + mc11) + mc16) + mc21) + mc26) + mc47 ≤ mc ∧ (((((((0 + 4) + ms3) + ms7) + ms11) + ms16) + ms21) + ms26) + ms47 ≤ ms ∧ w_is h28 a1 6 (wp_J5_append G mc47 ms47 h28 a1 (33 : Int32) (fun r48 h49 => w_getq h49 a5 14 7 (fun r50 => w_nn r50 (fun a51 => (∃ mc52 ms52, ((((((((0 + 1) + mc3) + mc7) + mc11) + mc16) + mc21) + mc26) + mc47) + mc52 ≤ mc ∧ ((((((((0 + 4) + ms3) + ms7) + ms11) + ms16) + ms21) + ms26) + ms47) + ms52 ≤ ms ∧ w_is h49 a51 4 (wp_J2_iterator G mc52 ms52 h49 a51 (fun r53 h54 => (∃ n70, wp_X2_told_L70 G mc ms a0 Q n70 h54 (((((((((0 + 1) + mc3) + mc7) + mc11) + mc16) + mc21) + mc26) + mc47) + mc52) (((((((((0 + 4) + ms3) + ms7) + ms11) + ms16) + ms21) + ms26) + ms47) + ms52) r48 r53))))))))))))))))))))))))))))))))))))))))
set_option maxHeartbeats 4000000 in
theorem snd_X2_told (l : Launch) (G : GG) (sz : Nat) (mc : Nat) (ms : Nat) (h : HH) (a0 : Nat) (x1 : Option Nat) (Q : Option Nat → HH → Prop) (hw : wp_X2_told G mc ms h a0 x1 Q) : Met l yX2_told (ws_ yX2_told cX2_told 6 (some (FieldType.object "java/lang/String"))) (rm_X2_told mc ms) (hv_Pc G h sz [.ref a0, va_rf x1]) (hv_Qq G h sz Q) mc ms (hv_A h sz) := by
  refine Met.ofW (cc := cX2_told) (maxL := 6) (ret := (some (FieldType.object "java/lang/String"))) (by decide) rfl ?_
  intro p e s m args below meth c s₁ B hml hv
  obtain ⟨rfl, rfl, hE, hI⟩ := hv_open B hml hv
  have hE : hv_E p s m ([.ref a0, va_rf x1] : List Value).toArray meth c cX2_told 6 (some (FieldType.object "java/lang/String")) RX2 G h := hE
  obtain ⟨⟨hx, hb, hml, hown, hts⟩, hr, hlocks, hXX⟩ := id hE
  have hl := lv_entry ([.ref a0, va_rf x1] : List Value) (n := 6) (by cases x1 <;> exact Nat.le_of_ble_eq_true rfl)
  rw [lg_entry_eq]
  generalize (lg_sl ([.ref a0, va_rf x1] : List Value) ++ List.replicate (6 - (lg_sl ([.ref a0, va_rf x1] : List Value)).length) Slot.unset).toArray = ls at hl ⊢
  have hl : lv_has ls 6 [(0, .ref a0), (1, va_rf x1)] := (by cases x1 <;> exact hl)
  have hc : 0 ≤ mc := Nat.zero_le _
  have hs : 0 ≤ ms := Nat.zero_le _
  unfold wp_X2_told at hw
  obtain ⟨hc, hs, hw⟩ := hw
  refine hv_wnew tyJ5 hE hI in_J5 tyJ5_ok (hts _ q1751) (hts _ q268) (hts _ q105) (ci := 6) rfl df_J5_ok hw hc hs dX2_told_0 (fun a1 h2 H hw hI => ?_)
  refine lv_dup hx hb dX2_told_3 rfl ?_
  obtain ⟨mc3, ms3, hc, hs, hw⟩ := hw
  refine hv_rcv hI (va_runI (As := []) (b := a1) (rest := [.ref a1]) hE.1 (snd_J5_init l G _ mc3 ms3 h2 a1 _ hw) (cwI 0 hts (lw_meth q271) rfl rfl rfl (hts _ q105) (hts _ q1752) (hts _ q270) rfl (by decide +kernel) ⟨Nat.le_of_ble_eq_true rfl, Nat.le_of_ble_eq_true rfl⟩) (hv_preS hE hI) rfl rfl hl.1 rfl (lv_room (Nat.le_of_ble_eq_true rfl)) dX2_told_4 ⟨hc, hs⟩) (fun h4 H locs hw hI => ?_)
  refine lv_astore_n (lv' := [(2, .ref a1), (0, .ref a0), (1, va_rf x1)]) hx hb dX2_told_7 rfl hl (by decide) (by cases x1 <;> exact rfl) (fun ls hl => ?_)
  refine lv_aload_n hx hb dX2_told_8 rfl (lv_at hl 0 rfl) ?_
  refine lv_aload_nq hx hb dX2_told_9 rfl (lv_at hl 2 rfl) ?_
  obtain ⟨a5, hz, hwa5⟩ := hw; have hla5 := hl; subst hz; have hw := hwa5; have hl := hla5
  refine hv_wgetiN hE hI in_X10 (ci := 14) rfl 0 (by decide) (hE.2.2.2.2.1.F 24 rfl) (fun _ hx => hx) hw dX2_told_10 (fun r6 hw => ?_)
  obtain ⟨mc7, ms7, hc, hs, hw⟩ := hw
  obtain ⟨⟨fs, hre⟩, hw⟩ := hw
  refine hv_rcq hI (va_runV (As := [.int r6]) (b := a1) (rest := []) hE.1 (snd_J5_append_2 l G _ mc7 ms7 h4 a1 r6 _ hw) (cwV 1 hts (lw_V q1753 q1621 q1622 q105 q1623) rfl rfl rfl (by decide +kernel) ⟨Nat.le_of_ble_eq_true rfl, Nat.le_of_ble_eq_true rfl⟩) (hv_preV hE hI (ci := 6) rfl hre) rfl rfl hl.1 rfl (lv_room (Nat.le_of_ble_eq_true rfl)) dX2_told_13 ⟨hc, hs⟩) (fun r8 h9 H locs hw hI => ?_)
  refine lv_bipush (v := 58) hx hb dX2_told_16 (by decide) ?_
  obtain ⟨a10, hz, hwa10⟩ := hw; have hla10 := hl; subst hz; have hw := hwa10; have hl := hla10
  obtain ⟨mc11, ms11, hc, hs, hw⟩ := hw
  obtain ⟨⟨fs, hre⟩, hw⟩ := hw
  refine hv_rcq hI (va_runV (As := [.int (58 : Int32)]) (b := a10) (rest := []) hE.1 (snd_J5_append l G _ mc11 ms11 h9 a10 (58 : Int32) _ hw) (cwV 1 hts (lw_V q1754 q1559 q1560 q105 q1561) rfl rfl rfl (by decide +kernel) ⟨Nat.le_of_ble_eq_true rfl, Nat.le_of_ble_eq_true rfl⟩) (hv_preV hE hI (ci := 6) rfl hre) rfl rfl hl.1 rfl (lv_room (Nat.le_of_ble_eq_true rfl)) dX2_told_18 ⟨hc, hs⟩) (fun r12 h13 H locs hw hI => ?_)
  refine lv_aload_n hx hb dX2_told_21 rfl (lv_at hl 2 rfl) ?_
  refine hv_wgetiN hE hI in_X10 (ci := 14) rfl 1 (by decide) (hE.2.2.2.2.1.F 25 rfl) (fun _ hx => hx) hw dX2_told_22 (fun r14 hw => ?_)
  obtain ⟨a15, hz, hwa15⟩ := hw; have hla15 := hl; subst hz; have hw := hwa15; have hl := hla15
  obtain ⟨mc16, ms16, hc, hs, hw⟩ := hw
  obtain ⟨⟨fs, hre⟩, hw⟩ := hw
  refine hv_rcq hI (va_runV (As := [.int r14]) (b := a15) (rest := []) hE.1 (snd_J5_append l G _ mc16 ms16 h13 a15 r14 _ hw) (cwV 1 hts (lw_V q1754 q1559 q1560 q105 q1561) rfl rfl rfl (by decide +kernel) ⟨Nat.le_of_ble_eq_true rfl, Nat.le_of_ble_eq_true rfl⟩) (hv_preV hE hI (ci := 6) rfl hre) rfl rfl hl.1 rfl (lv_room (Nat.le_of_ble_eq_true rfl)) dX2_told_25 ⟨hc, hs⟩) (fun r17 h18 H locs hw hI => ?_)
  refine lv_aload_n hx hb dX2_told_28 rfl (lv_at hl 2 rfl) ?_
  refine hv_wgetiN hE hI in_X10 (ci := 14) rfl 2 (by decide) (hE.2.2.2.2.1.F 26 rfl) (fun _ hx => hx) hw dX2_told_29 (fun r19 hw => ?_)
  obtain ⟨a20, hz, hwa20⟩ := hw; have hla20 := hl; subst hz; have hw := hwa20; have hl := hla20
  obtain ⟨mc21, ms21, hc, hs, hw⟩ := hw
  obtain ⟨⟨fs, hre⟩, hw⟩ := hw
  refine hv_rcq hI (va_runV (As := [.int r19]) (b := a20) (rest := []) hE.1 (snd_J5_append_2 l G _ mc21 ms21 h18 a20 r19 _ hw) (cwV 1 hts (lw_V q1753 q1621 q1622 q105 q1623) rfl rfl rfl (by decide +kernel) ⟨Nat.le_of_ble_eq_true rfl, Nat.le_of_ble_eq_true rfl⟩) (hv_preV hE hI (ci := 6) rfl hre) rfl rfl hl.1 rfl (lv_room (Nat.le_of_ble_eq_true rfl)) dX2_told_32 ⟨hc, hs⟩) (fun r22 h23 H locs hw hI => ?_)
  refine lv_aload_n hx hb dX2_told_35 rfl (lv_at hl 2 rfl) ?_
  refine hv_wgetiN hE hI in_X10 (ci := 14) rfl 3 (by decide) (hE.2.2.2.2.1.F 27 rfl) (fun _ hx => hx) hw dX2_told_36 (fun r24 hw => ?_)
  obtain ⟨a25, hz, hwa25⟩ := hw; have hla25 := hl; subst hz; have hw := hwa25; have hl := hla25
  obtain ⟨mc26, ms26, hc, hs, hw⟩ := hw
  obtain ⟨⟨fs, hre⟩, hw⟩ := hw
  refine hv_rcq hI (va_runV (As := [.int r24]) (b := a25) (rest := []) hE.1 (snd_J5_append_2 l G _ mc26 ms26 h23 a25 r24 _ hw) (cwV 1 hts (lw_V q1753 q1621 q1622 q105 q1623) rfl rfl rfl (by decide +kernel) ⟨Nat.le_of_ble_eq_true rfl, Nat.le_of_ble_eq_true rfl⟩) (hv_preV hE hI (ci := 6) rfl hre) rfl rfl hl.1 rfl (lv_room (Nat.le_of_ble_eq_true rfl)) dX2_told_39 ⟨hc, hs⟩) (fun r27 h28 H locs hw hI => ?_)
  refine lv_astore_nq (lv' := [(3, va_rf r27), (2, .ref a1), (0, .ref a0), (1, .ref a5)]) hx hb dX2_told_42 rfl hl (by decide) rfl (fun ls hl => ?_)
  refine lv_aload_n hx hb dX2_told_43 rfl (lv_at hl 3 rfl) ?_
  refine hv_wgetiN hE hI in_X10 (ci := 14) rfl 6 (by decide) (hE.2.2.2.2.1.F 29 rfl) (fun _ hx => hx) hw dX2_told_44 (fun r29 hw => ?_)
  refine lv_if_eq (tgt := 59) hx hb dX2_told_47 (by decide) (fun c_47 => ?_) (fun c_47 => ?_)
  · have hw := hw.1 c_47
    refine lv_aload_n hx hb dX2_told_59 rfl (lv_at hl 1 rfl) ?_
    refine lv_astore_n (lv' := [(3, .ref a1), (2, .ref a1), (0, .ref a0), (1, .ref a5)]) hx hb dX2_told_60 rfl hl (by decide) rfl (fun ls hl => ?_)
    refine lv_aload_n hx hb dX2_told_61 rfl (lv_at hl 3 rfl) ?_
    refine hv_wgetqN hE hI in_X10 (ci := 14) rfl 7 (by decide) (hE.2.2.2.2.1.F 30 rfl) (fun _ hx => hx) hw dX2_told_62 (fun r30 hw => ?_)
    obtain ⟨a31, hz, hwa31⟩ := hw; have hla31 := hl; subst hz; have hw := hwa31; have hl := hla31
    obtain ⟨mc32, ms32, hc, hs, hw⟩ := hw
    obtain ⟨⟨fs, hre⟩, hw⟩ := hw
    refine hv_rcq hI (va_runV (As := []) (b := a31) (rest := []) hE.1 (snd_J2_iterator l G _ mc32 ms32 h28 a31 _ hw) (cwV 0 hts (lw_V q351 q352 q353 q102 q354) rfl rfl rfl (by decide +kernel) ⟨Nat.le_of_ble_eq_true rfl, Nat.le_of_ble_eq_true rfl⟩) (hv_preV hE hI (ci := 4) rfl hre) rfl rfl hl.1 rfl (lv_room (Nat.le_of_ble_eq_true rfl)) dX2_told_65 ⟨hc, hs⟩) (fun r33 h34 H locs hw hI => ?_)
    refine lv_astoreq (lv' := [(4, va_rf r33), (3, .ref a1), (2, .ref a1), (0, .ref a0), (1, .ref a5)]) hx hb dX2_told_68 hl (by decide) rfl (fun ls hl => ?_)
    obtain ⟨n70, hw⟩ := hw
    exact snd_X2_told_L70 G mc ms a0 Q hE n70 h34 ((((((((0 + 1) + mc3) + mc7) + mc11) + mc16) + mc21) + mc26) + mc32) ((((((((0 + 4) + ms3) + ms7) + ms11) + ms16) + ms21) + ms26) + ms32) (some a1) r33 hw hc hs _ _ _ hI (lv_sub hl [3, 1, 0] rfl)
  · have hw := hw.2 c_47
    refine lv_aload_n hx hb dX2_told_50 rfl (lv_at hl 1 rfl) ?_
    refine lv_bipush (v := 33) hx hb dX2_told_51 (by decide) ?_
    obtain ⟨mc47, ms47, hc, hs, hw⟩ := hw
    obtain ⟨⟨fs, hre⟩, hw⟩ := hw
    refine hv_rcq hI (va_runV (As := [.int (33 : Int32)]) (b := a1) (rest := []) hE.1 (snd_J5_append l G _ mc47 ms47 h28 a1 (33 : Int32) _ hw) (cwV 1 hts (lw_V q1754 q1559 q1560 q105 q1561) rfl rfl rfl (by decide +kernel) ⟨Nat.le_of_ble_eq_true rfl, Nat.le_of_ble_eq_true rfl⟩) (hv_preV hE hI (ci := 6) rfl hre) rfl rfl hl.1 rfl (lv_room (Nat.le_of_ble_eq_true rfl)) dX2_told_53 ⟨hc, hs⟩) (fun r48 h49 H locs hw hI => ?_)
    refine lv_goto (tgt := 60) hx hb dX2_told_56 (by decide) ?_
    refine lv_astore_nq (lv' := [(3, va_rf r48), (2, .ref a1), (0, .ref a0), (1, .ref a5)]) hx hb dX2_told_60 rfl hl (by decide) rfl (fun ls hl => ?_)
    refine lv_aload_n hx hb dX2_told_61 rfl (lv_at hl 3 rfl) ?_
    refine hv_wgetqN hE hI in_X10 (ci := 14) rfl 7 (by decide) (hE.2.2.2.2.1.F 30 rfl) (fun _ hx => hx) hw dX2_told_62 (fun r50 hw => ?_)
    obtain ⟨a51, hz, hwa51⟩ := hw; have hla51 := hl; subst hz; have hw := hwa51; have hl := hla51
    obtain ⟨mc52, ms52, hc, hs, hw⟩ := hw
    obtain ⟨⟨fs, hre⟩, hw⟩ := hw
    refine hv_rcq hI (va_runV (As := []) (b := a51) (rest := []) hE.1 (snd_J2_iterator l G _ mc52 ms52 h49 a51 _ hw) (cwV 0 hts (lw_V q351 q352 q353 q102 q354) rfl rfl rfl (by decide +kernel) ⟨Nat.le_of_ble_eq_true rfl, Nat.le_of_ble_eq_true rfl⟩) (hv_preV hE hI (ci := 4) rfl hre) rfl rfl hl.1 rfl (lv_room (Nat.le_of_ble_eq_true rfl)) dX2_told_65 ⟨hc, hs⟩) (fun r53 h54 H locs hw hI => ?_)
    refine lv_astoreq (lv' := [(4, va_rf r53), (3, va_rf r48), (2, .ref a1), (0, .ref a0), (1, .ref a5)]) hx hb dX2_told_68 hl (by decide) (by cases r48 <;> exact rfl) (fun ls hl => ?_)
    obtain ⟨n70, hw⟩ := hw
    exact snd_X2_told_L70 G mc ms a0 Q hE n70 h54 (((((((((0 + 1) + mc3) + mc7) + mc11) + mc16) + mc21) + mc26) + mc47) + mc52) (((((((((0 + 4) + ms3) + ms7) + ms11) + ms16) + ms21) + ms26) + ms47) + ms52) r48 r53 hw hc hs _ _ _ hI (lv_sub hl [3, 1, 0] rfl)

/-- MatchmakerRules.factLine(I)I -/
abbrev rm_X1_factLine (mc ms : Nat) : Room := { frames := 8, cells := mc, slots := ms, locals := 200 }
def wp_X1_factLine (G : GG) (mc : Nat) (ms : Nat) (h : HH) (a0 : Nat) (x1 : Int32) (Q : Int32 → HH → Prop) (X : String → Nat → HH → Prop) : Prop := w_getq h a0 1 0 (fun r1 => w_getq h a0 1 0 (fun r2 => w_nn r2 (fun a3 => (∃ mc4 ms4, 0 + mc4 ≤ mc ∧ 0 + ms4 ≤ ms ∧ w_is h a3 2 (wp_X2_fact G mc4 ms4 h a3 x1 (fun r5 h6 => w_nn r1 (fun a9 => (∃ mc10 ms10, (0 + mc4) + mc10 ≤ mc ∧ (0 + ms4) + ms10 ≤ ms ∧ w_is h6 a9 2 (wp_X2_told G mc10 ms10 h6 a9 r5 (fun r11 h12 => w_put h12 a0 1 5 (va_rf r11) (fun h13 => w_getq h13 a0 1 5 (fun r14 => w_nn r14 (fun a15 => w_isS G h13 a15 (wp_J6_length G h13 a15 (fun r16 h17 => Q r16 h17)))))))))) (fun E q7 h8 => X E q7 h8))))))
set_option maxHeartbeats 4000000 in
theorem snd_X1_factLine (l : Launch) (hl0 : l.stackTraces = false) (G : GG) (sz : Nat) (mc : Nat) (ms : Nat) (h : HH) (a0 : Nat) (x1 : Int32) (Q : Int32 → HH → Prop) (X : String → Nat → HH → Prop) (hw : wp_X1_factLine G mc ms h a0 x1 Q X) : vx_Met l yX1_factLine (ws_ yX1_factLine cX1_factLine 2 (some FieldType.int)) (rm_X1_factLine mc ms) (hv_Pc G h sz [.ref a0, .int x1]) (hv_Qi G h sz Q) (hv_XC G h sz X) mc ms (hv_A h sz) := by
  refine vx_ofW (cc := cX1_factLine) (maxL := 2) (ret := (some FieldType.int)) (by decide) rfl ?_
  intro p e s m args below meth c s₁ B hml ht hv
  obtain ⟨rfl, rfl, hE, hI⟩ := hv_open B hml hv
  have hE : hv_E p s m ([.ref a0, .int x1] : List Value).toArray meth c cX1_factLine 2 (some FieldType.int) RX1 G h := hE
  obtain ⟨⟨hx, hb, hml, hown, hts⟩, hr, hlocks, hXX⟩ := id hE
  have hl := lv_entry ([.ref a0, .int x1] : List Value) (n := 2) (Nat.le_of_ble_eq_true rfl)
  rw [lg_entry_eq]
  generalize (lg_sl ([.ref a0, .int x1] : List Value) ++ List.replicate (2 - (lg_sl ([.ref a0, .int x1] : List Value)).length) Slot.unset).toArray = ls at hl ⊢
  have hl : lv_has ls 2 [(0, .ref a0), (1, .int x1)] := hl
  have hc : 0 ≤ mc := Nat.zero_le _
  have hs : 0 ≤ ms := Nat.zero_le _
  unfold wp_X1_factLine at hw
  refine lv_aload_n hx hb dX1_factLine_0 rfl (lv_at hl 0 rfl) ?_
  refine lv_aload_n hx hb dX1_factLine_1 rfl (lv_at hl 0 rfl) ?_
  refine hv_wgetq hE hI in_X1 (ci := 1) rfl 0 (by decide) (hts _ q300) (fun _ hx => hx) hw dX1_factLine_2 (fun r1 hw => ?_)
  refine lv_aload_n hx hb dX1_factLine_5 rfl (lv_at hl 0 rfl) ?_
  refine hv_wgetq hE hI in_X1 (ci := 1) rfl 0 (by decide) (hts _ q300) (fun _ hx => hx) hw dX1_factLine_6 (fun r2 hw => ?_)
  refine lv_iload_n hx hb dX1_factLine_9 rfl (lv_at hl 1 rfl) ?_
  obtain ⟨a3, hz, hwa3⟩ := hw; have hla3 := hl; subst hz; have hw := hwa3; have hl := hla3
  obtain ⟨mc4, ms4, hc, hs, hw⟩ := hw
  obtain ⟨⟨fs, hre⟩, hw⟩ := hw
  refine hx_rcq hI (vx_runV (As := [.int x1]) (b := a3) (rest := [va_rf r1, .ref a0]) hE.1 (snd_X2_fact l hl0 G _ mc4 ms4 h a3 x1 _ _ hw) (cwV 1 hts (lw_V q1368 q1369 q1370 q98 q1371) rfl rfl rfl (by decide +kernel) ⟨Nat.le_of_ble_eq_true rfl, Nat.le_of_ble_eq_true rfl⟩) (hv_preV hE hI (ci := 2) rfl hre) rfl rfl hl.1 rfl (lv_room (by cases r1 <;> exact Nat.le_of_ble_eq_true rfl)) dX1_factLine_10 ⟨hc, hs⟩) ?_ (fun r5 h6 H locs hw hI => ?_)
  · intro E q7 h8 H locs hw hI hT
    exact hx_out hE hI hT hc hs (fun z hz => (ht z hz).elim) hw
  obtain ⟨a9, hz, hwa9⟩ := hw; have hla9 := hl; subst hz; have hw := hwa9; have hl := hla9
  obtain ⟨mc10, ms10, hc, hs, hw⟩ := hw
  obtain ⟨⟨fs, hre⟩, hw⟩ := hw
  refine hv_rcq hI (va_runV (As := [va_rf r5]) (b := a9) (rest := [.ref a0]) hE.1 (snd_X2_told l G _ mc10 ms10 h6 a9 r5 _ hw) (cwV 1 hts (lw_V q1747 q1748 q1749 q98 q1750) rfl rfl rfl (by decide +kernel) ⟨Nat.le_of_ble_eq_true rfl, Nat.le_of_ble_eq_true rfl⟩) (hv_preV hE hI (ci := 2) rfl hre) rfl rfl hl.1 rfl (lv_room (Nat.le_of_ble_eq_true rfl)) dX1_factLine_13 ⟨hc, hs⟩) (fun r11 h12 H locs hw hI => ?_)
  refine hv_wput (v := va_rf r11) tyX1 hE hI in_X1 tyX1_ok nmX1 (ci := 1) rfl 5 (by decide) (hts _ q305) (fun _ hx => hx) rfl (ty := (.object "java/lang/String")) rfl (va_rf_nar _ _) (va_rf_fit _ _) hw dX1_factLine_16 (fun h13 H locs hw hI => ?_)
  refine lv_aload_n hx hb dX1_factLine_19 rfl (lv_at hl 0 rfl) ?_
  refine hv_wgetq hE hI in_X1 (ci := 1) rfl 5 (by decide) (hts _ q305) (fun _ hx => hx) hw dX1_factLine_20 (fun r14 hw => ?_)
  obtain ⟨a15, hz, hwa15⟩ := hw; have hla15 := hl; subst hz; have hw := hwa15; have hl := hla15
  obtain ⟨hre, hw⟩ := hw
  refine hv_rci hI (va_runV (As := []) (b := a15) (rest := []) hE.1 (snd_J6_length l G _ h13 a15 _ hw) (cwV 0 hts (lw_V q1739 q713 q2520 q106 q715) rfl rfl rfl (by decide +kernel) ⟨Nat.le_of_ble_eq_true rfl, Nat.le_of_ble_eq_true rfl⟩) (hv_preVS hE hI hre) rfl rfl hl.1 rfl (lv_room (Nat.le_of_ble_eq_true rfl)) dX1_factLine_23 ⟨hc, hs⟩) (fun r16 h17 H locs hw hI => ?_)
  exact vx_ret (hv_iret hE hI hc hs hw dX1_factLine_26)

/-- java/lang/String.isLatin1()Z -/
abbrev rm_J6_isLatin1 : Room := { frames := 1, cells := 0, slots := 0, locals := 12 }
def wp_J6_isLatin1 (G : GG) (h : HH) (a0 : Nat) (Q : Int32 → HH → Prop) : Prop := (((1 : Int32) = 0 → Q (0 : Int32) h) ∧ (¬ (1 : Int32) = 0 → w_getSc G h a0 (fun r1 => ((¬ r1 = 0 → Q (0 : Int32) h) ∧ (r1 = 0 → Q (1 : Int32) h)))))
set_option maxHeartbeats 4000000 in
theorem snd_J6_isLatin1 (l : Launch) (G : GG) (sz : Nat) (h : HH) (a0 : Nat) (Q : Int32 → HH → Prop) (hw : wp_J6_isLatin1 G h a0 Q) : Met l yJ6_isLatin1 (ws_ yJ6_isLatin1 cJ6_isLatin1 1 (some FieldType.boolean)) rm_J6_isLatin1 (hv_Pc G h sz [.ref a0]) (hv_Qi G h sz Q) 0 0 (hv_A h sz) := by
  refine Met.ofW (cc := cJ6_isLatin1) (maxL := 1) (ret := (some FieldType.boolean)) (by decide) rfl ?_
  intro p e s m args below meth c s₁ B hml hv
  obtain ⟨rfl, rfl, hE, hI⟩ := hv_open B hml hv
  have hE : hv_E p s m ([.ref a0] : List Value).toArray meth c cJ6_isLatin1 1 (some FieldType.boolean) RJ6 G h := hE
  obtain ⟨⟨hx, hb, hml, hown, hts⟩, hr, hlocks, hXX⟩ := id hE
  have hl := lv_entry ([.ref a0] : List Value) (n := 1) (Nat.le_of_ble_eq_true rfl)
  rw [lg_entry_eq]
  generalize (lg_sl ([.ref a0] : List Value) ++ List.replicate (1 - (lg_sl ([.ref a0] : List Value)).length) Slot.unset).toArray = ls at hl ⊢
  have hl : lv_has ls 1 [(0, .ref a0)] := hl
  unfold wp_J6_isLatin1 at hw
  refine hv_gets hE hI (hv_zH hE).2.2.1 (hts _ q603) (fun _ hx => hx) dJ6_isLatin1_0 ?_
  refine lv_if_eq (tgt := 17) hx hb dJ6_isLatin1_3 (by decide) (fun c_3 => ?_) (fun c_3 => ?_)
  · have hw := hw.1 c_3
    refine lv_iconst (v := 0) hx hb dJ6_isLatin1_17 (by decide) ?_
    exact hv_zret hE hI (Nat.le_refl _) (Nat.le_refl _) rfl hw dJ6_isLatin1_18
  · have hw := hw.2 c_3
    refine lv_aload_n hx hb dJ6_isLatin1_6 rfl (lv_at hl 0 rfl) ?_
    refine hv_wgetSc hE hI (hts _ q1733) hw dJ6_isLatin1_7 (fun r1 hw => ?_)
    refine lv_if_ne (tgt := 17) hx hb dJ6_isLatin1_10 (by decide) (fun c_10 => ?_) (fun c_10 => ?_)
    · have hw := hw.1 c_10
      refine lv_iconst (v := 0) hx hb dJ6_isLatin1_17 (by decide) ?_
      exact hv_zret hE hI (Nat.le_refl _) (Nat.le_refl _) rfl hw dJ6_isLatin1_18
    · have hw := hw.2 c_10
      refine lv_iconst (v := 1) hx hb dJ6_isLatin1_13 (by decide) ?_
      refine lv_goto (tgt := 18) hx hb dJ6_isLatin1_14 (by decide) ?_
      exact hv_zret hE hI (Nat.le_refl _) (Nat.le_refl _) rfl hw dJ6_isLatin1_18

/-- java/lang/StringLatin1.charAt([BI)C -/
abbrev rm_J8_charAt : Room := { frames := 3, cells := 0, slots := 0, locals := 55 }
def wp_J8_charAt (G : GG) (h : HH) (x0 : Option Nat) (x1 : Int32) (Q : Int32 → HH → Prop) : Prop := w_nn x0 (fun a1 => w_len G h a1 (fun r2 => wp_J6_checkIndex G h x1 r2 (fun h3 => w_bld G h3 a1 x1 (fun r4 => (narrow .char (.int (((Int32.toUInt32 (r4 &&& (255 : Int32))) % 65536).toInt32)) = .int (((Int32.toUInt32 (r4 &&& (255 : Int32))) % 65536).toInt32) ∧ Q (((Int32.toUInt32 (r4 &&& (255 : Int32))) % 65536).toInt32) h3)))))
set_option maxHeartbeats 4000000 in
theorem snd_J8_charAt (l : Launch) (G : GG) (sz : Nat) (h : HH) (x0 : Option Nat) (x1 : Int32) (Q : Int32 → HH → Prop) (hw : wp_J8_charAt G h x0 x1 Q) : Met l yJ8_charAt (ws_ yJ8_charAt cJ8_charAt 2 (some FieldType.char)) rm_J8_charAt (hv_Pc G h sz [va_rf x0, .int x1]) (hv_Qi G h sz Q) 0 0 (hv_A h sz) := by
  refine Met.ofW (cc := cJ8_charAt) (maxL := 2) (ret := (some FieldType.char)) (by decide) rfl ?_
  intro p e s m args below meth c s₁ B hml hv
  obtain ⟨rfl, rfl, hE, hI⟩ := hv_open B hml hv
  have hE : hv_E p s m ([va_rf x0, .int x1] : List Value).toArray meth c cJ8_charAt 2 (some FieldType.char) RJ8 G h := hE
  obtain ⟨⟨hx, hb, hml, hown, hts⟩, hr, hlocks, hXX⟩ := id hE
  have hl := lv_entry ([va_rf x0, .int x1] : List Value) (n := 2) (by cases x0 <;> exact Nat.le_of_ble_eq_true rfl)
  rw [lg_entry_eq]
  generalize (lg_sl ([va_rf x0, .int x1] : List Value) ++ List.replicate (2 - (lg_sl ([va_rf x0, .int x1] : List Value)).length) Slot.unset).toArray = ls at hl ⊢
  have hl : lv_has ls 2 [(0, va_rf x0), (1, .int x1)] := (by cases x0 <;> exact hl)
  unfold wp_J8_charAt at hw
  refine lv_iload_n hx hb dJ8_charAt_0 rfl (lv_at hl 1 rfl) ?_
  refine lv_aload_nq hx hb dJ8_charAt_1 rfl (lv_at hl 0 rfl) ?_
  obtain ⟨a1, hz, hwa1⟩ := hw; have hla1 := hl; subst hz; have hw := hwa1; have hl := hla1
  refine hv_len hE hI hw dJ8_charAt_2 (fun r2 hw => ?_)
  refine hv_rcv hI (va_runS (As := [.int x1, .int r2]) (rest := []) hE.1 (snd_J6_checkIndex l G _ h x1 r2 _ hw) (va_cwS 2 hts (lw_S q745 q746 q106 q747) rfl rfl rfl (by decide +kernel) ⟨Nat.le_of_ble_eq_true rfl, Nat.le_of_ble_eq_true rfl⟩) (hv_preS hE hI) rfl rfl hl.1 rfl (lv_room (Nat.le_of_ble_eq_true rfl)) dJ8_charAt_3 ⟨Nat.le_of_ble_eq_true rfl, Nat.le_of_ble_eq_true rfl⟩) (fun h3 H locs hw hI => ?_)
  refine lv_aload_n hx hb dJ8_charAt_6 rfl (lv_at hl 0 rfl) ?_
  refine lv_iload_n hx hb dJ8_charAt_7 rfl (lv_at hl 1 rfl) ?_
  refine hv_wbld hE hI hw dJ8_charAt_8 (fun r4 hw => ?_)
  refine lv_sipush (v := 255) hx hb dJ8_charAt_9 (by decide) ?_
  refine lv_iand hx hb dJ8_charAt_12 ?_
  refine lv_i2c (v := ((Int32.toUInt32 (r4 &&& (255 : Int32))) % 65536).toInt32) hx hb dJ8_charAt_13 rfl ?_
  obtain ⟨hnr, hw⟩ := hw
  exact hv_zret hE hI (Nat.le_refl _) (Nat.le_refl _) hnr hw dJ8_charAt_14

/-- java/lang/String.charAt(I)C -/
abbrev rm_J6_charAt : Room := { frames := 4, cells := 0, slots := 0, locals := 76 }
def wp_J6_charAt (G : GG) (h : HH) (a0 : Nat) (x1 : Int32) (Q : Int32 → HH → Prop) : Prop := w_isS G h a0 (wp_J6_isLatin1 G h a0 (fun r1 h2 => ((r1 = 0 → w_getSv G h2 a0 (fun r3 => False)) ∧ (¬ r1 = 0 → w_getSv G h2 a0 (fun r4 => wp_J8_charAt G h2 r4 x1 (fun r5 h6 => (narrow .char (.int r5) = .int r5 ∧ Q r5 h6)))))))
set_option maxHeartbeats 4000000 in
theorem snd_J6_charAt (l : Launch) (G : GG) (sz : Nat) (h : HH) (a0 : Nat) (x1 : Int32) (Q : Int32 → HH → Prop) (hw : wp_J6_charAt G h a0 x1 Q) : Met l yJ6_charAt (ws_ yJ6_charAt cJ6_charAt 2 (some FieldType.char)) rm_J6_charAt (hv_Pc G h sz [.ref a0, .int x1]) (hv_Qi G h sz Q) 0 0 (hv_A h sz) := by
  refine Met.ofW (cc := cJ6_charAt) (maxL := 2) (ret := (some FieldType.char)) (by decide) rfl ?_
  intro p e s m args below meth c s₁ B hml hv
  obtain ⟨rfl, rfl, hE, hI⟩ := hv_open B hml hv
  have hE : hv_E p s m ([.ref a0, .int x1] : List Value).toArray meth c cJ6_charAt 2 (some FieldType.char) RJ6 G h := hE
  obtain ⟨⟨hx, hb, hml, hown, hts⟩, hr, hlocks, hXX⟩ := id hE
  have hl := lv_entry ([.ref a0, .int x1] : List Value) (n := 2) (Nat.le_of_ble_eq_true rfl)
  rw [lg_entry_eq]
  generalize (lg_sl ([.ref a0, .int x1] : List Value) ++ List.replicate (2 - (lg_sl ([.ref a0, .int x1] : List Value)).length) Slot.unset).toArray = ls at hl ⊢
  have hl : lv_has ls 2 [(0, .ref a0), (1, .int x1)] := hl
  unfold wp_J6_charAt at hw
  refine lv_aload_n hx hb dJ6_charAt_0 rfl (lv_at hl 0 rfl) ?_
  obtain ⟨hre, hw⟩ := hw
  refine hv_rci hI (va_runV (As := []) (b := a0) (rest := []) hE.1 (snd_J6_isLatin1 l G _ h a0 _ hw) (cwV 0 hts (lw_V q738 q739 q740 q106 q741) rfl rfl rfl (by decide +kernel) ⟨Nat.le_of_ble_eq_true rfl, Nat.le_of_ble_eq_true rfl⟩) (hv_preVS hE hI hre) rfl rfl hl.1 rfl (lv_room (Nat.le_of_ble_eq_true rfl)) dJ6_charAt_1 ⟨Nat.le_of_ble_eq_true rfl, Nat.le_of_ble_eq_true rfl⟩) (fun r1 h2 H locs hw hI => ?_)
  refine lv_if_eq (tgt := 16) hx hb dJ6_charAt_4 (by decide) (fun c_4 => ?_) (fun c_4 => ?_)
  · have hw := hw.1 c_4
    refine lv_aload_n hx hb dJ6_charAt_16 rfl (lv_at hl 0 rfl) ?_
    refine hv_wgetSv hE hI (hts _ q1732) hw dJ6_charAt_17 (fun r3 hw => ?_)
    refine lv_iload_n hx hb dJ6_charAt_20 rfl (lv_at hl 1 rfl) ?_
    exact hw.elim
  · have hw := hw.2 c_4
    refine lv_aload_n hx hb dJ6_charAt_7 rfl (lv_at hl 0 rfl) ?_
    refine hv_wgetSv hE hI (hts _ q1732) hw dJ6_charAt_8 (fun r4 hw => ?_)
    refine lv_iload_n hx hb dJ6_charAt_11 rfl (lv_at hl 1 rfl) ?_
    refine hv_rci hI (va_runS (As := [va_rf r4, .int x1]) (rest := []) hE.1 (snd_J8_charAt l G _ h2 r4 x1 _ hw) (va_cwS 2 hts (lw_S q742 q743 q111 q744) rfl rfl rfl (by decide +kernel) ⟨Nat.le_of_ble_eq_true rfl, Nat.le_of_ble_eq_true rfl⟩) (hv_preS hE hI) rfl rfl hl.1 rfl (lv_room (Nat.le_of_ble_eq_true rfl)) dJ6_charAt_12 ⟨Nat.le_of_ble_eq_true rfl, Nat.le_of_ble_eq_true rfl⟩) (fun r5 h6 H locs hw hI => ?_)
    obtain ⟨hnr, hw⟩ := hw
    exact hv_zret hE hI (Nat.le_refl _) (Nat.le_refl _) hnr hw dJ6_charAt_15

/-- MatchmakerRules.character(I)C -/
abbrev rm_X1_character (mc ms : Nat) : Room := { frames := 7, cells := mc, slots := ms, locals := 109 }
def wp_X1_character (G : GG) (mc : Nat) (ms : Nat) (h : HH) (a0 : Nat) (x1 : Int32) (Q : Int32 → HH → Prop) (X : String → Nat → HH → Prop) : Prop := w_getq h a0 1 5 (fun r1 => w_nn r1 (fun a2 => w_isS G h a2 (wp_J6_length G h a2 (fun r3 h4 => wp_X1_inRange G h4 (Int32.toInt64 x1) (0 : Int64) (Int32.toInt64 (r3 - (1 : Int32))) (fun r5 h6 => (∃ mc7 ms7, 0 + mc7 ≤ mc ∧ 0 + ms7 ≤ ms ∧ wp_X1_checkIndex G mc7 ms7 h6 r5 (fun h8 => w_getq h8 a0 1 5 (fun r11 => w_nn r11 (fun a12 => w_isS G h8 a12 (wp_J6_charAt G h8 a12 x1 (fun r13 h14 => (narrow .char (.int r13) = .int r13 ∧ Q r13 h14)))))) (fun E q9 h10 => X E q9 h10)))))))
set_option maxHeartbeats 4000000 in
theorem snd_X1_character (l : Launch) (hl0 : l.stackTraces = false) (G : GG) (sz : Nat) (mc : Nat) (ms : Nat) (h : HH) (a0 : Nat) (x1 : Int32) (Q : Int32 → HH → Prop) (X : String → Nat → HH → Prop) (hw : wp_X1_character G mc ms h a0 x1 Q X) : vx_Met l yX1_character (ws_ yX1_character cX1_character 2 (some FieldType.char)) (rm_X1_character mc ms) (hv_Pc G h sz [.ref a0, .int x1]) (hv_Qi G h sz Q) (hv_XC G h sz X) mc ms (hv_A h sz) := by
  refine vx_ofW (cc := cX1_character) (maxL := 2) (ret := (some FieldType.char)) (by decide) rfl ?_
  intro p e s m args below meth c s₁ B hml ht hv
  obtain ⟨rfl, rfl, hE, hI⟩ := hv_open B hml hv
  have hE : hv_E p s m ([.ref a0, .int x1] : List Value).toArray meth c cX1_character 2 (some FieldType.char) RX1 G h := hE
  obtain ⟨⟨hx, hb, hml, hown, hts⟩, hr, hlocks, hXX⟩ := id hE
  have hl := lv_entry ([.ref a0, .int x1] : List Value) (n := 2) (Nat.le_of_ble_eq_true rfl)
  rw [lg_entry_eq]
  generalize (lg_sl ([.ref a0, .int x1] : List Value) ++ List.replicate (2 - (lg_sl ([.ref a0, .int x1] : List Value)).length) Slot.unset).toArray = ls at hl ⊢
  have hl : lv_has ls 2 [(0, .ref a0), (1, .int x1)] := hl
  have hc : 0 ≤ mc := Nat.zero_le _
  have hs : 0 ≤ ms := Nat.zero_le _
  unfold wp_X1_character at hw
  refine lv_iload_n hx hb dX1_character_0 rfl (lv_at hl 1 rfl) ?_
  refine lv_i2l (v := (Int32.toInt64 x1)) hx hb dX1_character_1 rfl ?_
  refine lv_lconst (v := 0) hx hb dX1_character_2 (by decide) ?_
  refine lv_aload_n hx hb dX1_character_3 rfl (lv_at hl 0 rfl) ?_
  refine hv_wgetq hE hI in_X1 (ci := 1) rfl 5 (by decide) (hts _ q305) (fun _ hx => hx) hw dX1_character_4 (fun r1 hw => ?_)
  obtain ⟨a2, hz, hwa2⟩ := hw; have hla2 := hl; subst hz; have hw := hwa2; have hl := hla2
  obtain ⟨hre, hw⟩ := hw
  refine hv_rci hI (va_runV (As := []) (b := a2) (rest := [.long (0 : Int64), .long (Int32.toInt64 x1)]) hE.1 (snd_J6_length l G _ h a2 _ hw) (cwV 0 hts (lw_V q1739 q713 q2520 q106 q715) rfl rfl rfl (by decide +kernel) ⟨Nat.le_of_ble_eq_true rfl, Nat.le_of_ble_eq_true rfl⟩) (hv_preVS hE hI hre) rfl rfl hl.1 rfl (lv_room (Nat.le_of_ble_eq_true rfl)) dX1_character_7 ⟨hc, hs⟩) (fun r3 h4 H locs hw hI => ?_)
  refine lv_iconst (v := 1) hx hb dX1_character_10 (by decide) ?_
  refine lv_isub hx hb dX1_character_11 ?_
  refine lv_i2l (v := (Int32.toInt64 (r3 - (1 : Int32)))) hx hb dX1_character_12 rfl ?_
  refine hv_rci hI (va_runS (As := [.long (Int32.toInt64 x1), .long (0 : Int64), .long (Int32.toInt64 (r3 - (1 : Int32)))]) (rest := []) hE.1 (snd_X1_inRange l G _ h4 (Int32.toInt64 x1) (0 : Int64) (Int32.toInt64 (r3 - (1 : Int32))) _ hw) (va_cwS 3 hts (lw_S q1358 q782 q97 q783) rfl rfl rfl (by decide +kernel) ⟨Nat.le_of_ble_eq_true rfl, Nat.le_of_ble_eq_true rfl⟩) (hv_preS hE hI) rfl rfl hl.1 rfl (lv_room (Nat.le_of_ble_eq_true rfl)) dX1_character_13 ⟨hc, hs⟩) (fun r5 h6 H locs hw hI => ?_)
  obtain ⟨mc7, ms7, hc, hs, hw⟩ := hw
  refine hx_rcv hI (vx_runS (As := [.int r5]) (rest := []) hE.1 (snd_X1_checkIndex l hl0 G _ mc7 ms7 h6 r5 _ _ hw) (va_cwS 1 hts (lw_S q1769 q1475 q97 q1476) rfl rfl rfl (by decide +kernel) ⟨Nat.le_of_ble_eq_true rfl, Nat.le_of_ble_eq_true rfl⟩) (hv_preS hE hI) rfl rfl hl.1 rfl (lv_room (Nat.le_of_ble_eq_true rfl)) dX1_character_16 ⟨hc, hs⟩) ?_ (fun h8 H locs hw hI => ?_)
  · intro E q9 h10 H locs hw hI hT
    exact hx_out hE hI hT hc hs (fun z hz => (ht z hz).elim) hw
  refine lv_aload_n hx hb dX1_character_19 rfl (lv_at hl 0 rfl) ?_
  refine hv_wgetq hE hI in_X1 (ci := 1) rfl 5 (by decide) (hts _ q305) (fun _ hx => hx) hw dX1_character_20 (fun r11 hw => ?_)
  refine lv_iload_n hx hb dX1_character_23 rfl (lv_at hl 1 rfl) ?_
  obtain ⟨a12, hz, hwa12⟩ := hw; have hla12 := hl; subst hz; have hw := hwa12; have hl := hla12
  obtain ⟨hre, hw⟩ := hw
  refine hv_rci hI (va_runV (As := [.int x1]) (b := a12) (rest := []) hE.1 (snd_J6_charAt l G _ h8 a12 x1 _ hw) (cwV 1 hts (lw_V q1770 q735 q2523 q106 q737) rfl rfl rfl (by decide +kernel) ⟨Nat.le_of_ble_eq_true rfl, Nat.le_of_ble_eq_true rfl⟩) (hv_preVS hE hI hre) rfl rfl hl.1 rfl (lv_room (Nat.le_of_ble_eq_true rfl)) dX1_character_24 ⟨hc, hs⟩) (fun r13 h14 H locs hw hI => ?_)
  obtain ⟨hnr, hw⟩ := hw
  exact vx_ret (hv_zret hE hI hc hs hnr hw dX1_character_27)
