/-! walks over a world (by gen/hvrun.py) -/
set_option maxRecDepth 100000
/-- MatchmakerRules$Book.drop(I)I -/
abbrev rm_X2_drop (mc ms : Nat) : Room := { frames := 8, cells := mc, slots := ms, locals := 3126 }
def wp_X2_drop_L41 (G : GG) (mc : Nat) (ms : Nat) (a0 : Nat) (Q : Int32 → HH → Prop) (X : String → Nat → HH → Prop) : Nat → (HH) → (Nat) → (Nat) → (Nat) → (Option Nat) → Prop
  | 0, _, _, _, _, _ => False
  | n + 1, h, nc, nk, x2, x3 => w_nn x3 (fun a21 => w_is h a21 13 (wp_J15_hasNext G h a21 (fun r22 h23 => ((r22 = 0 → (∃ mc24 ms24, nc + mc24 ≤ mc ∧ nk + ms24 ≤ ms ∧ w_is h23 a0 2 (wp_X2_loseGround G mc24 ms24 h23 a0 (fun r25 h26 => Q r25 h26)))) ∧ (¬ r22 = 0 → w_is h23 a21 13 (wp_J15_next G h23 a21 (fun r27 h28 => w_nn r27 (fun a29 => w_cast h28 a29 14 (w_getq h28 a29 14 8 (fun r30 => (nc + 1 ≤ mc ∧ nk + 1 ≤ ms ∧ w_new h28 (.inl (G.2.1 11, 1, .inr (.inr (.inr (.inr (fun _ => (some x2))))))) (fun a31 h32 => (∃ mc33 ms33, (nc + 1) + mc33 ≤ mc ∧ (nk + 1) + ms33 ≤ ms ∧ wp_X1_remove G mc33 ms33 h32 r30 (some a31) (fun h34 => w_getq h34 a29 14 7 (fun r35 => (((nc + 1) + mc33) + 1 ≤ mc ∧ ((nk + 1) + ms33) + 1 ≤ ms ∧ w_new h34 (.inl (G.2.1 12, 1, .inr (.inr (.inr (.inr (fun _ => (some x2))))))) (fun a36 h37 => (∃ mc38 ms38, (((nc + 1) + mc33) + 1) + mc38 ≤ mc ∧ (((nk + 1) + ms33) + 1) + ms38 ≤ ms ∧ wp_X1_remove G mc38 ms38 h37 r35 (some a36) (fun h39 => wp_X2_drop_L41 G mc ms a0 Q X n h39 ((((nc + 1) + mc33) + 1) + mc38) ((((nk + 1) + ms33) + 1) + ms38) x2 (some a21))))))))))))))))))))
set_option maxHeartbeats 4000000 in
theorem snd_X2_drop_L41 {p : Program} {l : Launch} {e : Env} {s : State} {m : MethodId} {args : Array Value} {below : List Frame} {meth : Method} {c : Code} {h0 : HH} (G : GG) (mc : Nat) (ms : Nat) (a0 : Nat) (Q : Int32 → HH → Prop) (X : String → Nat → HH → Prop) (ht : ∀ x ∈ c.exceptionTable.toList, False) (hnm : s.methodNamed? yX2_drop = some m) (hE : hv_E p s m args meth c cX2_drop 5 (some FieldType.int) RX2 G h0) : ∀ (n : Nat) (h : HH) (nc : Nat) (nk : Nat) (x2 : Nat) (x3 : Option Nat), wp_X2_drop_L41 G mc ms a0 Q X n h nc nk x2 x3 → nc ≤ mc → nk ≤ ms → ∀ (H : Heap) (locs : List Loc) (ls : Array Slot), hv_I G h0 s.heap h H locs → lv_has ls 5 [(0, .ref a0), (2, .ref x2), (3, va_rf x3)] → W p l e (headSpec (ws_ yX2_drop cX2_drop 5 (some FieldType.int)) (rm_X2_drop mc ms)).room s m args below meth c H locs nc nk (vx_MQ below (hv_Qi G h0 s.heap.size Q) (hv_XC G h0 s.heap.size X) args s mc ms (hv_A h0 s.heap.size)) (F0 m 41 ls []) := by
  obtain ⟨⟨hx, hb, hml, hown, hts⟩, hr, hlocks, hXX⟩ := id hE
  intro n
  induction n with
  | zero => intro h nc nk x2 x3 hw; exact hw.elim
  | succ n ih =>
    intro h nc nk x2 x3 hw hc hs H locs ls hI hl
    unfold wp_X2_drop_L41 at hw
    refine lv_aload_nq hx hb dX2_drop_41 rfl (lv_at hl 2 rfl) ?_
    obtain ⟨a21, hz, hwa21⟩ := hw; have hla21 := hl; subst hz; have hw := hwa21; have hl := hla21
    obtain ⟨⟨fs, hre⟩, hw⟩ := hw
    refine hv_rFi hI (va_runF (As := []) (b := a21) (rest := []) (hXX.1.1 13 _ rfl).2 hE.1 (snd_J15_hasNext l G _ h a21 _ hw) (va_cwF 0 hts (lw_F q375 q379 q381 q121 q383) rfl rfl rfl (hv_fw0 hE.2.2.2.2.1) (by decide +kernel) ⟨Nat.le_of_ble_eq_true rfl, Nat.le_of_ble_eq_true rfl⟩) (hv_preV hE hI (ci := 13) rfl hre) rfl rfl hl.1 rfl (lv_room (Nat.le_of_ble_eq_true rfl)) dX2_drop_42 ⟨hc, hs⟩) (fun r22 h23 H locs hw hI => ?_)
    refine lv_if_eq (tgt := 92) hx hb dX2_drop_47 (by decide) (fun c_47 => ?_) (fun c_47 => ?_)
    · have hw := hw.1 c_47
      refine lv_aload_n hx hb dX2_drop_92 rfl (lv_at hl 0 rfl) ?_
      obtain ⟨mc24, ms24, hc, hs, hw⟩ := hw
      obtain ⟨⟨fs, hre⟩, hw⟩ := hw
      refine hv_rci hI (va_runV (As := []) (b := a0) (rest := []) hE.1 (snd_X2_loseGround l G _ mc24 ms24 h23 a0 _ hw) (cwV 0 hts (lw_V q1138 q1140 qs20 q98 q1141) rfl rfl rfl (by decide +kernel) ⟨Nat.le_of_ble_eq_true rfl, Nat.le_of_ble_eq_true rfl⟩) (hv_preV hE hI (ci := 2) rfl hre) rfl rfl hl.1 rfl (lv_room (Nat.le_of_ble_eq_true rfl)) dX2_drop_93 ⟨hc, hs⟩) (fun r25 h26 H locs hw hI => ?_)
      exact vx_ret (hv_iret hE hI hc hs hw dX2_drop_96)
    · have hw := hw.2 c_47
      refine lv_aload_n hx hb dX2_drop_50 rfl (lv_at hl 2 rfl) ?_
      obtain ⟨⟨fs, hre⟩, hw⟩ := hw
      refine hv_rFq hI (va_runF (As := []) (b := a21) (rest := []) (hXX.1.1 13 _ rfl).2 hE.1 (snd_J15_next l G _ h23 a21 _ hw) (va_cwF 0 hts (lw_F q385 q388 q390 q121 q392) rfl rfl rfl (hv_fw1 hE.2.2.2.2.1) (by decide +kernel) ⟨Nat.le_of_ble_eq_true rfl, Nat.le_of_ble_eq_true rfl⟩) (hv_preV hE hI (ci := 13) rfl hre) rfl rfl hl.1 rfl (lv_room (Nat.le_of_ble_eq_true rfl)) dX2_drop_51 ⟨hc, hs⟩) (fun r27 h28 H locs hw hI => ?_)
      obtain ⟨a29, hz, hwa29⟩ := hw; have hla29 := hl; subst hz; have hw := hwa29; have hl := hla29
      refine hv_wcast (ci := 14) hE hI (hts _ q469) rfl hw dX2_drop_56 (fun hw => ?_)
      refine lv_astore (lv' := [(4, .ref a29), (0, .ref a0), (2, .ref x2), (3, .ref a21)]) hx hb dX2_drop_59 hl (by decide) rfl (fun ls hl => ?_)
      refine lv_aload hx hb dX2_drop_61 (lv_at hl 0 rfl) ?_
      refine hv_wgetqN hE hI in_X10 (ci := 14) rfl 8 (by decide) (hE.2.2.2.2.1.F 31 rfl) (fun _ hx => hx) hw dX2_drop_63 (fun r30 hw => ?_)
      refine lv_aload_n hx hb dX2_drop_66 rfl (lv_at hl 2 rfl) ?_
      obtain ⟨hc, hs, hw⟩ := hw
      refine hv_mk1 (v := (some x2)) (rest := [va_rf r30]) hE hnm hI hw hl.1 (by cases r30 <;> exact Nat.le_of_ble_eq_true rfl) hc hs dX2_drop_67 (fun a31 h32 H hw hI => ?_)
      obtain ⟨mc33, ms33, hc, hs, hw⟩ := hw
      refine hv_rcv hI (va_runSN (As := [va_rf r30, .ref a31]) (rest := []) hE.1 (snd_X1_remove l G _ mc33 ms33 h32 r30 (some a31) _ hw) ⟨va_cnB 2 hts (lw_meth q1095) rfl rfl rfl (hE.2.2.2.2.1.M 4 rfl) (hts _ q97) (by decide +kernel) ⟨Nat.le_of_ble_eq_true rfl, Nat.le_of_ble_eq_true rfl⟩, hts _ q1094, trivial⟩ (hv_preS hE hI) rfl rfl hl.1 rfl (lv_room (Nat.le_of_ble_eq_true rfl)) dX2_drop_72 ⟨hc, hs⟩) (fun h34 H locs hw hI => ?_)
      refine lv_aload hx hb dX2_drop_75 (lv_at hl 0 rfl) ?_
      refine hv_wgetqN hE hI in_X10 (ci := 14) rfl 7 (by decide) (hE.2.2.2.2.1.F 30 rfl) (fun _ hx => hx) hw dX2_drop_77 (fun r35 hw => ?_)
      refine lv_aload_n hx hb dX2_drop_80 rfl (lv_at hl 2 rfl) ?_
      obtain ⟨hc, hs, hw⟩ := hw
      refine hv_mk2 (v := (some x2)) (rest := [va_rf r35]) hE hnm hI hw hl.1 (by cases r35 <;> exact Nat.le_of_ble_eq_true rfl) hc hs dX2_drop_81 (fun a36 h37 H hw hI => ?_)
      obtain ⟨mc38, ms38, hc, hs, hw⟩ := hw
      refine hv_rcv hI (va_runSN (As := [va_rf r35, .ref a36]) (rest := []) hE.1 (snd_X1_remove l G _ mc38 ms38 h37 r35 (some a36) _ hw) ⟨va_cnB 2 hts (lw_meth q1095) rfl rfl rfl (hE.2.2.2.2.1.M 4 rfl) (hts _ q97) (by decide +kernel) ⟨Nat.le_of_ble_eq_true rfl, Nat.le_of_ble_eq_true rfl⟩, hts _ q1094, trivial⟩ (hv_preS hE hI) rfl rfl hl.1 rfl (lv_room (Nat.le_of_ble_eq_true rfl)) dX2_drop_86 ⟨hc, hs⟩) (fun h39 H locs hw hI => ?_)
      refine lv_goto (tgt := 41) hx hb dX2_drop_89 (by decide) ?_
      exact ih h39 ((((nc + 1) + mc33) + 1) + mc38) ((((nk + 1) + ms33) + 1) + ms38) x2 (some a21) hw hc hs _ _ _ hI (lv_sub hl [1, 2, 3] rfl)
def wp_X2_drop (G : GG) (mc : Nat) (ms : Nat) (h : HH) (a0 : Nat) (x1 : Int32) (Q : Int32 → HH → Prop) (X : String → Nat → HH → Prop) : Prop := w_getq h a0 2 1 (fun r1 => w_nn r1 (fun a2 => w_is h a2 4 (wp_J2_size G h a2 (fun r3 h4 => wp_X1_inRange G h4 (Int32.toInt64 x1) (0 : Int64) (Int32.toInt64 (r3 - (1 : Int32))) (fun r5 h6 => (∃ mc7 ms7, 0 + mc7 ≤ mc ∧ 0 + ms7 ≤ ms ∧ wp_X11_check G mc7 ms7 h6 r5 (3 : Int32) x1 (fun h8 => w_getq h8 a0 2 1 (fun r11 => w_nn r11 (fun a12 => w_is h8 a12 4 (wp_J2_remove G h8 a12 x1 (fun r13 h14 => w_nn r13 (fun a15 => w_cast h14 a15 12 (w_getq h14 a0 2 2 (fun r16 => w_nn r16 (fun a17 => (∃ mc18 ms18, (0 + mc7) + mc18 ≤ mc ∧ (0 + ms7) + ms18 ≤ ms ∧ w_is h14 a17 4 (wp_J2_iterator G mc18 ms18 h14 a17 (fun r19 h20 => (∃ n41, wp_X2_drop_L41 G mc ms a0 Q X n41 h20 ((0 + mc7) + mc18) ((0 + ms7) + ms18) a15 r19))))))))))))) (fun E q9 h10 => X E q9 h10)))))))
set_option maxHeartbeats 4000000 in
theorem snd_X2_drop (l : Launch) (G : GG) (sz : Nat) (mc : Nat) (ms : Nat) (h : HH) (a0 : Nat) (x1 : Int32) (Q : Int32 → HH → Prop) (X : String → Nat → HH → Prop) (hw : wp_X2_drop G mc ms h a0 x1 Q X) : vx_Met l yX2_drop (ws_ yX2_drop cX2_drop 5 (some FieldType.int)) (rm_X2_drop mc ms) (hv_Pc G h sz [.ref a0, .int x1]) (hv_Qi G h sz Q) (hv_XC G h sz X) mc ms (hv_A h sz) := by
  refine vx_ofW (cc := cX2_drop) (maxL := 5) (ret := (some FieldType.int)) (by decide) rfl ?_
  intro p e s m args below meth c s₁ B hml ht hv
  have hnm : s.methodNamed? yX2_drop = some m := B.named
  obtain ⟨rfl, rfl, hE, hI⟩ := hv_open B hml hv
  have hE : hv_E p s m ([.ref a0, .int x1] : List Value).toArray meth c cX2_drop 5 (some FieldType.int) RX2 G h := hE
  obtain ⟨⟨hx, hb, hml, hown, hts⟩, hr, hlocks, hXX⟩ := id hE
  have hl := lv_entry ([.ref a0, .int x1] : List Value) (n := 5) (Nat.le_of_ble_eq_true rfl)
  rw [lg_entry_eq]
  generalize (lg_sl ([.ref a0, .int x1] : List Value) ++ List.replicate (5 - (lg_sl ([.ref a0, .int x1] : List Value)).length) Slot.unset).toArray = ls at hl ⊢
  have hl : lv_has ls 5 [(0, .ref a0), (1, .int x1)] := hl
  have hc : 0 ≤ mc := Nat.zero_le _
  have hs : 0 ≤ ms := Nat.zero_le _
  unfold wp_X2_drop at hw
  refine lv_iload_n hx hb dX2_drop_0 rfl (lv_at hl 1 rfl) ?_
  refine lv_i2l (v := (Int32.toInt64 x1)) hx hb dX2_drop_1 rfl ?_
  refine lv_lconst (v := 0) hx hb dX2_drop_2 (by decide) ?_
  refine lv_aload_n hx hb dX2_drop_3 rfl (lv_at hl 0 rfl) ?_
  refine hv_wgetq hE hI in_X2 (ci := 2) rfl 1 (by decide) (hts _ q219) (fun _ hx => hx) hw dX2_drop_4 (fun r1 hw => ?_)
  obtain ⟨a2, hz, hwa2⟩ := hw; have hla2 := hl; subst hz; have hw := hwa2; have hl := hla2
  obtain ⟨⟨fs, hre⟩, hw⟩ := hw
  refine hv_rci hI (va_runV (As := []) (b := a2) (rest := [.long (0 : Int64), .long (Int32.toInt64 x1)]) hE.1 (snd_J2_size l G _ h a2 _ hw) (cwV 0 hts (lw_V q470 q333 q334 q102 q335) rfl rfl rfl (by decide +kernel) ⟨Nat.le_of_ble_eq_true rfl, Nat.le_of_ble_eq_true rfl⟩) (hv_preV hE hI (ci := 4) rfl hre) rfl rfl hl.1 rfl (lv_room (Nat.le_of_ble_eq_true rfl)) dX2_drop_7 ⟨hc, hs⟩) (fun r3 h4 H locs hw hI => ?_)
  refine lv_iconst (v := 1) hx hb dX2_drop_10 (by decide) ?_
  refine lv_isub hx hb dX2_drop_11 ?_
  refine lv_i2l (v := (Int32.toInt64 (r3 - (1 : Int32)))) hx hb dX2_drop_12 rfl ?_
  refine hv_rci hI (va_runSN (As := [.long (Int32.toInt64 x1), .long (0 : Int64), .long (Int32.toInt64 (r3 - (1 : Int32)))]) (rest := []) hE.1 (snd_X1_inRange l G _ h4 (Int32.toInt64 x1) (0 : Int64) (Int32.toInt64 (r3 - (1 : Int32))) _ hw) ⟨va_cnB 3 hts (lw_meth q783) rfl rfl rfl (hE.2.2.2.2.1.M 3 rfl) (hts _ q97) (by decide +kernel) ⟨Nat.le_of_ble_eq_true rfl, Nat.le_of_ble_eq_true rfl⟩, hts _ q782, trivial⟩ (hv_preS hE hI) rfl rfl hl.1 rfl (lv_room (Nat.le_of_ble_eq_true rfl)) dX2_drop_13 ⟨hc, hs⟩) (fun r5 h6 H locs hw hI => ?_)
  refine lv_iconst (v := 3) hx hb dX2_drop_16 (by decide) ?_
  refine lv_iload_n hx hb dX2_drop_17 rfl (lv_at hl 1 rfl) ?_
  obtain ⟨mc7, ms7, hc, hs, hw⟩ := hw
  refine hx_rcv hI (vx_runS (As := [.int r5, .int (3 : Int32), .int x1]) (rest := []) hE.1 (snd_X11_check l G _ mc7 ms7 h6 r5 (3 : Int32) x1 _ _ hw) (va_cwS 3 hts (lw_S q1051 q1052 q127 q1053) rfl rfl rfl (by decide +kernel) ⟨Nat.le_of_ble_eq_true rfl, Nat.le_of_ble_eq_true rfl⟩) (hv_preS hE hI) rfl rfl hl.1 rfl (lv_room (Nat.le_of_ble_eq_true rfl)) dX2_drop_18 ⟨hc, hs⟩) ?_ (fun h8 H locs hw hI => ?_)
  · intro E q9 h10 H locs hw hI hT
    exact hx_out hE hI hT hc hs (fun z hz => (ht z hz).elim) hw
  refine lv_aload_n hx hb dX2_drop_21 rfl (lv_at hl 0 rfl) ?_
  refine hv_wgetq hE hI in_X2 (ci := 2) rfl 1 (by decide) (hts _ q219) (fun _ hx => hx) hw dX2_drop_22 (fun r11 hw => ?_)
  refine lv_iload_n hx hb dX2_drop_25 rfl (lv_at hl 1 rfl) ?_
  obtain ⟨a12, hz, hwa12⟩ := hw; have hla12 := hl; subst hz; have hw := hwa12; have hl := hla12
  obtain ⟨⟨fs, hre⟩, hw⟩ := hw
  refine hv_rcq hI (va_runV (As := [.int x1]) (b := a12) (rest := []) hE.1 (snd_J2_remove l G _ h8 a12 x1 _ hw) (cwV 1 hts (lw_V q1082 q1083 q1084 q102 q1085) rfl rfl rfl (by decide +kernel) ⟨Nat.le_of_ble_eq_true rfl, Nat.le_of_ble_eq_true rfl⟩) (hv_preV hE hI (ci := 4) rfl hre) rfl rfl hl.1 rfl (lv_room (Nat.le_of_ble_eq_true rfl)) dX2_drop_26 ⟨hc, hs⟩) (fun r13 h14 H locs hw hI => ?_)
  obtain ⟨a15, hz, hwa15⟩ := hw; have hla15 := hl; subst hz; have hw := hwa15; have hl := hla15
  refine hv_wcast (ci := 12) hE hI (hts _ q485) rfl hw dX2_drop_29 (fun hw => ?_)
  refine lv_astore_n (lv' := [(2, .ref a15), (0, .ref a0), (1, .int x1)]) hx hb dX2_drop_32 rfl hl (by decide) rfl (fun ls hl => ?_)
  refine lv_aload_n hx hb dX2_drop_33 rfl (lv_at hl 1 rfl) ?_
  refine hv_wgetq hE hI in_X2 (ci := 2) rfl 2 (by decide) (hts _ q222) (fun _ hx => hx) hw dX2_drop_34 (fun r16 hw => ?_)
  obtain ⟨a17, hz, hwa17⟩ := hw; have hla17 := hl; subst hz; have hw := hwa17; have hl := hla17
  obtain ⟨mc18, ms18, hc, hs, hw⟩ := hw
  obtain ⟨⟨fs, hre⟩, hw⟩ := hw
  refine hv_rcq hI (va_runV (As := []) (b := a17) (rest := []) hE.1 (snd_J2_iterator l G _ mc18 ms18 h14 a17 _ hw) (cwV 0 hts (lw_V q351 q352 q353 q102 q354) rfl rfl rfl (by decide +kernel) ⟨Nat.le_of_ble_eq_true rfl, Nat.le_of_ble_eq_true rfl⟩) (hv_preV hE hI (ci := 4) rfl hre) rfl rfl hl.1 rfl (lv_room (Nat.le_of_ble_eq_true rfl)) dX2_drop_37 ⟨hc, hs⟩) (fun r19 h20 H locs hw hI => ?_)
  refine lv_astore_nq (lv' := [(3, va_rf r19), (2, .ref a15), (0, .ref a0), (1, .int x1)]) hx hb dX2_drop_40 rfl hl (by decide) rfl (fun ls hl => ?_)
  obtain ⟨n41, hw⟩ := hw
  exact snd_X2_drop_L41 G mc ms a0 Q X ht hnm hE n41 h20 ((0 + mc7) + mc18) ((0 + ms7) + ms18) a15 r19 hw hc hs _ _ _ hI (lv_sub hl [2, 1, 0] rfl)

/-- MatchmakerRules.checkArgument(Z)V -/
abbrev rm_X1_checkArgument (mc ms : Nat) : Room := { frames := 6, cells := mc, slots := ms, locals := 89 }
def wp_X1_checkArgument (G : GG) (mc : Nat) (ms : Nat) (h : HH) (x0 : Int32) (Q : HH → Prop) (X : String → Nat → HH → Prop) : Prop := ((¬ x0 = 0 → Q h) ∧ (x0 = 0 → (0 + 1 ≤ mc ∧ 0 + 6 ≤ ms ∧ ∀ q1, h q1 = none → X "java/lang/IllegalArgumentException" q1 h)))
set_option maxHeartbeats 4000000 in
theorem snd_X1_checkArgument (l : Launch) (hl0 : l.stackTraces = false) (G : GG) (sz : Nat) (mc : Nat) (ms : Nat) (h : HH) (x0 : Int32) (Q : HH → Prop) (X : String → Nat → HH → Prop) (hw : wp_X1_checkArgument G mc ms h x0 Q X) : vx_Met l yX1_checkArgument (ws_ yX1_checkArgument cX1_checkArgument 1 (none : Option FieldType)) (rm_X1_checkArgument mc ms) (hv_Pc G h sz [.int x0]) (hv_Qv G h sz Q) (hv_XC G h sz X) mc ms (hv_A h sz) := by
  refine vx_ofW (cc := cX1_checkArgument) (maxL := 1) (ret := (none : Option FieldType)) (by decide) rfl ?_
  intro p e s m args below meth c s₁ B hml ht hv
  obtain ⟨rfl, rfl, hE, hI⟩ := hv_open B hml hv
  have hE : hv_E p s m ([.int x0] : List Value).toArray meth c cX1_checkArgument 1 (none : Option FieldType) RX1 G h := hE
  obtain ⟨⟨hx, hb, hml, hown, hts⟩, hr, hlocks, hXX⟩ := id hE
  have hl := lv_entry ([.int x0] : List Value) (n := 1) (Nat.le_of_ble_eq_true rfl)
  rw [lg_entry_eq]
  generalize (lg_sl ([.int x0] : List Value) ++ List.replicate (1 - (lg_sl ([.int x0] : List Value)).length) Slot.unset).toArray = ls at hl ⊢
  have hl : lv_has ls 1 [(0, .int x0)] := hl
  have hc : 0 ≤ mc := Nat.zero_le _
  have hs : 0 ≤ ms := Nat.zero_le _
  unfold wp_X1_checkArgument at hw
  refine lv_iload_n hx hb dX1_checkArgument_0 rfl (lv_at hl 0 rfl) ?_
  refine lv_if_ne (tgt := 12) hx hb dX1_checkArgument_1 (by decide) (fun c_1 => ?_) (fun c_1 => ?_)
  · have hw := hw.1 c_1
    exact vx_ret (hv_vret hE hI hc hs hw dX1_checkArgument_12)
  · have hw := hw.2 c_1
    obtain ⟨hc, hs, hw⟩ := hw
    exact hx_throw0 (names := ["java/lang/RuntimeException", "java/lang/Exception"]) (rest := []) hl0 hE hI (by decide +kernel) (by decide +kernel) (hts _ q869) (hts _ q120) (ha_MatchmakerRules_3_IllegalArgumentException hE) (by decide +kernel) hl.1 dX1_checkArgument_4 dX1_checkArgument_7 dX1_checkArgument_8 dX1_checkArgument_11 (fun z hz => (ht z hz).elim) (Nat.le_of_ble_eq_true rfl) (Nat.le_of_ble_eq_true rfl) (Nat.le_refl _) (Nat.le_refl _) hc hs hw

/-- MatchmakerRules$Book.come(CIIF)LMatchmakerRules$Fact; -/
abbrev rm_X2_come (mc ms : Nat) : Room := { frames := 7, cells := mc, slots := ms, locals := 195 }
def wp_X2_come (G : GG) (mc : Nat) (ms : Nat) (h : HH) (a0 : Nat) (x1 : Int32) (x2 : Int32) (x3 : Int32) (x4 : UInt32) (Q : Option Nat → HH → Prop) : Prop := (0 + 1 ≤ mc ∧ 0 + 9 ≤ ms ∧ w_new h (.inr (14, df_X10)) (fun a1 h2 => w_geti h2 a0 2 3 (fun r3 => w_geti h2 a0 2 5 (fun r4 => (∃ mc5 ms5, (0 + 1) + mc5 ≤ mc ∧ (0 + 9) + ms5 ≤ ms ∧ wp_X10_init G mc5 ms5 h2 a1 r3 x1 x2 x3 x4 r4 (fun h6 => w_geti h6 a0 2 3 (fun r7 => w_put h6 a0 2 3 (.int (r7 + (1 : Int32))) (fun h8 => w_getq h8 a0 2 2 (fun r9 => w_nn r9 (fun a10 => (∃ mc11 ms11, ((0 + 1) + mc5) + mc11 ≤ mc ∧ ((0 + 9) + ms5) + ms11 ≤ ms ∧ w_is h8 a10 4 (wp_J2_add G mc11 ms11 h8 a10 (some a1) (fun r12 h13 => Q (some a1) h13)))))))))))))
set_option maxHeartbeats 4000000 in
theorem snd_X2_come (l : Launch) (G : GG) (sz : Nat) (mc : Nat) (ms : Nat) (h : HH) (a0 : Nat) (x1 : Int32) (x2 : Int32) (x3 : Int32) (x4 : UInt32) (Q : Option Nat → HH → Prop) (hw : wp_X2_come G mc ms h a0 x1 x2 x3 x4 Q) : Met l yX2_come (ws_ yX2_come cX2_come 7 (some (FieldType.object "MatchmakerRules$Fact"))) (rm_X2_come mc ms) (hv_Pc G h sz [.ref a0, .int x1, .int x2, .int x3, .float x4]) (hv_Qq G h sz Q) mc ms (hv_A h sz) := by
  refine Met.ofW (cc := cX2_come) (maxL := 7) (ret := (some (FieldType.object "MatchmakerRules$Fact"))) (by decide) rfl ?_
  intro p e s m args below meth c s₁ B hml hv
  obtain ⟨rfl, rfl, hE, hI⟩ := hv_open B hml hv
  have hE : hv_E p s m ([.ref a0, .int x1, .int x2, .int x3, .float x4] : List Value).toArray meth c cX2_come 7 (some (FieldType.object "MatchmakerRules$Fact")) RX2 G h := hE
  obtain ⟨⟨hx, hb, hml, hown, hts⟩, hr, hlocks, hXX⟩ := id hE
  have hl := lv_entry ([.ref a0, .int x1, .int x2, .int x3, .float x4] : List Value) (n := 7) (Nat.le_of_ble_eq_true rfl)
  rw [lg_entry_eq]
  generalize (lg_sl ([.ref a0, .int x1, .int x2, .int x3, .float x4] : List Value) ++ List.replicate (7 - (lg_sl ([.ref a0, .int x1, .int x2, .int x3, .float x4] : List Value)).length) Slot.unset).toArray = ls at hl ⊢
  have hl : lv_has ls 7 [(0, .ref a0), (1, .int x1), (2, .int x2), (3, .int x3), (4, .float x4)] := hl
  have hc : 0 ≤ mc := Nat.zero_le _
  have hs : 0 ≤ ms := Nat.zero_le _
  unfold wp_X2_come at hw
  obtain ⟨hc, hs, hw⟩ := hw
  refine hv_wnew tyX10 hE hI in_X10 tyX10_ok (hts _ q469) (hts _ q980) (hts _ q126) (ci := 14) rfl df_X10_ok hw hc hs dX2_come_0 (fun a1 h2 H hw hI => ?_)
  refine lv_dup hx hb dX2_come_3 rfl ?_
  refine lv_aload_n hx hb dX2_come_4 rfl (lv_at hl 0 rfl) ?_
  refine hv_wgeti hE hI in_X2 (ci := 2) rfl 3 (by decide) (hts _ q225) (fun _ hx => hx) hw dX2_come_5 (fun r3 hw => ?_)
  refine lv_iload_n hx hb dX2_come_8 rfl (lv_at hl 1 rfl) ?_
  refine lv_iload_n hx hb dX2_come_9 rfl (lv_at hl 2 rfl) ?_
  refine lv_iload_n hx hb dX2_come_10 rfl (lv_at hl 3 rfl) ?_
  refine lv_fload hx hb dX2_come_11 (lv_at hl 4 rfl) ?_
  refine lv_aload_n hx hb dX2_come_13 rfl (lv_at hl 0 rfl) ?_
  refine hv_wgeti hE hI in_X2 (ci := 2) rfl 5 (by decide) (hts _ q229) (fun _ hx => hx) hw dX2_come_14 (fun r4 hw => ?_)
  obtain ⟨mc5, ms5, hc, hs, hw⟩ := hw
  refine hv_rcv hI (va_runI (As := [.int r3, .int x1, .int x2, .int x3, .float x4, .int r4]) (b := a1) (rest := [.ref a1]) hE.1 (snd_X10_init l G _ mc5 ms5 h2 a1 r3 x1 x2 x3 x4 r4 _ hw) (cwI 6 hts (lw_meth q983) rfl rfl rfl (hts _ q126) (hts _ q1166) (hts _ q982) rfl (by decide +kernel) ⟨Nat.le_of_ble_eq_true rfl, Nat.le_of_ble_eq_true rfl⟩) (hv_preS hE hI) rfl rfl hl.1 rfl (lv_room (Nat.le_of_ble_eq_true rfl)) dX2_come_17 ⟨hc, hs⟩) (fun h6 H locs hw hI => ?_)
  refine lv_astore (lv' := [(5, .ref a1), (0, .ref a0), (1, .int x1), (2, .int x2), (3, .int x3), (4, .float x4)]) hx hb dX2_come_20 hl (by decide) rfl (fun ls hl => ?_)
  refine lv_aload_n hx hb dX2_come_22 rfl (lv_at hl 1 rfl) ?_
  refine lv_dup hx hb dX2_come_23 rfl ?_
  refine hv_wgeti hE hI in_X2 (ci := 2) rfl 3 (by decide) (hts _ q225) (fun _ hx => hx) hw dX2_come_24 (fun r7 hw => ?_)
  refine lv_iconst (v := 1) hx hb dX2_come_27 (by decide) ?_
  refine lv_iadd hx hb dX2_come_28 ?_
  refine hv_wput (v := .int (r7 + (1 : Int32))) tyX2 hE hI in_X2 tyX2_ok nmX2 (ci := 2) rfl 3 (by decide) (hts _ q225) (fun _ hx => hx) rfl (ty := .int) rfl rfl rfl hw dX2_come_29 (fun h8 H locs hw hI => ?_)
  refine lv_aload_n hx hb dX2_come_32 rfl (lv_at hl 1 rfl) ?_
  refine hv_wgetq hE hI in_X2 (ci := 2) rfl 2 (by decide) (hts _ q222) (fun _ hx => hx) hw dX2_come_33 (fun r9 hw => ?_)
  refine lv_aload hx hb dX2_come_36 (lv_at hl 0 rfl) ?_
  obtain ⟨a10, hz, hwa10⟩ := hw; have hla10 := hl; subst hz; have hw := hwa10; have hl := hla10
  obtain ⟨mc11, ms11, hc, hs, hw⟩ := hw
  obtain ⟨⟨fs, hre⟩, hw⟩ := hw
  refine hv_rci hI (va_runV (As := [.ref a1]) (b := a10) (rest := []) hE.1 (snd_J2_add l G _ mc11 ms11 h8 a10 (some a1) _ hw) (cwV 1 hts (lw_V q909 q910 q911 q102 q912) rfl rfl rfl (by decide +kernel) ⟨Nat.le_of_ble_eq_true rfl, Nat.le_of_ble_eq_true rfl⟩) (hv_preV hE hI (ci := 4) rfl hre) rfl rfl hl.1 rfl (lv_room (Nat.le_of_ble_eq_true rfl)) dX2_come_38 ⟨hc, hs⟩) (fun r12 h13 H locs hw hI => ?_)
  refine lv_istore (lv' := [(6, .int r12), (5, .ref a1), (0, .ref a0), (1, .int x1), (2, .int x2), (3, .int x3), (4, .float x4)]) hx hb dX2_come_41 hl (by decide) rfl (fun ls hl => ?_)
  refine lv_aload hx hb dX2_come_43 (lv_at hl 1 rfl) ?_
  exact hv_qret (v := (some a1)) hE (Or.inl ⟨_, rfl⟩) hI hc hs hw dX2_come_45

/-- MatchmakerRules$Book.tell(CIII)I -/
abbrev rm_X2_tell (mc ms : Nat) : Room := { frames := 8, cells := mc, slots := ms, locals := 221 }
def wp_X2_tell_L125 (G : GG) (mc : Nat) (ms : Nat) (a0 : Nat) (Q : Int32 → HH → Prop) (X : String → Nat → HH → Prop) (h : HH) (nc : Nat) (nk : Nat) (x5 : Nat) (t0 : Int32) : Prop := w_geti h x5 14 0 (fun r30 => (∃ mc31 ms31, nc + mc31 ≤ mc ∧ nk + ms31 ≤ ms ∧ wp_X11_check G mc31 ms31 h t0 (2 : Int32) r30 (fun h32 => w_put h32 x5 14 6 (.int (1 : Int32)) (fun h35 => w_geti h35 x5 14 0 (fun r36 => Q r36 h35))) (fun E q33 h34 => X E q33 h34)))
set_option maxHeartbeats 4000000 in
theorem snd_X2_tell_L125 {p : Program} {l : Launch} {e : Env} {s : State} {m : MethodId} {args : Array Value} {below : List Frame} {meth : Method} {c : Code} {h0 : HH} (G : GG) (mc : Nat) (ms : Nat) (a0 : Nat) (Q : Int32 → HH → Prop) (X : String → Nat → HH → Prop) (hl0 : l.stackTraces = false) (ht : ∀ x ∈ c.exceptionTable.toList, False) (hE : hv_E p s m args meth c cX2_tell 6 (some FieldType.int) RX2 G h0) : ∀ (h : HH) (nc : Nat) (nk : Nat) (x5 : Nat) (t0 : Int32), wp_X2_tell_L125 G mc ms a0 Q X h nc nk x5 t0 → nc ≤ mc → nk ≤ ms → ∀ (H : Heap) (locs : List Loc) (ls : Array Slot), hv_I G h0 s.heap h H locs → lv_has ls 6 [(5, .ref x5)] → W p l e (headSpec (ws_ yX2_tell cX2_tell 6 (some FieldType.int)) (rm_X2_tell mc ms)).room s m args below meth c H locs nc nk (vx_MQ below (hv_Qi G h0 s.heap.size Q) (hv_XC G h0 s.heap.size X) args s mc ms (hv_A h0 s.heap.size)) (F0 m 125 ls [.int t0]) := by
  obtain ⟨⟨hx, hb, hml, hown, hts⟩, hr, hlocks, hXX⟩ := id hE
  intro h nc nk x5 t0 hw hc hs H locs ls hI hl
  unfold wp_X2_tell_L125 at hw
  refine lv_iconst (v := 2) hx hb dX2_tell_125 (by decide) ?_
  refine lv_aload hx hb dX2_tell_126 (lv_at hl 0 rfl) ?_
  refine hv_wgetiN hE hI in_X10 (ci := 14) rfl 0 (by decide) (hE.2.2.2.2.1.F 24 rfl) (fun _ hx => hx) hw dX2_tell_128 (fun r30 hw => ?_)
  obtain ⟨mc31, ms31, hc, hs, hw⟩ := hw
  refine hx_rcv hI (vx_runS (As := [.int t0, .int (2 : Int32), .int r30]) (rest := []) hE.1 (snd_X11_check l G _ mc31 ms31 h t0 (2 : Int32) r30 _ _ hw) (va_cwS 3 hts (lw_S q1051 q1052 q127 q1053) rfl rfl rfl (by decide +kernel) ⟨Nat.le_of_ble_eq_true rfl, Nat.le_of_ble_eq_true rfl⟩) (hv_preS hE hI) rfl rfl hl.1 rfl (lv_room (Nat.le_of_ble_eq_true rfl)) dX2_tell_131 ⟨hc, hs⟩) ?_ (fun h32 H locs hw hI => ?_)
  · intro E q33 h34 H locs hw hI hT
    exact hx_out hE hI hT hc hs (fun z hz => (ht z hz).elim) hw
  refine lv_aload hx hb dX2_tell_134 (lv_at hl 0 rfl) ?_
  refine lv_iconst (v := 1) hx hb dX2_tell_136 (by decide) ?_
  refine hv_wputN (v := .int (1 : Int32)) tyX10 hE hI in_X10 tyX10_ok nmX10 (ci := 14) rfl 6 (by decide) (hE.2.2.2.2.1.F 29 rfl) (fun _ hx => hx) rfl (ty := .boolean) rfl (by decide +kernel) (by decide +kernel) hw dX2_tell_137 (fun h35 H locs hw hI => ?_)
  refine lv_aload hx hb dX2_tell_140 (lv_at hl 0 rfl) ?_
  refine hv_wgetiN hE hI in_X10 (ci := 14) rfl 0 (by decide) (hE.2.2.2.2.1.F 24 rfl) (fun _ hx => hx) hw dX2_tell_142 (fun r36 hw => ?_)
  exact vx_ret (hv_iret hE hI hc hs hw dX2_tell_145)
def wp_X2_tell_L112 (G : GG) (mc : Nat) (ms : Nat) (a0 : Nat) (Q : Int32 → HH → Prop) (X : String → Nat → HH → Prop) (h : HH) (nc : Nat) (nk : Nat) (x5 : Option Nat) : Prop := w_nn x5 (fun a28 => w_geti h a28 14 6 (fun r29 => ((¬ r29 = 0 → wp_X2_tell_L125 G mc ms a0 Q X h nc nk a28 (0 : Int32)) ∧ (r29 = 0 → wp_X2_tell_L125 G mc ms a0 Q X h nc nk a28 (1 : Int32)))))
set_option maxHeartbeats 4000000 in
theorem snd_X2_tell_L112 {p : Program} {l : Launch} {e : Env} {s : State} {m : MethodId} {args : Array Value} {below : List Frame} {meth : Method} {c : Code} {h0 : HH} (G : GG) (mc : Nat) (ms : Nat) (a0 : Nat) (Q : Int32 → HH → Prop) (X : String → Nat → HH → Prop) (hl0 : l.stackTraces = false) (ht : ∀ x ∈ c.exceptionTable.toList, False) (hE : hv_E p s m args meth c cX2_tell 6 (some FieldType.int) RX2 G h0) : ∀ (h : HH) (nc : Nat) (nk : Nat) (x5 : Option Nat), wp_X2_tell_L112 G mc ms a0 Q X h nc nk x5 → nc ≤ mc → nk ≤ ms → ∀ (H : Heap) (locs : List Loc) (ls : Array Slot), hv_I G h0 s.heap h H locs → lv_has ls 6 [(5, va_rf x5)] → W p l e (headSpec (ws_ yX2_tell cX2_tell 6 (some FieldType.int)) (rm_X2_tell mc ms)).room s m args below meth c H locs nc nk (vx_MQ below (hv_Qi G h0 s.heap.size Q) (hv_XC G h0 s.heap.size X) args s mc ms (hv_A h0 s.heap.size)) (F0 m 112 ls []) := by
  obtain ⟨⟨hx, hb, hml, hown, hts⟩, hr, hlocks, hXX⟩ := id hE
  intro h nc nk x5 hw hc hs H locs ls hI hl
  unfold wp_X2_tell_L112 at hw
  refine lv_aloadq hx hb dX2_tell_112 (lv_at hl 0 rfl) ?_
  obtain ⟨a28, hz, hwa28⟩ := hw; have hla28 := hl; subst hz; have hw := hwa28; have hl := hla28
  refine hv_wgetiN hE hI in_X10 (ci := 14) rfl 6 (by decide) (hE.2.2.2.2.1.F 29 rfl) (fun _ hx => hx) hw dX2_tell_114 (fun r29 hw => ?_)
  refine lv_if_ne (tgt := 124) hx hb dX2_tell_117 (by decide) (fun c_117 => ?_) (fun c_117 => ?_)
  · have hw := hw.1 c_117
    refine lv_iconst (v := 0) hx hb dX2_tell_124 (by decide) ?_
    exact snd_X2_tell_L125 G mc ms a0 Q X hl0 ht hE h nc nk a28 (0 : Int32) hw hc hs _ _ _ hI (lv_sub hl [0] rfl)
  · have hw := hw.2 c_117
    refine lv_iconst (v := 1) hx hb dX2_tell_120 (by decide) ?_
    refine lv_goto (tgt := 125) hx hb dX2_tell_121 (by decide) ?_
    exact snd_X2_tell_L125 G mc ms a0 Q X hl0 ht hE h nc nk a28 (1 : Int32) hw hc hs _ _ _ hI (lv_sub hl [0] rfl)
def wp_X2_tell_L90 (G : GG) (mc : Nat) (ms : Nat) (a0 : Nat) (Q : Int32 → HH → Prop) (X : String → Nat → HH → Prop) (h : HH) (nc : Nat) (nk : Nat) (x1 : Int32) (x2 : Int32) (x3 : Int32) (x4 : Int32) (t0 : Int32) : Prop := (∃ mc21 ms21, nc + mc21 ≤ mc ∧ nk + ms21 ≤ ms ∧ wp_X11_check G mc21 ms21 h t0 (1 : Int32) (20 : Int32) (fun h22 => (vf_n32 (FP.fdiv (FP.i2f x4) (1120403456 : UInt32)) ∧ (∃ mc25 ms25, (nc + mc21) + mc25 ≤ mc ∧ (nk + ms21) + ms25 ≤ ms ∧ w_is h22 a0 2 (wp_X2_come G mc25 ms25 h22 a0 x1 x2 x3 (FP.fdiv (FP.i2f x4) (1120403456 : UInt32)) (fun r26 h27 => wp_X2_tell_L112 G mc ms a0 Q X h27 ((nc + mc21) + mc25) ((nk + ms21) + ms25) r26))))) (fun E q23 h24 => X E q23 h24))
set_option maxHeartbeats 4000000 in
theorem snd_X2_tell_L90 {p : Program} {l : Launch} {e : Env} {s : State} {m : MethodId} {args : Array Value} {below : List Frame} {meth : Method} {c : Code} {h0 : HH} (G : GG) (mc : Nat) (ms : Nat) (a0 : Nat) (Q : Int32 → HH → Prop) (X : String → Nat → HH → Prop) (hl0 : l.stackTraces = false) (ht : ∀ x ∈ c.exceptionTable.toList, False) (hE : hv_E p s m args meth c cX2_tell 6 (some FieldType.int) RX2 G h0) : ∀ (h : HH) (nc : Nat) (nk : Nat) (x1 : Int32) (x2 : Int32) (x3 : Int32) (x4 : Int32) (t0 : Int32), wp_X2_tell_L90 G mc ms a0 Q X h nc nk x1 x2 x3 x4 t0 → nc ≤ mc → nk ≤ ms → ∀ (H : Heap) (locs : List Loc) (ls : Array Slot), hv_I G h0 s.heap h H locs → lv_has ls 6 [(0, .ref a0), (1, .int x1), (2, .int x2), (3, .int x3), (4, .int x4)] → W p l e (headSpec (ws_ yX2_tell cX2_tell 6 (some FieldType.int)) (rm_X2_tell mc ms)).room s m args below meth c H locs nc nk (vx_MQ below (hv_Qi G h0 s.heap.size Q) (hv_XC G h0 s.heap.size X) args s mc ms (hv_A h0 s.heap.size)) (F0 m 90 ls [.int t0]) := by
  obtain ⟨⟨hx, hb, hml, hown, hts⟩, hr, hlocks, hXX⟩ := id hE
  intro h nc nk x1 x2 x3 x4 t0 hw hc hs H locs ls hI hl
  unfold wp_X2_tell_L90 at hw
  refine lv_iconst (v := 1) hx hb dX2_tell_90 (by decide) ?_
  refine lv_bipush (v := 20) hx hb dX2_tell_91 (by decide) ?_
  obtain ⟨mc21, ms21, hc, hs, hw⟩ := hw
  refine hx_rcv hI (vx_runS (As := [.int t0, .int (1 : Int32), .int (20 : Int32)]) (rest := []) hE.1 (snd_X11_check l G _ mc21 ms21 h t0 (1 : Int32) (20 : Int32) _ _ hw) (va_cwS 3 hts (lw_S q1051 q1052 q127 q1053) rfl rfl rfl (by decide +kernel) ⟨Nat.le_of_ble_eq_true rfl, Nat.le_of_ble_eq_true rfl⟩) (hv_preS hE hI) rfl rfl hl.1 rfl (lv_room (Nat.le_of_ble_eq_true rfl)) dX2_tell_93 ⟨hc, hs⟩) ?_ (fun h22 H locs hw hI => ?_)
  · intro E q23 h24 H locs hw hI hT
    exact hx_out hE hI hT hc hs (fun z hz => (ht z hz).elim) hw
  refine lv_aload_n hx hb dX2_tell_96 rfl (lv_at hl 0 rfl) ?_
  refine lv_iload_n hx hb dX2_tell_97 rfl (lv_at hl 1 rfl) ?_
  refine lv_iload_n hx hb dX2_tell_98 rfl (lv_at hl 2 rfl) ?_
  refine lv_iload_n hx hb dX2_tell_99 rfl (lv_at hl 3 rfl) ?_
  refine lv_iload hx hb dX2_tell_100 (lv_at hl 4 rfl) ?_
  refine lv_i2f hx hb dX2_tell_102 ?_
  refine lv_ldcwf (v := 1120403456) hx hb hown (hts _ q1161) dX2_tell_103 ?_
  obtain ⟨hne, hw⟩ := hw
  refine lv_fdiv hx hb dX2_tell_106 hne ?_
  obtain ⟨mc25, ms25, hc, hs, hw⟩ := hw
  obtain ⟨⟨fs, hre⟩, hw⟩ := hw
  refine hv_rcq hI (va_runV (As := [.int x1, .int x2, .int x3, .float (FP.fdiv (FP.i2f x4) (1120403456 : UInt32))]) (b := a0) (rest := []) hE.1 (snd_X2_come l G _ mc25 ms25 h22 a0 x1 x2 x3 (FP.fdiv (FP.i2f x4) (1120403456 : UInt32)) _ hw) (cwV 4 hts (lw_V q1162 q1164 qs21 q98 q1165) rfl rfl rfl (by decide +kernel) ⟨Nat.le_of_ble_eq_true rfl, Nat.le_of_ble_eq_true rfl⟩) (hv_preV hE hI (ci := 2) rfl hre) rfl rfl hl.1 rfl (lv_room (Nat.le_of_ble_eq_true rfl)) dX2_tell_107 ⟨hc, hs⟩) (fun r26 h27 H locs hw hI => ?_)
  refine lv_astoreq (lv' := [(5, va_rf r26), (0, .ref a0), (1, .int x1), (2, .int x2), (3, .int x3), (4, .int x4)]) hx hb dX2_tell_110 hl (by decide) rfl (fun ls hl => ?_)
  exact snd_X2_tell_L112 G mc ms a0 Q X hl0 ht hE h27 ((nc + mc21) + mc25) ((nk + ms21) + ms25) r26 hw hc hs _ _ _ hI (lv_sub hl [0] rfl)
def wp_X2_tell_L43 (G : GG) (mc : Nat) (ms : Nat) (a0 : Nat) (Q : Int32 → HH → Prop) (X : String → Nat → HH → Prop) (h : HH) (nc : Nat) (nk : Nat) (x1 : Int32) (x2 : Int32) (x3 : Int32) (x4 : Int32) (t0 : Int32) : Prop := (∃ mc3 ms3, nc + mc3 ≤ mc ∧ nk + ms3 ≤ ms ∧ wp_X1_checkArgument G mc3 ms3 h t0 (fun h4 => wp_X1_inRange G h4 (Int32.toInt64 x4) (1 : Int64) (100 : Int64) (fun r7 h8 => (∃ mc9 ms9, (nc + mc3) + mc9 ≤ mc ∧ (nk + ms3) + ms9 ≤ ms ∧ wp_X1_checkArgument G mc9 ms9 h8 r7 (fun h10 => (∃ mc13 ms13, ((nc + mc3) + mc9) + mc13 ≤ mc ∧ ((nk + ms3) + ms9) + ms13 ≤ ms ∧ w_is h10 a0 2 (wp_X2_find_2 G mc13 ms13 h10 a0 x1 x2 x3 (fun r14 h15 => ((r14 = none → w_getq h15 a0 2 2 (fun r17 => w_nn r17 (fun a18 => w_is h15 a18 4 (wp_J2_size G h15 a18 (fun r19 h20 => (((20 : Int32) ≤ r19 → wp_X2_tell_L90 G mc ms a0 Q X h20 (((nc + mc3) + mc9) + mc13) (((nk + ms3) + ms9) + ms13) x1 x2 x3 x4 (0 : Int32)) ∧ (¬ (20 : Int32) ≤ r19 → wp_X2_tell_L90 G mc ms a0 Q X h20 (((nc + mc3) + mc9) + mc13) (((nk + ms3) + ms9) + ms13) x1 x2 x3 x4 (1 : Int32)))))))) ∧ (∀ a16, r14 = some a16 → wp_X2_tell_L112 G mc ms a0 Q X h15 (((nc + mc3) + mc9) + mc13) (((nk + ms3) + ms9) + ms13) (some a16))))))) (fun E q11 h12 => X E q11 h12)))) (fun E q5 h6 => X E q5 h6))
set_option maxHeartbeats 4000000 in
theorem snd_X2_tell_L43 {p : Program} {l : Launch} {e : Env} {s : State} {m : MethodId} {args : Array Value} {below : List Frame} {meth : Method} {c : Code} {h0 : HH} (G : GG) (mc : Nat) (ms : Nat) (a0 : Nat) (Q : Int32 → HH → Prop) (X : String → Nat → HH → Prop) (hl0 : l.stackTraces = false) (ht : ∀ x ∈ c.exceptionTable.toList, False) (hE : hv_E p s m args meth c cX2_tell 6 (some FieldType.int) RX2 G h0) : ∀ (h : HH) (nc : Nat) (nk : Nat) (x1 : Int32) (x2 : Int32) (x3 : Int32) (x4 : Int32) (t0 : Int32), wp_X2_tell_L43 G mc ms a0 Q X h nc nk x1 x2 x3 x4 t0 → nc ≤ mc → nk ≤ ms → ∀ (H : Heap) (locs : List Loc) (ls : Array Slot), hv_I G h0 s.heap h H locs → lv_has ls 6 [(0, .ref a0), (1, .int x1), (2, .int x2), (3, .int x3), (4, .int x4)] → W p l e (headSpec (ws_ yX2_tell cX2_tell 6 (some FieldType.int)) (rm_X2_tell mc ms)).room s m args below meth c H locs nc nk (vx_MQ below (hv_Qi G h0 s.heap.size Q) (hv_XC G h0 s.heap.size X) args s mc ms (hv_A h0 s.heap.size)) (F0 m 43 ls [.int t0]) := by
  obtain ⟨⟨hx, hb, hml, hown, hts⟩, hr, hlocks, hXX⟩ := id hE
  intro h nc nk x1 x2 x3 x4 t0 hw hc hs H locs ls hI hl
  unfold wp_X2_tell_L43 at hw
  obtain ⟨mc3, ms3, hc, hs, hw⟩ := hw
  refine hx_rcv hI (vx_runSN (As := [.int t0]) (rest := []) hE.1 (snd_X1_checkArgument l hl0 G _ mc3 ms3 h t0 _ _ hw) ⟨va_cnB 1 hts (lw_meth q1159) rfl rfl rfl (hE.2.2.2.2.1.M 5 rfl) (hts _ q97) (by decide +kernel) ⟨Nat.le_of_ble_eq_true rfl, Nat.le_of_ble_eq_true rfl⟩, hts _ q1158, trivial⟩ (hv_preS hE hI) rfl rfl hl.1 rfl (lv_room (Nat.le_of_ble_eq_true rfl)) dX2_tell_43 ⟨hc, hs⟩) ?_ (fun h4 H locs hw hI => ?_)
  · intro E q5 h6 H locs hw hI hT
    exact hx_out hE hI hT hc hs (fun z hz => (ht z hz).elim) hw
  refine lv_iload hx hb dX2_tell_46 (lv_at hl 4 rfl) ?_
  refine lv_i2l (v := (Int32.toInt64 x4)) hx hb dX2_tell_48 rfl ?_
  refine lv_lconst (v := 1) hx hb dX2_tell_49 (by decide) ?_
  refine lv_ldc2 (v := 100) hx hb hown (hts _ q1160) dX2_tell_50 ?_
  refine hv_rci hI (va_runSN (As := [.long (Int32.toInt64 x4), .long (1 : Int64), .long (100 : Int64)]) (rest := []) hE.1 (snd_X1_inRange l G _ h4 (Int32.toInt64 x4) (1 : Int64) (100 : Int64) _ hw) ⟨va_cnB 3 hts (lw_meth q783) rfl rfl rfl (hE.2.2.2.2.1.M 3 rfl) (hts _ q97) (by decide +kernel) ⟨Nat.le_of_ble_eq_true rfl, Nat.le_of_ble_eq_true rfl⟩, hts _ q782, trivial⟩ (hv_preS hE hI) rfl rfl hl.1 rfl (lv_room (Nat.le_of_ble_eq_true rfl)) dX2_tell_53 ⟨hc, hs⟩) (fun r7 h8 H locs hw hI => ?_)
  obtain ⟨mc9, ms9, hc, hs, hw⟩ := hw
  refine hx_rcv hI (vx_runSN (As := [.int r7]) (rest := []) hE.1 (snd_X1_checkArgument l hl0 G _ mc9 ms9 h8 r7 _ _ hw) ⟨va_cnB 1 hts (lw_meth q1159) rfl rfl rfl (hE.2.2.2.2.1.M 5 rfl) (hts _ q97) (by decide +kernel) ⟨Nat.le_of_ble_eq_true rfl, Nat.le_of_ble_eq_true rfl⟩, hts _ q1158, trivial⟩ (hv_preS hE hI) rfl rfl hl.1 rfl (lv_room (Nat.le_of_ble_eq_true rfl)) dX2_tell_56 ⟨hc, hs⟩) ?_ (fun h10 H locs hw hI => ?_)
  · intro E q11 h12 H locs hw hI hT
    exact hx_out hE hI hT hc hs (fun z hz => (ht z hz).elim) hw
  refine lv_aload_n hx hb dX2_tell_59 rfl (lv_at hl 0 rfl) ?_
  refine lv_iload_n hx hb dX2_tell_60 rfl (lv_at hl 1 rfl) ?_
  refine lv_iload_n hx hb dX2_tell_61 rfl (lv_at hl 2 rfl) ?_
  refine lv_iload_n hx hb dX2_tell_62 rfl (lv_at hl 3 rfl) ?_
  obtain ⟨mc13, ms13, hc, hs, hw⟩ := hw
  obtain ⟨⟨fs, hre⟩, hw⟩ := hw
  refine hv_rcq hI (va_runV (As := [.int x1, .int x2, .int x3]) (b := a0) (rest := []) hE.1 (snd_X2_find_2 l G _ mc13 ms13 h10 a0 x1 x2 x3 _ hw) (cwV 3 hts (lw_V q614 q615 q616 q98 q617) rfl rfl rfl (by decide +kernel) ⟨Nat.le_of_ble_eq_true rfl, Nat.le_of_ble_eq_true rfl⟩) (hv_preV hE hI (ci := 2) rfl hre) rfl rfl hl.1 rfl (lv_room (Nat.le_of_ble_eq_true rfl)) dX2_tell_63 ⟨hc, hs⟩) (fun r14 h15 H locs hw hI => ?_)
  refine lv_astoreq (lv' := [(5, va_rf r14), (0, .ref a0), (1, .int x1), (2, .int x2), (3, .int x3), (4, .int x4)]) hx hb dX2_tell_66 hl (by decide) rfl (fun ls hl => ?_)
  refine lv_aloadq hx hb dX2_tell_68 (lv_at hl 0 rfl) ?_
  refine lv_ifnonnullq (tgt := 112) hx hb dX2_tell_70 (by decide) (fun c_70 => ?_) (fun c_70 => ?_)
  · obtain ⟨a16, hz⟩ := Option.ne_none_iff_exists.mp c_70
    have hwa16 := hw.2 a16 hz.symm; have hla16 := hl; subst hz; have hw := hwa16; have hl := hla16
    exact snd_X2_tell_L112 G mc ms a0 Q X hl0 ht hE h15 (((nc + mc3) + mc9) + mc13) (((nk + ms3) + ms9) + ms13) (some a16) hw hc hs _ _ _ hI (lv_sub hl [0] rfl)
  · have hwa16 := hw.1 c_70; have hla16 := hl; subst c_70; have hw := hwa16; have hl := hla16
    refine lv_aload_n hx hb dX2_tell_73 rfl (lv_at hl 1 rfl) ?_
    refine hv_wgetq hE hI in_X2 (ci := 2) rfl 2 (by decide) (hts _ q222) (fun _ hx => hx) hw dX2_tell_74 (fun r17 hw => ?_)
    obtain ⟨a18, hz, hwa18⟩ := hw; have hla18 := hl; subst hz; have hw := hwa18; have hl := hla18
    obtain ⟨⟨fs, hre⟩, hw⟩ := hw
    refine hv_rci hI (va_runV (As := []) (b := a18) (rest := []) hE.1 (snd_J2_size l G _ h15 a18 _ hw) (cwV 0 hts (lw_V q470 q333 q334 q102 q335) rfl rfl rfl (by decide +kernel) ⟨Nat.le_of_ble_eq_true rfl, Nat.le_of_ble_eq_true rfl⟩) (hv_preV hE hI (ci := 4) rfl hre) rfl rfl hl.1 rfl (lv_room (Nat.le_of_ble_eq_true rfl)) dX2_tell_77 ⟨hc, hs⟩) (fun r19 h20 H locs hw hI => ?_)
    refine lv_bipush (v := 20) hx hb dX2_tell_80 (by decide) ?_
    refine lv_icmp_ge (tgt := 89) hx hb dX2_tell_82 (by decide) (fun c_82 => ?_) (fun c_82 => ?_)
    · have hw := hw.1 c_82
      refine lv_iconst (v := 0) hx hb dX2_tell_89 (by decide) ?_
      exact snd_X2_tell_L90 G mc ms a0 Q X hl0 ht hE h20 (((nc + mc3) + mc9) + mc13) (((nk + ms3) + ms9) + ms13) x1 x2 x3 x4 (0 : Int32) hw hc hs _ _ _ hI (lv_sub hl [1, 2, 3, 4, 5] rfl)
    · have hw := hw.2 c_82
      refine lv_iconst (v := 1) hx hb dX2_tell_85 (by decide) ?_
      refine lv_goto (tgt := 90) hx hb dX2_tell_86 (by decide) ?_
      exact snd_X2_tell_L90 G mc ms a0 Q X hl0 ht hE h20 (((nc + mc3) + mc9) + mc13) (((nk + ms3) + ms9) + ms13) x1 x2 x3 x4 (1 : Int32) hw hc hs _ _ _ hI (lv_sub hl [1, 2, 3, 4, 5] rfl)
def wp_X2_tell_L42 (G : GG) (mc : Nat) (ms : Nat) (a0 : Nat) (Q : Int32 → HH → Prop) (X : String → Nat → HH → Prop) (h : HH) (nc : Nat) (nk : Nat) (x1 : Int32) (x2 : Int32) (x3 : Int32) (x4 : Int32) : Prop := wp_X2_tell_L43 G mc ms a0 Q X h nc nk x1 x2 x3 x4 (0 : Int32)
set_option maxHeartbeats 4000000 in
theorem snd_X2_tell_L42 {p : Program} {l : Launch} {e : Env} {s : State} {m : MethodId} {args : Array Value} {below : List Frame} {meth : Method} {c : Code} {h0 : HH} (G : GG) (mc : Nat) (ms : Nat) (a0 : Nat) (Q : Int32 → HH → Prop) (X : String → Nat → HH → Prop) (hl0 : l.stackTraces = false) (ht : ∀ x ∈ c.exceptionTable.toList, False) (hE : hv_E p s m args meth c cX2_tell 6 (some FieldType.int) RX2 G h0) : ∀ (h : HH) (nc : Nat) (nk : Nat) (x1 : Int32) (x2 : Int32) (x3 : Int32) (x4 : Int32), wp_X2_tell_L42 G mc ms a0 Q X h nc nk x1 x2 x3 x4 → nc ≤ mc → nk ≤ ms → ∀ (H : Heap) (locs : List Loc) (ls : Array Slot), hv_I G h0 s.heap h H locs → lv_has ls 6 [(0, .ref a0), (1, .int x1), (2, .int x2), (3, .int x3), (4, .int x4)] → W p l e (headSpec (ws_ yX2_tell cX2_tell 6 (some FieldType.int)) (rm_X2_tell mc ms)).room s m args below meth c H locs nc nk (vx_MQ below (hv_Qi G h0 s.heap.size Q) (hv_XC G h0 s.heap.size X) args s mc ms (hv_A h0 s.heap.size)) (F0 m 42 ls []) := by
  obtain ⟨⟨hx, hb, hml, hown, hts⟩, hr, hlocks, hXX⟩ := id hE
  intro h nc nk x1 x2 x3 x4 hw hc hs H locs ls hI hl
  unfold wp_X2_tell_L42 at hw
  refine lv_iconst (v := 0) hx hb dX2_tell_42 (by decide) ?_
  exact snd_X2_tell_L43 G mc ms a0 Q X hl0 ht hE h nc nk x1 x2 x3 x4 (0 : Int32) hw hc hs _ _ _ hI (lv_sub hl [0, 1, 2, 3, 4] rfl)
def wp_X2_tell (G : GG) (mc : Nat) (ms : Nat) (h : HH) (a0 : Nat) (x1 : Int32) (x2 : Int32) (x3 : Int32) (x4 : Int32) (Q : Int32 → HH → Prop) (X : String → Nat → HH → Prop) : Prop := wp_X1_inRange G h (Int32.toInt64 x1) (97 : Int64) (102 : Int64) (fun r1 h2 => ((r1 = 0 → wp_X2_tell_L42 G mc ms a0 Q X h2 0 0 x1 x2 x3 x4) ∧ (¬ r1 = 0 → wp_X1_inRange G h2 (Int32.toInt64 x2) (0 : Int64) (9 : Int64) (fun r37 h38 => ((r37 = 0 → wp_X2_tell_L42 G mc ms a0 Q X h38 0 0 x1 x2 x3 x4) ∧ (¬ r37 = 0 → wp_X1_inRange G h38 (Int32.toInt64 x3) (0 : Int64) (9 : Int64) (fun r39 h40 => ((r39 = 0 → wp_X2_tell_L42 G mc ms a0 Q X h40 0 0 x1 x2 x3 x4) ∧ (¬ r39 = 0 → wp_X2_tell_L43 G mc ms a0 Q X h40 0 0 x1 x2 x3 x4 (1 : Int32))))))))))
set_option maxHeartbeats 4000000 in
theorem snd_X2_tell (l : Launch) (hl0 : l.stackTraces = false) (G : GG) (sz : Nat) (mc : Nat) (ms : Nat) (h : HH) (a0 : Nat) (x1 : Int32) (x2 : Int32) (x3 : Int32) (x4 : Int32) (Q : Int32 → HH → Prop) (X : String → Nat → HH → Prop) (hw : wp_X2_tell G mc ms h a0 x1 x2 x3 x4 Q X) : vx_Met l yX2_tell (ws_ yX2_tell cX2_tell 6 (some FieldType.int)) (rm_X2_tell mc ms) (hv_Pc G h sz [.ref a0, .int x1, .int x2, .int x3, .int x4]) (hv_Qi G h sz Q) (hv_XC G h sz X) mc ms (hv_A h sz) := by
  refine vx_ofW (cc := cX2_tell) (maxL := 6) (ret := (some FieldType.int)) (by decide) rfl ?_
  intro p e s m args below meth c s₁ B hml ht hv
  obtain ⟨rfl, rfl, hE, hI⟩ := hv_open B hml hv
  have hE : hv_E p s m ([.ref a0, .int x1, .int x2, .int x3, .int x4] : List Value).toArray meth c cX2_tell 6 (some FieldType.int) RX2 G h := hE
  obtain ⟨⟨hx, hb, hml, hown, hts⟩, hr, hlocks, hXX⟩ := id hE
  have hl := lv_entry ([.ref a0, .int x1, .int x2, .int x3, .int x4] : List Value) (n := 6) (Nat.le_of_ble_eq_true rfl)
  rw [lg_entry_eq]
  generalize (lg_sl ([.ref a0, .int x1, .int x2, .int x3, .int x4] : List Value) ++ List.replicate (6 - (lg_sl ([.ref a0, .int x1, .int x2, .int x3, .int x4] : List Value)).length) Slot.unset).toArray = ls at hl ⊢
  have hl : lv_has ls 6 [(0, .ref a0), (1, .int x1), (2, .int x2), (3, .int x3), (4, .int x4)] := hl
  have hc : 0 ≤ mc := Nat.zero_le _
  have hs : 0 ≤ ms := Nat.zero_le _
  unfold wp_X2_tell at hw
  refine lv_iload_n hx hb dX2_tell_0 rfl (lv_at hl 1 rfl) ?_
  refine lv_i2l (v := (Int32.toInt64 x1)) hx hb dX2_tell_1 rfl ?_
  refine lv_ldc2 (v := 97) hx hb hown (hts _ q1154) dX2_tell_2 ?_
  refine lv_ldc2 (v := 102) hx hb hown (hts _ q1155) dX2_tell_5 ?_
  refine hv_rci hI (va_runSN (As := [.long (Int32.toInt64 x1), .long (97 : Int64), .long (102 : Int64)]) (rest := []) hE.1 (snd_X1_inRange l G _ h (Int32.toInt64 x1) (97 : Int64) (102 : Int64) _ hw) ⟨va_cnB 3 hts (lw_meth q783) rfl rfl rfl (hE.2.2.2.2.1.M 3 rfl) (hts _ q97) (by decide +kernel) ⟨Nat.le_of_ble_eq_true rfl, Nat.le_of_ble_eq_true rfl⟩, hts _ q782, trivial⟩ (hv_preS hE hI) rfl rfl hl.1 rfl (lv_room (Nat.le_of_ble_eq_true rfl)) dX2_tell_8 ⟨hc, hs⟩) (fun r1 h2 H locs hw hI => ?_)
  refine lv_if_eq (tgt := 42) hx hb dX2_tell_11 (by decide) (fun c_11 => ?_) (fun c_11 => ?_)
  · have hw := hw.1 c_11
    exact snd_X2_tell_L42 G mc ms a0 Q X hl0 ht hE h2 0 0 x1 x2 x3 x4 hw hc hs _ _ _ hI (lv_sub hl [0, 1, 2, 3, 4] rfl)
  · have hw := hw.2 c_11
    refine lv_iload_n hx hb dX2_tell_14 rfl (lv_at hl 2 rfl) ?_
    refine lv_i2l (v := (Int32.toInt64 x2)) hx hb dX2_tell_15 rfl ?_
    refine lv_lconst (v := 0) hx hb dX2_tell_16 (by decide) ?_
    refine lv_ldc2 (v := 9) hx hb hown (hts _ q1156) dX2_tell_17 ?_
    refine hv_rci hI (va_runSN (As := [.long (Int32.toInt64 x2), .long (0 : Int64), .long (9 : Int64)]) (rest := []) hE.1 (snd_X1_inRange l G _ h2 (Int32.toInt64 x2) (0 : Int64) (9 : Int64) _ hw) ⟨va_cnB 3 hts (lw_meth q783) rfl rfl rfl (hE.2.2.2.2.1.M 3 rfl) (hts _ q97) (by decide +kernel) ⟨Nat.le_of_ble_eq_true rfl, Nat.le_of_ble_eq_true rfl⟩, hts _ q782, trivial⟩ (hv_preS hE hI) rfl rfl hl.1 rfl (lv_room (Nat.le_of_ble_eq_true rfl)) dX2_tell_20 ⟨hc, hs⟩) (fun r37 h38 H locs hw hI => ?_)
    refine lv_if_eq (tgt := 42) hx hb dX2_tell_23 (by decide) (fun c_23 => ?_) (fun c_23 => ?_)
    · have hw := hw.1 c_23
      exact snd_X2_tell_L42 G mc ms a0 Q X hl0 ht hE h38 0 0 x1 x2 x3 x4 hw hc hs _ _ _ hI (lv_sub hl [0, 1, 2, 3, 4] rfl)
    · have hw := hw.2 c_23
      refine lv_iload_n hx hb dX2_tell_26 rfl (lv_at hl 3 rfl) ?_
      refine lv_i2l (v := (Int32.toInt64 x3)) hx hb dX2_tell_27 rfl ?_
      refine lv_lconst (v := 0) hx hb dX2_tell_28 (by decide) ?_
      refine lv_ldc2 (v := 9) hx hb hown (hts _ q1156) dX2_tell_29 ?_
      refine hv_rci hI (va_runSN (As := [.long (Int32.toInt64 x3), .long (0 : Int64), .long (9 : Int64)]) (rest := []) hE.1 (snd_X1_inRange l G _ h38 (Int32.toInt64 x3) (0 : Int64) (9 : Int64) _ hw) ⟨va_cnB 3 hts (lw_meth q783) rfl rfl rfl (hE.2.2.2.2.1.M 3 rfl) (hts _ q97) (by decide +kernel) ⟨Nat.le_of_ble_eq_true rfl, Nat.le_of_ble_eq_true rfl⟩, hts _ q782, trivial⟩ (hv_preS hE hI) rfl rfl hl.1 rfl (lv_room (Nat.le_of_ble_eq_true rfl)) dX2_tell_32 ⟨hc, hs⟩) (fun r39 h40 H locs hw hI => ?_)
      refine lv_if_eq (tgt := 42) hx hb dX2_tell_35 (by decide) (fun c_35 => ?_) (fun c_35 => ?_)
      · have hw := hw.1 c_35
        exact snd_X2_tell_L42 G mc ms a0 Q X hl0 ht hE h40 0 0 x1 x2 x3 x4 hw hc hs _ _ _ hI (lv_sub hl [0, 1, 2, 3, 4] rfl)
      · have hw := hw.2 c_35
        refine lv_iconst (v := 1) hx hb dX2_tell_38 (by decide) ?_
        refine lv_goto (tgt := 43) hx hb dX2_tell_39 (by decide) ?_
        exact snd_X2_tell_L43 G mc ms a0 Q X hl0 ht hE h40 0 0 x1 x2 x3 x4 (1 : Int32) hw hc hs _ _ _ hI (lv_sub hl [0, 1, 2, 3, 4] rfl)

/-- MatchmakerRules$Book.untell(I)I -/
abbrev rm_X2_untell (mc ms : Nat) : Room := { frames := 8, cells := mc, slots := ms, locals := 3126 }
def wp_X2_untell_L15 (G : GG) (mc : Nat) (ms : Nat) (a0 : Nat) (Q : Int32 → HH → Prop) (X : String → Nat → HH → Prop) (h : HH) (nc : Nat) (nk : Nat) (x1 : Int32) (x2 : Option Nat) (t0 : Int32) : Prop := (∃ mc5 ms5, nc + mc5 ≤ mc ∧ nk + ms5 ≤ ms ∧ wp_X11_check G mc5 ms5 h t0 (3 : Int32) x1 (fun h6 => w_nn x2 (fun a9 => w_geti h6 a9 14 6 (fun r10 => w_getq h6 a9 14 7 (fun r11 => w_nn r11 (fun a12 => w_is h6 a12 4 (wp_J2_size G h6 a12 (fun r13 h14 => (∃ mc15 ms15, (nc + mc5) + mc15 ≤ mc ∧ (nk + ms5) + ms15 ≤ ms ∧ wp_X11_check G mc15 ms15 h14 r10 (4 : Int32) r13 (fun h16 => w_put h16 a9 14 6 (.int (0 : Int32)) (fun h19 => (∃ mc20 ms20, ((nc + mc5) + mc15) + mc20 ≤ mc ∧ ((nk + ms5) + ms15) + ms20 ≤ ms ∧ w_is h19 a0 2 (wp_X2_loseGround G mc20 ms20 h19 a0 (fun r21 h22 => Q r21 h22))))) (fun E q17 h18 => X E q17 h18))))))))) (fun E q7 h8 => X E q7 h8))
set_option maxHeartbeats 4000000 in
theorem snd_X2_untell_L15 {p : Program} {l : Launch} {e : Env} {s : State} {m : MethodId} {args : Array Value} {below : List Frame} {meth : Method} {c : Code} {h0 : HH} (G : GG) (mc : Nat) (ms : Nat) (a0 : Nat) (Q : Int32 → HH → Prop) (X : String → Nat → HH → Prop) (ht : ∀ x ∈ c.exceptionTable.toList, False) (hE : hv_E p s m args meth c cX2_untell 3 (some FieldType.int) RX2 G h0) : ∀ (h : HH) (nc : Nat) (nk : Nat) (x1 : Int32) (x2 : Option Nat) (t0 : Int32), wp_X2_untell_L15 G mc ms a0 Q X h nc nk x1 x2 t0 → nc ≤ mc → nk ≤ ms → ∀ (H : Heap) (locs : List Loc) (ls : Array Slot), hv_I G h0 s.heap h H locs → lv_has ls 3 [(0, .ref a0), (1, .int x1), (2, va_rf x2)] → W p l e (headSpec (ws_ yX2_untell cX2_untell 3 (some FieldType.int)) (rm_X2_untell mc ms)).room s m args below meth c H locs nc nk (vx_MQ below (hv_Qi G h0 s.heap.size Q) (hv_XC G h0 s.heap.size X) args s mc ms (hv_A h0 s.heap.size)) (F0 m 15 ls [.int t0]) := by
  obtain ⟨⟨hx, hb, hml, hown, hts⟩, hr, hlocks, hXX⟩ := id hE
  intro h nc nk x1 x2 t0 hw hc hs H locs ls hI hl
  unfold wp_X2_untell_L15 at hw
  refine lv_iconst (v := 3) hx hb dX2_untell_15 (by decide) ?_
  refine lv_iload_n hx hb dX2_untell_16 rfl (lv_at hl 1 rfl) ?_
  obtain ⟨mc5, ms5, hc, hs, hw⟩ := hw
  refine hx_rcv hI (vx_runS (As := [.int t0, .int (3 : Int32), .int x1]) (rest := []) hE.1 (snd_X11_check l G _ mc5 ms5 h t0 (3 : Int32) x1 _ _ hw) (va_cwS 3 hts (lw_S q1051 q1052 q127 q1053) rfl rfl rfl (by decide +kernel) ⟨Nat.le_of_ble_eq_true rfl, Nat.le_of_ble_eq_true rfl⟩) (hv_preS hE hI) rfl rfl hl.1 rfl (lv_room (Nat.le_of_ble_eq_true rfl)) dX2_untell_17 ⟨hc, hs⟩) ?_ (fun h6 H locs hw hI => ?_)
  · intro E q7 h8 H locs hw hI hT
    exact hx_out hE hI hT hc hs (fun z hz => (ht z hz).elim) hw
  refine lv_aload_nq hx hb dX2_untell_20 rfl (lv_at hl 2 rfl) ?_
  obtain ⟨a9, hz, hwa9⟩ := hw; have hla9 := hl; subst hz; have hw := hwa9; have hl := hla9
  refine hv_wgetiN hE hI in_X10 (ci := 14) rfl 6 (by decide) (hE.2.2.2.2.1.F 29 rfl) (fun _ hx => hx) hw dX2_untell_21 (fun r10 hw => ?_)
  refine lv_iconst (v := 4) hx hb dX2_untell_24 (by decide) ?_
  refine lv_aload_n hx hb dX2_untell_25 rfl (lv_at hl 2 rfl) ?_
  refine hv_wgetqN hE hI in_X10 (ci := 14) rfl 7 (by decide) (hE.2.2.2.2.1.F 30 rfl) (fun _ hx => hx) hw dX2_untell_26 (fun r11 hw => ?_)
  obtain ⟨a12, hz, hwa12⟩ := hw; have hla12 := hl; subst hz; have hw := hwa12; have hl := hla12
  obtain ⟨⟨fs, hre⟩, hw⟩ := hw
  refine hv_rci hI (va_runV (As := []) (b := a12) (rest := [.int (4 : Int32), .int r10]) hE.1 (snd_J2_size l G _ h6 a12 _ hw) (cwV 0 hts (lw_V q470 q333 q334 q102 q335) rfl rfl rfl (by decide +kernel) ⟨Nat.le_of_ble_eq_true rfl, Nat.le_of_ble_eq_true rfl⟩) (hv_preV hE hI (ci := 4) rfl hre) rfl rfl hl.1 rfl (lv_room (Nat.le_of_ble_eq_true rfl)) dX2_untell_29 ⟨hc, hs⟩) (fun r13 h14 H locs hw hI => ?_)
  obtain ⟨mc15, ms15, hc, hs, hw⟩ := hw
  refine hx_rcv hI (vx_runS (As := [.int r10, .int (4 : Int32), .int r13]) (rest := []) hE.1 (snd_X11_check l G _ mc15 ms15 h14 r10 (4 : Int32) r13 _ _ hw) (va_cwS 3 hts (lw_S q1051 q1052 q127 q1053) rfl rfl rfl (by decide +kernel) ⟨Nat.le_of_ble_eq_true rfl, Nat.le_of_ble_eq_true rfl⟩) (hv_preS hE hI) rfl rfl hl.1 rfl (lv_room (Nat.le_of_ble_eq_true rfl)) dX2_untell_32 ⟨hc, hs⟩) ?_ (fun h16 H locs hw hI => ?_)
  · intro E q17 h18 H locs hw hI hT
    exact hx_out hE hI hT hc hs (fun z hz => (ht z hz).elim) hw
  refine lv_aload_n hx hb dX2_untell_35 rfl (lv_at hl 2 rfl) ?_
  refine lv_iconst (v := 0) hx hb dX2_untell_36 (by decide) ?_
  refine hv_wputN (v := .int (0 : Int32)) tyX10 hE hI in_X10 tyX10_ok nmX10 (ci := 14) rfl 6 (by decide) (hE.2.2.2.2.1.F 29 rfl) (fun _ hx => hx) rfl (ty := .boolean) rfl (by decide +kernel) (by decide +kernel) hw dX2_untell_37 (fun h19 H locs hw hI => ?_)
  refine lv_aload_n hx hb dX2_untell_40 rfl (lv_at hl 0 rfl) ?_
  obtain ⟨mc20, ms20, hc, hs, hw⟩ := hw
  obtain ⟨⟨fs, hre⟩, hw⟩ := hw
  refine hv_rci hI (va_runV (As := []) (b := a0) (rest := []) hE.1 (snd_X2_loseGround l G _ mc20 ms20 h19 a0 _ hw) (cwV 0 hts (lw_V q1138 q1140 qs20 q98 q1141) rfl rfl rfl (by decide +kernel) ⟨Nat.le_of_ble_eq_true rfl, Nat.le_of_ble_eq_true rfl⟩) (hv_preV hE hI (ci := 2) rfl hre) rfl rfl hl.1 rfl (lv_room (Nat.le_of_ble_eq_true rfl)) dX2_untell_41 ⟨hc, hs⟩) (fun r21 h22 H locs hw hI => ?_)
  exact vx_ret (hv_iret hE hI hc hs hw dX2_untell_44)
def wp_X2_untell (G : GG) (mc : Nat) (ms : Nat) (h : HH) (a0 : Nat) (x1 : Int32) (Q : Int32 → HH → Prop) (X : String → Nat → HH → Prop) : Prop := (∃ mc1 ms1, 0 + mc1 ≤ mc ∧ 0 + ms1 ≤ ms ∧ w_is h a0 2 (wp_X2_find G mc1 ms1 h a0 x1 (fun r2 h3 => ((r2 = none → wp_X2_untell_L15 G mc ms a0 Q X h3 (0 + mc1) (0 + ms1) x1 none (0 : Int32)) ∧ (∀ a4, r2 = some a4 → wp_X2_untell_L15 G mc ms a0 Q X h3 (0 + mc1) (0 + ms1) x1 (some a4) (1 : Int32))))))
set_option maxHeartbeats 4000000 in
theorem snd_X2_untell (l : Launch) (G : GG) (sz : Nat) (mc : Nat) (ms : Nat) (h : HH) (a0 : Nat) (x1 : Int32) (Q : Int32 → HH → Prop) (X : String → Nat → HH → Prop) (hw : wp_X2_untell G mc ms h a0 x1 Q X) : vx_Met l yX2_untell (ws_ yX2_untell cX2_untell 3 (some FieldType.int)) (rm_X2_untell mc ms) (hv_Pc G h sz [.ref a0, .int x1]) (hv_Qi G h sz Q) (hv_XC G h sz X) mc ms (hv_A h sz) := by
  refine vx_ofW (cc := cX2_untell) (maxL := 3) (ret := (some FieldType.int)) (by decide) rfl ?_
  intro p e s m args below meth c s₁ B hml ht hv
  obtain ⟨rfl, rfl, hE, hI⟩ := hv_open B hml hv
  have hE : hv_E p s m ([.ref a0, .int x1] : List Value).toArray meth c cX2_untell 3 (some FieldType.int) RX2 G h := hE
  obtain ⟨⟨hx, hb, hml, hown, hts⟩, hr, hlocks, hXX⟩ := id hE
  have hl := lv_entry ([.ref a0, .int x1] : List Value) (n := 3) (Nat.le_of_ble_eq_true rfl)
  rw [lg_entry_eq]
  generalize (lg_sl ([.ref a0, .int x1] : List Value) ++ List.replicate (3 - (lg_sl ([.ref a0, .int x1] : List Value)).length) Slot.unset).toArray = ls at hl ⊢
  have hl : lv_has ls 3 [(0, .ref a0), (1, .int x1)] := hl
  have hc : 0 ≤ mc := Nat.zero_le _
  have hs : 0 ≤ ms := Nat.zero_le _
  unfold wp_X2_untell at hw
  refine lv_aload_n hx hb dX2_untell_0 rfl (lv_at hl 0 rfl) ?_
  refine lv_iload_n hx hb dX2_untell_1 rfl (lv_at hl 1 rfl) ?_
  obtain ⟨mc1, ms1, hc, hs, hw⟩ := hw
  obtain ⟨⟨fs, hre⟩, hw⟩ := hw
  refine hv_rcq hI (va_runV (As := [.int x1]) (b := a0) (rest := []) hE.1 (snd_X2_find l G _ mc1 ms1 h a0 x1 _ hw) (cwV 1 hts (lw_V q565 q566 q567 q98 q568) rfl rfl rfl (by decide +kernel) ⟨Nat.le_of_ble_eq_true rfl, Nat.le_of_ble_eq_true rfl⟩) (hv_preV hE hI (ci := 2) rfl hre) rfl rfl hl.1 rfl (lv_room (Nat.le_of_ble_eq_true rfl)) dX2_untell_2 ⟨hc, hs⟩) (fun r2 h3 H locs hw hI => ?_)
  refine lv_astore_nq (lv' := [(2, va_rf r2), (0, .ref a0), (1, .int x1)]) hx hb dX2_untell_5 rfl hl (by decide) rfl (fun ls hl => ?_)
  refine lv_aload_nq hx hb dX2_untell_6 rfl (lv_at hl 0 rfl) ?_
  refine lv_ifnullq (tgt := 14) hx hb dX2_untell_7 (by decide) (fun c_7 => ?_) (fun c_7 => ?_)
  · have hwa4 := hw.1 c_7; have hla4 := hl; subst c_7; have hw := hwa4; have hl := hla4
    refine lv_iconst (v := 0) hx hb dX2_untell_14 (by decide) ?_
    exact snd_X2_untell_L15 G mc ms a0 Q X ht hE h3 (0 + mc1) (0 + ms1) x1 none (0 : Int32) hw hc hs _ _ _ hI (lv_sub hl [1, 2, 0] rfl)
  · obtain ⟨a4, hz⟩ := Option.ne_none_iff_exists.mp c_7
    have hwa4 := hw.2 a4 hz.symm; have hla4 := hl; subst hz; have hw := hwa4; have hl := hla4
    refine lv_iconst (v := 1) hx hb dX2_untell_10 (by decide) ?_
    refine lv_goto (tgt := 15) hx hb dX2_untell_11 (by decide) ?_
    exact snd_X2_untell_L15 G mc ms a0 Q X ht hE h3 (0 + mc1) (0 + ms1) x1 (some a4) (1 : Int32) hw hc hs _ _ _ hI (lv_sub hl [1, 2, 0] rfl)

/-- MatchmakerRules$Firing.<init>()V -/
abbrev rm_X12_init : Room := { frames := 1, cells := 0, slots := 0, locals := 32 }
def wp_X12_init (G : GG) (h : HH) (a0 : Nat) (Q : HH → Prop) : Prop := w_put h a0 16 1 (.int (-1 : Int32)) (fun h1 => w_put h1 a0 16 2 (.int (-1 : Int32)) (fun h2 => Q h2))
set_option maxHeartbeats 4000000 in
theorem snd_X12_init (l : Launch) (G : GG) (sz : Nat) (h : HH) (a0 : Nat) (Q : HH → Prop) (hw : wp_X12_init G h a0 Q) : Met l yX12_init (ws_ yX12_init cX12_init 1 (none : Option FieldType)) rm_X12_init (hv_Pc G h sz [.ref a0]) (hv_Qv G h sz Q) 0 0 (hv_A h sz) := by
  refine Met.ofW (cc := cX12_init) (maxL := 1) (ret := (none : Option FieldType)) (by decide) rfl ?_
  intro p e s m args below meth c s₁ B hml hv
  have hin2 : meth.name = "<init>" := (name_of_methodNamed B.named B.method).1
  obtain ⟨rfl, rfl, hE, hI⟩ := hv_open B hml hv
  have hE : hv_E p s m ([.ref a0] : List Value).toArray meth c cX12_init 1 (none : Option FieldType) RX12 G h := hE
  obtain ⟨⟨hx, hb, hml, hown, hts⟩, hr, hlocks, hXX⟩ := id hE
  have hl := lv_entry ([.ref a0] : List Value) (n := 1) (Nat.le_of_ble_eq_true rfl)
  rw [lg_entry_eq]
  generalize (lg_sl ([.ref a0] : List Value) ++ List.replicate (1 - (lg_sl ([.ref a0] : List Value)).length) Slot.unset).toArray = ls at hl ⊢
  have hl : lv_has ls 1 [(0, .ref a0)] := hl
  unfold wp_X12_init at hw
  refine lv_aload_n hx hb dX12_init_0 rfl (lv_at hl 0 rfl) ?_
  refine hv_objI (rest := []) hE (hts _ q1184) (hts _ q146) (hts _ q147) hl.1 dX12_init_1 (Nat.le_of_ble_eq_true rfl) (Nat.le_of_ble_eq_true rfl) ?_
  refine lv_aload_n hx hb dX12_init_4 rfl (lv_at hl 0 rfl) ?_
  refine lv_iconst (v := -1) hx hb dX12_init_5 (by decide) ?_
  refine hv_wput (v := .int (-1 : Int32)) tyX12 hE hI in_X12 tyX12_ok nmX12 (ci := 16) rfl 1 (by decide) (hts _ q1188) (fun _ hx => hx) rfl (ty := .int) rfl rfl rfl hw dX12_init_6 (fun h1 H locs hw hI => ?_)
  refine lv_aload_n hx hb dX12_init_9 rfl (lv_at hl 0 rfl) ?_
  refine lv_iconst (v := -1) hx hb dX12_init_10 (by decide) ?_
  refine hv_wput (v := .int (-1 : Int32)) tyX12 hE hI in_X12 tyX12_ok nmX12 (ci := 16) rfl 2 (by decide) (hts _ q1191) (fun _ hx => hx) rfl (ty := .int) rfl rfl rfl hw dX12_init_11 (fun h2 H locs hw hI => ?_)
  exact hv_vret hE hI (Nat.le_refl _) (Nat.le_refl _) hw dX12_init_14

/-- MatchmakerRules$Firing.newest()I -/
abbrev rm_X12_newest : Room := { frames := 1, cells := 0, slots := 0, locals := 32 }
def wp_X12_newest (G : GG) (h : HH) (a0 : Nat) (Q : Int32 → HH → Prop) : Prop := w_geti h a0 16 1 (fun r1 => w_geti h a0 16 2 (fun r2 => Q (if r1 < r2 then r2 else r1) h))
set_option maxHeartbeats 4000000 in
theorem snd_X12_newest (l : Launch) (G : GG) (sz : Nat) (h : HH) (a0 : Nat) (Q : Int32 → HH → Prop) (hw : wp_X12_newest G h a0 Q) : Met l yX12_newest (ws_ yX12_newest cX12_newest 1 (some FieldType.int)) rm_X12_newest (hv_Pc G h sz [.ref a0]) (hv_Qi G h sz Q) 0 0 (hv_A h sz) := by
  refine Met.ofW (cc := cX12_newest) (maxL := 1) (ret := (some FieldType.int)) (by decide) rfl ?_
  intro p e s m args below meth c s₁ B hml hv
  obtain ⟨rfl, rfl, hE, hI⟩ := hv_open B hml hv
  have hE : hv_E p s m ([.ref a0] : List Value).toArray meth c cX12_newest 1 (some FieldType.int) RX12 G h := hE
  obtain ⟨⟨hx, hb, hml, hown, hts⟩, hr, hlocks, hXX⟩ := id hE
  have hl := lv_entry ([.ref a0] : List Value) (n := 1) (Nat.le_of_ble_eq_true rfl)
  rw [lg_entry_eq]
  generalize (lg_sl ([.ref a0] : List Value) ++ List.replicate (1 - (lg_sl ([.ref a0] : List Value)).length) Slot.unset).toArray = ls at hl ⊢
  have hl : lv_has ls 1 [(0, .ref a0)] := hl
  unfold wp_X12_newest at hw
  refine lv_aload_n hx hb dX12_newest_0 rfl (lv_at hl 0 rfl) ?_
  refine hv_wgeti hE hI in_X12 (ci := 16) rfl 1 (by decide) (hts _ q1188) (fun _ hx => hx) hw dX12_newest_1 (fun r1 hw => ?_)
  refine lv_aload_n hx hb dX12_newest_4 rfl (lv_at hl 0 rfl) ?_
  refine hv_wgeti hE hI in_X12 (ci := 16) rfl 2 (by decide) (hts _ q1191) (fun _ hx => hx) hw dX12_newest_5 (fun r2 hw => ?_)
  refine va_mmax (rest := []) hx hb (hml.trans hl.1.symm) hown (hts _ q1214) (hts _ q533) (hts _ q113) (hts _ q534) (Nat.le_of_ble_eq_true rfl) (Nat.le_of_ble_eq_true rfl) (Nat.le_refl _) (Nat.le_refl _) dX12_newest_8 ?_
  exact hv_iret hE hI (Nat.le_refl _) (Nat.le_refl _) hw dX12_newest_11

/-- MatchmakerRules$Book$Walk.isAheadOf(LMatchmakerRules$Firing;)Z -/
abbrev rm_X3_isAheadOf : Room := { frames := 5, cells := 0, slots := 0, locals := 110 }
def wp_X3_isAheadOf (G : GG) (h : HH) (a0 : Nat) (x1 : Option Nat) (Q : Int32 → HH → Prop) : Prop := w_getq h a0 3 0 (fun r1 => w_nn r1 (fun a2 => w_geti h a2 12 4 (fun r3 => w_nn x1 (fun a4 => w_getq h a4 16 0 (fun r5 => w_nn r5 (fun a6 => w_geti h a6 12 4 (fun r7 => ((r3 = r7 → w_is h a0 3 (wp_X3_newest G h a0 (fun r8 h9 => w_is h9 a4 16 (wp_X12_newest G h9 a4 (fun r10 h11 => ((r8 = r10 → w_getq h11 a0 3 7 (fun r12 => w_nn r12 (fun a13 => w_getq h11 a13 2 1 (fun r14 => w_getq h11 a0 3 0 (fun r15 => w_nn r14 (fun a16 => w_is h11 a16 4 (wp_J2_indexOf G h11 a16 r15 (fun r17 h18 => w_getq h18 a0 3 7 (fun r19 => w_nn r19 (fun a20 => w_getq h18 a20 2 1 (fun r21 => w_getq h18 a4 16 0 (fun r22 => w_nn r21 (fun a23 => w_is h18 a23 4 (wp_J2_indexOf G h18 a23 r22 (fun r24 h25 => w_getq h25 a0 3 5 (fun r26 => w_nn r26 (fun a27 => w_geti h25 a27 14 0 (fun r28 => w_geti h25 a4 16 1 (fun r29 => (((r17 - r24) = 0 → (((r28 - r29) = 0 → w_geti h25 a0 3 6 (fun r30 => w_geti h25 a4 16 2 (fun r31 => ((r31 ≤ r30 → Q (0 : Int32) h25) ∧ (¬ r31 ≤ r30 → Q (1 : Int32) h25))))) ∧ (¬ (r28 - r29) = 0 → ((0 ≤ (r28 - r29) → Q (0 : Int32) h25) ∧ (¬ 0 ≤ (r28 - r29) → Q (1 : Int32) h25))))) ∧ (¬ (r17 - r24) = 0 → ((0 ≤ (r17 - r24) → Q (0 : Int32) h25) ∧ (¬ 0 ≤ (r17 - r24) → Q (1 : Int32) h25))))))))))))))))))))))) ∧ (¬ r8 = r10 → w_is h11 a0 3 (wp_X3_newest G h11 a0 (fun r32 h33 => w_is h33 a4 16 (wp_X12_newest G h33 a4 (fun r34 h35 => ((r32 ≤ r34 → Q (0 : Int32) h35) ∧ (¬ r32 ≤ r34 → Q (1 : Int32) h35))))))))))))) ∧ (¬ r3 = r7 → w_getq h a0 3 0 (fun r36 => w_nn r36 (fun a37 => w_geti h a37 12 4 (fun r38 => w_getq h a4 16 0 (fun r39 => w_nn r39 (fun a40 => w_geti h a40 12 4 (fun r41 => ((r38 ≤ r41 → Q (0 : Int32) h) ∧ (¬ r38 ≤ r41 → Q (1 : Int32) h)))))))))))))))))
set_option maxHeartbeats 4000000 in
theorem snd_X3_isAheadOf (l : Launch) (G : GG) (sz : Nat) (h : HH) (a0 : Nat) (x1 : Option Nat) (Q : Int32 → HH → Prop) (hw : wp_X3_isAheadOf G h a0 x1 Q) : Met l yX3_isAheadOf (ws_ yX3_isAheadOf cX3_isAheadOf 4 (some FieldType.boolean)) rm_X3_isAheadOf (hv_Pc G h sz [.ref a0, va_rf x1]) (hv_Qi G h sz Q) 0 0 (hv_A h sz) := by
  refine Met.ofW (cc := cX3_isAheadOf) (maxL := 4) (ret := (some FieldType.boolean)) (by decide) rfl ?_
  intro p e s m args below meth c s₁ B hml hv
  obtain ⟨rfl, rfl, hE, hI⟩ := hv_open B hml hv
  have hE : hv_E p s m ([.ref a0, va_rf x1] : List Value).toArray meth c cX3_isAheadOf 4 (some FieldType.boolean) RX3 G h := hE
  obtain ⟨⟨hx, hb, hml, hown, hts⟩, hr, hlocks, hXX⟩ := id hE
  have hl := lv_entry ([.ref a0, va_rf x1] : List Value) (n := 4) (by cases x1 <;> exact Nat.le_of_ble_eq_true rfl)
  rw [lg_entry_eq]
  generalize (lg_sl ([.ref a0, va_rf x1] : List Value) ++ List.replicate (4 - (lg_sl ([.ref a0, va_rf x1] : List Value)).length) Slot.unset).toArray = ls at hl ⊢
  have hl : lv_has ls 4 [(0, .ref a0), (1, va_rf x1)] := (by cases x1 <;> exact hl)
  unfold wp_X3_isAheadOf at hw
  refine lv_aload_n hx hb dX3_isAheadOf_0 rfl (lv_at hl 0 rfl) ?_
  refine hv_wgetq hE hI in_X3 (ci := 3) rfl 0 (by decide) (hts _ q160) (fun _ hx => hx) hw dX3_isAheadOf_1 (fun r1 hw => ?_)
  obtain ⟨a2, hz, hwa2⟩ := hw; have hla2 := hl; subst hz; have hw := hwa2; have hl := hla2
  refine hv_wgetiN hE hI in_X9 (ci := 12) rfl 4 (by decide) (hE.2.2.2.2.1.F 40 rfl) (fun _ hx => hx) hw dX3_isAheadOf_4 (fun r3 hw => ?_)
  refine lv_aload_nq hx hb dX3_isAheadOf_7 rfl (lv_at hl 1 rfl) ?_
  obtain ⟨a4, hz, hwa4⟩ := hw; have hla4 := hl; subst hz; have hw := hwa4; have hl := hla4
  refine hv_wgetqN hE hI in_X12 (ci := 16) rfl 0 (by decide) (hE.2.2.2.2.1.F 43 rfl) (fun _ hx => hx) hw dX3_isAheadOf_8 (fun r5 hw => ?_)
  obtain ⟨a6, hz, hwa6⟩ := hw; have hla6 := hl; subst hz; have hw := hwa6; have hl := hla6
  refine hv_wgetiN hE hI in_X9 (ci := 12) rfl 4 (by decide) (hE.2.2.2.2.1.F 40 rfl) (fun _ hx => hx) hw dX3_isAheadOf_11 (fun r7 hw => ?_)
  refine lv_icmp_eq (tgt := 40) hx hb dX3_isAheadOf_14 (by decide) (fun c_14 => ?_) (fun c_14 => ?_)
  · have hw := hw.1 c_14
    refine lv_aload_n hx hb dX3_isAheadOf_40 rfl (lv_at hl 0 rfl) ?_
    obtain ⟨⟨fs, hre⟩, hw⟩ := hw
    refine hv_rci hI (va_runV (As := []) (b := a0) (rest := []) hE.1 (snd_X3_newest l G _ h a0 _ hw) (cwV 0 hts (lw_V q1209 q529 q530 q99 q531) rfl rfl rfl (by decide +kernel) ⟨Nat.le_of_ble_eq_true rfl, Nat.le_of_ble_eq_true rfl⟩) (hv_preV hE hI (ci := 3) rfl hre) rfl rfl hl.1 rfl (lv_room (Nat.le_of_ble_eq_true rfl)) dX3_isAheadOf_41 ⟨Nat.le_of_ble_eq_true rfl, Nat.le_of_ble_eq_true rfl⟩) (fun r8 h9 H locs hw hI => ?_)
    refine lv_aload_n hx hb dX3_isAheadOf_44 rfl (lv_at hl 1 rfl) ?_
    obtain ⟨⟨fs, hre⟩, hw⟩ := hw
    refine hv_rci hI (va_runV (As := []) (b := a4) (rest := [.int r8]) hE.1 (snd_X12_newest l G _ h9 a4 _ hw) (cwV 0 hts (lw_V q1210 q1211 q1212 q132 q1213) rfl rfl rfl (by decide +kernel) ⟨Nat.le_of_ble_eq_true rfl, Nat.le_of_ble_eq_true rfl⟩) (hv_preV hE hI (ci := 16) rfl hre) rfl rfl hl.1 rfl (lv_room (Nat.le_of_ble_eq_true rfl)) dX3_isAheadOf_45 ⟨Nat.le_of_ble_eq_true rfl, Nat.le_of_ble_eq_true rfl⟩) (fun r10 h11 H locs hw hI => ?_)
    refine lv_icmp_eq (tgt := 68) hx hb dX3_isAheadOf_48 (by decide) (fun c_48 => ?_) (fun c_48 => ?_)
    · have hw := hw.1 c_48
      refine lv_aload_n hx hb dX3_isAheadOf_68 rfl (lv_at hl 0 rfl) ?_
      refine hv_wgetq hE hI in_X3 (ci := 3) rfl 7 (by decide) (hts _ q170) (fun _ hx => hx) hw dX3_isAheadOf_69 (fun r12 hw => ?_)
      obtain ⟨a13, hz, hwa13⟩ := hw; have hla13 := hl; subst hz; have hw := hwa13; have hl := hla13
      refine hv_wgetqN hE hI in_X2 (ci := 2) rfl 1 (by decide) (hE.2.2.2.2.1.F 35 rfl) (fun _ hx => hx) hw dX3_isAheadOf_72 (fun r14 hw => ?_)
      refine lv_aload_n hx hb dX3_isAheadOf_75 rfl (lv_at hl 0 rfl) ?_
      refine hv_wgetq hE hI in_X3 (ci := 3) rfl 0 (by decide) (hts _ q160) (fun _ hx => hx) hw dX3_isAheadOf_76 (fun r15 hw => ?_)
      obtain ⟨a16, hz, hwa16⟩ := hw; have hla16 := hl; subst hz; have hw := hwa16; have hl := hla16
      obtain ⟨⟨fs, hre⟩, hw⟩ := hw
      refine hv_rci hI (va_runV (As := [va_rf r15]) (b := a16) (rest := []) hE.1 (snd_J2_indexOf l G _ h11 a16 r15 _ hw) (cwV 1 hts (lw_V q1215 q570 q571 q102 q572) rfl rfl rfl (by decide +kernel) ⟨Nat.le_of_ble_eq_true rfl, Nat.le_of_ble_eq_true rfl⟩) (hv_preV hE hI (ci := 4) rfl hre) rfl rfl hl.1 rfl (lv_room (Nat.le_of_ble_eq_true rfl)) dX3_isAheadOf_79 ⟨Nat.le_of_ble_eq_true rfl, Nat.le_of_ble_eq_true rfl⟩) (fun r17 h18 H locs hw hI => ?_)
      refine lv_aload_n hx hb dX3_isAheadOf_82 rfl (lv_at hl 0 rfl) ?_
      refine hv_wgetq hE hI in_X3 (ci := 3) rfl 7 (by decide) (hts _ q170) (fun _ hx => hx) hw dX3_isAheadOf_83 (fun r19 hw => ?_)
      obtain ⟨a20, hz, hwa20⟩ := hw; have hla20 := hl; subst hz; have hw := hwa20; have hl := hla20
      refine hv_wgetqN hE hI in_X2 (ci := 2) rfl 1 (by decide) (hE.2.2.2.2.1.F 35 rfl) (fun _ hx => hx) hw dX3_isAheadOf_86 (fun r21 hw => ?_)
      refine lv_aload_n hx hb dX3_isAheadOf_89 rfl (lv_at hl 1 rfl) ?_
      refine hv_wgetqN hE hI in_X12 (ci := 16) rfl 0 (by decide) (hE.2.2.2.2.1.F 43 rfl) (fun _ hx => hx) hw dX3_isAheadOf_90 (fun r22 hw => ?_)
      obtain ⟨a23, hz, hwa23⟩ := hw; have hla23 := hl; subst hz; have hw := hwa23; have hl := hla23
      obtain ⟨⟨fs, hre⟩, hw⟩ := hw
      refine hv_rci hI (va_runV (As := [va_rf r22]) (b := a23) (rest := [.int r17]) hE.1 (snd_J2_indexOf l G _ h18 a23 r22 _ hw) (cwV 1 hts (lw_V q1215 q570 q571 q102 q572) rfl rfl rfl (by decide +kernel) ⟨Nat.le_of_ble_eq_true rfl, Nat.le_of_ble_eq_true rfl⟩) (hv_preV hE hI (ci := 4) rfl hre) rfl rfl hl.1 rfl (lv_room (Nat.le_of_ble_eq_true rfl)) dX3_isAheadOf_93 ⟨Nat.le_of_ble_eq_true rfl, Nat.le_of_ble_eq_true rfl⟩) (fun r24 h25 H locs hw hI => ?_)
      refine lv_isub hx hb dX3_isAheadOf_96 ?_
      refine lv_istore_n (lv' := [(2, .int (r17 - r24)), (0, .ref a0), (1, .ref a4)]) hx hb dX3_isAheadOf_97 rfl hl (by decide) rfl (fun ls hl => ?_)
      refine lv_aload_n hx hb dX3_isAheadOf_98 rfl (lv_at hl 1 rfl) ?_
      refine hv_wgetq hE hI in_X3 (ci := 3) rfl 5 (by decide) (hts _ q166) (fun _ hx => hx) hw dX3_isAheadOf_99 (fun r26 hw => ?_)
      obtain ⟨a27, hz, hwa27⟩ := hw; have hla27 := hl; subst hz; have hw := hwa27; have hl := hla27
      refine hv_wgetiN hE hI in_X10 (ci := 14) rfl 0 (by decide) (hE.2.2.2.2.1.F 41 rfl) (fun _ hx => hx) hw dX3_isAheadOf_102 (fun r28 hw => ?_)
      refine lv_aload_n hx hb dX3_isAheadOf_105 rfl (lv_at hl 2 rfl) ?_
      refine hv_wgetiN hE hI in_X12 (ci := 16) rfl 1 (by decide) (hE.2.2.2.2.1.F 44 rfl) (fun _ hx => hx) hw dX3_isAheadOf_106 (fun r29 hw => ?_)
      refine lv_isub hx hb dX3_isAheadOf_109 ?_
      refine lv_istore_n (lv' := [(3, .int (r28 - r29)), (2, .int (r17 - r24)), (0, .ref a0), (1, .ref a4)]) hx hb dX3_isAheadOf_110 rfl hl (by decide) rfl (fun ls hl => ?_)
      refine lv_iload_n hx hb dX3_isAheadOf_111 rfl (lv_at hl 1 rfl) ?_
      refine lv_if_eq (tgt := 127) hx hb dX3_isAheadOf_112 (by decide) (fun c_112 => ?_) (fun c_112 => ?_)
      · have hw := hw.1 c_112
        refine lv_iload_n hx hb dX3_isAheadOf_127 rfl (lv_at hl 0 rfl) ?_
        refine lv_if_eq (tgt := 143) hx hb dX3_isAheadOf_128 (by decide) (fun c_128 => ?_) (fun c_128 => ?_)
        · have hw := hw.1 c_128
          refine lv_aload_n hx hb dX3_isAheadOf_143 rfl (lv_at hl 2 rfl) ?_
          refine hv_wgeti hE hI in_X3 (ci := 3) rfl 6 (by decide) (hts _ q168) (fun _ hx => hx) hw dX3_isAheadOf_144 (fun r30 hw => ?_)
          refine lv_aload_n hx hb dX3_isAheadOf_147 rfl (lv_at hl 3 rfl) ?_
          refine hv_wgetiN hE hI in_X12 (ci := 16) rfl 2 (by decide) (hE.2.2.2.2.1.F 45 rfl) (fun _ hx => hx) hw dX3_isAheadOf_148 (fun r31 hw => ?_)
          refine lv_icmp_ge (tgt := 158) hx hb dX3_isAheadOf_151 (by decide) (fun c_151 => ?_) (fun c_151 => ?_)
          · have hw := hw.1 c_151
            refine lv_iconst (v := 0) hx hb dX3_isAheadOf_158 (by decide) ?_
            exact hv_zret hE hI (Nat.le_refl _) (Nat.le_refl _) rfl hw dX3_isAheadOf_159
          · have hw := hw.2 c_151
            refine lv_iconst (v := 1) hx hb dX3_isAheadOf_154 (by decide) ?_
            refine lv_goto (tgt := 159) hx hb dX3_isAheadOf_155 (by decide) ?_
            exact hv_zret hE hI (Nat.le_refl _) (Nat.le_refl _) rfl hw dX3_isAheadOf_159
        · have hw := hw.2 c_128
          refine lv_iload_n hx hb dX3_isAheadOf_131 rfl (lv_at hl 0 rfl) ?_
          refine lv_if_ge (tgt := 139) hx hb dX3_isAheadOf_132 (by decide) (fun c_132 => ?_) (fun c_132 => ?_)
          · have hw := hw.1 c_132
            refine lv_iconst (v := 0) hx hb dX3_isAheadOf_139 (by decide) ?_
            refine lv_goto (tgt := 159) hx hb dX3_isAheadOf_140 (by decide) ?_
            exact hv_zret hE hI (Nat.le_refl _) (Nat.le_refl _) rfl hw dX3_isAheadOf_159
          · have hw := hw.2 c_132
            refine lv_iconst (v := 1) hx hb dX3_isAheadOf_135 (by decide) ?_
            refine lv_goto (tgt := 159) hx hb dX3_isAheadOf_136 (by decide) ?_
            exact hv_zret hE hI (Nat.le_refl _) (Nat.le_refl _) rfl hw dX3_isAheadOf_159
      · have hw := hw.2 c_112
        refine lv_iload_n hx hb dX3_isAheadOf_115 rfl (lv_at hl 1 rfl) ?_
        refine lv_if_ge (tgt := 123) hx hb dX3_isAheadOf_116 (by decide) (fun c_116 => ?_) (fun c_116 => ?_)
        · have hw := hw.1 c_116
          refine lv_iconst (v := 0) hx hb dX3_isAheadOf_123 (by decide) ?_
          refine lv_goto (tgt := 159) hx hb dX3_isAheadOf_124 (by decide) ?_
          exact hv_zret hE hI (Nat.le_refl _) (Nat.le_refl _) rfl hw dX3_isAheadOf_159
        · have hw := hw.2 c_116
          refine lv_iconst (v := 1) hx hb dX3_isAheadOf_119 (by decide) ?_
          refine lv_goto (tgt := 159) hx hb dX3_isAheadOf_120 (by decide) ?_
          exact hv_zret hE hI (Nat.le_refl _) (Nat.le_refl _) rfl hw dX3_isAheadOf_159
    · have hw := hw.2 c_48
      refine lv_aload_n hx hb dX3_isAheadOf_51 rfl (lv_at hl 0 rfl) ?_
      obtain ⟨⟨fs, hre⟩, hw⟩ := hw
      refine hv_rci hI (va_runV (As := []) (b := a0) (rest := []) hE.1 (snd_X3_newest l G _ h11 a0 _ hw) (cwV 0 hts (lw_V q1209 q529 q530 q99 q531) rfl rfl rfl (by decide +kernel) ⟨Nat.le_of_ble_eq_true rfl, Nat.le_of_ble_eq_true rfl⟩) (hv_preV hE hI (ci := 3) rfl hre) rfl rfl hl.1 rfl (lv_room (Nat.le_of_ble_eq_true rfl)) dX3_isAheadOf_52 ⟨Nat.le_of_ble_eq_true rfl, Nat.le_of_ble_eq_true rfl⟩) (fun r32 h33 H locs hw hI => ?_)
      refine lv_aload_n hx hb dX3_isAheadOf_55 rfl (lv_at hl 1 rfl) ?_
      obtain ⟨⟨fs, hre⟩, hw⟩ := hw
      refine hv_rci hI (va_runV (As := []) (b := a4) (rest := [.int r32]) hE.1 (snd_X12_newest l G _ h33 a4 _ hw) (cwV 0 hts (lw_V q1210 q1211 q1212 q132 q1213) rfl rfl rfl (by decide +kernel) ⟨Nat.le_of_ble_eq_true rfl, Nat.le_of_ble_eq_true rfl⟩) (hv_preV hE hI (ci := 16) rfl hre) rfl rfl hl.1 rfl (lv_room (Nat.le_of_ble_eq_true rfl)) dX3_isAheadOf_56 ⟨Nat.le_of_ble_eq_true rfl, Nat.le_of_ble_eq_true rfl⟩) (fun r34 h35 H locs hw hI => ?_)
      refine lv_icmp_le (tgt := 66) hx hb dX3_isAheadOf_59 (by decide) (fun c_59 => ?_) (fun c_59 => ?_)
      · have hw := hw.1 c_59
        refine lv_iconst (v := 0) hx hb dX3_isAheadOf_66 (by decide) ?_
        exact hv_zret hE hI (Nat.le_refl _) (Nat.le_refl _) rfl hw dX3_isAheadOf_67
      · have hw := hw.2 c_59
        refine lv_iconst (v := 1) hx hb dX3_isAheadOf_62 (by decide) ?_
        refine lv_goto (tgt := 67) hx hb dX3_isAheadOf_63 (by decide) ?_
        exact hv_zret hE hI (Nat.le_refl _) (Nat.le_refl _) rfl hw dX3_isAheadOf_67
  · have hw := hw.2 c_14
    refine lv_aload_n hx hb dX3_isAheadOf_17 rfl (lv_at hl 0 rfl) ?_
    refine hv_wgetq hE hI in_X3 (ci := 3) rfl 0 (by decide) (hts _ q160) (fun _ hx => hx) hw dX3_isAheadOf_18 (fun r36 hw => ?_)
    obtain ⟨a37, hz, hwa37⟩ := hw; have hla37 := hl; subst hz; have hw := hwa37; have hl := hla37
    refine hv_wgetiN hE hI in_X9 (ci := 12) rfl 4 (by decide) (hE.2.2.2.2.1.F 40 rfl) (fun _ hx => hx) hw dX3_isAheadOf_21 (fun r38 hw => ?_)
    refine lv_aload_n hx hb dX3_isAheadOf_24 rfl (lv_at hl 1 rfl) ?_
    refine hv_wgetqN hE hI in_X12 (ci := 16) rfl 0 (by decide) (hE.2.2.2.2.1.F 43 rfl) (fun _ hx => hx) hw dX3_isAheadOf_25 (fun r39 hw => ?_)
    obtain ⟨a40, hz, hwa40⟩ := hw; have hla40 := hl; subst hz; have hw := hwa40; have hl := hla40
    refine hv_wgetiN hE hI in_X9 (ci := 12) rfl 4 (by decide) (hE.2.2.2.2.1.F 40 rfl) (fun _ hx => hx) hw dX3_isAheadOf_28 (fun r41 hw => ?_)
    refine lv_icmp_le (tgt := 38) hx hb dX3_isAheadOf_31 (by decide) (fun c_31 => ?_) (fun c_31 => ?_)
    · have hw := hw.1 c_31
      refine lv_iconst (v := 0) hx hb dX3_isAheadOf_38 (by decide) ?_
      exact hv_zret hE hI (Nat.le_refl _) (Nat.le_refl _) rfl hw dX3_isAheadOf_39
    · have hw := hw.2 c_31
      refine lv_iconst (v := 1) hx hb dX3_isAheadOf_34 (by decide) ?_
      refine lv_goto (tgt := 39) hx hb dX3_isAheadOf_35 (by decide) ?_
      exact hv_zret hE hI (Nat.le_refl _) (Nat.le_refl _) rfl hw dX3_isAheadOf_39
