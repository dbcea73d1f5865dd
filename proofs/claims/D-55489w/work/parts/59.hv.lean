/-! walks over a world (by gen/hvrun.py) -/
set_option maxRecDepth 100000
/-- MatchmakerRules.checkRow(I)V -/
abbrev rm_X1_checkRow (mc ms : Nat) : Room := { frames := 7, cells := mc, slots := ms, locals := 109 }
def wp_X1_checkRow (G : GG) (mc : Nat) (ms : Nat) (h : HH) (x0 : Int32) (Q : HH → Prop) (X : String → Nat → HH → Prop) : Prop := wp_X1_inRange G h (Int32.toInt64 x0) (0 : Int64) (1 : Int64) (fun r1 h2 => (∃ mc3 ms3, 0 + mc3 ≤ mc ∧ 0 + ms3 ≤ ms ∧ wp_X1_checkIndex G mc3 ms3 h2 r1 (fun h4 => Q h4) (fun E q5 h6 => X E q5 h6)))
set_option maxHeartbeats 4000000 in
theorem snd_X1_checkRow (l : Launch) (hl0 : l.stackTraces = false) (G : GG) (sz : Nat) (mc : Nat) (ms : Nat) (h : HH) (x0 : Int32) (Q : HH → Prop) (X : String → Nat → HH → Prop) (hw : wp_X1_checkRow G mc ms h x0 Q X) : vx_Met l yX1_checkRow (ws_ yX1_checkRow cX1_checkRow 1 (none : Option FieldType)) (rm_X1_checkRow mc ms) (hv_Pc G h sz [.int x0]) (hv_Qv G h sz Q) (hv_XC G h sz X) mc ms (hv_A h sz) := by
  refine vx_ofW (cc := cX1_checkRow) (maxL := 1) (ret := (none : Option FieldType)) (by decide) rfl ?_
  intro p e s m args below meth c s₁ B hml ht hv
  obtain ⟨rfl, rfl, hE, hI⟩ := hv_open B hml hv
  have hE : hv_E p s m ([.int x0] : List Value).toArray meth c cX1_checkRow 1 (none : Option FieldType) RX1 G h := hE
  obtain ⟨⟨hx, hb, hml, hown, hts⟩, hr, hlocks, hXX⟩ := id hE
  have hl := lv_entry ([.int x0] : List Value) (n := 1) (Nat.le_of_ble_eq_true rfl)
  rw [lg_entry_eq]
  generalize (lg_sl ([.int x0] : List Value) ++ List.replicate (1 - (lg_sl ([.int x0] : List Value)).length) Slot.unset).toArray = ls at hl ⊢
  have hl : lv_has ls 1 [(0, .int x0)] := hl
  have hc : 0 ≤ mc := Nat.zero_le _
  have hs : 0 ≤ ms := Nat.zero_le _
  unfold wp_X1_checkRow at hw
  refine lv_iload_n hx hb dX1_checkRow_0 rfl (lv_at hl 0 rfl) ?_
  refine lv_i2l (v := (Int32.toInt64 x0)) hx hb dX1_checkRow_1 rfl ?_
  refine lv_lconst (v := 0) hx hb dX1_checkRow_2 (by decide) ?_
  refine lv_lconst (v := 1) hx hb dX1_checkRow_3 (by decide) ?_
  refine hv_rci hI (va_runS (As := [.long (Int32.toInt64 x0), .long (0 : Int64), .long (1 : Int64)]) (rest := []) hE.1 (snd_X1_inRange l G _ h (Int32.toInt64 x0) (0 : Int64) (1 : Int64) _ hw) (va_cwS 3 hts (lw_S q1358 q782 q97 q783) rfl rfl rfl (by decide +kernel) ⟨Nat.le_of_ble_eq_true rfl, Nat.le_of_ble_eq_true rfl⟩) (hv_preS hE hI) rfl rfl hl.1 rfl (lv_room (Nat.le_of_ble_eq_true rfl)) dX1_checkRow_4 ⟨hc, hs⟩) (fun r1 h2 H locs hw hI => ?_)
  obtain ⟨mc3, ms3, hc, hs, hw⟩ := hw
  refine hx_rcv hI (vx_runS (As := [.int r1]) (rest := []) hE.1 (snd_X1_checkIndex l hl0 G _ mc3 ms3 h2 r1 _ _ hw) (va_cwS 1 hts (lw_S q1769 q1475 q97 q1476) rfl rfl rfl (by decide +kernel) ⟨Nat.le_of_ble_eq_true rfl, Nat.le_of_ble_eq_true rfl⟩) (hv_preS hE hI) rfl rfl hl.1 rfl (lv_room (Nat.le_of_ble_eq_true rfl)) dX1_checkRow_7 ⟨hc, hs⟩) ?_ (fun h4 H locs hw hI => ?_)
  · intro E q5 h6 H locs hw hI hT
    exact hx_out hE hI hT hc hs (fun z hz => (ht z hz).elim) hw
  exact vx_ret (hv_vret hE hI hc hs hw dX1_checkRow_10)

/-- MatchmakerRules.store(IZ)I -/
abbrev rm_X1_store (mc ms : Nat) : Room := { frames := 8, cells := mc, slots := ms, locals := 129 }
def wp_X1_store_L26 (G : GG) (mc : Nat) (ms : Nat) (a0 : Nat) (Q : Int32 → HH → Prop) (X : String → Nat → HH → Prop) : Nat → (HH) → (Nat) → (Nat) → (Int32) → (Int32) → (Nat) → (Nat) → (Int32) → Prop
  | 0, _, _, _, _, _, _, _, _ => False
  | n + 1, h, nc, nk, x1, x2, x3, x4, x5 => w_len G h x3 (fun r16 => ((r16 ≤ x5 → w_getq h a0 1 3 (fun r17 => ((x2 = 0 → w_nn r17 (fun a18 => w_qst G h a18 x1 (some x3) (fun h19 => w_len G h19 x3 (fun r20 => Q r20 h19)))) ∧ (¬ x2 = 0 → w_nn r17 (fun a21 => w_qst G h a21 x1 (some x4) (fun h22 => w_len G h22 x3 (fun r23 => Q r23 h22))))))) ∧ (¬ r16 ≤ x5 → w_getq h a0 1 0 (fun r24 => w_nn r24 (fun a25 => w_getq h a25 2 2 (fun r26 => w_nn r26 (fun a27 => w_is h a27 4 (wp_J2_get G h a27 x5 (fun r28 h29 => w_nn r28 (fun a30 => w_cast h29 a30 14 (w_geti h29 a30 14 0 (fun r31 => w_ist G h29 x3 x5 r31 (fun h32 => w_getq h32 a0 1 0 (fun r33 => w_nn r33 (fun a34 => w_getq h32 a34 2 2 (fun r35 => w_nn r35 (fun a36 => w_is h32 a36 4 (wp_J2_get G h32 a36 x5 (fun r37 h38 => w_nn r37 (fun a39 => w_cast h38 a39 14 (w_getf h38 a39 14 4 (fun r40 => w_fst G h38 x4 x5 r40 (fun h41 => wp_X1_store_L26 G mc ms a0 Q X n h41 nc nk x1 x2 x3 x4 (x5 + (1 : Int32)))))))))))))))))))))))))
set_option maxHeartbeats 4000000 in
theorem snd_X1_store_L26 {p : Program} {l : Launch} {e : Env} {s : State} {m : MethodId} {args : Array Value} {below : List Frame} {meth : Method} {c : Code} {h0 : HH} (G : GG) (mc : Nat) (ms : Nat) (a0 : Nat) (Q : Int32 → HH → Prop) (X : String → Nat → HH → Prop) (hl0 : l.stackTraces = false) (ht : ∀ x ∈ c.exceptionTable.toList, False) (hE : hv_E p s m args meth c cX1_store 6 (some FieldType.int) RX1 G h0) : ∀ (n : Nat) (h : HH) (nc : Nat) (nk : Nat) (x1 : Int32) (x2 : Int32) (x3 : Nat) (x4 : Nat) (x5 : Int32), wp_X1_store_L26 G mc ms a0 Q X n h nc nk x1 x2 x3 x4 x5 → nc ≤ mc → nk ≤ ms → ∀ (H : Heap) (locs : List Loc) (ls : Array Slot), hv_I G h0 s.heap h H locs → lv_has ls 6 [(0, .ref a0), (1, .int x1), (2, .int x2), (3, .ref x3), (4, .ref x4), (5, .int x5)] → W p l e (headSpec (ws_ yX1_store cX1_store 6 (some FieldType.int)) (rm_X1_store mc ms)).room s m args below meth c H locs nc nk (vx_MQ below (hv_Qi G h0 s.heap.size Q) (hv_XC G h0 s.heap.size X) args s mc ms (hv_A h0 s.heap.size)) (F0 m 26 ls []) := by
  obtain ⟨⟨hx, hb, hml, hown, hts⟩, hr, hlocks, hXX⟩ := id hE
  intro n
  induction n with
  | zero => intro h nc nk x1 x2 x3 x4 x5 hw; exact hw.elim
  | succ n ih =>
    intro h nc nk x1 x2 x3 x4 x5 hw hc hs H locs ls hI hl
    unfold wp_X1_store_L26 at hw
    refine lv_iload hx hb dX1_store_26 (lv_at hl 5 rfl) ?_
    refine lv_aload_n hx hb dX1_store_28 rfl (lv_at hl 3 rfl) ?_
    refine hv_len hE hI hw dX1_store_29 (fun r16 hw => ?_)
    refine lv_icmp_ge (tgt := 84) hx hb dX1_store_30 (by decide) (fun c_30 => ?_) (fun c_30 => ?_)
    · have hw := hw.1 c_30
      refine lv_aload_n hx hb dX1_store_84 rfl (lv_at hl 0 rfl) ?_
      refine hv_wgetq hE hI in_X1 (ci := 1) rfl 3 (by decide) (hts _ q303) (fun _ hx => hx) hw dX1_store_85 (fun r17 hw => ?_)
      refine lv_iload_n hx hb dX1_store_88 rfl (lv_at hl 1 rfl) ?_
      refine lv_iload_n hx hb dX1_store_89 rfl (lv_at hl 2 rfl) ?_
      refine lv_if_eq (tgt := 98) hx hb dX1_store_90 (by decide) (fun c_90 => ?_) (fun c_90 => ?_)
      · have hw := hw.1 c_90
        refine lv_aload_n hx hb dX1_store_98 rfl (lv_at hl 3 rfl) ?_
        obtain ⟨a18, hz, hwa18⟩ := hw; have hla18 := hl; subst hz; have hw := hwa18; have hl := hla18
        refine hv_wqst (x1 := (some x3)) hE hI hw dX1_store_99 (fun h19 H locs hw hI => ?_)
        refine lv_aload_n hx hb dX1_store_100 rfl (lv_at hl 3 rfl) ?_
        refine hv_len hE hI hw dX1_store_101 (fun r20 hw => ?_)
        exact vx_ret (hv_iret hE hI hc hs hw dX1_store_102)
      · have hw := hw.2 c_90
        refine lv_aload hx hb dX1_store_93 (lv_at hl 4 rfl) ?_
        refine lv_goto (tgt := 99) hx hb dX1_store_95 (by decide) ?_
        obtain ⟨a21, hz, hwa21⟩ := hw; have hla21 := hl; subst hz; have hw := hwa21; have hl := hla21
        refine hv_wqst (x1 := (some x4)) hE hI hw dX1_store_99 (fun h22 H locs hw hI => ?_)
        refine lv_aload_n hx hb dX1_store_100 rfl (lv_at hl 3 rfl) ?_
        refine hv_len hE hI hw dX1_store_101 (fun r23 hw => ?_)
        exact vx_ret (hv_iret hE hI hc hs hw dX1_store_102)
    · have hw := hw.2 c_30
      refine lv_aload_n hx hb dX1_store_33 rfl (lv_at hl 3 rfl) ?_
      refine lv_iload hx hb dX1_store_34 (lv_at hl 5 rfl) ?_
      refine lv_aload_n hx hb dX1_store_36 rfl (lv_at hl 0 rfl) ?_
      refine hv_wgetq hE hI in_X1 (ci := 1) rfl 0 (by decide) (hts _ q300) (fun _ hx => hx) hw dX1_store_37 (fun r24 hw => ?_)
      obtain ⟨a25, hz, hwa25⟩ := hw; have hla25 := hl; subst hz; have hw := hwa25; have hl := hla25
      refine hv_wgetqN hE hI in_X2 (ci := 2) rfl 2 (by decide) (hE.2.2.2.2.1.F 1 rfl) (fun _ hx => hx) hw dX1_store_40 (fun r26 hw => ?_)
      refine lv_iload hx hb dX1_store_43 (lv_at hl 5 rfl) ?_
      obtain ⟨a27, hz, hwa27⟩ := hw; have hla27 := hl; subst hz; have hw := hwa27; have hl := hla27
      obtain ⟨⟨fs, hre⟩, hw⟩ := hw
      refine hv_rcq hI (va_runV (As := [.int x5]) (b := a27) (rest := [.int x5, .ref x3]) hE.1 (snd_J2_get l G _ h a27 x5 _ hw) (cwV 1 hts (lw_V q1359 q472 q473 q102 q474) rfl rfl rfl (by decide +kernel) ⟨Nat.le_of_ble_eq_true rfl, Nat.le_of_ble_eq_true rfl⟩) (hv_preV hE hI (ci := 4) rfl hre) rfl rfl hl.1 rfl (lv_room (Nat.le_of_ble_eq_true rfl)) dX1_store_45 ⟨hc, hs⟩) (fun r28 h29 H locs hw hI => ?_)
      obtain ⟨a30, hz, hwa30⟩ := hw; have hla30 := hl; subst hz; have hw := hwa30; have hl := hla30
      refine hv_wcast (ci := 14) hE hI (hts _ q1360) rfl hw dX1_store_48 (fun hw => ?_)
      refine hv_wgetiN hE hI in_X10 (ci := 14) rfl 0 (by decide) (hE.2.2.2.2.1.F 7 rfl) (fun _ hx => hx) hw dX1_store_51 (fun r31 hw => ?_)
      refine hv_wist hE hI hw dX1_store_54 (fun h32 H locs hw hI => ?_)
      refine lv_aload hx hb dX1_store_55 (lv_at hl 4 rfl) ?_
      refine lv_iload hx hb dX1_store_57 (lv_at hl 5 rfl) ?_
      refine lv_aload_n hx hb dX1_store_59 rfl (lv_at hl 0 rfl) ?_
      refine hv_wgetq hE hI in_X1 (ci := 1) rfl 0 (by decide) (hts _ q300) (fun _ hx => hx) hw dX1_store_60 (fun r33 hw => ?_)
      obtain ⟨a34, hz, hwa34⟩ := hw; have hla34 := hl; subst hz; have hw := hwa34; have hl := hla34
      refine hv_wgetqN hE hI in_X2 (ci := 2) rfl 2 (by decide) (hE.2.2.2.2.1.F 1 rfl) (fun _ hx => hx) hw dX1_store_63 (fun r35 hw => ?_)
      refine lv_iload hx hb dX1_store_66 (lv_at hl 5 rfl) ?_
      obtain ⟨a36, hz, hwa36⟩ := hw; have hla36 := hl; subst hz; have hw := hwa36; have hl := hla36
      obtain ⟨⟨fs, hre⟩, hw⟩ := hw
      refine hv_rcq hI (va_runV (As := [.int x5]) (b := a36) (rest := [.int x5, .ref x4]) hE.1 (snd_J2_get l G _ h32 a36 x5 _ hw) (cwV 1 hts (lw_V q1359 q472 q473 q102 q474) rfl rfl rfl (by decide +kernel) ⟨Nat.le_of_ble_eq_true rfl, Nat.le_of_ble_eq_true rfl⟩) (hv_preV hE hI (ci := 4) rfl hre) rfl rfl hl.1 rfl (lv_room (Nat.le_of_ble_eq_true rfl)) dX1_store_68 ⟨hc, hs⟩) (fun r37 h38 H locs hw hI => ?_)
      obtain ⟨a39, hz, hwa39⟩ := hw; have hla39 := hl; subst hz; have hw := hwa39; have hl := hla39
      refine hv_wcast (ci := 14) hE hI (hts _ q1360) rfl hw dX1_store_71 (fun hw => ?_)
      refine hv_wgetfN hE hI in_X10 (ci := 14) rfl 4 (by decide) (hE.2.2.2.2.1.F 11 rfl) (fun _ hx => hx) hw dX1_store_74 (fun r40 hw => ?_)
      refine hv_wfst hE hI hw dX1_store_77 (fun h41 H locs hw hI => ?_)
      refine lv_iinc (v := (x5 + (1 : Int32))) (lv' := [(5, .int (x5 + (1 : Int32))), (0, .ref a0), (1, .int x1), (2, .int x2), (3, .ref x3), (4, .ref x4)]) hx hb dX1_store_78 hl (k := 5) rfl rfl (by decide) rfl (fun ls hl => ?_)
      refine lv_goto (tgt := 26) hx hb dX1_store_81 (by decide) ?_
      exact ih h41 nc nk x1 x2 x3 x4 (x5 + (1 : Int32)) hw hc hs _ _ _ hI (lv_sub hl [1, 2, 3, 4, 5, 0] rfl)
def wp_X1_store (G : GG) (mc : Nat) (ms : Nat) (h : HH) (a0 : Nat) (x1 : Int32) (x2 : Int32) (Q : Int32 → HH → Prop) (X : String → Nat → HH → Prop) : Prop := (∃ mc1 ms1, 0 + mc1 ≤ mc ∧ 0 + ms1 ≤ ms ∧ wp_X1_checkRow G mc1 ms1 h x1 (fun h2 => w_getq h2 a0 1 0 (fun r5 => w_nn r5 (fun a6 => w_getq h2 a6 2 2 (fun r7 => w_nn r7 (fun a8 => w_is h2 a8 4 (wp_J2_size G h2 a8 (fun r9 h10 => (¬ r9 < 0 ∧ (Int32.toNatClampNeg r9) ≤ 1000000 ∧ ((0 + mc1) + 1 ≤ mc ∧ (0 + ms1) + (Int32.toNatClampNeg r9) ≤ ms ∧ w_new h10 (.inl (G.2.1 0, (Int32.toNatClampNeg r9), .inl (fun _ => 0))) (fun a11 h12 => w_len G h12 a11 (fun r13 => (¬ r13 < 0 ∧ (Int32.toNatClampNeg r13) ≤ 1000000 ∧ (((0 + mc1) + 1) + 1 ≤ mc ∧ ((0 + ms1) + (Int32.toNatClampNeg r9)) + (Int32.toNatClampNeg r13) ≤ ms ∧ w_new h12 (.inl (G.2.1 2, (Int32.toNatClampNeg r13), .inr (.inr (.inl (fun _ => 0))))) (fun a14 h15 => (∃ n26, wp_X1_store_L26 G mc ms a0 Q X n26 h15 (((0 + mc1) + 1) + 1) (((0 + ms1) + (Int32.toNatClampNeg r9)) + (Int32.toNatClampNeg r13)) x1 x2 a11 a14 (0 : Int32)))))))))))))))) (fun E q3 h4 => X E q3 h4))
set_option maxHeartbeats 4000000 in
theorem snd_X1_store (l : Launch) (hl0 : l.stackTraces = false) (G : GG) (sz : Nat) (mc : Nat) (ms : Nat) (h : HH) (a0 : Nat) (x1 : Int32) (x2 : Int32) (Q : Int32 → HH → Prop) (X : String → Nat → HH → Prop) (hw : wp_X1_store G mc ms h a0 x1 x2 Q X) : vx_Met l yX1_store (ws_ yX1_store cX1_store 6 (some FieldType.int)) (rm_X1_store mc ms) (hv_Pc G h sz [.ref a0, .int x1, .int x2]) (hv_Qi G h sz Q) (hv_XC G h sz X) mc ms (hv_A h sz) := by
  refine vx_ofW (cc := cX1_store) (maxL := 6) (ret := (some FieldType.int)) (by decide) rfl ?_
  intro p e s m args below meth c s₁ B hml ht hv
  obtain ⟨rfl, rfl, hE, hI⟩ := hv_open B hml hv
  have hE : hv_E p s m ([.ref a0, .int x1, .int x2] : List Value).toArray meth c cX1_store 6 (some FieldType.int) RX1 G h := hE
  obtain ⟨⟨hx, hb, hml, hown, hts⟩, hr, hlocks, hXX⟩ := id hE
  have hl := lv_entry ([.ref a0, .int x1, .int x2] : List Value) (n := 6) (Nat.le_of_ble_eq_true rfl)
  rw [lg_entry_eq]
  generalize (lg_sl ([.ref a0, .int x1, .int x2] : List Value) ++ List.replicate (6 - (lg_sl ([.ref a0, .int x1, .int x2] : List Value)).length) Slot.unset).toArray = ls at hl ⊢
  have hl : lv_has ls 6 [(0, .ref a0), (1, .int x1), (2, .int x2)] := hl
  have hc : 0 ≤ mc := Nat.zero_le _
  have hs : 0 ≤ ms := Nat.zero_le _
  unfold wp_X1_store at hw
  refine lv_iload_n hx hb dX1_store_0 rfl (lv_at hl 1 rfl) ?_
  obtain ⟨mc1, ms1, hc, hs, hw⟩ := hw
  refine hx_rcv hI (vx_runS (As := [.int x1]) (rest := []) hE.1 (snd_X1_checkRow l hl0 G _ mc1 ms1 h x1 _ _ hw) (va_cwS 1 hts (lw_S q1841 q1842 q97 q1843) rfl rfl rfl (by decide +kernel) ⟨Nat.le_of_ble_eq_true rfl, Nat.le_of_ble_eq_true rfl⟩) (hv_preS hE hI) rfl rfl hl.1 rfl (lv_room (Nat.le_of_ble_eq_true rfl)) dX1_store_1 ⟨hc, hs⟩) ?_ (fun h2 H locs hw hI => ?_)
  · intro E q3 h4 H locs hw hI hT
    exact hx_out hE hI hT hc hs (fun z hz => (ht z hz).elim) hw
  refine lv_aload_n hx hb dX1_store_4 rfl (lv_at hl 0 rfl) ?_
  refine hv_wgetq hE hI in_X1 (ci := 1) rfl 0 (by decide) (hts _ q300) (fun _ hx => hx) hw dX1_store_5 (fun r5 hw => ?_)
  obtain ⟨a6, hz, hwa6⟩ := hw; have hla6 := hl; subst hz; have hw := hwa6; have hl := hla6
  refine hv_wgetqN hE hI in_X2 (ci := 2) rfl 2 (by decide) (hE.2.2.2.2.1.F 1 rfl) (fun _ hx => hx) hw dX1_store_8 (fun r7 hw => ?_)
  obtain ⟨a8, hz, hwa8⟩ := hw; have hla8 := hl; subst hz; have hw := hwa8; have hl := hla8
  obtain ⟨⟨fs, hre⟩, hw⟩ := hw
  refine hv_rci hI (va_runV (As := []) (b := a8) (rest := []) hE.1 (snd_J2_size l G _ h2 a8 _ hw) (cwV 0 hts (lw_V q332 q333 q334 q102 q335) rfl rfl rfl (by decide +kernel) ⟨Nat.le_of_ble_eq_true rfl, Nat.le_of_ble_eq_true rfl⟩) (hv_preV hE hI (ci := 4) rfl hre) rfl rfl hl.1 rfl (lv_room (Nat.le_of_ble_eq_true rfl)) dX1_store_11 ⟨hc, hs⟩) (fun r9 h10 H locs hw hI => ?_)
  obtain ⟨hneg, hby, hw⟩ := hw
  obtain ⟨hc, hs, hw⟩ := hw
  refine hv_wnewa_int (N' := (Int32.toNatClampNeg r9)) hE hI (hts _ q188) rfl hneg hby hw hc hs dX1_store_14 (fun a11 h12 H hw hI => ?_)
  refine lv_astore_n (lv' := [(3, .ref a11), (0, .ref a0), (1, .int x1), (2, .int x2)]) hx hb dX1_store_16 rfl hl (by decide) rfl (fun ls hl => ?_)
  refine lv_aload_n hx hb dX1_store_17 rfl (lv_at hl 0 rfl) ?_
  refine hv_len hE hI hw dX1_store_18 (fun r13 hw => ?_)
  obtain ⟨hneg, hby, hw⟩ := hw
  obtain ⟨hc, hs, hw⟩ := hw
  refine hv_wnewa_float (N' := (Int32.toNatClampNeg r13)) hE hI (hts _ q1844) rfl hneg hby hw hc hs dX1_store_19 (fun a14 h15 H hw hI => ?_)
  refine lv_astore (lv' := [(4, .ref a14), (3, .ref a11), (0, .ref a0), (1, .int x1), (2, .int x2)]) hx hb dX1_store_21 hl (by decide) rfl (fun ls hl => ?_)
  refine lv_iconst (v := 0) hx hb dX1_store_23 (by decide) ?_
  refine lv_istore (lv' := [(5, .int (0 : Int32)), (4, .ref a14), (3, .ref a11), (0, .ref a0), (1, .int x1), (2, .int x2)]) hx hb dX1_store_24 hl (by decide) rfl (fun ls hl => ?_)
  obtain ⟨n26, hw⟩ := hw
  exact snd_X1_store_L26 G mc ms a0 Q X hl0 ht hE n26 h15 (((0 + mc1) + 1) + 1) (((0 + ms1) + (Int32.toNatClampNeg r9)) + (Int32.toNatClampNeg r13)) x1 x2 a11 a14 (0 : Int32) hw hc hs _ _ _ hI (lv_sub hl [3, 4, 5, 2, 1, 0] rfl)

/-- MatchmakerRules.copyOf(Ljava/lang/Object;)Ljava/lang/Object; -/
abbrev rm_X1_copyOf (mc ms : Nat) : Room := { frames := 1, cells := mc, slots := ms, locals := 40 }
def wp_X1_copyOf (G : GG) (mc : Nat) (ms : Nat) (h : HH) (x0 : Option Nat) (Q : Option Nat → HH → Prop) : Prop := w_nn x0 (fun a1 => w_instI G h a1 (fun r2 => ((r2 = 0 → w_castA G h a1 2 (w_clone G h a1 2 mc ms 0 0 (fun a3 h5 nn4 => Q (some a3) h5))) ∧ (¬ r2 = 0 → w_castA G h a1 0 (w_clone G h a1 0 mc ms 0 0 (fun a6 h8 nn7 => Q (some a6) h8))))))
set_option maxHeartbeats 4000000 in
theorem snd_X1_copyOf (l : Launch) (G : GG) (sz : Nat) (mc : Nat) (ms : Nat) (h : HH) (x0 : Option Nat) (Q : Option Nat → HH → Prop) (hw : wp_X1_copyOf G mc ms h x0 Q) : Met l yX1_copyOf (ws_ yX1_copyOf cX1_copyOf 2 (some (FieldType.object "java/lang/Object"))) (rm_X1_copyOf mc ms) (hv_Pc G h sz [va_rf x0]) (hv_Qq G h sz Q) mc ms (hv_A h sz) := by
  refine Met.ofW (cc := cX1_copyOf) (maxL := 2) (ret := (some (FieldType.object "java/lang/Object"))) (by decide) rfl ?_
  intro p e s m args below meth c s₁ B hml hv
  obtain ⟨rfl, rfl, hE, hI⟩ := hv_open B hml hv
  have hE : hv_E p s m ([va_rf x0] : List Value).toArray meth c cX1_copyOf 2 (some (FieldType.object "java/lang/Object")) RX1 G h := hE
  obtain ⟨⟨hx, hb, hml, hown, hts⟩, hr, hlocks, hXX⟩ := id hE
  have hl := lv_entry ([va_rf x0] : List Value) (n := 2) (by cases x0 <;> exact Nat.le_of_ble_eq_true rfl)
  rw [lg_entry_eq]
  generalize (lg_sl ([va_rf x0] : List Value) ++ List.replicate (2 - (lg_sl ([va_rf x0] : List Value)).length) Slot.unset).toArray = ls at hl ⊢
  have hl : lv_has ls 2 [(0, va_rf x0)] := (by cases x0 <;> exact hl)
  have hc : 0 ≤ mc := Nat.zero_le _
  have hs : 0 ≤ ms := Nat.zero_le _
  unfold wp_X1_copyOf at hw
  refine lv_aload_nq hx hb dX1_copyOf_0 rfl (lv_at hl 0 rfl) ?_
  obtain ⟨a1, hz, hwa1⟩ := hw; have hla1 := hl; subst hz; have hw := hwa1; have hl := hla1
  refine hv_instIw hE hI (hts _ q1869) hw dX1_copyOf_1 (fun r2 hw => ?_)
  refine lv_if_eq (tgt := 19) hx hb dX1_copyOf_4 (by decide) (fun c_4 => ?_) (fun c_4 => ?_)
  · have hw := hw.1 c_4
    refine lv_aload_n hx hb dX1_copyOf_19 rfl (lv_at hl 0 rfl) ?_
    refine hv_wcastA (t := 2) (ty := .float) hE hI (hts _ q1871) rfl rfl (by decide +kernel) hw dX1_copyOf_20 (fun hw => ?_)
    refine hv_clone (rest := []) (ad := "[F") (t := 2) hE hI hw hl.1 (Nat.le_refl _) (Nat.le_refl _) (hts _ q1872) (hts _ q1873) (hts _ q823) (hts _ q824) (hts _ q1874) (hE.2.2.2.2.1.C 46 rfl) (ty := .float) rfl rfl rfl (by decide +kernel) (Nat.le_of_ble_eq_true rfl) (Nat.le_of_ble_eq_true rfl) dX1_copyOf_23 (fun a3 nn4 h5 H hw hc hs hI => ?_)
    exact hv_qret (v := (some a3)) hE (Or.inl ⟨_, rfl⟩) hI hc hs hw dX1_copyOf_26
  · have hw := hw.2 c_4
    refine lv_aload_n hx hb dX1_copyOf_7 rfl (lv_at hl 0 rfl) ?_
    refine hv_wcastA (t := 0) (ty := .int) hE hI (hts _ q1869) rfl rfl (by decide +kernel) hw dX1_copyOf_8 (fun hw => ?_)
    refine lv_astore_n (lv' := [(1, .ref a1), (0, .ref a1)]) hx hb dX1_copyOf_11 rfl hl (by decide) rfl (fun ls hl => ?_)
    refine lv_aload_n hx hb dX1_copyOf_12 rfl (lv_at hl 0 rfl) ?_
    refine hv_clone (rest := []) (ad := "[I") (t := 0) hE hI hw hl.1 (Nat.le_refl _) (Nat.le_refl _) (hts _ q1870) (hts _ q822) (hts _ q823) (hts _ q824) (hts _ q825) (hE.2.2.2.2.1.C 42 rfl) (ty := .int) rfl rfl rfl (by decide +kernel) (Nat.le_of_ble_eq_true rfl) (Nat.le_of_ble_eq_true rfl) dX1_copyOf_13 (fun a6 nn7 h8 H hw hc hs hI => ?_)
    refine lv_goto (tgt := 26) hx hb dX1_copyOf_16 (by decide) ?_
    exact hv_qret (v := (some a6)) hE (Or.inl ⟨_, rfl⟩) hI hc hs hw dX1_copyOf_26

/-- MatchmakerRules.bits(Ljava/lang/Object;I)I -/
abbrev rm_X1_bits : Room := { frames := 3, cells := 0, slots := 0, locals := 52 }
def wp_X1_bits (G : GG) (h : HH) (x0 : Option Nat) (x1 : Int32) (Q : Int32 → HH → Prop) : Prop := w_nn x0 (fun a1 => w_instI G h a1 (fun r2 => ((r2 = 0 → w_castA G h a1 2 (w_fld G h a1 x1 (fun r3 => wp_J23_floatToIntBits r3 (fun r4 => Q r4 h)))) ∧ (¬ r2 = 0 → w_castA G h a1 0 (w_ild G h a1 x1 (fun r5 => Q r5 h))))))
set_option maxHeartbeats 4000000 in
theorem snd_X1_bits (l : Launch) (G : GG) (sz : Nat) (h : HH) (x0 : Option Nat) (x1 : Int32) (Q : Int32 → HH → Prop) (hw : wp_X1_bits G h x0 x1 Q) : Met l yX1_bits (ws_ yX1_bits cX1_bits 3 (some FieldType.int)) rm_X1_bits (hv_Pc G h sz [va_rf x0, .int x1]) (hv_Qi G h sz Q) 0 0 (hv_A h sz) := by
  refine Met.ofW (cc := cX1_bits) (maxL := 3) (ret := (some FieldType.int)) (by decide) rfl ?_
  intro p e s m args below meth c s₁ B hml hv
  obtain ⟨rfl, rfl, hE, hI⟩ := hv_open B hml hv
  have hE : hv_E p s m ([va_rf x0, .int x1] : List Value).toArray meth c cX1_bits 3 (some FieldType.int) RX1 G h := hE
  obtain ⟨⟨hx, hb, hml, hown, hts⟩, hr, hlocks, hXX⟩ := id hE
  have hl := lv_entry ([va_rf x0, .int x1] : List Value) (n := 3) (by cases x0 <;> exact Nat.le_of_ble_eq_true rfl)
  rw [lg_entry_eq]
  generalize (lg_sl ([va_rf x0, .int x1] : List Value) ++ List.replicate (3 - (lg_sl ([va_rf x0, .int x1] : List Value)).length) Slot.unset).toArray = ls at hl ⊢
  have hl : lv_has ls 3 [(0, va_rf x0), (1, .int x1)] := (by cases x0 <;> exact hl)
  unfold wp_X1_bits at hw
  refine lv_aload_nq hx hb dX1_bits_0 rfl (lv_at hl 0 rfl) ?_
  obtain ⟨a1, hz, hwa1⟩ := hw; have hla1 := hl; subst hz; have hw := hwa1; have hl := hla1
  refine hv_instIw hE hI (hts _ q1869) hw dX1_bits_1 (fun r2 hw => ?_)
  refine lv_if_eq (tgt := 18) hx hb dX1_bits_4 (by decide) (fun c_4 => ?_) (fun c_4 => ?_)
  · have hw := hw.1 c_4
    refine lv_aload_n hx hb dX1_bits_18 rfl (lv_at hl 0 rfl) ?_
    refine hv_wcastA (t := 2) (ty := .float) hE hI (hts _ q1871) rfl rfl (by decide +kernel) hw dX1_bits_19 (fun hw => ?_)
    refine lv_iload_n hx hb dX1_bits_22 rfl (lv_at hl 1 rfl) ?_
    refine hv_wfld hE hI hw dX1_bits_23 (fun r3 hw => ?_)
    refine pu_calls (As := [.float r3]) (rest := []) hE hI (snd_J23_floatToIntBits l G _ _ r3 _ hw) (va_cwS 1 hts (lw_S q1397 q1398 q134 q1399) rfl rfl rfl (by decide +kernel) ⟨Nat.le_of_ble_eq_true rfl, Nat.le_of_ble_eq_true rfl⟩) rfl hl.1 (Nat.le_of_ble_eq_true rfl) dX1_bits_24 ⟨Nat.le_of_ble_eq_true rfl, Nat.le_of_ble_eq_true rfl⟩ (fun r4 H locs hw hI => ?_)
    exact hv_iret hE hI (Nat.le_refl _) (Nat.le_refl _) hw dX1_bits_27
  · have hw := hw.2 c_4
    refine lv_aload_n hx hb dX1_bits_7 rfl (lv_at hl 0 rfl) ?_
    refine hv_wcastA (t := 0) (ty := .int) hE hI (hts _ q1869) rfl rfl (by decide +kernel) hw dX1_bits_8 (fun hw => ?_)
    refine lv_astore_n (lv' := [(2, .ref a1), (0, .ref a1), (1, .int x1)]) hx hb dX1_bits_11 rfl hl (by decide) rfl (fun ls hl => ?_)
    refine lv_aload_n hx hb dX1_bits_12 rfl (lv_at hl 0 rfl) ?_
    refine lv_iload_n hx hb dX1_bits_13 rfl (lv_at hl 2 rfl) ?_
    refine hv_wild hE hI hw dX1_bits_14 (fun r5 hw => ?_)
    refine lv_goto (tgt := 27) hx hb dX1_bits_15 (by decide) ?_
    exact hv_iret hE hI (Nat.le_refl _) (Nat.le_refl _) hw dX1_bits_27

/-- MatchmakerRules.copyRow(II)I -/
abbrev rm_X1_copyRow (mc ms : Nat) : Room := { frames := 8, cells := mc, slots := ms, locals := 129 }
def wp_X1_copyRow_L27 (G : GG) (mc : Nat) (ms : Nat) (a0 : Nat) (Q : Int32 → HH → Prop) (X : String → Nat → HH → Prop) (h : HH) (nc : Nat) (nk : Nat) (x1 : Int32) (x2 : Int32) (t0 : Int32) : Prop := (∃ mc9 ms9, nc + mc9 ≤ mc ∧ nk + ms9 ≤ ms ∧ wp_X1_checkElement G mc9 ms9 h t0 (fun h10 => w_getq h10 a0 1 3 (fun r13 => w_nn r13 (fun a14 => w_qld G h10 a14 ((1 : Int32) - x1) (fun r15 => (∃ mc16 ms16, (nc + mc9) + mc16 ≤ mc ∧ (nk + ms9) + ms16 ≤ ms ∧ wp_X1_copyOf G mc16 ms16 h10 r15 (fun r17 h18 => w_getq h18 a0 1 3 (fun r19 => w_nn r19 (fun a20 => w_qld G h18 a20 x1 (fun r21 => w_nn r21 (fun a22 => w_nn r17 (fun a23 => False))))))))))) (fun E q11 h12 => X E q11 h12))
set_option maxHeartbeats 4000000 in
theorem snd_X1_copyRow_L27 {p : Program} {l : Launch} {e : Env} {s : State} {m : MethodId} {args : Array Value} {below : List Frame} {meth : Method} {c : Code} {h0 : HH} (G : GG) (mc : Nat) (ms : Nat) (a0 : Nat) (Q : Int32 → HH → Prop) (X : String → Nat → HH → Prop) (hl0 : l.stackTraces = false) (ht : c.exceptionTable.toList = tableOf [(45, 59, 62, 341), (45, 59, 72, 7)]) (hE : hv_E p s m args meth c cX1_copyRow 7 (some FieldType.int) RX1 G h0) : ∀ (h : HH) (nc : Nat) (nk : Nat) (x1 : Int32) (x2 : Int32) (t0 : Int32), wp_X1_copyRow_L27 G mc ms a0 Q X h nc nk x1 x2 t0 → nc ≤ mc → nk ≤ ms → ∀ (H : Heap) (locs : List Loc) (ls : Array Slot), hv_I G h0 s.heap h H locs → lv_has ls 7 [(0, .ref a0), (1, .int x1), (2, .int x2)] → W p l e (headSpec (wsW_ yX1_copyRow cX1_copyRow 7 (some FieldType.int) [(45, 59, 62, 341), (45, 59, 72, 7)]) (rm_X1_copyRow mc ms)).room s m args below meth c H locs nc nk (vx_MQ below (hv_Qi G h0 s.heap.size Q) (hv_XC G h0 s.heap.size X) args s mc ms (hv_A h0 s.heap.size)) (F0 m 27 ls [.int t0]) := by
  obtain ⟨⟨hx, hb, hml, hown, hts⟩, hr, hlocks, hXX⟩ := id hE
  intro h nc nk x1 x2 t0 hw hc hs H locs ls hI hl
  unfold wp_X1_copyRow_L27 at hw
  obtain ⟨mc9, ms9, hc, hs, hw⟩ := hw
  refine hx_rcv hI (vx_runS (As := [.int t0]) (rest := []) hE.1 (snd_X1_checkElement l hl0 G _ mc9 ms9 h t0 _ _ hw) (va_cwS 1 hts (lw_S q1346 q1347 q97 q1348) rfl rfl rfl (by decide +kernel) ⟨Nat.le_of_ble_eq_true rfl, Nat.le_of_ble_eq_true rfl⟩) (hv_preS hE hI) rfl rfl hl.1 rfl (lv_room (Nat.le_of_ble_eq_true rfl)) dX1_copyRow_27 ⟨hc, hs⟩) ?_ (fun h10 H locs hw hI => ?_)
  · intro E q11 h12 H locs hw hI hT
    exact hx_out hE hI hT hc hs (by rw [ht]; exact (List.forall_mem_cons.mpr ⟨rfl, (List.forall_mem_cons.mpr ⟨rfl, (fun _ hz => absurd hz List.not_mem_nil)⟩)⟩)) hw
  refine lv_aload_n hx hb dX1_copyRow_30 rfl (lv_at hl 0 rfl) ?_
  refine hv_wgetq hE hI in_X1 (ci := 1) rfl 3 (by decide) (hts _ q303) (fun _ hx => hx) hw dX1_copyRow_31 (fun r13 hw => ?_)
  refine lv_iconst (v := 1) hx hb dX1_copyRow_34 (by decide) ?_
  refine lv_iload_n hx hb dX1_copyRow_35 rfl (lv_at hl 1 rfl) ?_
  refine lv_isub hx hb dX1_copyRow_36 ?_
  obtain ⟨a14, hz, hwa14⟩ := hw; have hla14 := hl; subst hz; have hw := hwa14; have hl := hla14
  refine hv_wqld hE hI hw dX1_copyRow_37 (fun r15 hw => ?_)
  refine lv_astore_nq (lv' := [(3, va_rf r15), (0, .ref a0), (1, .int x1), (2, .int x2)]) hx hb dX1_copyRow_38 rfl hl (by decide) rfl (fun ls hl => ?_)
  refine lv_aload_nq hx hb dX1_copyRow_39 rfl (lv_at hl 0 rfl) ?_
  obtain ⟨mc16, ms16, hc, hs, hw⟩ := hw
  refine hv_rcq hI (va_runS (As := [va_rf r15]) (rest := []) hE.1 (snd_X1_copyOf l G _ mc16 ms16 h10 r15 _ hw) (va_cwS 1 hts (lw_S q1866 q1867 q97 q1868) rfl rfl rfl (by decide +kernel) ⟨Nat.le_of_ble_eq_true rfl, Nat.le_of_ble_eq_true rfl⟩) (hv_preS hE hI) rfl rfl hl.1 rfl (lv_room (Nat.le_of_ble_eq_true rfl)) dX1_copyRow_40 ⟨hc, hs⟩) (fun r17 h18 H locs hw hI => ?_)
  refine lv_astoreq (lv' := [(4, va_rf r17), (3, va_rf r15), (0, .ref a0), (1, .int x1), (2, .int x2)]) hx hb dX1_copyRow_43 hl (by decide) (by cases r15 <;> exact rfl) (fun ls hl => ?_)
  refine lv_aload_n hx hb dX1_copyRow_45 rfl (lv_at hl 2 rfl) ?_
  refine hv_wgetq hE hI in_X1 (ci := 1) rfl 3 (by decide) (hts _ q303) (fun _ hx => hx) hw dX1_copyRow_46 (fun r19 hw => ?_)
  refine lv_iload_n hx hb dX1_copyRow_49 rfl (lv_at hl 3 rfl) ?_
  obtain ⟨a20, hz, hwa20⟩ := hw; have hla20 := hl; subst hz; have hw := hwa20; have hl := hla20
  refine hv_wqld hE hI hw dX1_copyRow_50 (fun r21 hw => ?_)
  refine lv_iconst (v := 0) hx hb dX1_copyRow_51 (by decide) ?_
  refine lv_aloadq hx hb dX1_copyRow_52 (lv_at hl 0 rfl) ?_
  refine lv_iconst (v := 0) hx hb dX1_copyRow_54 (by decide) ?_
  refine lv_iload_n hx hb dX1_copyRow_55 rfl (lv_at hl 4 rfl) ?_
  obtain ⟨a22, hz, hwa22⟩ := hw; have hla22 := hl; subst hz; have hw := hwa22; have hl := hla22
  obtain ⟨a23, hz, hwa23⟩ := hw; have hla23 := hl; subst hz; have hw := hwa23; have hl := hla23
  exact hw.elim
def wp_X1_copyRow_L26 (G : GG) (mc : Nat) (ms : Nat) (a0 : Nat) (Q : Int32 → HH → Prop) (X : String → Nat → HH → Prop) (h : HH) (nc : Nat) (nk : Nat) (x1 : Int32) (x2 : Int32) : Prop := wp_X1_copyRow_L27 G mc ms a0 Q X h nc nk x1 x2 (0 : Int32)
set_option maxHeartbeats 4000000 in
theorem snd_X1_copyRow_L26 {p : Program} {l : Launch} {e : Env} {s : State} {m : MethodId} {args : Array Value} {below : List Frame} {meth : Method} {c : Code} {h0 : HH} (G : GG) (mc : Nat) (ms : Nat) (a0 : Nat) (Q : Int32 → HH → Prop) (X : String → Nat → HH → Prop) (hl0 : l.stackTraces = false) (ht : c.exceptionTable.toList = tableOf [(45, 59, 62, 341), (45, 59, 72, 7)]) (hE : hv_E p s m args meth c cX1_copyRow 7 (some FieldType.int) RX1 G h0) : ∀ (h : HH) (nc : Nat) (nk : Nat) (x1 : Int32) (x2 : Int32), wp_X1_copyRow_L26 G mc ms a0 Q X h nc nk x1 x2 → nc ≤ mc → nk ≤ ms → ∀ (H : Heap) (locs : List Loc) (ls : Array Slot), hv_I G h0 s.heap h H locs → lv_has ls 7 [(0, .ref a0), (1, .int x1), (2, .int x2)] → W p l e (headSpec (wsW_ yX1_copyRow cX1_copyRow 7 (some FieldType.int) [(45, 59, 62, 341), (45, 59, 72, 7)]) (rm_X1_copyRow mc ms)).room s m args below meth c H locs nc nk (vx_MQ below (hv_Qi G h0 s.heap.size Q) (hv_XC G h0 s.heap.size X) args s mc ms (hv_A h0 s.heap.size)) (F0 m 26 ls []) := by
  obtain ⟨⟨hx, hb, hml, hown, hts⟩, hr, hlocks, hXX⟩ := id hE
  intro h nc nk x1 x2 hw hc hs H locs ls hI hl
  unfold wp_X1_copyRow_L26 at hw
  refine lv_iconst (v := 0) hx hb dX1_copyRow_26 (by decide) ?_
  exact snd_X1_copyRow_L27 G mc ms a0 Q X hl0 ht hE h nc nk x1 x2 (0 : Int32) hw hc hs _ _ _ hI (lv_sub hl [0, 1, 2] rfl)
def wp_X1_copyRow (G : GG) (mc : Nat) (ms : Nat) (h : HH) (a0 : Nat) (x1 : Int32) (x2 : Int32) (Q : Int32 → HH → Prop) (X : String → Nat → HH → Prop) : Prop := (∃ mc1 ms1, 0 + mc1 ≤ mc ∧ 0 + ms1 ≤ ms ∧ wp_X1_checkRow G mc1 ms1 h x1 (fun h2 => w_getq h2 a0 1 3 (fun r5 => w_nn r5 (fun a6 => w_qld G h2 a6 (0 : Int32) (fun r7 => ((r7 = none → wp_X1_copyRow_L26 G mc ms a0 Q X h2 (0 + mc1) (0 + ms1) x1 x2) ∧ (∀ a8, r7 = some a8 → w_getq h2 a0 1 3 (fun r24 => w_nn r24 (fun a25 => w_qld G h2 a25 (1 : Int32) (fun r26 => ((r26 = none → wp_X1_copyRow_L26 G mc ms a0 Q X h2 (0 + mc1) (0 + ms1) x1 x2) ∧ (∀ a27, r26 = some a27 → wp_X1_copyRow_L27 G mc ms a0 Q X h2 (0 + mc1) (0 + ms1) x1 x2 (1 : Int32)))))))))))) (fun E q3 h4 => X E q3 h4))
set_option maxHeartbeats 4000000 in
theorem snd_X1_copyRow (l : Launch) (hl0 : l.stackTraces = false) (G : GG) (sz : Nat) (mc : Nat) (ms : Nat) (h : HH) (a0 : Nat) (x1 : Int32) (x2 : Int32) (Q : Int32 → HH → Prop) (X : String → Nat → HH → Prop) (hw : wp_X1_copyRow G mc ms h a0 x1 x2 Q X) : vx_Met l yX1_copyRow (wsW_ yX1_copyRow cX1_copyRow 7 (some FieldType.int) [(45, 59, 62, 341), (45, 59, 72, 7)]) (rm_X1_copyRow mc ms) (hv_Pc G h sz [.ref a0, .int x1, .int x2]) (hv_Qi G h sz Q) (hv_XC G h sz X) mc ms (hv_A h sz) := by
  refine vx_ofWH (cc := cX1_copyRow) (maxL := 7) (ret := (some FieldType.int)) (hh := [(45, 59, 62, 341), (45, 59, 72, 7)]) (by decide) rfl ?_
  intro p e s m args below meth c s₁ B hml hv
  have ht : c.exceptionTable.toList = tableOf [(45, 59, 62, 341), (45, 59, 72, 7)] := vx_table (x := yX1_copyRow) B (atoms_spec (ws := (wsW_ yX1_copyRow cX1_copyRow 7 (some FieldType.int) [(45, 59, 62, 341), (45, 59, 72, 7)])) B.pre _ List.mem_cons_self)
  obtain ⟨rfl, rfl, hE, hI⟩ := hv_openW B hml hv
  have hE : hv_E p s m ([.ref a0, .int x1, .int x2] : List Value).toArray meth c cX1_copyRow 7 (some FieldType.int) RX1 G h := hE
  obtain ⟨⟨hx, hb, hml, hown, hts⟩, hr, hlocks, hXX⟩ := id hE
  have hl := lv_entry ([.ref a0, .int x1, .int x2] : List Value) (n := 7) (Nat.le_of_ble_eq_true rfl)
  rw [lg_entry_eq]
  generalize (lg_sl ([.ref a0, .int x1, .int x2] : List Value) ++ List.replicate (7 - (lg_sl ([.ref a0, .int x1, .int x2] : List Value)).length) Slot.unset).toArray = ls at hl ⊢
  have hl : lv_has ls 7 [(0, .ref a0), (1, .int x1), (2, .int x2)] := hl
  have hc : 0 ≤ mc := Nat.zero_le _
  have hs : 0 ≤ ms := Nat.zero_le _
  unfold wp_X1_copyRow at hw
  refine lv_iload_n hx hb dX1_copyRow_0 rfl (lv_at hl 1 rfl) ?_
  obtain ⟨mc1, ms1, hc, hs, hw⟩ := hw
  refine hx_rcv hI (vx_runS (As := [.int x1]) (rest := []) hE.1 (snd_X1_checkRow l hl0 G _ mc1 ms1 h x1 _ _ hw) (va_cwS 1 hts (lw_S q1841 q1842 q97 q1843) rfl rfl rfl (by decide +kernel) ⟨Nat.le_of_ble_eq_true rfl, Nat.le_of_ble_eq_true rfl⟩) (hv_preS hE hI) rfl rfl hl.1 rfl (lv_room (Nat.le_of_ble_eq_true rfl)) dX1_copyRow_1 ⟨hc, hs⟩) ?_ (fun h2 H locs hw hI => ?_)
  · intro E q3 h4 H locs hw hI hT
    exact hx_out hE hI hT hc hs (by rw [ht]; exact (List.forall_mem_cons.mpr ⟨rfl, (List.forall_mem_cons.mpr ⟨rfl, (fun _ hz => absurd hz List.not_mem_nil)⟩)⟩)) hw
  refine lv_aload_n hx hb dX1_copyRow_4 rfl (lv_at hl 0 rfl) ?_
  refine hv_wgetq hE hI in_X1 (ci := 1) rfl 3 (by decide) (hts _ q303) (fun _ hx => hx) hw dX1_copyRow_5 (fun r5 hw => ?_)
  refine lv_iconst (v := 0) hx hb dX1_copyRow_8 (by decide) ?_
  obtain ⟨a6, hz, hwa6⟩ := hw; have hla6 := hl; subst hz; have hw := hwa6; have hl := hla6
  refine hv_wqld hE hI hw dX1_copyRow_9 (fun r7 hw => ?_)
  refine lv_ifnullq (tgt := 26) hx hb dX1_copyRow_10 (by decide) (fun c_10 => ?_) (fun c_10 => ?_)
  · have hwa8 := hw.1 c_10; have hla8 := hl; subst c_10; have hw := hwa8; have hl := hla8
    exact snd_X1_copyRow_L26 G mc ms a0 Q X hl0 ht hE h2 (0 + mc1) (0 + ms1) x1 x2 hw hc hs _ _ _ hI (lv_sub hl [0, 1, 2] rfl)
  · obtain ⟨a8, hz⟩ := Option.ne_none_iff_exists.mp c_10
    have hwa8 := hw.2 a8 hz.symm; have hla8 := hl; subst hz; have hw := hwa8; have hl := hla8
    refine lv_aload_n hx hb dX1_copyRow_13 rfl (lv_at hl 0 rfl) ?_
    refine hv_wgetq hE hI in_X1 (ci := 1) rfl 3 (by decide) (hts _ q303) (fun _ hx => hx) hw dX1_copyRow_14 (fun r24 hw => ?_)
    refine lv_iconst (v := 1) hx hb dX1_copyRow_17 (by decide) ?_
    obtain ⟨a25, hz, hwa25⟩ := hw; have hla25 := hl; subst hz; have hw := hwa25; have hl := hla25
    refine hv_wqld hE hI hw dX1_copyRow_18 (fun r26 hw => ?_)
    refine lv_ifnullq (tgt := 26) hx hb dX1_copyRow_19 (by decide) (fun c_19 => ?_) (fun c_19 => ?_)
    · have hwa27 := hw.1 c_19; have hla27 := hl; subst c_19; have hw := hwa27; have hl := hla27
      exact snd_X1_copyRow_L26 G mc ms a0 Q X hl0 ht hE h2 (0 + mc1) (0 + ms1) x1 x2 hw hc hs _ _ _ hI (lv_sub hl [0, 1, 2] rfl)
    · obtain ⟨a27, hz⟩ := Option.ne_none_iff_exists.mp c_19
      have hwa27 := hw.2 a27 hz.symm; have hla27 := hl; subst hz; have hw := hwa27; have hl := hla27
      refine lv_iconst (v := 1) hx hb dX1_copyRow_22 (by decide) ?_
      refine lv_goto (tgt := 27) hx hb dX1_copyRow_23 (by decide) ?_
      exact snd_X1_copyRow_L27 G mc ms a0 Q X hl0 ht hE h2 (0 + mc1) (0 + ms1) x1 x2 (1 : Int32) hw hc hs _ _ _ hI (lv_sub hl [0, 1, 2] rfl)

/-- MatchmakerRules.length(Ljava/lang/Object;)I -/
abbrev rm_X1_length : Room := { frames := 1, cells := 0, slots := 0, locals := 12 }
def wp_X1_length (G : GG) (h : HH) (x0 : Option Nat) (Q : Int32 → HH → Prop) : Prop := w_nn x0 (fun a1 => w_instI G h a1 (fun r2 => ((r2 = 0 → w_castA G h a1 2 (w_len G h a1 (fun r3 => Q r3 h))) ∧ (¬ r2 = 0 → w_castA G h a1 0 (w_len G h a1 (fun r4 => Q r4 h))))))
set_option maxHeartbeats 4000000 in
theorem snd_X1_length (l : Launch) (G : GG) (sz : Nat) (h : HH) (x0 : Option Nat) (Q : Int32 → HH → Prop) (hw : wp_X1_length G h x0 Q) : Met l yX1_length (ws_ yX1_length cX1_length 2 (some FieldType.int)) rm_X1_length (hv_Pc G h sz [va_rf x0]) (hv_Qi G h sz Q) 0 0 (hv_A h sz) := by
  refine Met.ofW (cc := cX1_length) (maxL := 2) (ret := (some FieldType.int)) (by decide) rfl ?_
  intro p e s m args below meth c s₁ B hml hv
  obtain ⟨rfl, rfl, hE, hI⟩ := hv_open B hml hv
  have hE : hv_E p s m ([va_rf x0] : List Value).toArray meth c cX1_length 2 (some FieldType.int) RX1 G h := hE
  obtain ⟨⟨hx, hb, hml, hown, hts⟩, hr, hlocks, hXX⟩ := id hE
  have hl := lv_entry ([va_rf x0] : List Value) (n := 2) (by cases x0 <;> exact Nat.le_of_ble_eq_true rfl)
  rw [lg_entry_eq]
  generalize (lg_sl ([va_rf x0] : List Value) ++ List.replicate (2 - (lg_sl ([va_rf x0] : List Value)).length) Slot.unset).toArray = ls at hl ⊢
  have hl : lv_has ls 2 [(0, va_rf x0)] := (by cases x0 <;> exact hl)
  unfold wp_X1_length at hw
  refine lv_aload_nq hx hb dX1_length_0 rfl (lv_at hl 0 rfl) ?_
  obtain ⟨a1, hz, hwa1⟩ := hw; have hla1 := hl; subst hz; have hw := hwa1; have hl := hla1
  refine hv_instIw hE hI (hts _ q1869) hw dX1_length_1 (fun r2 hw => ?_)
  refine lv_if_eq (tgt := 17) hx hb dX1_length_4 (by decide) (fun c_4 => ?_) (fun c_4 => ?_)
  · have hw := hw.1 c_4
    refine lv_aload_n hx hb dX1_length_17 rfl (lv_at hl 0 rfl) ?_
    refine hv_wcastA (t := 2) (ty := .float) hE hI (hts _ q1871) rfl rfl (by decide +kernel) hw dX1_length_18 (fun hw => ?_)
    refine hv_len hE hI hw dX1_length_21 (fun r3 hw => ?_)
    exact hv_iret hE hI (Nat.le_refl _) (Nat.le_refl _) hw dX1_length_22
  · have hw := hw.2 c_4
    refine lv_aload_n hx hb dX1_length_7 rfl (lv_at hl 0 rfl) ?_
    refine hv_wcastA (t := 0) (ty := .int) hE hI (hts _ q1869) rfl rfl (by decide +kernel) hw dX1_length_8 (fun hw => ?_)
    refine lv_astore_n (lv' := [(1, .ref a1), (0, .ref a1)]) hx hb dX1_length_11 rfl hl (by decide) rfl (fun ls hl => ?_)
    refine lv_aload_n hx hb dX1_length_12 rfl (lv_at hl 0 rfl) ?_
    refine hv_len hE hI hw dX1_length_13 (fun r4 hw => ?_)
    refine lv_goto (tgt := 22) hx hb dX1_length_14 (by decide) ?_
    exact hv_iret hE hI (Nat.le_refl _) (Nat.le_refl _) hw dX1_length_22

/-- MatchmakerRules.element(II)I -/
abbrev rm_X1_element (mc ms : Nat) : Room := { frames := 8, cells := mc, slots := ms, locals := 129 }
def wp_X1_element_L39 (G : GG) (mc : Nat) (ms : Nat) (a0 : Nat) (Q : Int32 → HH → Prop) (X : String → Nat → HH → Prop) (h : HH) (nc : Nat) (nk : Nat) (x1 : Int32) (x2 : Int32) (t0 : Int32) : Prop := (∃ mc9 ms9, nc + mc9 ≤ mc ∧ nk + ms9 ≤ ms ∧ wp_X1_checkElement G mc9 ms9 h t0 (fun h10 => w_getq h10 a0 1 3 (fun r13 => w_nn r13 (fun a14 => w_qld G h10 a14 x1 (fun r15 => wp_X1_bits G h10 r15 x2 (fun r16 h17 => Q r16 h17))))) (fun E q11 h12 => X E q11 h12))
set_option maxHeartbeats 4000000 in
theorem snd_X1_element_L39 {p : Program} {l : Launch} {e : Env} {s : State} {m : MethodId} {args : Array Value} {below : List Frame} {meth : Method} {c : Code} {h0 : HH} (G : GG) (mc : Nat) (ms : Nat) (a0 : Nat) (Q : Int32 → HH → Prop) (X : String → Nat → HH → Prop) (hl0 : l.stackTraces = false) (ht : ∀ x ∈ c.exceptionTable.toList, False) (hE : hv_E p s m args meth c cX1_element 3 (some FieldType.int) RX1 G h0) : ∀ (h : HH) (nc : Nat) (nk : Nat) (x1 : Int32) (x2 : Int32) (t0 : Int32), wp_X1_element_L39 G mc ms a0 Q X h nc nk x1 x2 t0 → nc ≤ mc → nk ≤ ms → ∀ (H : Heap) (locs : List Loc) (ls : Array Slot), hv_I G h0 s.heap h H locs → lv_has ls 3 [(0, .ref a0), (1, .int x1), (2, .int x2)] → W p l e (headSpec (ws_ yX1_element cX1_element 3 (some FieldType.int)) (rm_X1_element mc ms)).room s m args below meth c H locs nc nk (vx_MQ below (hv_Qi G h0 s.heap.size Q) (hv_XC G h0 s.heap.size X) args s mc ms (hv_A h0 s.heap.size)) (F0 m 39 ls [.int t0]) := by
  obtain ⟨⟨hx, hb, hml, hown, hts⟩, hr, hlocks, hXX⟩ := id hE
  intro h nc nk x1 x2 t0 hw hc hs H locs ls hI hl
  unfold wp_X1_element_L39 at hw
  obtain ⟨mc9, ms9, hc, hs, hw⟩ := hw
  refine hx_rcv hI (vx_runS (As := [.int t0]) (rest := []) hE.1 (snd_X1_checkElement l hl0 G _ mc9 ms9 h t0 _ _ hw) (va_cwS 1 hts (lw_S q1346 q1347 q97 q1348) rfl rfl rfl (by decide +kernel) ⟨Nat.le_of_ble_eq_true rfl, Nat.le_of_ble_eq_true rfl⟩) (hv_preS hE hI) rfl rfl hl.1 rfl (lv_room (Nat.le_of_ble_eq_true rfl)) dX1_element_39 ⟨hc, hs⟩) ?_ (fun h10 H locs hw hI => ?_)
  · intro E q11 h12 H locs hw hI hT
    exact hx_out hE hI hT hc hs (fun z hz => (ht z hz).elim) hw
  refine lv_aload_n hx hb dX1_element_42 rfl (lv_at hl 0 rfl) ?_
  refine hv_wgetq hE hI in_X1 (ci := 1) rfl 3 (by decide) (hts _ q303) (fun _ hx => hx) hw dX1_element_43 (fun r13 hw => ?_)
  refine lv_iload_n hx hb dX1_element_46 rfl (lv_at hl 1 rfl) ?_
  obtain ⟨a14, hz, hwa14⟩ := hw; have hla14 := hl; subst hz; have hw := hwa14; have hl := hla14
  refine hv_wqld hE hI hw dX1_element_47 (fun r15 hw => ?_)
  refine lv_iload_n hx hb dX1_element_48 rfl (lv_at hl 2 rfl) ?_
  refine hv_rci hI (va_runS (As := [va_rf r15, .int x2]) (rest := []) hE.1 (snd_X1_bits l G _ h10 r15 x2 _ hw) (va_cwS 2 hts (lw_S q1877 q1878 q97 q1879) rfl rfl rfl (by decide +kernel) ⟨Nat.le_of_ble_eq_true rfl, Nat.le_of_ble_eq_true rfl⟩) (hv_preS hE hI) rfl rfl hl.1 rfl (lv_room (Nat.le_of_ble_eq_true rfl)) dX1_element_49 ⟨hc, hs⟩) (fun r16 h17 H locs hw hI => ?_)
  exact vx_ret (hv_iret hE hI hc hs hw dX1_element_52)
def wp_X1_element_L38 (G : GG) (mc : Nat) (ms : Nat) (a0 : Nat) (Q : Int32 → HH → Prop) (X : String → Nat → HH → Prop) (h : HH) (nc : Nat) (nk : Nat) (x1 : Int32) (x2 : Int32) : Prop := wp_X1_element_L39 G mc ms a0 Q X h nc nk x1 x2 (0 : Int32)
set_option maxHeartbeats 4000000 in
theorem snd_X1_element_L38 {p : Program} {l : Launch} {e : Env} {s : State} {m : MethodId} {args : Array Value} {below : List Frame} {meth : Method} {c : Code} {h0 : HH} (G : GG) (mc : Nat) (ms : Nat) (a0 : Nat) (Q : Int32 → HH → Prop) (X : String → Nat → HH → Prop) (hl0 : l.stackTraces = false) (ht : ∀ x ∈ c.exceptionTable.toList, False) (hE : hv_E p s m args meth c cX1_element 3 (some FieldType.int) RX1 G h0) : ∀ (h : HH) (nc : Nat) (nk : Nat) (x1 : Int32) (x2 : Int32), wp_X1_element_L38 G mc ms a0 Q X h nc nk x1 x2 → nc ≤ mc → nk ≤ ms → ∀ (H : Heap) (locs : List Loc) (ls : Array Slot), hv_I G h0 s.heap h H locs → lv_has ls 3 [(0, .ref a0), (1, .int x1), (2, .int x2)] → W p l e (headSpec (ws_ yX1_element cX1_element 3 (some FieldType.int)) (rm_X1_element mc ms)).room s m args below meth c H locs nc nk (vx_MQ below (hv_Qi G h0 s.heap.size Q) (hv_XC G h0 s.heap.size X) args s mc ms (hv_A h0 s.heap.size)) (F0 m 38 ls []) := by
  obtain ⟨⟨hx, hb, hml, hown, hts⟩, hr, hlocks, hXX⟩ := id hE
  intro h nc nk x1 x2 hw hc hs H locs ls hI hl
  unfold wp_X1_element_L38 at hw
  refine lv_iconst (v := 0) hx hb dX1_element_38 (by decide) ?_
  exact snd_X1_element_L39 G mc ms a0 Q X hl0 ht hE h nc nk x1 x2 (0 : Int32) hw hc hs _ _ _ hI (lv_sub hl [0, 1, 2] rfl)
def wp_X1_element (G : GG) (mc : Nat) (ms : Nat) (h : HH) (a0 : Nat) (x1 : Int32) (x2 : Int32) (Q : Int32 → HH → Prop) (X : String → Nat → HH → Prop) : Prop := (∃ mc1 ms1, 0 + mc1 ≤ mc ∧ 0 + ms1 ≤ ms ∧ wp_X1_checkRow G mc1 ms1 h x1 (fun h2 => w_getq h2 a0 1 3 (fun r5 => w_nn r5 (fun a6 => w_qld G h2 a6 x1 (fun r7 => ((r7 = none → wp_X1_element_L38 G mc ms a0 Q X h2 (0 + mc1) (0 + ms1) x1 x2) ∧ (∀ a8, r7 = some a8 → w_getq h2 a0 1 3 (fun r18 => w_nn r18 (fun a19 => w_qld G h2 a19 x1 (fun r20 => wp_X1_length G h2 r20 (fun r21 h22 => wp_X1_inRange G h22 (Int32.toInt64 x2) (0 : Int64) (Int32.toInt64 (r21 - (1 : Int32))) (fun r23 h24 => ((r23 = 0 → wp_X1_element_L38 G mc ms a0 Q X h24 (0 + mc1) (0 + ms1) x1 x2) ∧ (¬ r23 = 0 → wp_X1_element_L39 G mc ms a0 Q X h24 (0 + mc1) (0 + ms1) x1 x2 (1 : Int32)))))))))))))) (fun E q3 h4 => X E q3 h4))
set_option maxHeartbeats 4000000 in
theorem snd_X1_element (l : Launch) (hl0 : l.stackTraces = false) (G : GG) (sz : Nat) (mc : Nat) (ms : Nat) (h : HH) (a0 : Nat) (x1 : Int32) (x2 : Int32) (Q : Int32 → HH → Prop) (X : String → Nat → HH → Prop) (hw : wp_X1_element G mc ms h a0 x1 x2 Q X) : vx_Met l yX1_element (ws_ yX1_element cX1_element 3 (some FieldType.int)) (rm_X1_element mc ms) (hv_Pc G h sz [.ref a0, .int x1, .int x2]) (hv_Qi G h sz Q) (hv_XC G h sz X) mc ms (hv_A h sz) := by
  refine vx_ofW (cc := cX1_element) (maxL := 3) (ret := (some FieldType.int)) (by decide) rfl ?_
  intro p e s m args below meth c s₁ B hml ht hv
  obtain ⟨rfl, rfl, hE, hI⟩ := hv_open B hml hv
  have hE : hv_E p s m ([.ref a0, .int x1, .int x2] : List Value).toArray meth c cX1_element 3 (some FieldType.int) RX1 G h := hE
  obtain ⟨⟨hx, hb, hml, hown, hts⟩, hr, hlocks, hXX⟩ := id hE
  have hl := lv_entry ([.ref a0, .int x1, .int x2] : List Value) (n := 3) (Nat.le_of_ble_eq_true rfl)
  rw [lg_entry_eq]
  generalize (lg_sl ([.ref a0, .int x1, .int x2] : List Value) ++ List.replicate (3 - (lg_sl ([.ref a0, .int x1, .int x2] : List Value)).length) Slot.unset).toArray = ls at hl ⊢
  have hl : lv_has ls 3 [(0, .ref a0), (1, .int x1), (2, .int x2)] := hl
  have hc : 0 ≤ mc := Nat.zero_le _
  have hs : 0 ≤ ms := Nat.zero_le _
  unfold wp_X1_element at hw
  refine lv_iload_n hx hb dX1_element_0 rfl (lv_at hl 1 rfl) ?_
  obtain ⟨mc1, ms1, hc, hs, hw⟩ := hw
  refine hx_rcv hI (vx_runS (As := [.int x1]) (rest := []) hE.1 (snd_X1_checkRow l hl0 G _ mc1 ms1 h x1 _ _ hw) (va_cwS 1 hts (lw_S q1841 q1842 q97 q1843) rfl rfl rfl (by decide +kernel) ⟨Nat.le_of_ble_eq_true rfl, Nat.le_of_ble_eq_true rfl⟩) (hv_preS hE hI) rfl rfl hl.1 rfl (lv_room (Nat.le_of_ble_eq_true rfl)) dX1_element_1 ⟨hc, hs⟩) ?_ (fun h2 H locs hw hI => ?_)
  · intro E q3 h4 H locs hw hI hT
    exact hx_out hE hI hT hc hs (fun z hz => (ht z hz).elim) hw
  refine lv_aload_n hx hb dX1_element_4 rfl (lv_at hl 0 rfl) ?_
  refine hv_wgetq hE hI in_X1 (ci := 1) rfl 3 (by decide) (hts _ q303) (fun _ hx => hx) hw dX1_element_5 (fun r5 hw => ?_)
  refine lv_iload_n hx hb dX1_element_8 rfl (lv_at hl 1 rfl) ?_
  obtain ⟨a6, hz, hwa6⟩ := hw; have hla6 := hl; subst hz; have hw := hwa6; have hl := hla6
  refine hv_wqld hE hI hw dX1_element_9 (fun r7 hw => ?_)
  refine lv_ifnullq (tgt := 38) hx hb dX1_element_10 (by decide) (fun c_10 => ?_) (fun c_10 => ?_)
  · have hwa8 := hw.1 c_10; have hla8 := hl; subst c_10; have hw := hwa8; have hl := hla8
    exact snd_X1_element_L38 G mc ms a0 Q X hl0 ht hE h2 (0 + mc1) (0 + ms1) x1 x2 hw hc hs _ _ _ hI (lv_sub hl [0, 1, 2] rfl)
  · obtain ⟨a8, hz⟩ := Option.ne_none_iff_exists.mp c_10
    have hwa8 := hw.2 a8 hz.symm; have hla8 := hl; subst hz; have hw := hwa8; have hl := hla8
    refine lv_iload_n hx hb dX1_element_13 rfl (lv_at hl 2 rfl) ?_
    refine lv_i2l (v := (Int32.toInt64 x2)) hx hb dX1_element_14 rfl ?_
    refine lv_lconst (v := 0) hx hb dX1_element_15 (by decide) ?_
    refine lv_aload_n hx hb dX1_element_16 rfl (lv_at hl 0 rfl) ?_
    refine hv_wgetq hE hI in_X1 (ci := 1) rfl 3 (by decide) (hts _ q303) (fun _ hx => hx) hw dX1_element_17 (fun r18 hw => ?_)
    refine lv_iload_n hx hb dX1_element_20 rfl (lv_at hl 1 rfl) ?_
    obtain ⟨a19, hz, hwa19⟩ := hw; have hla19 := hl; subst hz; have hw := hwa19; have hl := hla19
    refine hv_wqld hE hI hw dX1_element_21 (fun r20 hw => ?_)
    refine hv_rci hI (va_runS (As := [va_rf r20]) (rest := [.long (0 : Int64), .long (Int32.toInt64 x2)]) hE.1 (snd_X1_length l G _ h2 r20 _ hw) (va_cwS 1 hts (lw_S q1887 q1888 q97 q1889) rfl rfl rfl (by decide +kernel) ⟨Nat.le_of_ble_eq_true rfl, Nat.le_of_ble_eq_true rfl⟩) (hv_preS hE hI) rfl rfl hl.1 rfl (lv_room (Nat.le_of_ble_eq_true rfl)) dX1_element_22 ⟨hc, hs⟩) (fun r21 h22 H locs hw hI => ?_)
    refine lv_iconst (v := 1) hx hb dX1_element_25 (by decide) ?_
    refine lv_isub hx hb dX1_element_26 ?_
    refine lv_i2l (v := (Int32.toInt64 (r21 - (1 : Int32)))) hx hb dX1_element_27 rfl ?_
    refine hv_rci hI (va_runS (As := [.long (Int32.toInt64 x2), .long (0 : Int64), .long (Int32.toInt64 (r21 - (1 : Int32)))]) (rest := []) hE.1 (snd_X1_inRange l G _ h22 (Int32.toInt64 x2) (0 : Int64) (Int32.toInt64 (r21 - (1 : Int32))) _ hw) (va_cwS 3 hts (lw_S q1358 q782 q97 q783) rfl rfl rfl (by decide +kernel) ⟨Nat.le_of_ble_eq_true rfl, Nat.le_of_ble_eq_true rfl⟩) (hv_preS hE hI) rfl rfl hl.1 rfl (lv_room (Nat.le_of_ble_eq_true rfl)) dX1_element_28 ⟨hc, hs⟩) (fun r23 h24 H locs hw hI => ?_)
    refine lv_if_eq (tgt := 38) hx hb dX1_element_31 (by decide) (fun c_31 => ?_) (fun c_31 => ?_)
    · have hw := hw.1 c_31
      exact snd_X1_element_L38 G mc ms a0 Q X hl0 ht hE h24 (0 + mc1) (0 + ms1) x1 x2 hw hc hs _ _ _ hI (lv_sub hl [0, 1, 2] rfl)
    · have hw := hw.2 c_31
      refine lv_iconst (v := 1) hx hb dX1_element_34 (by decide) ?_
      refine lv_goto (tgt := 39) hx hb dX1_element_35 (by decide) ?_
      exact snd_X1_element_L39 G mc ms a0 Q X hl0 ht hE h24 (0 + mc1) (0 + ms1) x1 x2 (1 : Int32) hw hc hs _ _ _ hI (lv_sub hl [0, 1, 2] rfl)

/-- MatchmakerRules.append(I)I -/
abbrev rm_X1_append (mc ms : Nat) : Room := { frames := 7, cells := mc, slots := ms, locals := 150 }
def wp_X1_append_L90 (G : GG) (mc : Nat) (ms : Nat) (a0 : Nat) (Q : Int32 → HH → Prop) (X : String → Nat → HH → Prop) : Nat → (HH) → (Nat) → (Nat) → (Int32) → (Int32) → Prop
  | 0, _, _, _, _, _ => False
  | n + 1, h, nc, nk, x1, x3 => ((x3 < 0 → w_getq h a0 1 4 (fun r9 => w_nn r9 (fun a10 => w_is h a10 6 (wp_J5_length G h a10 (fun r11 h12 => Q r11 h12))))) ∧ (¬ x3 < 0 → ((((((Int32.toUInt32 x1) >>> ((Int32.toUInt32 x3) &&& Int32.toUInt32 31)).toInt32) &&& (255 : Int32)) = 0 → wp_X1_append_L90 G mc ms a0 Q X n h nc nk x1 (x3 + (-8 : Int32))) ∧ (¬ ((((Int32.toUInt32 x1) >>> ((Int32.toUInt32 x3) &&& Int32.toUInt32 31)).toInt32) &&& (255 : Int32)) = 0 → w_getq h a0 1 4 (fun r13 => w_nn r13 (fun a14 => (∃ mc15 ms15, nc + mc15 ≤ mc ∧ nk + ms15 ≤ ms ∧ w_is h a14 6 (wp_J5_append G mc15 ms15 h a14 (((Int32.toUInt32 ((((Int32.toUInt32 x1) >>> ((Int32.toUInt32 x3) &&& Int32.toUInt32 31)).toInt32) &&& (255 : Int32))) % 65536).toInt32) (fun r16 h17 => wp_X1_append_L90 G mc ms a0 Q X n h17 (nc + mc15) (nk + ms15) x1 (x3 + (-8 : Int32)))))))))))
set_option maxHeartbeats 4000000 in
theorem snd_X1_append_L90 {p : Program} {l : Launch} {e : Env} {s : State} {m : MethodId} {args : Array Value} {below : List Frame} {meth : Method} {c : Code} {h0 : HH} (G : GG) (mc : Nat) (ms : Nat) (a0 : Nat) (Q : Int32 → HH → Prop) (X : String → Nat → HH → Prop) (hl0 : l.stackTraces = false) (ht : ∀ x ∈ c.exceptionTable.toList, False) (hE : hv_E p s m args meth c cX1_append 5 (some FieldType.int) RX1 G h0) : ∀ (n : Nat) (h : HH) (nc : Nat) (nk : Nat) (x1 : Int32) (x3 : Int32), wp_X1_append_L90 G mc ms a0 Q X n h nc nk x1 x3 → nc ≤ mc → nk ≤ ms → ∀ (H : Heap) (locs : List Loc) (ls : Array Slot), hv_I G h0 s.heap h H locs → lv_has ls 5 [(0, .ref a0), (1, .int x1), (3, .int x3)] → W p l e (headSpec (ws_ yX1_append cX1_append 5 (some FieldType.int)) (rm_X1_append mc ms)).room s m args below meth c H locs nc nk (vx_MQ below (hv_Qi G h0 s.heap.size Q) (hv_XC G h0 s.heap.size X) args s mc ms (hv_A h0 s.heap.size)) (F0 m 90 ls []) := by
  obtain ⟨⟨hx, hb, hml, hown, hts⟩, hr, hlocks, hXX⟩ := id hE
  intro n
  induction n with
  | zero => intro h nc nk x1 x3 hw; exact hw.elim
  | succ n ih =>
    intro h nc nk x1 x3 hw hc hs H locs ls hI hl
    unfold wp_X1_append_L90 at hw
    refine lv_iload_n hx hb dX1_append_90 rfl (lv_at hl 2 rfl) ?_
    refine lv_if_lt (tgt := 125) hx hb dX1_append_91 (by decide) (fun c_91 => ?_) (fun c_91 => ?_)
    · have hw := hw.1 c_91
      refine lv_aload_n hx hb dX1_append_125 rfl (lv_at hl 0 rfl) ?_
      refine hv_wgetq hE hI in_X1 (ci := 1) rfl 4 (by decide) (hts _ q304) (fun _ hx => hx) hw dX1_append_126 (fun r9 hw => ?_)
      obtain ⟨a10, hz, hwa10⟩ := hw; have hla10 := hl; subst hz; have hw := hwa10; have hl := hla10
      obtain ⟨⟨fs, hre⟩, hw⟩ := hw
      refine hv_rci hI (va_runV (As := []) (b := a10) (rest := []) hE.1 (snd_J5_length l G _ h a10 _ hw) (cwV 0 hts (lw_V q1800 q723 q2524 q105 q725) rfl rfl rfl (by decide +kernel) ⟨Nat.le_of_ble_eq_true rfl, Nat.le_of_ble_eq_true rfl⟩) (hv_preV hE hI (ci := 6) rfl hre) rfl rfl hl.1 rfl (lv_room (Nat.le_of_ble_eq_true rfl)) dX1_append_129 ⟨hc, hs⟩) (fun r11 h12 H locs hw hI => ?_)
      exact vx_ret (hv_iret hE hI hc hs hw dX1_append_132)
    · have hw := hw.2 c_91
      refine lv_iload_n hx hb dX1_append_94 rfl (lv_at hl 1 rfl) ?_
      refine lv_iload_n hx hb dX1_append_95 rfl (lv_at hl 2 rfl) ?_
      refine lv_iushr (v := ((Int32.toUInt32 x1) >>> ((Int32.toUInt32 x3) &&& Int32.toUInt32 31)).toInt32) hx hb dX1_append_96 rfl ?_
      refine lv_sipush (v := 255) hx hb dX1_append_97 (by decide) ?_
      refine lv_iand hx hb dX1_append_100 ?_
      refine lv_istore (lv' := [(4, .int ((((Int32.toUInt32 x1) >>> ((Int32.toUInt32 x3) &&& Int32.toUInt32 31)).toInt32) &&& (255 : Int32))), (0, .ref a0), (1, .int x1), (3, .int x3)]) hx hb dX1_append_101 hl (by decide) rfl (fun ls hl => ?_)
      refine lv_iload hx hb dX1_append_103 (lv_at hl 0 rfl) ?_
      refine lv_if_eq (tgt := 119) hx hb dX1_append_105 (by decide) (fun c_105 => ?_) (fun c_105 => ?_)
      · have hw := hw.1 c_105
        refine lv_iinc (v := (x3 + (-8 : Int32))) (lv' := [(3, .int (x3 + (-8 : Int32))), (4, .int ((((Int32.toUInt32 x1) >>> ((Int32.toUInt32 x3) &&& Int32.toUInt32 31)).toInt32) &&& (255 : Int32))), (0, .ref a0), (1, .int x1)]) hx hb dX1_append_119 hl (k := 3) rfl rfl (by decide) rfl (fun ls hl => ?_)
        refine lv_goto (tgt := 90) hx hb dX1_append_122 (by decide) ?_
        exact ih h nc nk x1 (x3 + (-8 : Int32)) hw hc hs _ _ _ hI (lv_sub hl [2, 3, 0] rfl)
      · have hw := hw.2 c_105
        refine lv_aload_n hx hb dX1_append_108 rfl (lv_at hl 1 rfl) ?_
        refine hv_wgetq hE hI in_X1 (ci := 1) rfl 4 (by decide) (hts _ q304) (fun _ hx => hx) hw dX1_append_109 (fun r13 hw => ?_)
        refine lv_iload hx hb dX1_append_112 (lv_at hl 0 rfl) ?_
        refine lv_i2c (v := ((Int32.toUInt32 ((((Int32.toUInt32 x1) >>> ((Int32.toUInt32 x3) &&& Int32.toUInt32 31)).toInt32) &&& (255 : Int32))) % 65536).toInt32) hx hb dX1_append_114 rfl ?_
        obtain ⟨a14, hz, hwa14⟩ := hw; have hla14 := hl; subst hz; have hw := hwa14; have hl := hla14
        obtain ⟨mc15, ms15, hc, hs, hw⟩ := hw
        obtain ⟨⟨fs, hre⟩, hw⟩ := hw
        refine hv_rcq hI (va_runV (As := [.int (((Int32.toUInt32 ((((Int32.toUInt32 x1) >>> ((Int32.toUInt32 x3) &&& Int32.toUInt32 31)).toInt32) &&& (255 : Int32))) % 65536).toInt32)]) (b := a14) (rest := []) hE.1 (snd_J5_append l G _ mc15 ms15 h a14 (((Int32.toUInt32 ((((Int32.toUInt32 x1) >>> ((Int32.toUInt32 x3) &&& Int32.toUInt32 31)).toInt32) &&& (255 : Int32))) % 65536).toInt32) _ hw) (cwV 1 hts (lw_V q1900 q1559 q1560 q105 q1561) rfl rfl rfl (by decide +kernel) ⟨Nat.le_of_ble_eq_true rfl, Nat.le_of_ble_eq_true rfl⟩) (hv_preV hE hI (ci := 6) rfl hre) rfl rfl hl.1 rfl (lv_room (Nat.le_of_ble_eq_true rfl)) dX1_append_115 ⟨hc, hs⟩) (fun r16 h17 H locs hw hI => ?_)
        refine lv_pop hx hb dX1_append_118 (va_rf_cat _) ?_
        refine lv_iinc (v := (x3 + (-8 : Int32))) (lv' := [(3, .int (x3 + (-8 : Int32))), (4, .int ((((Int32.toUInt32 x1) >>> ((Int32.toUInt32 x3) &&& Int32.toUInt32 31)).toInt32) &&& (255 : Int32))), (0, .ref a0), (1, .int x1)]) hx hb dX1_append_119 hl (k := 3) rfl rfl (by decide) rfl (fun ls hl => ?_)
        refine lv_goto (tgt := 90) hx hb dX1_append_122 (by decide) ?_
        exact ih h17 (nc + mc15) (nk + ms15) x1 (x3 + (-8 : Int32)) hw hc hs _ _ _ hI (lv_sub hl [2, 3, 0] rfl)
def wp_X1_append_L43 (G : GG) (mc : Nat) (ms : Nat) (a0 : Nat) (Q : Int32 → HH → Prop) (X : String → Nat → HH → Prop) (k5 : (HH) → (Nat) → (Nat) → (Int32) → (Int32) → (Int32) → Prop) (h : HH) (nc : Nat) (nk : Nat) (x1 : Int32) (x2 : Int32) (x3 : Int32) (x4 : Int32) (t0 : Int32) : Prop := (∃ mc22 ms22, nc + mc22 ≤ mc ∧ nk + ms22 ≤ ms ∧ wp_X1_checkArgument G mc22 ms22 h t0 (fun h23 => ((¬ x4 = 0 → k5 h23 (nc + mc22) (nk + ms22) x1 (x2 + (1 : Int32)) (x3 + (-8 : Int32))) ∧ (x4 = 0 → k5 h23 (nc + mc22) (nk + ms22) x1 (x2 + (0 : Int32)) (x3 + (-8 : Int32))))) (fun E q24 h25 => X E q24 h25))
set_option maxHeartbeats 4000000 in
theorem snd_X1_append_L43 {p : Program} {l : Launch} {e : Env} {s : State} {m : MethodId} {args : Array Value} {below : List Frame} {meth : Method} {c : Code} {h0 : HH} (G : GG) (mc : Nat) (ms : Nat) (a0 : Nat) (Q : Int32 → HH → Prop) (X : String → Nat → HH → Prop) (hl0 : l.stackTraces = false) (ht : ∀ x ∈ c.exceptionTable.toList, False) (hE : hv_E p s m args meth c cX1_append 5 (some FieldType.int) RX1 G h0) (k5 : (HH) → (Nat) → (Nat) → (Int32) → (Int32) → (Int32) → Prop) (hk5 : ∀ (h : HH) (nc : Nat) (nk : Nat) (x1 : Int32) (x2 : Int32) (x3 : Int32), k5 h nc nk x1 x2 x3 → nc ≤ mc → nk ≤ ms → ∀ (H : Heap) (locs : List Loc) (ls : Array Slot), hv_I G h0 s.heap h H locs → lv_has ls 5 [(0, .ref a0), (1, .int x1), (2, .int x2), (3, .int x3)] → W p l e (headSpec (ws_ yX1_append cX1_append 5 (some FieldType.int)) (rm_X1_append mc ms)).room s m args below meth c H locs nc nk (vx_MQ below (hv_Qi G h0 s.heap.size Q) (hv_XC G h0 s.heap.size X) args s mc ms (hv_A h0 s.heap.size)) (F0 m 5 ls [])) : ∀ (h : HH) (nc : Nat) (nk : Nat) (x1 : Int32) (x2 : Int32) (x3 : Int32) (x4 : Int32) (t0 : Int32), wp_X1_append_L43 G mc ms a0 Q X k5 h nc nk x1 x2 x3 x4 t0 → nc ≤ mc → nk ≤ ms → ∀ (H : Heap) (locs : List Loc) (ls : Array Slot), hv_I G h0 s.heap h H locs → lv_has ls 5 [(0, .ref a0), (1, .int x1), (2, .int x2), (3, .int x3), (4, .int x4)] → W p l e (headSpec (ws_ yX1_append cX1_append 5 (some FieldType.int)) (rm_X1_append mc ms)).room s m args below meth c H locs nc nk (vx_MQ below (hv_Qi G h0 s.heap.size Q) (hv_XC G h0 s.heap.size X) args s mc ms (hv_A h0 s.heap.size)) (F0 m 43 ls [.int t0]) := by
  obtain ⟨⟨hx, hb, hml, hown, hts⟩, hr, hlocks, hXX⟩ := id hE
  intro h nc nk x1 x2 x3 x4 t0 hw hc hs H locs ls hI hl
  unfold wp_X1_append_L43 at hw
  obtain ⟨mc22, ms22, hc, hs, hw⟩ := hw
  refine hx_rcv hI (vx_runS (As := [.int t0]) (rest := []) hE.1 (snd_X1_checkArgument l hl0 G _ mc22 ms22 h t0 _ _ hw) (va_cwS 1 hts (lw_S q1899 q1158 q97 q1159) rfl rfl rfl (by decide +kernel) ⟨Nat.le_of_ble_eq_true rfl, Nat.le_of_ble_eq_true rfl⟩) (hv_preS hE hI) rfl rfl hl.1 rfl (lv_room (Nat.le_of_ble_eq_true rfl)) dX1_append_43 ⟨hc, hs⟩) ?_ (fun h23 H locs hw hI => ?_)
  · intro E q24 h25 H locs hw hI hT
    exact hx_out hE hI hT hc hs (fun z hz => (ht z hz).elim) hw
  refine lv_iload_n hx hb dX1_append_46 rfl (lv_at hl 2 rfl) ?_
  refine lv_iload hx hb dX1_append_47 (lv_at hl 4 rfl) ?_
  refine lv_if_ne (tgt := 56) hx hb dX1_append_49 (by decide) (fun c_49 => ?_) (fun c_49 => ?_)
  · have hw := hw.1 c_49
    refine lv_iconst (v := 1) hx hb dX1_append_56 (by decide) ?_
    refine lv_iadd hx hb dX1_append_57 ?_
    refine lv_istore_n (lv' := [(2, .int (x2 + (1 : Int32))), (0, .ref a0), (1, .int x1), (3, .int x3), (4, .int x4)]) hx hb dX1_append_58 rfl hl (by decide) rfl (fun ls hl => ?_)
    refine lv_iinc (v := (x3 + (-8 : Int32))) (lv' := [(3, .int (x3 + (-8 : Int32))), (2, .int (x2 + (1 : Int32))), (0, .ref a0), (1, .int x1), (4, .int x4)]) hx hb dX1_append_59 hl (k := 3) rfl rfl (by decide) rfl (fun ls hl => ?_)
    refine lv_goto (tgt := 5) hx hb dX1_append_62 (by decide) ?_
    exact hk5 h23 (nc + mc22) (nk + ms22) x1 (x2 + (1 : Int32)) (x3 + (-8 : Int32)) hw hc hs _ _ _ hI (lv_sub hl [2, 3, 1, 0] rfl)
  · have hw := hw.2 c_49
    refine lv_iconst (v := 0) hx hb dX1_append_52 (by decide) ?_
    refine lv_goto (tgt := 57) hx hb dX1_append_53 (by decide) ?_
    refine lv_iadd hx hb dX1_append_57 ?_
    refine lv_istore_n (lv' := [(2, .int (x2 + (0 : Int32))), (0, .ref a0), (1, .int x1), (3, .int x3), (4, .int x4)]) hx hb dX1_append_58 rfl hl (by decide) rfl (fun ls hl => ?_)
    refine lv_iinc (v := (x3 + (-8 : Int32))) (lv' := [(3, .int (x3 + (-8 : Int32))), (2, .int (x2 + (0 : Int32))), (0, .ref a0), (1, .int x1), (4, .int x4)]) hx hb dX1_append_59 hl (k := 3) rfl rfl (by decide) rfl (fun ls hl => ?_)
    refine lv_goto (tgt := 5) hx hb dX1_append_62 (by decide) ?_
    exact hk5 h23 (nc + mc22) (nk + ms22) x1 (x2 + (0 : Int32)) (x3 + (-8 : Int32)) hw hc hs _ _ _ hI (lv_sub hl [2, 3, 1, 0] rfl)
def wp_X1_append_L38 (G : GG) (mc : Nat) (ms : Nat) (a0 : Nat) (Q : Int32 → HH → Prop) (X : String → Nat → HH → Prop) (k5 : (HH) → (Nat) → (Nat) → (Int32) → (Int32) → (Int32) → Prop) (h : HH) (nc : Nat) (nk : Nat) (x1 : Int32) (x2 : Int32) (x3 : Int32) (x4 : Int32) : Prop := wp_X1_append_L43 G mc ms a0 Q X k5 h nc nk x1 x2 x3 x4 (1 : Int32)
set_option maxHeartbeats 4000000 in
theorem snd_X1_append_L38 {p : Program} {l : Launch} {e : Env} {s : State} {m : MethodId} {args : Array Value} {below : List Frame} {meth : Method} {c : Code} {h0 : HH} (G : GG) (mc : Nat) (ms : Nat) (a0 : Nat) (Q : Int32 → HH → Prop) (X : String → Nat → HH → Prop) (hl0 : l.stackTraces = false) (ht : ∀ x ∈ c.exceptionTable.toList, False) (hE : hv_E p s m args meth c cX1_append 5 (some FieldType.int) RX1 G h0) (k5 : (HH) → (Nat) → (Nat) → (Int32) → (Int32) → (Int32) → Prop) (hk5 : ∀ (h : HH) (nc : Nat) (nk : Nat) (x1 : Int32) (x2 : Int32) (x3 : Int32), k5 h nc nk x1 x2 x3 → nc ≤ mc → nk ≤ ms → ∀ (H : Heap) (locs : List Loc) (ls : Array Slot), hv_I G h0 s.heap h H locs → lv_has ls 5 [(0, .ref a0), (1, .int x1), (2, .int x2), (3, .int x3)] → W p l e (headSpec (ws_ yX1_append cX1_append 5 (some FieldType.int)) (rm_X1_append mc ms)).room s m args below meth c H locs nc nk (vx_MQ below (hv_Qi G h0 s.heap.size Q) (hv_XC G h0 s.heap.size X) args s mc ms (hv_A h0 s.heap.size)) (F0 m 5 ls [])) : ∀ (h : HH) (nc : Nat) (nk : Nat) (x1 : Int32) (x2 : Int32) (x3 : Int32) (x4 : Int32), wp_X1_append_L38 G mc ms a0 Q X k5 h nc nk x1 x2 x3 x4 → nc ≤ mc → nk ≤ ms → ∀ (H : Heap) (locs : List Loc) (ls : Array Slot), hv_I G h0 s.heap h H locs → lv_has ls 5 [(0, .ref a0), (1, .int x1), (2, .int x2), (3, .int x3), (4, .int x4)] → W p l e (headSpec (ws_ yX1_append cX1_append 5 (some FieldType.int)) (rm_X1_append mc ms)).room s m args below meth c H locs nc nk (vx_MQ below (hv_Qi G h0 s.heap.size Q) (hv_XC G h0 s.heap.size X) args s mc ms (hv_A h0 s.heap.size)) (F0 m 38 ls []) := by
  obtain ⟨⟨hx, hb, hml, hown, hts⟩, hr, hlocks, hXX⟩ := id hE
  intro h nc nk x1 x2 x3 x4 hw hc hs H locs ls hI hl
  unfold wp_X1_append_L38 at hw
  refine lv_iconst (v := 1) hx hb dX1_append_38 (by decide) ?_
  refine lv_goto (tgt := 43) hx hb dX1_append_39 (by decide) ?_
  exact snd_X1_append_L43 G mc ms a0 Q X hl0 ht hE k5 hk5 h nc nk x1 x2 x3 x4 (1 : Int32) hw hc hs _ _ _ hI (lv_sub hl [0, 1, 2, 3, 4] rfl)
def wp_X1_append_L5 (G : GG) (mc : Nat) (ms : Nat) (a0 : Nat) (Q : Int32 → HH → Prop) (X : String → Nat → HH → Prop) : Nat → (HH) → (Nat) → (Nat) → (Int32) → (Int32) → (Int32) → Prop
  | 0, _, _, _, _, _, _ => False
  | n + 1, h, nc, nk, x1, x2, x3 => ((x3 < 0 → w_getq h a0 1 4 (fun r1 => w_nn r1 (fun a2 => w_is h a2 6 (wp_J5_length G h a2 (fun r3 h4 => (((60 : Int32) < (r3 + x2) → (∃ mc5 ms5, nc + mc5 ≤ mc ∧ nk + ms5 ≤ ms ∧ wp_X1_checkState G mc5 ms5 h4 (0 : Int32) (fun h6 => (∃ n90, wp_X1_append_L90 G mc ms a0 Q X n90 h6 (nc + mc5) (nk + ms5) x1 (24 : Int32))) (fun E q7 h8 => X E q7 h8))) ∧ (¬ (60 : Int32) < (r3 + x2) → (∃ mc18 ms18, nc + mc18 ≤ mc ∧ nk + ms18 ≤ ms ∧ wp_X1_checkState G mc18 ms18 h4 (1 : Int32) (fun h19 => (∃ n90, wp_X1_append_L90 G mc ms a0 Q X n90 h19 (nc + mc18) (nk + ms18) x1 (24 : Int32))) (fun E q20 h21 => X E q20 h21))))))))) ∧ (¬ x3 < 0 → ((((((Int32.toUInt32 x1) >>> ((Int32.toUInt32 x3) &&& Int32.toUInt32 31)).toInt32) &&& (255 : Int32)) = 0 → wp_X1_append_L38 G mc ms a0 Q X (fun h nc nk x1 x2 x3 => wp_X1_append_L5 G mc ms a0 Q X n h nc nk x1 x2 x3) h nc nk x1 x2 x3 ((((Int32.toUInt32 x1) >>> ((Int32.toUInt32 x3) &&& Int32.toUInt32 31)).toInt32) &&& (255 : Int32))) ∧ (¬ ((((Int32.toUInt32 x1) >>> ((Int32.toUInt32 x3) &&& Int32.toUInt32 31)).toInt32) &&& (255 : Int32)) = 0 → wp_X1_inRange G h (Int32.toInt64 ((((Int32.toUInt32 x1) >>> ((Int32.toUInt32 x3) &&& Int32.toUInt32 31)).toInt32) &&& (255 : Int32))) (32 : Int64) (126 : Int64) (fun r26 h27 => ((r26 = 0 → wp_X1_append_L43 G mc ms a0 Q X (fun h nc nk x1 x2 x3 => wp_X1_append_L5 G mc ms a0 Q X n h nc nk x1 x2 x3) h27 nc nk x1 x2 x3 ((((Int32.toUInt32 x1) >>> ((Int32.toUInt32 x3) &&& Int32.toUInt32 31)).toInt32) &&& (255 : Int32)) (0 : Int32)) ∧ (¬ r26 = 0 → wp_X1_append_L38 G mc ms a0 Q X (fun h nc nk x1 x2 x3 => wp_X1_append_L5 G mc ms a0 Q X n h nc nk x1 x2 x3) h27 nc nk x1 x2 x3 ((((Int32.toUInt32 x1) >>> ((Int32.toUInt32 x3) &&& Int32.toUInt32 31)).toInt32) &&& (255 : Int32)))))))))
set_option maxHeartbeats 4000000 in
theorem snd_X1_append_L5 {p : Program} {l : Launch} {e : Env} {s : State} {m : MethodId} {args : Array Value} {below : List Frame} {meth : Method} {c : Code} {h0 : HH} (G : GG) (mc : Nat) (ms : Nat) (a0 : Nat) (Q : Int32 → HH → Prop) (X : String → Nat → HH → Prop) (hl0 : l.stackTraces = false) (ht : ∀ x ∈ c.exceptionTable.toList, False) (hE : hv_E p s m args meth c cX1_append 5 (some FieldType.int) RX1 G h0) : ∀ (n : Nat) (h : HH) (nc : Nat) (nk : Nat) (x1 : Int32) (x2 : Int32) (x3 : Int32), wp_X1_append_L5 G mc ms a0 Q X n h nc nk x1 x2 x3 → nc ≤ mc → nk ≤ ms → ∀ (H : Heap) (locs : List Loc) (ls : Array Slot), hv_I G h0 s.heap h H locs → lv_has ls 5 [(0, .ref a0), (1, .int x1), (2, .int x2), (3, .int x3)] → W p l e (headSpec (ws_ yX1_append cX1_append 5 (some FieldType.int)) (rm_X1_append mc ms)).room s m args below meth c H locs nc nk (vx_MQ below (hv_Qi G h0 s.heap.size Q) (hv_XC G h0 s.heap.size X) args s mc ms (hv_A h0 s.heap.size)) (F0 m 5 ls []) := by
  obtain ⟨⟨hx, hb, hml, hown, hts⟩, hr, hlocks, hXX⟩ := id hE
  intro n
  induction n with
  | zero => intro h nc nk x1 x2 x3 hw; exact hw.elim
  | succ n ih =>
    intro h nc nk x1 x2 x3 hw hc hs H locs ls hI hl
    unfold wp_X1_append_L5 at hw
    refine lv_iload_n hx hb dX1_append_5 rfl (lv_at hl 3 rfl) ?_
    refine lv_if_lt (tgt := 65) hx hb dX1_append_6 (by decide) (fun c_6 => ?_) (fun c_6 => ?_)
    · have hw := hw.1 c_6
      refine lv_aload_n hx hb dX1_append_65 rfl (lv_at hl 0 rfl) ?_
      refine hv_wgetq hE hI in_X1 (ci := 1) rfl 4 (by decide) (hts _ q304) (fun _ hx => hx) hw dX1_append_66 (fun r1 hw => ?_)
      obtain ⟨a2, hz, hwa2⟩ := hw; have hla2 := hl; subst hz; have hw := hwa2; have hl := hla2
      obtain ⟨⟨fs, hre⟩, hw⟩ := hw
      refine hv_rci hI (va_runV (As := []) (b := a2) (rest := []) hE.1 (snd_J5_length l G _ h a2 _ hw) (cwV 0 hts (lw_V q1800 q723 q2524 q105 q725) rfl rfl rfl (by decide +kernel) ⟨Nat.le_of_ble_eq_true rfl, Nat.le_of_ble_eq_true rfl⟩) (hv_preV hE hI (ci := 6) rfl hre) rfl rfl hl.1 rfl (lv_room (Nat.le_of_ble_eq_true rfl)) dX1_append_69 ⟨hc, hs⟩) (fun r3 h4 H locs hw hI => ?_)
      refine lv_iload_n hx hb dX1_append_72 rfl (lv_at hl 2 rfl) ?_
      refine lv_iadd hx hb dX1_append_73 ?_
      refine lv_bipush (v := 60) hx hb dX1_append_74 (by decide) ?_
      refine lv_icmp_gt (tgt := 83) hx hb dX1_append_76 (by decide) (fun c_76 => ?_) (fun c_76 => ?_)
      · have hw := hw.1 c_76
        refine lv_iconst (v := 0) hx hb dX1_append_83 (by decide) ?_
        obtain ⟨mc5, ms5, hc, hs, hw⟩ := hw
        refine hx_rcv hI (vx_runS (As := [.int (0 : Int32)]) (rest := []) hE.1 (snd_X1_checkState l hl0 G _ mc5 ms5 h4 (0 : Int32) _ _ hw) (va_cwS 1 hts (lw_S q1779 q1780 q97 q1781) rfl rfl rfl (by decide +kernel) ⟨Nat.le_of_ble_eq_true rfl, Nat.le_of_ble_eq_true rfl⟩) (hv_preS hE hI) rfl rfl hl.1 rfl (lv_room (Nat.le_of_ble_eq_true rfl)) dX1_append_84 ⟨hc, hs⟩) ?_ (fun h6 H locs hw hI => ?_)
        · intro E q7 h8 H locs hw hI hT
          exact hx_out hE hI hT hc hs (fun z hz => (ht z hz).elim) hw
        refine lv_bipush (v := 24) hx hb dX1_append_87 (by decide) ?_
        refine lv_istore_n (lv' := [(3, .int (24 : Int32)), (0, .ref a0), (1, .int x1), (2, .int x2)]) hx hb dX1_append_89 rfl hl (by decide) rfl (fun ls hl => ?_)
        obtain ⟨n90, hw⟩ := hw
        exact snd_X1_append_L90 G mc ms a0 Q X hl0 ht hE n90 h6 (nc + mc5) (nk + ms5) x1 (24 : Int32) hw hc hs _ _ _ hI (lv_sub hl [1, 2, 0] rfl)
      · have hw := hw.2 c_76
        refine lv_iconst (v := 1) hx hb dX1_append_79 (by decide) ?_
        refine lv_goto (tgt := 84) hx hb dX1_append_80 (by decide) ?_
        obtain ⟨mc18, ms18, hc, hs, hw⟩ := hw
        refine hx_rcv hI (vx_runS (As := [.int (1 : Int32)]) (rest := []) hE.1 (snd_X1_checkState l hl0 G _ mc18 ms18 h4 (1 : Int32) _ _ hw) (va_cwS 1 hts (lw_S q1779 q1780 q97 q1781) rfl rfl rfl (by decide +kernel) ⟨Nat.le_of_ble_eq_true rfl, Nat.le_of_ble_eq_true rfl⟩) (hv_preS hE hI) rfl rfl hl.1 rfl (lv_room (Nat.le_of_ble_eq_true rfl)) dX1_append_84 ⟨hc, hs⟩) ?_ (fun h19 H locs hw hI => ?_)
        · intro E q20 h21 H locs hw hI hT
          exact hx_out hE hI hT hc hs (fun z hz => (ht z hz).elim) hw
        refine lv_bipush (v := 24) hx hb dX1_append_87 (by decide) ?_
        refine lv_istore_n (lv' := [(3, .int (24 : Int32)), (0, .ref a0), (1, .int x1), (2, .int x2)]) hx hb dX1_append_89 rfl hl (by decide) rfl (fun ls hl => ?_)
        obtain ⟨n90, hw⟩ := hw
        exact snd_X1_append_L90 G mc ms a0 Q X hl0 ht hE n90 h19 (nc + mc18) (nk + ms18) x1 (24 : Int32) hw hc hs _ _ _ hI (lv_sub hl [1, 2, 0] rfl)
    · have hw := hw.2 c_6
      refine lv_iload_n hx hb dX1_append_9 rfl (lv_at hl 1 rfl) ?_
      refine lv_iload_n hx hb dX1_append_10 rfl (lv_at hl 3 rfl) ?_
      refine lv_iushr (v := ((Int32.toUInt32 x1) >>> ((Int32.toUInt32 x3) &&& Int32.toUInt32 31)).toInt32) hx hb dX1_append_11 rfl ?_
      refine lv_sipush (v := 255) hx hb dX1_append_12 (by decide) ?_
      refine lv_iand hx hb dX1_append_15 ?_
      refine lv_istore (lv' := [(4, .int ((((Int32.toUInt32 x1) >>> ((Int32.toUInt32 x3) &&& Int32.toUInt32 31)).toInt32) &&& (255 : Int32))), (0, .ref a0), (1, .int x1), (2, .int x2), (3, .int x3)]) hx hb dX1_append_16 hl (by decide) rfl (fun ls hl => ?_)
      refine lv_iload hx hb dX1_append_18 (lv_at hl 0 rfl) ?_
      refine lv_if_eq (tgt := 38) hx hb dX1_append_20 (by decide) (fun c_20 => ?_) (fun c_20 => ?_)
      · have hw := hw.1 c_20
        exact snd_X1_append_L38 G mc ms a0 Q X hl0 ht hE (fun h nc nk x1 x2 x3 => wp_X1_append_L5 G mc ms a0 Q X n h nc nk x1 x2 x3) (fun h nc nk x1 x2 x3 => ih h nc nk x1 x2 x3) h nc nk x1 x2 x3 ((((Int32.toUInt32 x1) >>> ((Int32.toUInt32 x3) &&& Int32.toUInt32 31)).toInt32) &&& (255 : Int32)) hw hc hs _ _ _ hI (lv_sub hl [1, 2, 3, 4, 0] rfl)
      · have hw := hw.2 c_20
        refine lv_iload hx hb dX1_append_23 (lv_at hl 0 rfl) ?_
        refine lv_i2l (v := (Int32.toInt64 ((((Int32.toUInt32 x1) >>> ((Int32.toUInt32 x3) &&& Int32.toUInt32 31)).toInt32) &&& (255 : Int32)))) hx hb dX1_append_25 rfl ?_
        refine lv_ldc2 (v := 32) hx hb hown (hts _ q1897) dX1_append_26 ?_
        refine lv_ldc2 (v := 126) hx hb hown (hts _ q1898) dX1_append_29 ?_
        refine hv_rci hI (va_runS (As := [.long (Int32.toInt64 ((((Int32.toUInt32 x1) >>> ((Int32.toUInt32 x3) &&& Int32.toUInt32 31)).toInt32) &&& (255 : Int32))), .long (32 : Int64), .long (126 : Int64)]) (rest := []) hE.1 (snd_X1_inRange l G _ h (Int32.toInt64 ((((Int32.toUInt32 x1) >>> ((Int32.toUInt32 x3) &&& Int32.toUInt32 31)).toInt32) &&& (255 : Int32))) (32 : Int64) (126 : Int64) _ hw) (va_cwS 3 hts (lw_S q1358 q782 q97 q783) rfl rfl rfl (by decide +kernel) ⟨Nat.le_of_ble_eq_true rfl, Nat.le_of_ble_eq_true rfl⟩) (hv_preS hE hI) rfl rfl hl.1 rfl (lv_room (Nat.le_of_ble_eq_true rfl)) dX1_append_32 ⟨hc, hs⟩) (fun r26 h27 H locs hw hI => ?_)
        refine lv_if_eq (tgt := 42) hx hb dX1_append_35 (by decide) (fun c_35 => ?_) (fun c_35 => ?_)
        · have hw := hw.1 c_35
          refine lv_iconst (v := 0) hx hb dX1_append_42 (by decide) ?_
          exact snd_X1_append_L43 G mc ms a0 Q X hl0 ht hE (fun h nc nk x1 x2 x3 => wp_X1_append_L5 G mc ms a0 Q X n h nc nk x1 x2 x3) (fun h nc nk x1 x2 x3 => ih h nc nk x1 x2 x3) h27 nc nk x1 x2 x3 ((((Int32.toUInt32 x1) >>> ((Int32.toUInt32 x3) &&& Int32.toUInt32 31)).toInt32) &&& (255 : Int32)) (0 : Int32) hw hc hs _ _ _ hI (lv_sub hl [1, 2, 3, 4, 0] rfl)
        · have hw := hw.2 c_35
          exact snd_X1_append_L38 G mc ms a0 Q X hl0 ht hE (fun h nc nk x1 x2 x3 => wp_X1_append_L5 G mc ms a0 Q X n h nc nk x1 x2 x3) (fun h nc nk x1 x2 x3 => ih h nc nk x1 x2 x3) h27 nc nk x1 x2 x3 ((((Int32.toUInt32 x1) >>> ((Int32.toUInt32 x3) &&& Int32.toUInt32 31)).toInt32) &&& (255 : Int32)) hw hc hs _ _ _ hI (lv_sub hl [1, 2, 3, 4, 0] rfl)
def wp_X1_append (G : GG) (mc : Nat) (ms : Nat) (h : HH) (a0 : Nat) (x1 : Int32) (Q : Int32 → HH → Prop) (X : String → Nat → HH → Prop) : Prop := (∃ n5, wp_X1_append_L5 G mc ms a0 Q X n5 h 0 0 x1 (0 : Int32) (24 : Int32))
set_option maxHeartbeats 4000000 in
theorem snd_X1_append (l : Launch) (hl0 : l.stackTraces = false) (G : GG) (sz : Nat) (mc : Nat) (ms : Nat) (h : HH) (a0 : Nat) (x1 : Int32) (Q : Int32 → HH → Prop) (X : String → Nat → HH → Prop) (hw : wp_X1_append G mc ms h a0 x1 Q X) : vx_Met l yX1_append (ws_ yX1_append cX1_append 5 (some FieldType.int)) (rm_X1_append mc ms) (hv_Pc G h sz [.ref a0, .int x1]) (hv_Qi G h sz Q) (hv_XC G h sz X) mc ms (hv_A h sz) := by
  refine vx_ofW (cc := cX1_append) (maxL := 5) (ret := (some FieldType.int)) (by decide) rfl ?_
  intro p e s m args below meth c s₁ B hml ht hv
  obtain ⟨rfl, rfl, hE, hI⟩ := hv_open B hml hv
  have hE : hv_E p s m ([.ref a0, .int x1] : List Value).toArray meth c cX1_append 5 (some FieldType.int) RX1 G h := hE
  obtain ⟨⟨hx, hb, hml, hown, hts⟩, hr, hlocks, hXX⟩ := id hE
  have hl := lv_entry ([.ref a0, .int x1] : List Value) (n := 5) (Nat.le_of_ble_eq_true rfl)
  rw [lg_entry_eq]
  generalize (lg_sl ([.ref a0, .int x1] : List Value) ++ List.replicate (5 - (lg_sl ([.ref a0, .int x1] : List Value)).length) Slot.unset).toArray = ls at hl ⊢
  have hl : lv_has ls 5 [(0, .ref a0), (1, .int x1)] := hl
  have hc : 0 ≤ mc := Nat.zero_le _
  have hs : 0 ≤ ms := Nat.zero_le _
  unfold wp_X1_append at hw
  refine lv_iconst (v := 0) hx hb dX1_append_0 (by decide) ?_
  refine lv_istore_n (lv' := [(2, .int (0 : Int32)), (0, .ref a0), (1, .int x1)]) hx hb dX1_append_1 rfl hl (by decide) rfl (fun ls hl => ?_)
  refine lv_bipush (v := 24) hx hb dX1_append_2 (by decide) ?_
  refine lv_istore_n (lv' := [(3, .int (24 : Int32)), (2, .int (0 : Int32)), (0, .ref a0), (1, .int x1)]) hx hb dX1_append_4 rfl hl (by decide) rfl (fun ls hl => ?_)
  obtain ⟨n5, hw⟩ := hw
  exact snd_X1_append_L5 G mc ms a0 Q X hl0 ht hE n5 h 0 0 x1 (0 : Int32) (24 : Int32) hw hc hs _ _ _ hI (lv_sub hl [2, 3, 1, 0] rfl)
