/-! walks over a world (by gen/hvrun.py) -/
set_option maxRecDepth 100000
/-- java/lang/Throwable.<init>(Ljava/lang/String;Ljava/lang/Throwable;ZZ)V on MatchmakerRules$Refused -/
abbrev rm_J11_init_2_X11 : Room := { frames := 1, cells := 0, slots := 0, locals := 32 }
def wp_J11_init_2_X11_L41 (G : GG) (a0 : Nat) (Q : HH → Prop) (h : HH) (x1 : Option Nat) (x2 : Option Nat) (x3 : Int32) : Prop := w_put h a0 15 3 (va_rf x1) (fun h7 => w_put h7 a0 15 0 (va_rf x2) (fun h8 => ((¬ x3 = 0 → Q h8) ∧ (x3 = 0 → w_put h8 a0 15 2 (.null) (fun h9 => Q h9)))))
set_option maxHeartbeats 4000000 in
theorem snd_J11_init_2_X11_L41 {p : Program} {l : Launch} {e : Env} {s : State} {m : MethodId} {args : Array Value} {below : List Frame} {meth : Method} {c : Code} {h0 : HH} (G : GG) (a0 : Nat) (Q : HH → Prop) (hin2 : meth.name = "<init>") (hE : hv_E p s m args meth c cJ11_init_2 5 (none : Option FieldType) RJ11 G h0) : ∀ (h : HH) (x1 : Option Nat) (x2 : Option Nat) (x3 : Int32), wp_J11_init_2_X11_L41 G a0 Q h x1 x2 x3 → ∀ (H : Heap) (locs : List Loc) (ls : Array Slot), hv_I G h0 s.heap h H locs → lv_has ls 5 [(0, .ref a0), (1, va_rf x1), (2, va_rf x2), (3, .int x3)] → W p l e (headSpec (ws_ yJ11_init_2 cJ11_init_2 5 (none : Option FieldType)) rm_J11_init_2_X11).room s m args below meth c H locs 0 0 (MQ below (hv_Qv G h0 s.heap.size Q) args s 0 0 (hv_A h0 s.heap.size)) (F0 m 41 ls []) := by
  obtain ⟨⟨hx, hb, hml, hown, hts⟩, hr, hlocks, hXX⟩ := id hE
  intro h x1 x2 x3 hw H locs ls hI hl
  unfold wp_J11_init_2_X11_L41 at hw
  refine lv_aload_n hx hb dJ11_init_2_41 rfl (lv_at hl 0 rfl) ?_
  refine lv_aload_nq hx hb dJ11_init_2_42 rfl (lv_at hl 1 rfl) ?_
  refine hv_wput (v := va_rf x1) tyX11 hE hI in_X11 tyX11_ok nmX11 (ci := 15) rfl 3 (by decide) (hts _ q457) (fun _ hx => hx) rfl (ty := (.object "java/lang/String")) rfl (va_rf_nar _ _) (va_rf_fit _ _) hw dJ11_init_2_43 (fun h7 H locs hw hI => ?_)
  refine lv_aload_n hx hb dJ11_init_2_46 rfl (lv_at hl 0 rfl) ?_
  refine lv_aload_nq hx hb dJ11_init_2_47 rfl (lv_at hl 2 rfl) ?_
  refine hv_wput (v := va_rf x2) tyX11 hE hI in_X11 tyX11_ok nmX11 (ci := 15) rfl 0 (by decide) (hts _ q458) (fun _ hx => hx) rfl (ty := (.object "java/lang/Throwable")) rfl (va_rf_nar _ _) (va_rf_fit _ _) hw dJ11_init_2_48 (fun h8 H locs hw hI => ?_)
  refine lv_iload_n hx hb dJ11_init_2_51 rfl (lv_at hl 3 rfl) ?_
  refine lv_if_ne (tgt := 60) hx hb dJ11_init_2_52 (by decide) (fun c_52 => ?_) (fun c_52 => ?_)
  · have hw := hw.1 c_52
    exact hv_vret hE hI (Nat.le_refl _) (Nat.le_refl _) hw dJ11_init_2_60
  · have hw := hw.2 c_52
    refine lv_aload_n hx hb dJ11_init_2_55 rfl (lv_at hl 0 rfl) ?_
    refine lv_null hx hb dJ11_init_2_56 ?_
    refine hv_wput (v := .null) tyX11 hE hI in_X11 tyX11_ok nmX11 (ci := 15) rfl 2 (by decide) (hts _ q460) (fun _ hx => hx) rfl (ty := (.object "java/util/List")) rfl rfl rfl hw dJ11_init_2_57 (fun h9 H locs hw hI => ?_)
    exact hv_vret hE hI (Nat.le_refl _) (Nat.le_refl _) hw dJ11_init_2_60
def wp_J11_init_2_X11 (G : GG) (h : HH) (a0 : Nat) (x1 : Option Nat) (x2 : Option Nat) (x3 : Int32) (x4 : Int32) (Q : HH → Prop) : Prop := w_put h a0 15 0 (.ref a0) (fun h1 => (∀ r2 : Option Nat, w_put h1 a0 15 1 (va_rf r2) (fun h3 => (∀ r4 : Option Nat, w_put h3 a0 15 2 (va_rf r4) (fun h5 => ((x4 = 0 → w_put h5 a0 15 1 (.null) (fun h6 => wp_J11_init_2_X11_L41 G a0 Q h6 x1 x2 x3)) ∧ (¬ x4 = 0 → False)))))))
set_option maxHeartbeats 4000000 in
theorem snd_J11_init_2_X11 (l : Launch) (G : GG) (sz : Nat) (h : HH) (a0 : Nat) (x1 : Option Nat) (x2 : Option Nat) (x3 : Int32) (x4 : Int32) (Q : HH → Prop) (hw : wp_J11_init_2_X11 G h a0 x1 x2 x3 x4 Q) : Met l yJ11_init_2 (ws_ yJ11_init_2 cJ11_init_2 5 (none : Option FieldType)) rm_J11_init_2_X11 (hv_Pc G h sz [.ref a0, va_rf x1, va_rf x2, .int x3, .int x4]) (hv_Qv G h sz Q) 0 0 (hv_A h sz) := by
  refine Met.ofW (cc := cJ11_init_2) (maxL := 5) (ret := (none : Option FieldType)) (by decide) rfl ?_
  intro p e s m args below meth c s₁ B hml hv
  have hin2 : meth.name = "<init>" := (name_of_methodNamed B.named B.method).1
  obtain ⟨rfl, rfl, hE, hI⟩ := hv_open B hml hv
  have hE : hv_E p s m ([.ref a0, va_rf x1, va_rf x2, .int x3, .int x4] : List Value).toArray meth c cJ11_init_2 5 (none : Option FieldType) RJ11 G h := hE
  obtain ⟨⟨hx, hb, hml, hown, hts⟩, hr, hlocks, hXX⟩ := id hE
  have hl := lv_entry ([.ref a0, va_rf x1, va_rf x2, .int x3, .int x4] : List Value) (n := 5) (by cases x1 <;> cases x2 <;> exact Nat.le_of_ble_eq_true rfl)
  rw [lg_entry_eq]
  generalize (lg_sl ([.ref a0, va_rf x1, va_rf x2, .int x3, .int x4] : List Value) ++ List.replicate (5 - (lg_sl ([.ref a0, va_rf x1, va_rf x2, .int x3, .int x4] : List Value)).length) Slot.unset).toArray = ls at hl ⊢
  have hl : lv_has ls 5 [(0, .ref a0), (1, va_rf x1), (2, va_rf x2), (3, .int x3), (4, .int x4)] := (by cases x1 <;> cases x2 <;> exact hl)
  unfold wp_J11_init_2_X11 at hw
  refine lv_aload_n hx hb dJ11_init_2_0 rfl (lv_at hl 0 rfl) ?_
  refine hv_objI (rest := []) hE (hts _ q422) (hts _ q146) (hts _ q147) hl.1 dJ11_init_2_1 (Nat.le_of_ble_eq_true rfl) (Nat.le_of_ble_eq_true rfl) ?_
  refine lv_aload_n hx hb dJ11_init_2_4 rfl (lv_at hl 0 rfl) ?_
  refine lv_aload_n hx hb dJ11_init_2_5 rfl (lv_at hl 0 rfl) ?_
  refine hv_wput (v := .ref a0) tyX11 hE hI in_X11 tyX11_ok nmX11 (ci := 15) rfl 0 (by decide) (hts _ q458) (fun _ hx => hx) rfl (ty := (.object "java/lang/Throwable")) rfl rfl rfl hw dJ11_init_2_6 (fun h1 H locs hw hI => ?_)
  refine lv_aload_n hx hb dJ11_init_2_9 rfl (lv_at hl 0 rfl) ?_
  refine hv_getsQ hE hI (hv_zH hE).2.2.2.2.2.2.2.2.1.1 (hts _ q423) (fun _ hx => hx) dJ11_init_2_10 (fun r2 => ?_)
  have hw := hw r2
  refine hv_wput (v := va_rf r2) tyX11 hE hI in_X11 tyX11_ok nmX11 (ci := 15) rfl 1 (by decide) (hts _ q459) (fun _ hx => hx) rfl (ty := (.array (.object "java/lang/StackTraceElement"))) rfl (va_rf_narA _ _) (va_rf_fitA _ _) hw dJ11_init_2_13 (fun h3 H locs hw hI => ?_)
  refine lv_aload_n hx hb dJ11_init_2_16 rfl (lv_at hl 0 rfl) ?_
  refine hv_getsQ hE hI (hv_zH hE).2.2.2.2.2.2.2.2.2.1.1 (hts _ q425) (fun _ hx => hx) dJ11_init_2_17 (fun r4 => ?_)
  have hw := hw r4
  refine hv_wput (v := va_rf r4) tyX11 hE hI in_X11 tyX11_ok nmX11 (ci := 15) rfl 2 (by decide) (hts _ q460) (fun _ hx => hx) rfl (ty := (.object "java/util/List")) rfl (va_rf_nar _ _) (va_rf_fit _ _) hw dJ11_init_2_20 (fun h5 H locs hw hI => ?_)
  refine lv_iload hx hb dJ11_init_2_23 (lv_at hl 4 rfl) ?_
  refine lv_if_eq (tgt := 36) hx hb dJ11_init_2_25 (by decide) (fun c_25 => ?_) (fun c_25 => ?_)
  · have hw := hw.1 c_25
    refine lv_aload_n hx hb dJ11_init_2_36 rfl (lv_at hl 0 rfl) ?_
    refine lv_null hx hb dJ11_init_2_37 ?_
    refine hv_wput (v := .null) tyX11 hE hI in_X11 tyX11_ok nmX11 (ci := 15) rfl 1 (by decide) (hts _ q459) (fun _ hx => hx) rfl (ty := (.array (.object "java/lang/StackTraceElement"))) rfl rfl rfl hw dJ11_init_2_38 (fun h6 H locs hw hI => ?_)
    exact snd_J11_init_2_X11_L41 G a0 Q hin2 hE h6 x1 x2 x3 hw _ _ _ hI (lv_sub hl [0, 1, 2, 3] rfl)
  · have hw := hw.2 c_25
    refine lv_aload_n hx hb dJ11_init_2_28 rfl (lv_at hl 0 rfl) ?_
    exact hw.elim

/-- java/lang/Exception.<init>(Ljava/lang/String;Ljava/lang/Throwable;ZZ)V on MatchmakerRules$Refused -/
abbrev rm_J12_init_2_X11 : Room := { frames := 2, cells := 0, slots := 0, locals := 56 }
def wp_J12_init_2_X11 (G : GG) (h : HH) (a0 : Nat) (x1 : Option Nat) (x2 : Option Nat) (x3 : Int32) (x4 : Int32) (Q : HH → Prop) : Prop := wp_J11_init_2_X11 G h a0 x1 x2 x3 x4 (fun h1 => Q h1)
set_option maxHeartbeats 4000000 in
theorem snd_J12_init_2_X11 (l : Launch) (G : GG) (sz : Nat) (h : HH) (a0 : Nat) (x1 : Option Nat) (x2 : Option Nat) (x3 : Int32) (x4 : Int32) (Q : HH → Prop) (hw : wp_J12_init_2_X11 G h a0 x1 x2 x3 x4 Q) : Met l yJ12_init_2 (ws_ yJ12_init_2 cJ12_init_2 5 (none : Option FieldType)) rm_J12_init_2_X11 (hv_Pc G h sz [.ref a0, va_rf x1, va_rf x2, .int x3, .int x4]) (hv_Qv G h sz Q) 0 0 (hv_A h sz) := by
  refine Met.ofW (cc := cJ12_init_2) (maxL := 5) (ret := (none : Option FieldType)) (by decide) rfl ?_
  intro p e s m args below meth c s₁ B hml hv
  have hin2 : meth.name = "<init>" := (name_of_methodNamed B.named B.method).1
  obtain ⟨rfl, rfl, hE, hI⟩ := hv_open B hml hv
  have hE : hv_E p s m ([.ref a0, va_rf x1, va_rf x2, .int x3, .int x4] : List Value).toArray meth c cJ12_init_2 5 (none : Option FieldType) RJ12 G h := hE
  obtain ⟨⟨hx, hb, hml, hown, hts⟩, hr, hlocks, hXX⟩ := id hE
  have hl := lv_entry ([.ref a0, va_rf x1, va_rf x2, .int x3, .int x4] : List Value) (n := 5) (by cases x1 <;> cases x2 <;> exact Nat.le_of_ble_eq_true rfl)
  rw [lg_entry_eq]
  generalize (lg_sl ([.ref a0, va_rf x1, va_rf x2, .int x3, .int x4] : List Value) ++ List.replicate (5 - (lg_sl ([.ref a0, va_rf x1, va_rf x2, .int x3, .int x4] : List Value)).length) Slot.unset).toArray = ls at hl ⊢
  have hl : lv_has ls 5 [(0, .ref a0), (1, va_rf x1), (2, va_rf x2), (3, .int x3), (4, .int x4)] := (by cases x1 <;> cases x2 <;> exact hl)
  unfold wp_J12_init_2_X11 at hw
  refine lv_aload_n hx hb dJ12_init_2_0 rfl (lv_at hl 0 rfl) ?_
  refine lv_aload_nq hx hb dJ12_init_2_1 rfl (lv_at hl 1 rfl) ?_
  refine lv_aload_nq hx hb dJ12_init_2_2 rfl (lv_at hl 2 rfl) ?_
  refine lv_iload_n hx hb dJ12_init_2_3 rfl (lv_at hl 3 rfl) ?_
  refine lv_iload hx hb dJ12_init_2_4 (lv_at hl 4 rfl) ?_
  refine hv_rcv hI (va_runI (As := [va_rf x1, va_rf x2, .int x3, .int x4]) (b := a0) (rest := []) hE.1 (snd_J11_init_2_X11 l G _ h a0 x1 x2 x3 x4 _ hw) (cwI 4 hts (lw_meth q801) rfl rfl rfl (hts _ q114) (hts _ q799) (hts _ q800) rfl (by decide +kernel) ⟨Nat.le_of_ble_eq_true rfl, Nat.le_of_ble_eq_true rfl⟩) (hv_preS hE hI) rfl rfl hl.1 rfl (lv_room (Nat.le_of_ble_eq_true rfl)) dJ12_init_2_6 ⟨Nat.le_of_ble_eq_true rfl, Nat.le_of_ble_eq_true rfl⟩) (fun h1 H locs hw hI => ?_)
  exact hv_vret hE hI (Nat.le_refl _) (Nat.le_refl _) hw dJ12_init_2_9

/-- MatchmakerRules$Refused.<init>(II)V -/
abbrev rm_X11_init : Room := { frames := 3, cells := 0, slots := 0, locals := 80 }
def wp_X11_init (G : GG) (h : HH) (a0 : Nat) (x1 : Int32) (x2 : Int32) (Q : HH → Prop) : Prop := wp_J12_init_2_X11 G h a0 none none (0 : Int32) (0 : Int32) (fun h1 => w_put h1 a0 15 6 (.int x1) (fun h2 => w_put h2 a0 15 7 (.int x2) (fun h3 => Q h3)))
set_option maxHeartbeats 4000000 in
theorem snd_X11_init (l : Launch) (G : GG) (sz : Nat) (h : HH) (a0 : Nat) (x1 : Int32) (x2 : Int32) (Q : HH → Prop) (hw : wp_X11_init G h a0 x1 x2 Q) : Met l yX11_init (ws_ yX11_init cX11_init 3 (none : Option FieldType)) rm_X11_init (hv_Pc G h sz [.ref a0, .int x1, .int x2]) (hv_Qv G h sz Q) 0 0 (hv_A h sz) := by
  refine Met.ofW (cc := cX11_init) (maxL := 3) (ret := (none : Option FieldType)) (by decide) rfl ?_
  intro p e s m args below meth c s₁ B hml hv
  have hin2 : meth.name = "<init>" := (name_of_methodNamed B.named B.method).1
  obtain ⟨rfl, rfl, hE, hI⟩ := hv_open B hml hv
  have hE : hv_E p s m ([.ref a0, .int x1, .int x2] : List Value).toArray meth c cX11_init 3 (none : Option FieldType) RX11 G h := hE
  obtain ⟨⟨hx, hb, hml, hown, hts⟩, hr, hlocks, hXX⟩ := id hE
  have hl := lv_entry ([.ref a0, .int x1, .int x2] : List Value) (n := 3) (Nat.le_of_ble_eq_true rfl)
  rw [lg_entry_eq]
  generalize (lg_sl ([.ref a0, .int x1, .int x2] : List Value) ++ List.replicate (3 - (lg_sl ([.ref a0, .int x1, .int x2] : List Value)).length) Slot.unset).toArray = ls at hl ⊢
  have hl : lv_has ls 3 [(0, .ref a0), (1, .int x1), (2, .int x2)] := hl
  unfold wp_X11_init at hw
  refine lv_aload_n hx hb dX11_init_0 rfl (lv_at hl 0 rfl) ?_
  refine lv_null hx hb dX11_init_1 ?_
  refine lv_null hx hb dX11_init_2 ?_
  refine lv_iconst (v := 0) hx hb dX11_init_3 (by decide) ?_
  refine lv_iconst (v := 0) hx hb dX11_init_4 (by decide) ?_
  refine hv_rcv hI (va_runI (As := [.null, .null, .int (0 : Int32), .int (0 : Int32)]) (b := a0) (rest := []) hE.1 (snd_J12_init_2_X11 l G _ h a0 none none (0 : Int32) (0 : Int32) _ hw) (cwI 4 hts (lw_meth q798) rfl rfl rfl (hts _ q115) (hts _ q1066) (hts _ q797) rfl (by decide +kernel) ⟨Nat.le_of_ble_eq_true rfl, Nat.le_of_ble_eq_true rfl⟩) (hv_preS hE hI) rfl rfl hl.1 rfl (lv_room (Nat.le_of_ble_eq_true rfl)) dX11_init_5 ⟨Nat.le_of_ble_eq_true rfl, Nat.le_of_ble_eq_true rfl⟩) (fun h1 H locs hw hI => ?_)
  refine lv_aload_n hx hb dX11_init_8 rfl (lv_at hl 0 rfl) ?_
  refine lv_iload_n hx hb dX11_init_9 rfl (lv_at hl 1 rfl) ?_
  refine hv_wputF (v := .int x1) tyX11 hE hI in_X11 tyX11_ok nmX11 (ci := 15) rfl 6 (by decide) (hts _ q1067) (fun _ hx => hx) rfl hin2 rfl (ty := .int) rfl rfl rfl hw dX11_init_10 (fun h2 H locs hw hI => ?_)
  refine lv_aload_n hx hb dX11_init_13 rfl (lv_at hl 0 rfl) ?_
  refine lv_iload_n hx hb dX11_init_14 rfl (lv_at hl 2 rfl) ?_
  refine hv_wputF (v := .int x2) tyX11 hE hI in_X11 tyX11_ok nmX11 (ci := 15) rfl 7 (by decide) (hts _ q1069) (fun _ hx => hx) rfl hin2 rfl (ty := .int) rfl rfl rfl hw dX11_init_15 (fun h3 H locs hw hI => ?_)
  exact hv_vret hE hI (Nat.le_refl _) (Nat.le_refl _) hw dX11_init_18

/-- MatchmakerRules$Refused.check(ZII)V -/
abbrev rm_X11_check (mc ms : Nat) : Room := { frames := 4, cells := mc, slots := ms, locals := 102 }
def wp_X11_check (G : GG) (mc : Nat) (ms : Nat) (h : HH) (x0 : Int32) (x1 : Int32) (x2 : Int32) (Q : HH → Prop) (X : String → Nat → HH → Prop) : Prop := ((¬ x0 = 0 → Q h) ∧ (x0 = 0 → (0 + 1 ≤ mc ∧ 0 + 8 ≤ ms ∧ w_new h (.inr (15, df_X11)) (fun a1 h2 => wp_X11_init G h2 a1 x1 x2 (fun h3 => w_is h3 a1 15 (X "MatchmakerRules$Refused" a1 h3))))))
set_option maxHeartbeats 4000000 in
theorem snd_X11_check (l : Launch) (G : GG) (sz : Nat) (mc : Nat) (ms : Nat) (h : HH) (x0 : Int32) (x1 : Int32) (x2 : Int32) (Q : HH → Prop) (X : String → Nat → HH → Prop) (hw : wp_X11_check G mc ms h x0 x1 x2 Q X) : vx_Met l yX11_check (ws_ yX11_check cX11_check 3 (none : Option FieldType)) (rm_X11_check mc ms) (hv_Pc G h sz [.int x0, .int x1, .int x2]) (hv_Qv G h sz Q) (hv_XC G h sz X) mc ms (hv_A h sz) := by
  refine vx_ofW (cc := cX11_check) (maxL := 3) (ret := (none : Option FieldType)) (by decide) rfl ?_
  intro p e s m args below meth c s₁ B hml ht hv
  obtain ⟨rfl, rfl, hE, hI⟩ := hv_open B hml hv
  have hE : hv_E p s m ([.int x0, .int x1, .int x2] : List Value).toArray meth c cX11_check 3 (none : Option FieldType) RX11 G h := hE
  obtain ⟨⟨hx, hb, hml, hown, hts⟩, hr, hlocks, hXX⟩ := id hE
  have hl := lv_entry ([.int x0, .int x1, .int x2] : List Value) (n := 3) (Nat.le_of_ble_eq_true rfl)
  rw [lg_entry_eq]
  generalize (lg_sl ([.int x0, .int x1, .int x2] : List Value) ++ List.replicate (3 - (lg_sl ([.int x0, .int x1, .int x2] : List Value)).length) Slot.unset).toArray = ls at hl ⊢
  have hl : lv_has ls 3 [(0, .int x0), (1, .int x1), (2, .int x2)] := hl
  have hc : 0 ≤ mc := Nat.zero_le _
  have hs : 0 ≤ ms := Nat.zero_le _
  unfold wp_X11_check at hw
  refine lv_iload_n hx hb dX11_check_0 rfl (lv_at hl 0 rfl) ?_
  refine lv_if_ne (tgt := 14) hx hb dX11_check_1 (by decide) (fun c_1 => ?_) (fun c_1 => ?_)
  · have hw := hw.1 c_1
    exact vx_ret (hv_vret hE hI hc hs hw dX11_check_14)
  · have hw := hw.2 c_1
    obtain ⟨hc, hs, hw⟩ := hw
    refine hv_wnew tyX11 hE hI in_X11 tyX11_ok (hts _ q1054) (hts _ q1055) (hts _ q127) (ci := 15) rfl df_X11_ok hw hc hs dX11_check_4 (fun a1 h2 H hw hI => ?_)
    refine lv_dup hx hb dX11_check_7 rfl ?_
    refine lv_iload_n hx hb dX11_check_8 rfl (lv_at hl 1 rfl) ?_
    refine lv_iload_n hx hb dX11_check_9 rfl (lv_at hl 2 rfl) ?_
    refine hv_rcv hI (va_runI (As := [.int x1, .int x2]) (b := a1) (rest := [.ref a1]) hE.1 (snd_X11_init l G _ h2 a1 x1 x2 _ hw) (cwI 2 hts (lw_meth q1065) rfl rfl rfl (hts _ q127) (hts _ q1063) (hts _ q1064) rfl (by decide +kernel) ⟨Nat.le_of_ble_eq_true rfl, Nat.le_of_ble_eq_true rfl⟩) (hv_preS hE hI) rfl rfl hl.1 rfl (lv_room (Nat.le_of_ble_eq_true rfl)) dX11_check_10 ⟨hc, hs⟩) (fun h3 H locs hw hI => ?_)
    obtain ⟨⟨fs, hre⟩, hw⟩ := hw
    exact hx_athrow (E := "MatchmakerRules$Refused") hE dX11_check_13 (hx_out hE hI (hv_Tof (ci := 15) hE hI rfl hre) hc hs (fun z hz => (ht z hz).elim) hw)

/-- MatchmakerRules$Book.add(LMatchmakerRules$Rule;)I -/
abbrev rm_X2_add (mc ms : Nat) : Room := { frames := 7, cells := mc, slots := ms, locals := 195 }
def wp_X2_add_L17 (G : GG) (mc : Nat) (ms : Nat) (a0 : Nat) (Q : Int32 → HH → Prop) (X : String → Nat → HH → Prop) (h : HH) (nc : Nat) (nk : Nat) (x1 : Option Nat) (t0 : Int32) : Prop := (∃ mc5 ms5, nc + mc5 ≤ mc ∧ nk + ms5 ≤ ms ∧ wp_X11_check G mc5 ms5 h t0 (1 : Int32) (8 : Int32) (fun h6 => w_getq h6 a0 2 1 (fun r9 => w_nn r9 (fun a10 => (∃ mc11 ms11, (nc + mc5) + mc11 ≤ mc ∧ (nk + ms5) + ms11 ≤ ms ∧ w_is h6 a10 4 (wp_J2_add G mc11 ms11 h6 a10 x1 (fun r12 h13 => w_getq h13 a0 2 1 (fun r14 => w_nn r14 (fun a15 => w_is h13 a15 4 (wp_J2_size G h13 a15 (fun r16 h17 => Q (r16 - (1 : Int32)) h17)))))))))) (fun E q7 h8 => X E q7 h8))
set_option maxHeartbeats 4000000 in
theorem snd_X2_add_L17 {p : Program} {l : Launch} {e : Env} {s : State} {m : MethodId} {args : Array Value} {below : List Frame} {meth : Method} {c : Code} {h0 : HH} (G : GG) (mc : Nat) (ms : Nat) (a0 : Nat) (Q : Int32 → HH → Prop) (X : String → Nat → HH → Prop) (ht : ∀ x ∈ c.exceptionTable.toList, False) (hE : hv_E p s m args meth c cX2_add 3 (some FieldType.int) RX2 G h0) : ∀ (h : HH) (nc : Nat) (nk : Nat) (x1 : Option Nat) (t0 : Int32), wp_X2_add_L17 G mc ms a0 Q X h nc nk x1 t0 → nc ≤ mc → nk ≤ ms → ∀ (H : Heap) (locs : List Loc) (ls : Array Slot), hv_I G h0 s.heap h H locs → lv_has ls 3 [(0, .ref a0), (1, va_rf x1)] → W p l e (headSpec (ws_ yX2_add cX2_add 3 (some FieldType.int)) (rm_X2_add mc ms)).room s m args below meth c H locs nc nk (vx_MQ below (hv_Qi G h0 s.heap.size Q) (hv_XC G h0 s.heap.size X) args s mc ms (hv_A h0 s.heap.size)) (F0 m 17 ls [.int t0]) := by
  obtain ⟨⟨hx, hb, hml, hown, hts⟩, hr, hlocks, hXX⟩ := id hE
  intro h nc nk x1 t0 hw hc hs H locs ls hI hl
  unfold wp_X2_add_L17 at hw
  refine lv_iconst (v := 1) hx hb dX2_add_17 (by decide) ?_
  refine lv_bipush (v := 8) hx hb dX2_add_18 (by decide) ?_
  obtain ⟨mc5, ms5, hc, hs, hw⟩ := hw
  refine hx_rcv hI (vx_runS (As := [.int t0, .int (1 : Int32), .int (8 : Int32)]) (rest := []) hE.1 (snd_X11_check l G _ mc5 ms5 h t0 (1 : Int32) (8 : Int32) _ _ hw) (va_cwS 3 hts (lw_S q1051 q1052 q127 q1053) rfl rfl rfl (by decide +kernel) ⟨Nat.le_of_ble_eq_true rfl, Nat.le_of_ble_eq_true rfl⟩) (hv_preS hE hI) rfl rfl hl.1 rfl (lv_room (Nat.le_of_ble_eq_true rfl)) dX2_add_20 ⟨hc, hs⟩) ?_ (fun h6 H locs hw hI => ?_)
  · intro E q7 h8 H locs hw hI hT
    exact hx_out hE hI hT hc hs (fun z hz => (ht z hz).elim) hw
  refine lv_aload_n hx hb dX2_add_23 rfl (lv_at hl 0 rfl) ?_
  refine hv_wgetq hE hI in_X2 (ci := 2) rfl 1 (by decide) (hts _ q219) (fun _ hx => hx) hw dX2_add_24 (fun r9 hw => ?_)
  refine lv_aload_nq hx hb dX2_add_27 rfl (lv_at hl 1 rfl) ?_
  obtain ⟨a10, hz, hwa10⟩ := hw; have hla10 := hl; subst hz; have hw := hwa10; have hl := hla10
  obtain ⟨mc11, ms11, hc, hs, hw⟩ := hw
  obtain ⟨⟨fs, hre⟩, hw⟩ := hw
  refine hv_rci hI (va_runV (As := [va_rf x1]) (b := a10) (rest := []) hE.1 (snd_J2_add l G _ mc11 ms11 h6 a10 x1 _ hw) (cwV 1 hts (lw_V q909 q910 q911 q102 q912) rfl rfl rfl (by decide +kernel) ⟨Nat.le_of_ble_eq_true rfl, Nat.le_of_ble_eq_true rfl⟩) (hv_preV hE hI (ci := 4) rfl hre) rfl rfl hl.1 rfl (lv_room (Nat.le_of_ble_eq_true rfl)) dX2_add_28 ⟨hc, hs⟩) (fun r12 h13 H locs hw hI => ?_)
  refine lv_istore_n (lv' := [(2, .int r12), (0, .ref a0), (1, va_rf x1)]) hx hb dX2_add_31 rfl hl (by decide) (by cases x1 <;> exact rfl) (fun ls hl => ?_)
  refine lv_aload_n hx hb dX2_add_32 rfl (lv_at hl 1 rfl) ?_
  refine hv_wgetq hE hI in_X2 (ci := 2) rfl 1 (by decide) (hts _ q219) (fun _ hx => hx) hw dX2_add_33 (fun r14 hw => ?_)
  obtain ⟨a15, hz, hwa15⟩ := hw; have hla15 := hl; subst hz; have hw := hwa15; have hl := hla15
  obtain ⟨⟨fs, hre⟩, hw⟩ := hw
  refine hv_rci hI (va_runV (As := []) (b := a15) (rest := []) hE.1 (snd_J2_size l G _ h13 a15 _ hw) (cwV 0 hts (lw_V q470 q333 q334 q102 q335) rfl rfl rfl (by decide +kernel) ⟨Nat.le_of_ble_eq_true rfl, Nat.le_of_ble_eq_true rfl⟩) (hv_preV hE hI (ci := 4) rfl hre) rfl rfl hl.1 rfl (lv_room (Nat.le_of_ble_eq_true rfl)) dX2_add_36 ⟨hc, hs⟩) (fun r16 h17 H locs hw hI => ?_)
  refine lv_iconst (v := 1) hx hb dX2_add_39 (by decide) ?_
  refine lv_isub hx hb dX2_add_40 ?_
  exact vx_ret (hv_iret hE hI hc hs hw dX2_add_41)
def wp_X2_add (G : GG) (mc : Nat) (ms : Nat) (h : HH) (a0 : Nat) (x1 : Option Nat) (Q : Int32 → HH → Prop) (X : String → Nat → HH → Prop) : Prop := w_getq h a0 2 1 (fun r1 => w_nn r1 (fun a2 => w_is h a2 4 (wp_J2_size G h a2 (fun r3 h4 => (((8 : Int32) ≤ r3 → wp_X2_add_L17 G mc ms a0 Q X h4 0 0 x1 (0 : Int32)) ∧ (¬ (8 : Int32) ≤ r3 → wp_X2_add_L17 G mc ms a0 Q X h4 0 0 x1 (1 : Int32)))))))
set_option maxHeartbeats 4000000 in
theorem snd_X2_add (l : Launch) (G : GG) (sz : Nat) (mc : Nat) (ms : Nat) (h : HH) (a0 : Nat) (x1 : Option Nat) (Q : Int32 → HH → Prop) (X : String → Nat → HH → Prop) (hw : wp_X2_add G mc ms h a0 x1 Q X) : vx_Met l yX2_add (ws_ yX2_add cX2_add 3 (some FieldType.int)) (rm_X2_add mc ms) (hv_Pc G h sz [.ref a0, va_rf x1]) (hv_Qi G h sz Q) (hv_XC G h sz X) mc ms (hv_A h sz) := by
  refine vx_ofW (cc := cX2_add) (maxL := 3) (ret := (some FieldType.int)) (by decide) rfl ?_
  intro p e s m args below meth c s₁ B hml ht hv
  obtain ⟨rfl, rfl, hE, hI⟩ := hv_open B hml hv
  have hE : hv_E p s m ([.ref a0, va_rf x1] : List Value).toArray meth c cX2_add 3 (some FieldType.int) RX2 G h := hE
  obtain ⟨⟨hx, hb, hml, hown, hts⟩, hr, hlocks, hXX⟩ := id hE
  have hl := lv_entry ([.ref a0, va_rf x1] : List Value) (n := 3) (by cases x1 <;> exact Nat.le_of_ble_eq_true rfl)
  rw [lg_entry_eq]
  generalize (lg_sl ([.ref a0, va_rf x1] : List Value) ++ List.replicate (3 - (lg_sl ([.ref a0, va_rf x1] : List Value)).length) Slot.unset).toArray = ls at hl ⊢
  have hl : lv_has ls 3 [(0, .ref a0), (1, va_rf x1)] := (by cases x1 <;> exact hl)
  have hc : 0 ≤ mc := Nat.zero_le _
  have hs : 0 ≤ ms := Nat.zero_le _
  unfold wp_X2_add at hw
  refine lv_aload_n hx hb dX2_add_0 rfl (lv_at hl 0 rfl) ?_
  refine hv_wgetq hE hI in_X2 (ci := 2) rfl 1 (by decide) (hts _ q219) (fun _ hx => hx) hw dX2_add_1 (fun r1 hw => ?_)
  obtain ⟨a2, hz, hwa2⟩ := hw; have hla2 := hl; subst hz; have hw := hwa2; have hl := hla2
  obtain ⟨⟨fs, hre⟩, hw⟩ := hw
  refine hv_rci hI (va_runV (As := []) (b := a2) (rest := []) hE.1 (snd_J2_size l G _ h a2 _ hw) (cwV 0 hts (lw_V q470 q333 q334 q102 q335) rfl rfl rfl (by decide +kernel) ⟨Nat.le_of_ble_eq_true rfl, Nat.le_of_ble_eq_true rfl⟩) (hv_preV hE hI (ci := 4) rfl hre) rfl rfl hl.1 rfl (lv_room (Nat.le_of_ble_eq_true rfl)) dX2_add_4 ⟨hc, hs⟩) (fun r3 h4 H locs hw hI => ?_)
  refine lv_bipush (v := 8) hx hb dX2_add_7 (by decide) ?_
  refine lv_icmp_ge (tgt := 16) hx hb dX2_add_9 (by decide) (fun c_9 => ?_) (fun c_9 => ?_)
  · have hw := hw.1 c_9
    refine lv_iconst (v := 0) hx hb dX2_add_16 (by decide) ?_
    exact snd_X2_add_L17 G mc ms a0 Q X ht hE h4 0 0 x1 (0 : Int32) hw hc hs _ _ _ hI (lv_sub hl [0, 1] rfl)
  · have hw := hw.2 c_9
    refine lv_iconst (v := 1) hx hb dX2_add_12 (by decide) ?_
    refine lv_goto (tgt := 17) hx hb dX2_add_13 (by decide) ?_
    exact snd_X2_add_L17 G mc ms a0 Q X ht hE h4 0 0 x1 (1 : Int32) hw hc hs _ _ _ hI (lv_sub hl [0, 1] rfl)

/-- java/util/ArrayList.fastRemove([Ljava/lang/Object;I)V -/
abbrev rm_J2_fastRemove : Room := { frames := 1, cells := 0, slots := 0, locals := 64 }
def wp_J2_fastRemove (G : GG) (h : HH) (a0 : Nat) (x1 : Option Nat) (x2 : Int32) (Q : HH → Prop) : Prop := w_geti h a0 4 0 (fun r1 => w_put h a0 4 0 (.int (r1 + (1 : Int32))) (fun h2 => w_geti h2 a0 4 2 (fun r3 => (((r3 - (1 : Int32)) ≤ x2 → w_put h2 a0 4 2 (.int (r3 - (1 : Int32))) (fun h4 => w_nn x1 (fun a5 => w_qst G h4 a5 (r3 - (1 : Int32)) none (fun h6 => Q h6)))) ∧ (¬ (r3 - (1 : Int32)) ≤ x2 → w_nn x1 (fun a7 => w_cpq G h2 a7 (x2 + (1 : Int32)) a7 x2 ((r3 - (1 : Int32)) - x2) (fun h8 => w_put h8 a0 4 2 (.int (r3 - (1 : Int32))) (fun h9 => w_qst G h9 a7 (r3 - (1 : Int32)) none (fun h10 => Q h10)))))))))
set_option maxHeartbeats 4000000 in
theorem snd_J2_fastRemove (l : Launch) (G : GG) (sz : Nat) (h : HH) (a0 : Nat) (x1 : Option Nat) (x2 : Int32) (Q : HH → Prop) (hw : wp_J2_fastRemove G h a0 x1 x2 Q) : Met l yJ2_fastRemove (ws_ yJ2_fastRemove cJ2_fastRemove 4 (none : Option FieldType)) rm_J2_fastRemove (hv_Pc G h sz [.ref a0, va_rf x1, .int x2]) (hv_Qv G h sz Q) 0 0 (hv_A h sz) := by
  refine Met.ofW (cc := cJ2_fastRemove) (maxL := 4) (ret := (none : Option FieldType)) (by decide) rfl ?_
  intro p e s m args below meth c s₁ B hml hv
  obtain ⟨rfl, rfl, hE, hI⟩ := hv_open B hml hv
  have hE : hv_E p s m ([.ref a0, va_rf x1, .int x2] : List Value).toArray meth c cJ2_fastRemove 4 (none : Option FieldType) RJ2 G h := hE
  obtain ⟨⟨hx, hb, hml, hown, hts⟩, hr, hlocks, hXX⟩ := id hE
  have hl := lv_entry ([.ref a0, va_rf x1, .int x2] : List Value) (n := 4) (by cases x1 <;> exact Nat.le_of_ble_eq_true rfl)
  rw [lg_entry_eq]
  generalize (lg_sl ([.ref a0, va_rf x1, .int x2] : List Value) ++ List.replicate (4 - (lg_sl ([.ref a0, va_rf x1, .int x2] : List Value)).length) Slot.unset).toArray = ls at hl ⊢
  have hl : lv_has ls 4 [(0, .ref a0), (1, va_rf x1), (2, .int x2)] := (by cases x1 <;> exact hl)
  unfold wp_J2_fastRemove at hw
  refine lv_aload_n hx hb dJ2_fastRemove_0 rfl (lv_at hl 0 rfl) ?_
  refine lv_dup hx hb dJ2_fastRemove_1 rfl ?_
  refine hv_wgeti hE hI in_J2 (ci := 4) rfl 0 (by decide) (hts _ q210) (fun x hx => u_same (hts _ q209) x hx) hw dJ2_fastRemove_2 (fun r1 hw => ?_)
  refine lv_iconst (v := 1) hx hb dJ2_fastRemove_5 (by decide) ?_
  refine lv_iadd hx hb dJ2_fastRemove_6 ?_
  refine hv_wput (v := .int (r1 + (1 : Int32))) tyJ2 hE hI in_J2 tyJ2_ok nmJ2 (ci := 4) rfl 0 (by decide) (hts _ q210) (fun x hx => u_same (hts _ q209) x hx) rfl (ty := .int) rfl rfl rfl hw dJ2_fastRemove_7 (fun h2 H locs hw hI => ?_)
  refine lv_aload_n hx hb dJ2_fastRemove_10 rfl (lv_at hl 0 rfl) ?_
  refine hv_wgeti hE hI in_J2 (ci := 4) rfl 2 (by decide) (hts _ q206) (fun _ hx => hx) hw dJ2_fastRemove_11 (fun r3 hw => ?_)
  refine lv_iconst (v := 1) hx hb dJ2_fastRemove_14 (by decide) ?_
  refine lv_isub hx hb dJ2_fastRemove_15 ?_
  refine lv_dup hx hb dJ2_fastRemove_16 rfl ?_
  refine lv_istore_n (lv' := [(3, .int (r3 - (1 : Int32))), (0, .ref a0), (1, va_rf x1), (2, .int x2)]) hx hb dJ2_fastRemove_17 rfl hl (by decide) rfl (fun ls hl => ?_)
  refine lv_iload_n hx hb dJ2_fastRemove_18 rfl (lv_at hl 3 rfl) ?_
  refine lv_icmp_le (tgt := 34) hx hb dJ2_fastRemove_19 (by decide) (fun c_19 => ?_) (fun c_19 => ?_)
  · have hw := hw.1 c_19
    refine lv_aload_nq hx hb dJ2_fastRemove_34 rfl (lv_at hl 2 rfl) ?_
    refine lv_aload_n hx hb dJ2_fastRemove_35 rfl (lv_at hl 1 rfl) ?_
    refine lv_iload_n hx hb dJ2_fastRemove_36 rfl (lv_at hl 0 rfl) ?_
    refine lv_dup_x1 hx hb dJ2_fastRemove_37 rfl rfl ?_
    refine hv_wput (v := .int (r3 - (1 : Int32))) tyJ2 hE hI in_J2 tyJ2_ok nmJ2 (ci := 4) rfl 2 (by decide) (hts _ q206) (fun _ hx => hx) rfl (ty := .int) rfl rfl rfl hw dJ2_fastRemove_38 (fun h4 H locs hw hI => ?_)
    refine lv_null hx hb dJ2_fastRemove_41 ?_
    obtain ⟨a5, hz, hwa5⟩ := hw; have hla5 := hl; subst hz; have hw := hwa5; have hl := hla5
    refine hv_wqst (x1 := none) hE hI hw dJ2_fastRemove_42 (fun h6 H locs hw hI => ?_)
    exact hv_vret hE hI (Nat.le_refl _) (Nat.le_refl _) hw dJ2_fastRemove_43
  · have hw := hw.2 c_19
    refine lv_aload_nq hx hb dJ2_fastRemove_22 rfl (lv_at hl 2 rfl) ?_
    refine lv_iload_n hx hb dJ2_fastRemove_23 rfl (lv_at hl 3 rfl) ?_
    refine lv_iconst (v := 1) hx hb dJ2_fastRemove_24 (by decide) ?_
    refine lv_iadd hx hb dJ2_fastRemove_25 ?_
    refine lv_aload_nq hx hb dJ2_fastRemove_26 rfl (lv_at hl 2 rfl) ?_
    refine lv_iload_n hx hb dJ2_fastRemove_27 rfl (lv_at hl 3 rfl) ?_
    refine lv_iload_n hx hb dJ2_fastRemove_28 rfl (lv_at hl 0 rfl) ?_
    refine lv_iload_n hx hb dJ2_fastRemove_29 rfl (lv_at hl 3 rfl) ?_
    refine lv_isub hx hb dJ2_fastRemove_30 ?_
    obtain ⟨a7, hz, hwa7⟩ := hw; have hla7 := hl; subst hz; have hw := hwa7; have hl := hla7
    refine hv_cpq (rest := []) hE hI hw hl.1 (hts _ q1090) (hts _ q523) (hts _ q522) (hts _ q125) (Nat.le_of_ble_eq_true rfl) (Nat.le_of_ble_eq_true rfl) dJ2_fastRemove_31 (fun h8 H locs hw hI => ?_)
    refine lv_aload_n hx hb dJ2_fastRemove_34 rfl (lv_at hl 2 rfl) ?_
    refine lv_aload_n hx hb dJ2_fastRemove_35 rfl (lv_at hl 1 rfl) ?_
    refine lv_iload_n hx hb dJ2_fastRemove_36 rfl (lv_at hl 0 rfl) ?_
    refine lv_dup_x1 hx hb dJ2_fastRemove_37 rfl rfl ?_
    refine hv_wput (v := .int (r3 - (1 : Int32))) tyJ2 hE hI in_J2 tyJ2_ok nmJ2 (ci := 4) rfl 2 (by decide) (hts _ q206) (fun _ hx => hx) rfl (ty := .int) rfl rfl rfl hw dJ2_fastRemove_38 (fun h9 H locs hw hI => ?_)
    refine lv_null hx hb dJ2_fastRemove_41 ?_
    refine hv_wqst (x1 := none) hE hI hw dJ2_fastRemove_42 (fun h10 H locs hw hI => ?_)
    exact hv_vret hE hI (Nat.le_refl _) (Nat.le_refl _) hw dJ2_fastRemove_43

/-- java/util/ArrayList.remove(I)Ljava/lang/Object; -/
abbrev rm_J2_remove : Room := { frames := 3, cells := 0, slots := 0, locals := 87 }
def wp_J2_remove (G : GG) (h : HH) (a0 : Nat) (x1 : Int32) (Q : Option Nat → HH → Prop) : Prop := w_geti h a0 4 2 (fun r1 => wp_J19_checkIndex G h x1 r1 (fun r2 h3 => w_getq h3 a0 4 1 (fun r4 => w_nn r4 (fun a5 => w_qld G h3 a5 x1 (fun r6 => w_is h3 a0 4 (wp_J2_fastRemove G h3 a0 (some a5) x1 (fun h7 => Q r6 h7)))))))
set_option maxHeartbeats 4000000 in
theorem snd_J2_remove (l : Launch) (G : GG) (sz : Nat) (h : HH) (a0 : Nat) (x1 : Int32) (Q : Option Nat → HH → Prop) (hw : wp_J2_remove G h a0 x1 Q) : Met l yJ2_remove (ws_ yJ2_remove cJ2_remove 4 (some (FieldType.object "java/lang/Object"))) rm_J2_remove (hv_Pc G h sz [.ref a0, .int x1]) (hv_Qq G h sz Q) 0 0 (hv_A h sz) := by
  refine Met.ofW (cc := cJ2_remove) (maxL := 4) (ret := (some (FieldType.object "java/lang/Object"))) (by decide) rfl ?_
  intro p e s m args below meth c s₁ B hml hv
  obtain ⟨rfl, rfl, hE, hI⟩ := hv_open B hml hv
  have hE : hv_E p s m ([.ref a0, .int x1] : List Value).toArray meth c cJ2_remove 4 (some (FieldType.object "java/lang/Object")) RJ2 G h := hE
  obtain ⟨⟨hx, hb, hml, hown, hts⟩, hr, hlocks, hXX⟩ := id hE
  have hl := lv_entry ([.ref a0, .int x1] : List Value) (n := 4) (Nat.le_of_ble_eq_true rfl)
  rw [lg_entry_eq]
  generalize (lg_sl ([.ref a0, .int x1] : List Value) ++ List.replicate (4 - (lg_sl ([.ref a0, .int x1] : List Value)).length) Slot.unset).toArray = ls at hl ⊢
  have hl : lv_has ls 4 [(0, .ref a0), (1, .int x1)] := hl
  unfold wp_J2_remove at hw
  refine lv_iload_n hx hb dJ2_remove_0 rfl (lv_at hl 1 rfl) ?_
  refine lv_aload_n hx hb dJ2_remove_1 rfl (lv_at hl 0 rfl) ?_
  refine hv_wgeti hE hI in_J2 (ci := 4) rfl 2 (by decide) (hts _ q206) (fun _ hx => hx) hw dJ2_remove_2 (fun r1 hw => ?_)
  refine hv_rci hI (va_runS (As := [.int x1, .int r1]) (rest := []) hE.1 (snd_J19_checkIndex l G _ h x1 r1 _ hw) (va_cwS 2 hts (lw_S q475 q476 q128 q477) rfl rfl rfl (by decide +kernel) ⟨Nat.le_of_ble_eq_true rfl, Nat.le_of_ble_eq_true rfl⟩) (hv_preS hE hI) rfl rfl hl.1 rfl (lv_room (Nat.le_of_ble_eq_true rfl)) dJ2_remove_5 ⟨Nat.le_of_ble_eq_true rfl, Nat.le_of_ble_eq_true rfl⟩) (fun r2 h3 H locs hw hI => ?_)
  refine lv_pop hx hb dJ2_remove_8 rfl ?_
  refine lv_aload_n hx hb dJ2_remove_9 rfl (lv_at hl 0 rfl) ?_
  refine hv_wgetq hE hI in_J2 (ci := 4) rfl 1 (by decide) (hts _ q203) (fun _ hx => hx) hw dJ2_remove_10 (fun r4 hw => ?_)
  refine lv_astore_nq (lv' := [(2, va_rf r4), (0, .ref a0), (1, .int x1)]) hx hb dJ2_remove_13 rfl hl (by decide) rfl (fun ls hl => ?_)
  refine lv_aload_nq hx hb dJ2_remove_14 rfl (lv_at hl 0 rfl) ?_
  refine lv_iload_n hx hb dJ2_remove_15 rfl (lv_at hl 2 rfl) ?_
  obtain ⟨a5, hz, hwa5⟩ := hw; have hla5 := hl; subst hz; have hw := hwa5; have hl := hla5
  refine hv_wqld hE hI hw dJ2_remove_16 (fun r6 hw => ?_)
  refine lv_astore_nq (lv' := [(3, va_rf r6), (2, .ref a5), (0, .ref a0), (1, .int x1)]) hx hb dJ2_remove_17 rfl hl (by decide) rfl (fun ls hl => ?_)
  refine lv_aload_n hx hb dJ2_remove_18 rfl (lv_at hl 2 rfl) ?_
  refine lv_aload_n hx hb dJ2_remove_19 rfl (lv_at hl 1 rfl) ?_
  refine lv_iload_n hx hb dJ2_remove_20 rfl (lv_at hl 3 rfl) ?_
  obtain ⟨⟨fs, hre⟩, hw⟩ := hw
  refine hv_rcv hI (va_runV (As := [.ref a5, .int x1]) (b := a0) (rest := []) hE.1 (snd_J2_fastRemove l G _ h3 a0 (some a5) x1 _ hw) (cwV 2 hts (lw_V q1086 q1088 qs19 q102 q1089) rfl rfl rfl (by decide +kernel) ⟨Nat.le_of_ble_eq_true rfl, Nat.le_of_ble_eq_true rfl⟩) (hv_preV hE hI (ci := 4) rfl hre) rfl rfl hl.1 rfl (lv_room (Nat.le_of_ble_eq_true rfl)) dJ2_remove_21 ⟨Nat.le_of_ble_eq_true rfl, Nat.le_of_ble_eq_true rfl⟩) (fun h7 H locs hw hI => ?_)
  refine lv_aload_nq hx hb dJ2_remove_24 rfl (lv_at hl 0 rfl) ?_
  exact hv_qret (v := r6) hE (Or.inl ⟨_, rfl⟩) hI (Nat.le_refl _) (Nat.le_refl _) hw dJ2_remove_25

/-- java/util/ArrayList$Itr.remove()V -/
abbrev rm_J15_remove : Room := { frames := 4, cells := 0, slots := 0, locals := 110 }
def wp_J15_remove (G : GG) (h : HH) (a0 : Nat) (Q : HH → Prop) : Prop := w_geti h a0 13 1 (fun r1 => ((0 ≤ r1 → w_is h a0 13 (wp_J15_checkForComodification G h a0 (fun h2 => w_getq h2 a0 13 3 (fun r3 => w_geti h2 a0 13 1 (fun r4 => w_nn r3 (fun a5 => w_is h2 a5 4 (wp_J2_remove G h2 a5 r4 (fun r6 h7 => w_geti h7 a0 13 1 (fun r8 => w_put h7 a0 13 0 (.int r8) (fun h9 => w_put h9 a0 13 1 (.int (-1 : Int32)) (fun h10 => w_getq h10 a0 13 3 (fun r11 => w_nn r11 (fun a12 => w_geti h10 a12 4 0 (fun r13 => w_put h10 a0 13 2 (.int r13) (fun h14 => Q h14))))))))))))))) ∧ (¬ 0 ≤ r1 → False)))
set_option maxHeartbeats 4000000 in
theorem snd_J15_remove (l : Launch) (G : GG) (sz : Nat) (h : HH) (a0 : Nat) (Q : HH → Prop) (hw : wp_J15_remove G h a0 Q) : Met l yJ15_remove (wsW_ yJ15_remove cJ15_remove 2 (none : Option FieldType) [(19, 55, 58, 51)]) rm_J15_remove (hv_Pc G h sz [.ref a0]) (hv_Qv G h sz Q) 0 0 (hv_A h sz) := by
  refine va_MetW (cc := cJ15_remove) (maxL := 2) (ret := (none : Option FieldType)) (hh := [(19, 55, 58, 51)]) (by decide) rfl ?_
  intro p e s m args below meth c s₁ B hml hv
  have ht : c.exceptionTable.toList = tableOf [(19, 55, 58, 51)] := vx_table (x := yJ15_remove) B (atoms_spec (ws := (wsW_ yJ15_remove cJ15_remove 2 (none : Option FieldType) [(19, 55, 58, 51)])) B.pre _ List.mem_cons_self)
  obtain ⟨rfl, rfl, hE, hI⟩ := hv_openW B hml hv
  have hE : hv_E p s m ([.ref a0] : List Value).toArray meth c cJ15_remove 2 (none : Option FieldType) RJ15 G h := hE
  obtain ⟨⟨hx, hb, hml, hown, hts⟩, hr, hlocks, hXX⟩ := id hE
  have hl := lv_entry ([.ref a0] : List Value) (n := 2) (Nat.le_of_ble_eq_true rfl)
  rw [lg_entry_eq]
  generalize (lg_sl ([.ref a0] : List Value) ++ List.replicate (2 - (lg_sl ([.ref a0] : List Value)).length) Slot.unset).toArray = ls at hl ⊢
  have hl : lv_has ls 2 [(0, .ref a0)] := hl
  unfold wp_J15_remove at hw
  refine lv_aload_n hx hb dJ15_remove_0 rfl (lv_at hl 0 rfl) ?_
  refine hv_wgeti hE hI in_J15 (ci := 13) rfl 1 (by decide) (hts _ q362) (fun _ hx => hx) hw dJ15_remove_1 (fun r1 hw => ?_)
  refine lv_if_ge (tgt := 15) hx hb dJ15_remove_4 (by decide) (fun c_4 => ?_) (fun c_4 => ?_)
  · have hw := hw.1 c_4
    refine lv_aload_n hx hb dJ15_remove_15 rfl (lv_at hl 0 rfl) ?_
    obtain ⟨⟨fs, hre⟩, hw⟩ := hw
    refine hv_rcv hI (va_runV (As := []) (b := a0) (rest := []) hE.1 (snd_J15_checkForComodification l G _ h a0 _ hw) (cwV 0 hts (lw_V q393 q394 q395 q121 q396) rfl rfl rfl (by decide +kernel) ⟨Nat.le_of_ble_eq_true rfl, Nat.le_of_ble_eq_true rfl⟩) (hv_preV hE hI (ci := 13) rfl hre) rfl rfl hl.1 rfl (lv_room (Nat.le_of_ble_eq_true rfl)) dJ15_remove_16 ⟨Nat.le_of_ble_eq_true rfl, Nat.le_of_ble_eq_true rfl⟩) (fun h2 H locs hw hI => ?_)
    refine lv_aload_n hx hb dJ15_remove_19 rfl (lv_at hl 0 rfl) ?_
    refine hv_wgetq hE hI in_J15 (ci := 13) rfl 3 (by decide) (hts _ q364) (fun _ hx => hx) hw dJ15_remove_20 (fun r3 hw => ?_)
    refine lv_aload_n hx hb dJ15_remove_23 rfl (lv_at hl 0 rfl) ?_
    refine hv_wgeti hE hI in_J15 (ci := 13) rfl 1 (by decide) (hts _ q362) (fun _ hx => hx) hw dJ15_remove_24 (fun r4 hw => ?_)
    obtain ⟨a5, hz, hwa5⟩ := hw; have hla5 := hl; subst hz; have hw := hwa5; have hl := hla5
    obtain ⟨⟨fs, hre⟩, hw⟩ := hw
    refine hv_rcq hI (va_runV (As := [.int r4]) (b := a5) (rest := []) hE.1 (snd_J2_remove l G _ h2 a5 r4 _ hw) (cwV 1 hts (lw_V q1120 q1083 q1084 q102 q1085) rfl rfl rfl (by decide +kernel) ⟨Nat.le_of_ble_eq_true rfl, Nat.le_of_ble_eq_true rfl⟩) (hv_preV hE hI (ci := 4) rfl hre) rfl rfl hl.1 rfl (lv_room (Nat.le_of_ble_eq_true rfl)) dJ15_remove_27 ⟨Nat.le_of_ble_eq_true rfl, Nat.le_of_ble_eq_true rfl⟩) (fun r6 h7 H locs hw hI => ?_)
    refine lv_pop hx hb dJ15_remove_30 (va_rf_cat _) ?_
    refine lv_aload_n hx hb dJ15_remove_31 rfl (lv_at hl 0 rfl) ?_
    refine lv_aload_n hx hb dJ15_remove_32 rfl (lv_at hl 0 rfl) ?_
    refine hv_wgeti hE hI in_J15 (ci := 13) rfl 1 (by decide) (hts _ q362) (fun _ hx => hx) hw dJ15_remove_33 (fun r8 hw => ?_)
    refine hv_wput (v := .int r8) tyJ15 hE hI in_J15 tyJ15_ok nmJ15 (ci := 13) rfl 0 (by decide) (hts _ q361) (fun _ hx => hx) rfl (ty := .int) rfl rfl rfl hw dJ15_remove_36 (fun h9 H locs hw hI => ?_)
    refine lv_aload_n hx hb dJ15_remove_39 rfl (lv_at hl 0 rfl) ?_
    refine lv_iconst (v := -1) hx hb dJ15_remove_40 (by decide) ?_
    refine hv_wput (v := .int (-1 : Int32)) tyJ15 hE hI in_J15 tyJ15_ok nmJ15 (ci := 13) rfl 1 (by decide) (hts _ q362) (fun _ hx => hx) rfl (ty := .int) rfl rfl rfl hw dJ15_remove_41 (fun h10 H locs hw hI => ?_)
    refine lv_aload_n hx hb dJ15_remove_44 rfl (lv_at hl 0 rfl) ?_
    refine lv_aload_n hx hb dJ15_remove_45 rfl (lv_at hl 0 rfl) ?_
    refine hv_wgetq hE hI in_J15 (ci := 13) rfl 3 (by decide) (hts _ q364) (fun _ hx => hx) hw dJ15_remove_46 (fun r11 hw => ?_)
    obtain ⟨a12, hz, hwa12⟩ := hw; have hla12 := hl; subst hz; have hw := hwa12; have hl := hla12
    refine hv_wgeti hE hI in_J2 (ci := 4) rfl 0 (by decide) (hts _ q208) (fun x hx => u_same (hts _ q209) x hx) hw dJ15_remove_49 (fun r13 hw => ?_)
    refine hv_wput (v := .int r13) tyJ15 hE hI in_J15 tyJ15_ok nmJ15 (ci := 13) rfl 2 (by decide) (hts _ q363) (fun _ hx => hx) rfl (ty := .int) rfl rfl rfl hw dJ15_remove_52 (fun h14 H locs hw hI => ?_)
    refine lv_goto (tgt := 67) hx hb dJ15_remove_55 (by decide) ?_
    exact hv_vret hE hI (Nat.le_refl _) (Nat.le_refl _) hw dJ15_remove_67
  · have hw := hw.2 c_4
    exact hw.elim

/-- MatchmakerRules.remove(Ljava/util/ArrayList;LMatchmakerRules$Test;)V -/
abbrev rm_X1_remove (mc ms : Nat) : Room := { frames := 5, cells := mc, slots := ms, locals := 131 }
def wp_X1_remove_L5 (G : GG) (mc : Nat) (ms : Nat) (Q : HH → Prop) : Nat → (HH) → (Nat) → (Nat) → (Option Nat) → (Option Nat) → Prop
  | 0, _, _, _, _, _ => False
  | n + 1, h, nc, nk, x1, x2 => w_nn x2 (fun a5 => w_is h a5 13 (wp_J15_hasNext G h a5 (fun r6 h7 => ((r6 = 0 → Q h7) ∧ (¬ r6 = 0 → w_is h7 a5 13 (wp_J15_next G h7 a5 (fun r8 h9 => w_nn r8 (fun a10 => w_cast h9 a10 16 (w_nn x1 (fun a11 => w_test G h9 a11 (some a10) (fun r12 h13 => ((r12 = 0 → wp_X1_remove_L5 G mc ms Q n h13 nc nk (some a11) (some a5)) ∧ (¬ r12 = 0 → w_is h13 a5 13 (wp_J15_remove G h13 a5 (fun h14 => wp_X1_remove_L5 G mc ms Q n h14 nc nk (some a11) (some a5))))))))))))))))
set_option maxHeartbeats 4000000 in
theorem snd_X1_remove_L5 {p : Program} {l : Launch} {e : Env} {s : State} {m : MethodId} {args : Array Value} {below : List Frame} {meth : Method} {c : Code} {h0 : HH} (G : GG) (mc : Nat) (ms : Nat) (Q : HH → Prop) (hE : hv_E p s m args meth c cX1_remove 3 (none : Option FieldType) RX1 G h0) : ∀ (n : Nat) (h : HH) (nc : Nat) (nk : Nat) (x1 : Option Nat) (x2 : Option Nat), wp_X1_remove_L5 G mc ms Q n h nc nk x1 x2 → nc ≤ mc → nk ≤ ms → ∀ (H : Heap) (locs : List Loc) (ls : Array Slot), hv_I G h0 s.heap h H locs → lv_has ls 3 [(1, va_rf x1), (2, va_rf x2)] → W p l e (headSpec (ws_ yX1_remove cX1_remove 3 (none : Option FieldType)) (rm_X1_remove mc ms)).room s m args below meth c H locs nc nk (MQ below (hv_Qv G h0 s.heap.size Q) args s mc ms (hv_A h0 s.heap.size)) (F0 m 5 ls []) := by
  obtain ⟨⟨hx, hb, hml, hown, hts⟩, hr, hlocks, hXX⟩ := id hE
  intro n
  induction n with
  | zero => intro h nc nk x1 x2 hw; exact hw.elim
  | succ n ih =>
    intro h nc nk x1 x2 hw hc hs H locs ls hI hl
    unfold wp_X1_remove_L5 at hw
    refine lv_aload_nq hx hb dX1_remove_5 rfl (lv_at hl 1 rfl) ?_
    obtain ⟨a5, hz, hwa5⟩ := hw; have hla5 := hl; subst hz; have hw := hwa5; have hl := hla5
    obtain ⟨⟨fs, hre⟩, hw⟩ := hw
    refine hv_rFi hI (va_runF (As := []) (b := a5) (rest := []) (hXX.1.1 13 _ rfl).2 hE.1 (snd_J15_hasNext l G _ h a5 _ hw) (va_cwF 0 hts (lw_F q637 q379 q381 q121 q383) rfl rfl rfl (hv_fw0 hE.2.2.2.2.1) (by decide +kernel) ⟨Nat.le_of_ble_eq_true rfl, Nat.le_of_ble_eq_true rfl⟩) (hv_preV hE hI (ci := 13) rfl hre) rfl rfl hl.1 rfl (lv_room (Nat.le_of_ble_eq_true rfl)) dX1_remove_6 ⟨hc, hs⟩) (fun r6 h7 H locs hw hI => ?_)
    refine lv_if_eq (tgt := 41) hx hb dX1_remove_11 (by decide) (fun c_11 => ?_) (fun c_11 => ?_)
    · have hw := hw.1 c_11
      exact hv_vret hE hI hc hs hw dX1_remove_41
    · have hw := hw.2 c_11
      refine lv_aload_nq hx hb dX1_remove_14 rfl (lv_at hl 0 rfl) ?_
      refine lv_aload_n hx hb dX1_remove_15 rfl (lv_at hl 1 rfl) ?_
      obtain ⟨⟨fs, hre⟩, hw⟩ := hw
      refine hv_rFq hI (va_runF (As := []) (b := a5) (rest := [va_rf x1]) (hXX.1.1 13 _ rfl).2 hE.1 (snd_J15_next l G _ h7 a5 _ hw) (va_cwF 0 hts (lw_F q639 q388 q390 q121 q392) rfl rfl rfl (hv_fw1 hE.2.2.2.2.1) (by decide +kernel) ⟨Nat.le_of_ble_eq_true rfl, Nat.le_of_ble_eq_true rfl⟩) (hv_preV hE hI (ci := 13) rfl hre) rfl rfl hl.1 rfl (lv_room (by cases x1 <;> exact Nat.le_of_ble_eq_true rfl)) dX1_remove_16 ⟨hc, hs⟩) (fun r8 h9 H locs hw hI => ?_)
      obtain ⟨a10, hz, hwa10⟩ := hw; have hla10 := hl; subst hz; have hw := hwa10; have hl := hla10
      refine hv_wcast (ci := 16) hE hI (hts _ q640) rfl hw dX1_remove_21 (fun hw => ?_)
      obtain ⟨a11, hz, hwa11⟩ := hw; have hla11 := hl; subst hz; have hw := hwa11; have hl := hla11
      refine hv_isSo (f := (some a10)) (rest := []) hE hI hw hl.1 (Nat.le_of_ble_eq_true rfl) ⟨Nat.le_of_ble_eq_true rfl, Nat.le_of_ble_eq_true rfl⟩ ⟨hc, hs⟩ dX1_remove_24 (fun r12 h13 H locs hw hI => ?_)
      refine lv_if_eq (tgt := 5) hx hb dX1_remove_29 (by decide) (fun c_29 => ?_) (fun c_29 => ?_)
      · have hw := hw.1 c_29
        exact ih h13 nc nk (some a11) (some a5) hw hc hs _ _ _ hI (lv_sub hl [0, 1] rfl)
      · have hw := hw.2 c_29
        refine lv_aload_n hx hb dX1_remove_32 rfl (lv_at hl 1 rfl) ?_
        obtain ⟨⟨fs, hre⟩, hw⟩ := hw
        refine hv_rFv hI (va_runFW (As := []) (b := a5) (rest := []) (hXX.1.1 13 _ rfl).2 hE.1 (snd_J15_remove l G _ h13 a5 _ hw) (va_cwFW 0 hts (lw_FW q1097 q1100 q1102 q121 q1104) rfl rfl rfl (hv_fw2 hE.2.2.2.2.1) (by decide +kernel) ⟨Nat.le_of_ble_eq_true rfl, Nat.le_of_ble_eq_true rfl⟩) (hv_preV hE hI (ci := 13) rfl hre) rfl rfl hl.1 rfl (lv_room (Nat.le_of_ble_eq_true rfl)) dX1_remove_33 ⟨hc, hs⟩) (fun h14 H locs hw hI => ?_)
        refine lv_goto (tgt := 5) hx hb dX1_remove_38 (by decide) ?_
        exact ih h14 nc nk (some a11) (some a5) hw hc hs _ _ _ hI (lv_sub hl [0, 1] rfl)
def wp_X1_remove (G : GG) (mc : Nat) (ms : Nat) (h : HH) (x0 : Option Nat) (x1 : Option Nat) (Q : HH → Prop) : Prop := w_nn x0 (fun a1 => (∃ mc2 ms2, 0 + mc2 ≤ mc ∧ 0 + ms2 ≤ ms ∧ w_is h a1 4 (wp_J2_iterator G mc2 ms2 h a1 (fun r3 h4 => (∃ n5, wp_X1_remove_L5 G mc ms Q n5 h4 (0 + mc2) (0 + ms2) x1 r3)))))
set_option maxHeartbeats 4000000 in
theorem snd_X1_remove (l : Launch) (G : GG) (sz : Nat) (mc : Nat) (ms : Nat) (h : HH) (x0 : Option Nat) (x1 : Option Nat) (Q : HH → Prop) (hw : wp_X1_remove G mc ms h x0 x1 Q) : Met l yX1_remove (ws_ yX1_remove cX1_remove 3 (none : Option FieldType)) (rm_X1_remove mc ms) (hv_Pc G h sz [va_rf x0, va_rf x1]) (hv_Qv G h sz Q) mc ms (hv_A h sz) := by
  refine Met.ofW (cc := cX1_remove) (maxL := 3) (ret := (none : Option FieldType)) (by decide) rfl ?_
  intro p e s m args below meth c s₁ B hml hv
  obtain ⟨rfl, rfl, hE, hI⟩ := hv_open B hml hv
  have hE : hv_E p s m ([va_rf x0, va_rf x1] : List Value).toArray meth c cX1_remove 3 (none : Option FieldType) RX1 G h := hE
  obtain ⟨⟨hx, hb, hml, hown, hts⟩, hr, hlocks, hXX⟩ := id hE
  have hl := lv_entry ([va_rf x0, va_rf x1] : List Value) (n := 3) (by cases x0 <;> cases x1 <;> exact Nat.le_of_ble_eq_true rfl)
  rw [lg_entry_eq]
  generalize (lg_sl ([va_rf x0, va_rf x1] : List Value) ++ List.replicate (3 - (lg_sl ([va_rf x0, va_rf x1] : List Value)).length) Slot.unset).toArray = ls at hl ⊢
  have hl : lv_has ls 3 [(0, va_rf x0), (1, va_rf x1)] := (by cases x0 <;> cases x1 <;> exact hl)
  have hc : 0 ≤ mc := Nat.zero_le _
  have hs : 0 ≤ ms := Nat.zero_le _
  unfold wp_X1_remove at hw
  refine lv_aload_nq hx hb dX1_remove_0 rfl (lv_at hl 0 rfl) ?_
  obtain ⟨a1, hz, hwa1⟩ := hw; have hla1 := hl; subst hz; have hw := hwa1; have hl := hla1
  obtain ⟨mc2, ms2, hc, hs, hw⟩ := hw
  obtain ⟨⟨fs, hre⟩, hw⟩ := hw
  refine hv_rcq hI (va_runV (As := []) (b := a1) (rest := []) hE.1 (snd_J2_iterator l G _ mc2 ms2 h a1 _ hw) (cwV 0 hts (lw_V q635 q352 q353 q102 q354) rfl rfl rfl (by decide +kernel) ⟨Nat.le_of_ble_eq_true rfl, Nat.le_of_ble_eq_true rfl⟩) (hv_preV hE hI (ci := 4) rfl hre) rfl rfl hl.1 rfl (lv_room (Nat.le_of_ble_eq_true rfl)) dX1_remove_1 ⟨hc, hs⟩) (fun r3 h4 H locs hw hI => ?_)
  refine lv_astore_nq (lv' := [(2, va_rf r3), (0, .ref a1), (1, va_rf x1)]) hx hb dX1_remove_4 rfl hl (by decide) (by cases x1 <;> exact rfl) (fun ls hl => ?_)
  obtain ⟨n5, hw⟩ := hw
  exact snd_X1_remove_L5 G mc ms Q hE n5 h4 (0 + mc2) (0 + ms2) x1 r3 hw hc hs _ _ _ hI (lv_sub hl [2, 0] rfl)

/-- MatchmakerRules$Book.loseGround()I -/
abbrev rm_X2_loseGround (mc ms : Nat) : Room := { frames := 7, cells := mc, slots := ms, locals := 3100 }
def wp_X2_loseGround_L50 (G : GG) (mc : Nat) (ms : Nat) (a0 : Nat) (Q : Int32 → HH → Prop) (k12 : (HH) → (Nat) → (Nat) → (Nat) → (Int32) → (Int32) → Prop) : Nat → (HH) → (Nat) → (Nat) → (Nat) → (Int32) → (Int32) → (Int32) → (Option Nat) → Prop
  | 0, _, _, _, _, _, _, _, _ => False
  | n + 1, h, nc, nk, x1, x2, x3, x4, x5 => w_nn x5 (fun a20 => w_is h a20 13 (wp_J15_hasNext G h a20 (fun r21 h22 => ((r21 = 0 → k12 h22 nc nk x1 (x2 + (1 : Int32)) (x3 + (-1 : Int32))) ∧ (¬ r21 = 0 → w_is h22 a20 13 (wp_J15_next G h22 a20 (fun r23 h24 => w_nn r23 (fun a25 => w_cast h24 a25 14 (w_getq h24 a25 14 8 (fun r26 => (nc + 1 ≤ mc ∧ nk + 1 ≤ ms ∧ w_new h24 (.inl (G.2.1 13, 1, .inl (fun _ => x4))) (fun a27 h28 => (∃ mc29 ms29, (nc + 1) + mc29 ≤ mc ∧ (nk + 1) + ms29 ≤ ms ∧ wp_X1_remove G mc29 ms29 h28 r26 (some a27) (fun h30 => w_getq h30 a25 14 7 (fun r31 => (((nc + 1) + mc29) + 1 ≤ mc ∧ ((nk + 1) + ms29) + 1 ≤ ms ∧ w_new h30 (.inl (G.2.1 14, 1, .inl (fun _ => x4))) (fun a32 h33 => (∃ mc34 ms34, (((nc + 1) + mc29) + 1) + mc34 ≤ mc ∧ (((nk + 1) + ms29) + 1) + ms34 ≤ ms ∧ wp_X1_remove G mc34 ms34 h33 r31 (some a32) (fun h35 => wp_X2_loseGround_L50 G mc ms a0 Q k12 n h35 ((((nc + 1) + mc29) + 1) + mc34) ((((nk + 1) + ms29) + 1) + ms34) x1 x2 x3 x4 (some a20))))))))))))))))))))
set_option maxHeartbeats 4000000 in
theorem snd_X2_loseGround_L50 {p : Program} {l : Launch} {e : Env} {s : State} {m : MethodId} {args : Array Value} {below : List Frame} {meth : Method} {c : Code} {h0 : HH} (G : GG) (mc : Nat) (ms : Nat) (a0 : Nat) (Q : Int32 → HH → Prop) (hnm : s.methodNamed? yX2_loseGround = some m) (hE : hv_E p s m args meth c cX2_loseGround 7 (some FieldType.int) RX2 G h0) (k12 : (HH) → (Nat) → (Nat) → (Nat) → (Int32) → (Int32) → Prop) (hk12 : ∀ (h : HH) (nc : Nat) (nk : Nat) (x1 : Nat) (x2 : Int32) (x3 : Int32), k12 h nc nk x1 x2 x3 → nc ≤ mc → nk ≤ ms → ∀ (H : Heap) (locs : List Loc) (ls : Array Slot), hv_I G h0 s.heap h H locs → lv_has ls 7 [(0, .ref a0), (1, .ref x1), (2, .int x2), (3, .int x3)] → W p l e (headSpec (ws_ yX2_loseGround cX2_loseGround 7 (some FieldType.int)) (rm_X2_loseGround mc ms)).room s m args below meth c H locs nc nk (MQ below (hv_Qi G h0 s.heap.size Q) args s mc ms (hv_A h0 s.heap.size)) (F0 m 12 ls [])) : ∀ (n : Nat) (h : HH) (nc : Nat) (nk : Nat) (x1 : Nat) (x2 : Int32) (x3 : Int32) (x4 : Int32) (x5 : Option Nat), wp_X2_loseGround_L50 G mc ms a0 Q k12 n h nc nk x1 x2 x3 x4 x5 → nc ≤ mc → nk ≤ ms → ∀ (H : Heap) (locs : List Loc) (ls : Array Slot), hv_I G h0 s.heap h H locs → lv_has ls 7 [(0, .ref a0), (1, .ref x1), (2, .int x2), (3, .int x3), (4, .int x4), (5, va_rf x5)] → W p l e (headSpec (ws_ yX2_loseGround cX2_loseGround 7 (some FieldType.int)) (rm_X2_loseGround mc ms)).room s m args below meth c H locs nc nk (MQ below (hv_Qi G h0 s.heap.size Q) args s mc ms (hv_A h0 s.heap.size)) (F0 m 50 ls []) := by
  obtain ⟨⟨hx, hb, hml, hown, hts⟩, hr, hlocks, hXX⟩ := id hE
  intro n
  induction n with
  | zero => intro h nc nk x1 x2 x3 x4 x5 hw; exact hw.elim
  | succ n ih =>
    intro h nc nk x1 x2 x3 x4 x5 hw hc hs H locs ls hI hl
    unfold wp_X2_loseGround_L50 at hw
    refine lv_aloadq hx hb dX2_loseGround_50 (lv_at hl 5 rfl) ?_
    obtain ⟨a20, hz, hwa20⟩ := hw; have hla20 := hl; subst hz; have hw := hwa20; have hl := hla20
    obtain ⟨⟨fs, hre⟩, hw⟩ := hw
    refine hv_rFi hI (va_runF (As := []) (b := a20) (rest := []) (hXX.1.1 13 _ rfl).2 hE.1 (snd_J15_hasNext l G _ h a20 _ hw) (va_cwF 0 hts (lw_F q375 q379 q381 q121 q383) rfl rfl rfl (hv_fw0 hE.2.2.2.2.1) (by decide +kernel) ⟨Nat.le_of_ble_eq_true rfl, Nat.le_of_ble_eq_true rfl⟩) (hv_preV hE hI (ci := 13) rfl hre) rfl rfl hl.1 rfl (lv_room (Nat.le_of_ble_eq_true rfl)) dX2_loseGround_52 ⟨hc, hs⟩) (fun r21 h22 H locs hw hI => ?_)
    refine lv_if_eq (tgt := 105) hx hb dX2_loseGround_57 (by decide) (fun c_57 => ?_) (fun c_57 => ?_)
    · have hw := hw.1 c_57
      refine lv_iinc (v := (x2 + (1 : Int32))) (lv' := [(2, .int (x2 + (1 : Int32))), (0, .ref a0), (1, .ref x1), (3, .int x3), (4, .int x4), (5, .ref a20)]) hx hb dX2_loseGround_105 hl (k := 2) rfl rfl (by decide) rfl (fun ls hl => ?_)
      refine lv_iinc (v := (x3 + (-1 : Int32))) (lv' := [(3, .int (x3 + (-1 : Int32))), (2, .int (x2 + (1 : Int32))), (0, .ref a0), (1, .ref x1), (4, .int x4), (5, .ref a20)]) hx hb dX2_loseGround_108 hl (k := 3) rfl rfl (by decide) rfl (fun ls hl => ?_)
      refine lv_goto (tgt := 12) hx hb dX2_loseGround_111 (by decide) ?_
      exact hk12 h22 nc nk x1 (x2 + (1 : Int32)) (x3 + (-1 : Int32)) hw hc hs _ _ _ hI (lv_sub hl [2, 3, 1, 0] rfl)
    · have hw := hw.2 c_57
      refine lv_aload hx hb dX2_loseGround_60 (lv_at hl 5 rfl) ?_
      obtain ⟨⟨fs, hre⟩, hw⟩ := hw
      refine hv_rFq hI (va_runF (As := []) (b := a20) (rest := []) (hXX.1.1 13 _ rfl).2 hE.1 (snd_J15_next l G _ h22 a20 _ hw) (va_cwF 0 hts (lw_F q385 q388 q390 q121 q392) rfl rfl rfl (hv_fw1 hE.2.2.2.2.1) (by decide +kernel) ⟨Nat.le_of_ble_eq_true rfl, Nat.le_of_ble_eq_true rfl⟩) (hv_preV hE hI (ci := 13) rfl hre) rfl rfl hl.1 rfl (lv_room (Nat.le_of_ble_eq_true rfl)) dX2_loseGround_62 ⟨hc, hs⟩) (fun r23 h24 H locs hw hI => ?_)
      obtain ⟨a25, hz, hwa25⟩ := hw; have hla25 := hl; subst hz; have hw := hwa25; have hl := hla25
      refine hv_wcast (ci := 14) hE hI (hts _ q469) rfl hw dX2_loseGround_67 (fun hw => ?_)
      refine lv_astore (lv' := [(6, .ref a25), (0, .ref a0), (1, .ref x1), (2, .int x2), (3, .int x3), (4, .int x4), (5, .ref a20)]) hx hb dX2_loseGround_70 hl (by decide) rfl (fun ls hl => ?_)
      refine lv_aload hx hb dX2_loseGround_72 (lv_at hl 0 rfl) ?_
      refine hv_wgetqN hE hI in_X10 (ci := 14) rfl 8 (by decide) (hE.2.2.2.2.1.F 31 rfl) (fun _ hx => hx) hw dX2_loseGround_74 (fun r26 hw => ?_)
      refine lv_iload hx hb dX2_loseGround_77 (lv_at hl 5 rfl) ?_
      obtain ⟨hc, hs, hw⟩ := hw
      refine hv_mk3 (v := x4) (rest := [va_rf r26]) hE hnm hI hw hl.1 (by cases r26 <;> exact Nat.le_of_ble_eq_true rfl) hc hs dX2_loseGround_79 (fun a27 h28 H hw hI => ?_)
      obtain ⟨mc29, ms29, hc, hs, hw⟩ := hw
      refine hv_rcv hI (va_runSN (As := [va_rf r26, .ref a27]) (rest := []) hE.1 (snd_X1_remove l G _ mc29 ms29 h28 r26 (some a27) _ hw) ⟨va_cnB 2 hts (lw_meth q1095) rfl rfl rfl (hE.2.2.2.2.1.M 4 rfl) (hts _ q97) (by decide +kernel) ⟨Nat.le_of_ble_eq_true rfl, Nat.le_of_ble_eq_true rfl⟩, hts _ q1094, trivial⟩ (hv_preS hE hI) rfl rfl hl.1 rfl (lv_room (Nat.le_of_ble_eq_true rfl)) dX2_loseGround_84 ⟨hc, hs⟩) (fun h30 H locs hw hI => ?_)
      refine lv_aload hx hb dX2_loseGround_87 (lv_at hl 0 rfl) ?_
      refine hv_wgetqN hE hI in_X10 (ci := 14) rfl 7 (by decide) (hE.2.2.2.2.1.F 30 rfl) (fun _ hx => hx) hw dX2_loseGround_89 (fun r31 hw => ?_)
      refine lv_iload hx hb dX2_loseGround_92 (lv_at hl 5 rfl) ?_
      obtain ⟨hc, hs, hw⟩ := hw
      refine hv_mk4 (v := x4) (rest := [va_rf r31]) hE hnm hI hw hl.1 (by cases r31 <;> exact Nat.le_of_ble_eq_true rfl) hc hs dX2_loseGround_94 (fun a32 h33 H hw hI => ?_)
      obtain ⟨mc34, ms34, hc, hs, hw⟩ := hw
      refine hv_rcv hI (va_runSN (As := [va_rf r31, .ref a32]) (rest := []) hE.1 (snd_X1_remove l G _ mc34 ms34 h33 r31 (some a32) _ hw) ⟨va_cnB 2 hts (lw_meth q1095) rfl rfl rfl (hE.2.2.2.2.1.M 4 rfl) (hts _ q97) (by decide +kernel) ⟨Nat.le_of_ble_eq_true rfl, Nat.le_of_ble_eq_true rfl⟩, hts _ q1094, trivial⟩ (hv_preS hE hI) rfl rfl hl.1 rfl (lv_room (Nat.le_of_ble_eq_true rfl)) dX2_loseGround_99 ⟨hc, hs⟩) (fun h35 H locs hw hI => ?_)
      refine lv_goto (tgt := 50) hx hb dX2_loseGround_102 (by decide) ?_
      exact ih h35 ((((nc + 1) + mc29) + 1) + mc34) ((((nk + 1) + ms29) + 1) + ms34) x1 x2 x3 x4 (some a20) hw hc hs _ _ _ hI (lv_sub hl [1, 2, 3, 4, 5, 6] rfl)
def wp_X2_loseGround_L12 (G : GG) (mc : Nat) (ms : Nat) (a0 : Nat) (Q : Int32 → HH → Prop) : Nat → (HH) → (Nat) → (Nat) → (Nat) → (Int32) → (Int32) → Prop
  | 0, _, _, _, _, _, _ => False
  | n + 1, h, nc, nk, x1, x2, x3 => ((x3 < 0 → w_geti h a0 2 4 (fun r6 => w_put h a0 2 4 (.int (r6 + x2)) (fun h7 => Q x2 h7))) ∧ (¬ x3 < 0 → w_ild G h x1 x3 (fun r8 => ((r8 < (1000 : Int32) → wp_X2_loseGround_L12 G mc ms a0 Q n h nc nk x1 x2 (x3 + (-1 : Int32))) ∧ (¬ r8 < (1000 : Int32) → w_getq h a0 2 2 (fun r9 => w_nn r9 (fun a10 => w_is h a10 4 (wp_J2_remove G h a10 x3 (fun r11 h12 => w_nn r11 (fun a13 => w_cast h12 a13 14 (w_geti h12 a13 14 0 (fun r14 => w_getq h12 a0 2 2 (fun r15 => w_nn r15 (fun a16 => (∃ mc17 ms17, nc + mc17 ≤ mc ∧ nk + ms17 ≤ ms ∧ w_is h12 a16 4 (wp_J2_iterator G mc17 ms17 h12 a16 (fun r18 h19 => (∃ n50, wp_X2_loseGround_L50 G mc ms a0 Q (fun h nc nk x1 x2 x3 => wp_X2_loseGround_L12 G mc ms a0 Q n h nc nk x1 x2 x3) n50 h19 (nc + mc17) (nk + ms17) x1 x2 x3 r14 r18))))))))))))))))))
set_option maxHeartbeats 4000000 in
theorem snd_X2_loseGround_L12 {p : Program} {l : Launch} {e : Env} {s : State} {m : MethodId} {args : Array Value} {below : List Frame} {meth : Method} {c : Code} {h0 : HH} (G : GG) (mc : Nat) (ms : Nat) (a0 : Nat) (Q : Int32 → HH → Prop) (hnm : s.methodNamed? yX2_loseGround = some m) (hE : hv_E p s m args meth c cX2_loseGround 7 (some FieldType.int) RX2 G h0) : ∀ (n : Nat) (h : HH) (nc : Nat) (nk : Nat) (x1 : Nat) (x2 : Int32) (x3 : Int32), wp_X2_loseGround_L12 G mc ms a0 Q n h nc nk x1 x2 x3 → nc ≤ mc → nk ≤ ms → ∀ (H : Heap) (locs : List Loc) (ls : Array Slot), hv_I G h0 s.heap h H locs → lv_has ls 7 [(0, .ref a0), (1, .ref x1), (2, .int x2), (3, .int x3)] → W p l e (headSpec (ws_ yX2_loseGround cX2_loseGround 7 (some FieldType.int)) (rm_X2_loseGround mc ms)).room s m args below meth c H locs nc nk (MQ below (hv_Qi G h0 s.heap.size Q) args s mc ms (hv_A h0 s.heap.size)) (F0 m 12 ls []) := by
  obtain ⟨⟨hx, hb, hml, hown, hts⟩, hr, hlocks, hXX⟩ := id hE
  intro n
  induction n with
  | zero => intro h nc nk x1 x2 x3 hw; exact hw.elim
  | succ n ih =>
    intro h nc nk x1 x2 x3 hw hc hs H locs ls hI hl
    unfold wp_X2_loseGround_L12 at hw
    refine lv_iload_n hx hb dX2_loseGround_12 rfl (lv_at hl 3 rfl) ?_
    refine lv_if_lt (tgt := 114) hx hb dX2_loseGround_13 (by decide) (fun c_13 => ?_) (fun c_13 => ?_)
    · have hw := hw.1 c_13
      refine lv_aload_n hx hb dX2_loseGround_114 rfl (lv_at hl 0 rfl) ?_
      refine lv_dup hx hb dX2_loseGround_115 rfl ?_
      refine hv_wgeti hE hI in_X2 (ci := 2) rfl 4 (by decide) (hts _ q227) (fun _ hx => hx) hw dX2_loseGround_116 (fun r6 hw => ?_)
      refine lv_iload_n hx hb dX2_loseGround_119 rfl (lv_at hl 2 rfl) ?_
      refine lv_iadd hx hb dX2_loseGround_120 ?_
      refine hv_wput (v := .int (r6 + x2)) tyX2 hE hI in_X2 tyX2_ok nmX2 (ci := 2) rfl 4 (by decide) (hts _ q227) (fun _ hx => hx) rfl (ty := .int) rfl rfl rfl hw dX2_loseGround_121 (fun h7 H locs hw hI => ?_)
      refine lv_iload_n hx hb dX2_loseGround_124 rfl (lv_at hl 2 rfl) ?_
      exact hv_iret hE hI hc hs hw dX2_loseGround_125
    · have hw := hw.2 c_13
      refine lv_aload_n hx hb dX2_loseGround_16 rfl (lv_at hl 1 rfl) ?_
      refine lv_iload_n hx hb dX2_loseGround_17 rfl (lv_at hl 3 rfl) ?_
      refine hv_wild hE hI hw dX2_loseGround_18 (fun r8 hw => ?_)
      refine lv_sipush (v := 1000) hx hb dX2_loseGround_19 (by decide) ?_
      refine lv_icmp_lt (tgt := 108) hx hb dX2_loseGround_22 (by decide) (fun c_22 => ?_) (fun c_22 => ?_)
      · have hw := hw.1 c_22
        refine lv_iinc (v := (x3 + (-1 : Int32))) (lv' := [(3, .int (x3 + (-1 : Int32))), (0, .ref a0), (1, .ref x1), (2, .int x2)]) hx hb dX2_loseGround_108 hl (k := 3) rfl rfl (by decide) rfl (fun ls hl => ?_)
        refine lv_goto (tgt := 12) hx hb dX2_loseGround_111 (by decide) ?_
        exact ih h nc nk x1 x2 (x3 + (-1 : Int32)) hw hc hs _ _ _ hI (lv_sub hl [1, 2, 3, 0] rfl)
      · have hw := hw.2 c_22
        refine lv_aload_n hx hb dX2_loseGround_25 rfl (lv_at hl 0 rfl) ?_
        refine hv_wgetq hE hI in_X2 (ci := 2) rfl 2 (by decide) (hts _ q222) (fun _ hx => hx) hw dX2_loseGround_26 (fun r9 hw => ?_)
        refine lv_iload_n hx hb dX2_loseGround_29 rfl (lv_at hl 3 rfl) ?_
        obtain ⟨a10, hz, hwa10⟩ := hw; have hla10 := hl; subst hz; have hw := hwa10; have hl := hla10
        obtain ⟨⟨fs, hre⟩, hw⟩ := hw
        refine hv_rcq hI (va_runV (As := [.int x3]) (b := a10) (rest := []) hE.1 (snd_J2_remove l G _ h a10 x3 _ hw) (cwV 1 hts (lw_V q1082 q1083 q1084 q102 q1085) rfl rfl rfl (by decide +kernel) ⟨Nat.le_of_ble_eq_true rfl, Nat.le_of_ble_eq_true rfl⟩) (hv_preV hE hI (ci := 4) rfl hre) rfl rfl hl.1 rfl (lv_room (Nat.le_of_ble_eq_true rfl)) dX2_loseGround_30 ⟨hc, hs⟩) (fun r11 h12 H locs hw hI => ?_)
        obtain ⟨a13, hz, hwa13⟩ := hw; have hla13 := hl; subst hz; have hw := hwa13; have hl := hla13
        refine hv_wcast (ci := 14) hE hI (hts _ q469) rfl hw dX2_loseGround_33 (fun hw => ?_)
        refine hv_wgetiN hE hI in_X10 (ci := 14) rfl 0 (by decide) (hE.2.2.2.2.1.F 24 rfl) (fun _ hx => hx) hw dX2_loseGround_36 (fun r14 hw => ?_)
        refine lv_istore (lv' := [(4, .int r14), (0, .ref a0), (1, .ref x1), (2, .int x2), (3, .int x3)]) hx hb dX2_loseGround_39 hl (by decide) rfl (fun ls hl => ?_)
        refine lv_aload_n hx hb dX2_loseGround_41 rfl (lv_at hl 1 rfl) ?_
        refine hv_wgetq hE hI in_X2 (ci := 2) rfl 2 (by decide) (hts _ q222) (fun _ hx => hx) hw dX2_loseGround_42 (fun r15 hw => ?_)
        obtain ⟨a16, hz, hwa16⟩ := hw; have hla16 := hl; subst hz; have hw := hwa16; have hl := hla16
        obtain ⟨mc17, ms17, hc, hs, hw⟩ := hw
        obtain ⟨⟨fs, hre⟩, hw⟩ := hw
        refine hv_rcq hI (va_runV (As := []) (b := a16) (rest := []) hE.1 (snd_J2_iterator l G _ mc17 ms17 h12 a16 _ hw) (cwV 0 hts (lw_V q351 q352 q353 q102 q354) rfl rfl rfl (by decide +kernel) ⟨Nat.le_of_ble_eq_true rfl, Nat.le_of_ble_eq_true rfl⟩) (hv_preV hE hI (ci := 4) rfl hre) rfl rfl hl.1 rfl (lv_room (Nat.le_of_ble_eq_true rfl)) dX2_loseGround_45 ⟨hc, hs⟩) (fun r18 h19 H locs hw hI => ?_)
        refine lv_astoreq (lv' := [(5, va_rf r18), (4, .int r14), (0, .ref a0), (1, .ref x1), (2, .int x2), (3, .int x3)]) hx hb dX2_loseGround_48 hl (by decide) rfl (fun ls hl => ?_)
        obtain ⟨n50, hw⟩ := hw
        exact snd_X2_loseGround_L50 G mc ms a0 Q hnm hE (fun h nc nk x1 x2 x3 => wp_X2_loseGround_L12 G mc ms a0 Q n h nc nk x1 x2 x3) (fun h nc nk x1 x2 x3 => ih h nc nk x1 x2 x3) n50 h19 (nc + mc17) (nk + ms17) x1 x2 x3 r14 r18 hw hc hs _ _ _ hI (lv_sub hl [2, 3, 4, 5, 1, 0] rfl)
def wp_X2_loseGround (G : GG) (mc : Nat) (ms : Nat) (h : HH) (a0 : Nat) (Q : Int32 → HH → Prop) : Prop := (∃ mc1 ms1, 0 + mc1 ≤ mc ∧ 0 + ms1 ≤ ms ∧ w_is h a0 2 (wp_X2_depths G mc1 ms1 h a0 (fun r2 h3 => w_nn r2 (fun a4 => w_len G h3 a4 (fun r5 => (∃ n12, wp_X2_loseGround_L12 G mc ms a0 Q n12 h3 (0 + mc1) (0 + ms1) a4 (0 : Int32) (r5 - (1 : Int32))))))))
set_option maxHeartbeats 4000000 in
theorem snd_X2_loseGround (l : Launch) (G : GG) (sz : Nat) (mc : Nat) (ms : Nat) (h : HH) (a0 : Nat) (Q : Int32 → HH → Prop) (hw : wp_X2_loseGround G mc ms h a0 Q) : Met l yX2_loseGround (ws_ yX2_loseGround cX2_loseGround 7 (some FieldType.int)) (rm_X2_loseGround mc ms) (hv_Pc G h sz [.ref a0]) (hv_Qi G h sz Q) mc ms (hv_A h sz) := by
  refine Met.ofW (cc := cX2_loseGround) (maxL := 7) (ret := (some FieldType.int)) (by decide) rfl ?_
  intro p e s m args below meth c s₁ B hml hv
  have hnm : s.methodNamed? yX2_loseGround = some m := B.named
  obtain ⟨rfl, rfl, hE, hI⟩ := hv_open B hml hv
  have hE : hv_E p s m ([.ref a0] : List Value).toArray meth c cX2_loseGround 7 (some FieldType.int) RX2 G h := hE
  obtain ⟨⟨hx, hb, hml, hown, hts⟩, hr, hlocks, hXX⟩ := id hE
  have hl := lv_entry ([.ref a0] : List Value) (n := 7) (Nat.le_of_ble_eq_true rfl)
  rw [lg_entry_eq]
  generalize (lg_sl ([.ref a0] : List Value) ++ List.replicate (7 - (lg_sl ([.ref a0] : List Value)).length) Slot.unset).toArray = ls at hl ⊢
  have hl : lv_has ls 7 [(0, .ref a0)] := hl
  have hc : 0 ≤ mc := Nat.zero_le _
  have hs : 0 ≤ ms := Nat.zero_le _
  unfold wp_X2_loseGround at hw
  refine lv_aload_n hx hb dX2_loseGround_0 rfl (lv_at hl 0 rfl) ?_
  obtain ⟨mc1, ms1, hc, hs, hw⟩ := hw
  obtain ⟨⟨fs, hre⟩, hw⟩ := hw
  refine hv_rcq hI (va_runV (As := []) (b := a0) (rest := []) hE.1 (snd_X2_depths l G _ mc1 ms1 h a0 _ hw) (cwV 0 hts (lw_V q556 q557 q558 q98 q559) rfl rfl rfl (by decide +kernel) ⟨Nat.le_of_ble_eq_true rfl, Nat.le_of_ble_eq_true rfl⟩) (hv_preV hE hI (ci := 2) rfl hre) rfl rfl hl.1 rfl (lv_room (Nat.le_of_ble_eq_true rfl)) dX2_loseGround_1 ⟨hc, hs⟩) (fun r2 h3 H locs hw hI => ?_)
  refine lv_astore_nq (lv' := [(1, va_rf r2), (0, .ref a0)]) hx hb dX2_loseGround_4 rfl hl (by decide) rfl (fun ls hl => ?_)
  refine lv_iconst (v := 0) hx hb dX2_loseGround_5 (by decide) ?_
  refine lv_istore_n (lv' := [(2, .int (0 : Int32)), (1, va_rf r2), (0, .ref a0)]) hx hb dX2_loseGround_6 rfl hl (by decide) (by cases r2 <;> exact rfl) (fun ls hl => ?_)
  refine lv_aload_nq hx hb dX2_loseGround_7 rfl (lv_at hl 1 rfl) ?_
  obtain ⟨a4, hz, hwa4⟩ := hw; have hla4 := hl; subst hz; have hw := hwa4; have hl := hla4
  refine hv_len hE hI hw dX2_loseGround_8 (fun r5 hw => ?_)
  refine lv_iconst (v := 1) hx hb dX2_loseGround_9 (by decide) ?_
  refine lv_isub hx hb dX2_loseGround_10 ?_
  refine lv_istore_n (lv' := [(3, .int (r5 - (1 : Int32))), (2, .int (0 : Int32)), (1, .ref a4), (0, .ref a0)]) hx hb dX2_loseGround_11 rfl hl (by decide) rfl (fun ls hl => ?_)
  obtain ⟨n12, hw⟩ := hw
  exact snd_X2_loseGround_L12 G mc ms a0 Q hnm hE n12 h3 (0 + mc1) (0 + ms1) a4 (0 : Int32) (r5 - (1 : Int32)) hw hc hs _ _ _ hI (lv_sub hl [3, 2, 1, 0] rfl)
