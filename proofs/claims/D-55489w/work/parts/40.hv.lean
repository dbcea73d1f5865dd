/-! walks over a world (by gen/hvrun.py) -/
set_option maxRecDepth 100000
/-- MatchmakerRules$Book$Walk.<init>(LMatchmakerRules$Book;)V -/
abbrev rm_X3_init (mc ms : Nat) : Room := { frames := 1, cells := mc, slots := ms, locals := 32 }
def wp_X3_init (G : GG) (mc : Nat) (ms : Nat) (h : HH) (a0 : Nat) (x1 : Option Nat) (Q : HH → Prop) : Prop := w_put h a0 3 7 (va_rf x1) (fun h1 => (0 + 1 ≤ mc ∧ 0 + 3 ≤ ms ∧ w_new h1 (.inl (G.2.1 0, 3, .inl (fun _ => 0))) (fun a2 h3 => w_put h3 a0 3 1 (.ref a2) (fun h4 => ((0 + 1) + 1 ≤ mc ∧ (0 + 3) + 3 ≤ ms ∧ w_new h4 (.inl (G.2.1 0, 3, .inl (fun _ => 0))) (fun a5 h6 => w_put h6 a0 3 2 (.ref a5) (fun h7 => w_put h7 a0 3 4 (.int (-1 : Int32)) (fun h8 => w_put h8 a0 3 6 (.int (-1 : Int32)) (fun h9 => Q h9)))))))))
set_option maxHeartbeats 4000000 in
theorem snd_X3_init (l : Launch) (G : GG) (sz : Nat) (mc : Nat) (ms : Nat) (h : HH) (a0 : Nat) (x1 : Option Nat) (Q : HH → Prop) (hw : wp_X3_init G mc ms h a0 x1 Q) : Met l yX3_init (ws_ yX3_init cX3_init 2 (none : Option FieldType)) (rm_X3_init mc ms) (hv_Pc G h sz [.ref a0, va_rf x1]) (hv_Qv G h sz Q) mc ms (hv_A h sz) := by
  refine Met.ofW (cc := cX3_init) (maxL := 2) (ret := (none : Option FieldType)) (by decide) rfl ?_
  intro p e s m args below meth c s₁ B hml hv
  have hin2 : meth.name = "<init>" := (name_of_methodNamed B.named B.method).1
  obtain ⟨rfl, rfl, hE, hI⟩ := hv_open B hml hv
  have hE : hv_E p s m ([.ref a0, va_rf x1] : List Value).toArray meth c cX3_init 2 (none : Option FieldType) RX3 G h := hE
  obtain ⟨⟨hx, hb, hml, hown, hts⟩, hr, hlocks, hXX⟩ := id hE
  have hl := lv_entry ([.ref a0, va_rf x1] : List Value) (n := 2) (by cases x1 <;> exact Nat.le_of_ble_eq_true rfl)
  rw [lg_entry_eq]
  generalize (lg_sl ([.ref a0, va_rf x1] : List Value) ++ List.replicate (2 - (lg_sl ([.ref a0, va_rf x1] : List Value)).length) Slot.unset).toArray = ls at hl ⊢
  have hl : lv_has ls 2 [(0, .ref a0), (1, va_rf x1)] := (by cases x1 <;> exact hl)
  have hc : 0 ≤ mc := Nat.zero_le _
  have hs : 0 ≤ ms := Nat.zero_le _
  unfold wp_X3_init at hw
  refine lv_aload_n hx hb dX3_init_0 rfl (lv_at hl 0 rfl) ?_
  refine lv_aload_nq hx hb dX3_init_1 rfl (lv_at hl 1 rfl) ?_
  refine hv_wputF (v := va_rf x1) tyX3 hE hI in_X3 tyX3_ok nmX3 (ci := 3) rfl 7 (by decide) (hts _ q170) (fun _ hx => hx) rfl hin2 rfl (ty := (.object "MatchmakerRules$Book")) rfl (va_rf_nar _ _) (va_rf_fit _ _) hw dX3_init_2 (fun h1 H locs hw hI => ?_)
  refine lv_aload_n hx hb dX3_init_5 rfl (lv_at hl 0 rfl) ?_
  refine hv_objI (rest := []) hE (hts _ q159) (hts _ q146) (hts _ q147) hl.1 dX3_init_6 (Nat.le_of_ble_eq_true rfl) (Nat.le_of_ble_eq_true rfl) ?_
  refine lv_aload_n hx hb dX3_init_9 rfl (lv_at hl 0 rfl) ?_
  refine lv_iconst (v := 3) hx hb dX3_init_10 (by decide) ?_
  obtain ⟨hc, hs, hw⟩ := hw
  refine hv_wnewa_int (N' := 3) hE hI (hts _ q188) (by decide +kernel) (by decide +kernel) (by decide) hw hc hs dX3_init_11 (fun a2 h3 H hw hI => ?_)
  refine hv_wputF (v := .ref a2) tyX3 hE hI in_X3 tyX3_ok nmX3 (ci := 3) rfl 1 (by decide) (hts _ q162) (fun _ hx => hx) rfl hin2 rfl (ty := (.array .int)) rfl rfl rfl hw dX3_init_13 (fun h4 H locs hw hI => ?_)
  refine lv_aload_n hx hb dX3_init_16 rfl (lv_at hl 0 rfl) ?_
  refine lv_iconst (v := 3) hx hb dX3_init_17 (by decide) ?_
  obtain ⟨hc, hs, hw⟩ := hw
  refine hv_wnewa_int (N' := 3) hE hI (hts _ q188) (by decide +kernel) (by decide +kernel) (by decide) hw hc hs dX3_init_18 (fun a5 h6 H hw hI => ?_)
  refine hv_wputF (v := .ref a5) tyX3 hE hI in_X3 tyX3_ok nmX3 (ci := 3) rfl 2 (by decide) (hts _ q163) (fun _ hx => hx) rfl hin2 rfl (ty := (.array .int)) rfl rfl rfl hw dX3_init_20 (fun h7 H locs hw hI => ?_)
  refine lv_aload_n hx hb dX3_init_23 rfl (lv_at hl 0 rfl) ?_
  refine lv_iconst (v := -1) hx hb dX3_init_24 (by decide) ?_
  refine hv_wput (v := .int (-1 : Int32)) tyX3 hE hI in_X3 tyX3_ok nmX3 (ci := 3) rfl 4 (by decide) (hts _ q165) (fun _ hx => hx) rfl (ty := .int) rfl rfl rfl hw dX3_init_25 (fun h8 H locs hw hI => ?_)
  refine lv_aload_n hx hb dX3_init_28 rfl (lv_at hl 0 rfl) ?_
  refine lv_iconst (v := -1) hx hb dX3_init_29 (by decide) ?_
  refine hv_wput (v := .int (-1 : Int32)) tyX3 hE hI in_X3 tyX3_ok nmX3 (ci := 3) rfl 6 (by decide) (hts _ q168) (fun _ hx => hx) rfl (ty := .int) rfl rfl rfl hw dX3_init_30 (fun h9 H locs hw hI => ?_)
  exact hv_vret hE hI hc hs hw dX3_init_33

/-- java/util/AbstractCollection.<init>()V -/
abbrev rm_J0_init : Room := { frames := 1, cells := 0, slots := 0, locals := 32 }
def wp_J0_init (G : GG) (h : HH) (a0 : Nat) (Q : HH → Prop) : Prop := Q h
set_option maxHeartbeats 4000000 in
theorem snd_J0_init (l : Launch) (G : GG) (sz : Nat) (h : HH) (a0 : Nat) (Q : HH → Prop) (hw : wp_J0_init G h a0 Q) : Met l yJ0_init (ws_ yJ0_init cJ0_init 1 (none : Option FieldType)) rm_J0_init (hv_Pc G h sz [.ref a0]) (hv_Qv G h sz Q) 0 0 (hv_A h sz) := by
  refine Met.ofW (cc := cJ0_init) (maxL := 1) (ret := (none : Option FieldType)) (by decide) rfl ?_
  intro p e s m args below meth c s₁ B hml hv
  have hin2 : meth.name = "<init>" := (name_of_methodNamed B.named B.method).1
  obtain ⟨rfl, rfl, hE, hI⟩ := hv_open B hml hv
  have hE : hv_E p s m ([.ref a0] : List Value).toArray meth c cJ0_init 1 (none : Option FieldType) RJ0 G h := hE
  obtain ⟨⟨hx, hb, hml, hown, hts⟩, hr, hlocks, hXX⟩ := id hE
  have hl := lv_entry ([.ref a0] : List Value) (n := 1) (Nat.le_of_ble_eq_true rfl)
  rw [lg_entry_eq]
  generalize (lg_sl ([.ref a0] : List Value) ++ List.replicate (1 - (lg_sl ([.ref a0] : List Value)).length) Slot.unset).toArray = ls at hl ⊢
  have hl : lv_has ls 1 [(0, .ref a0)] := hl
  unfold wp_J0_init at hw
  refine lv_aload_n hx hb dJ0_init_0 rfl (lv_at hl 0 rfl) ?_
  refine hv_objI (rest := []) hE (hts _ q200) (hts _ q146) (hts _ q147) hl.1 dJ0_init_1 (Nat.le_of_ble_eq_true rfl) (Nat.le_of_ble_eq_true rfl) ?_
  exact hv_vret hE hI (Nat.le_refl _) (Nat.le_refl _) hw dJ0_init_4

/-- java/util/AbstractList.<init>()V -/
abbrev rm_J1_init : Room := { frames := 2, cells := 0, slots := 0, locals := 52 }
def wp_J1_init (G : GG) (h : HH) (a0 : Nat) (Q : HH → Prop) : Prop := wp_J0_init G h a0 (fun h1 => w_put h1 a0 4 0 (.int (0 : Int32)) (fun h2 => Q h2))
set_option maxHeartbeats 4000000 in
theorem snd_J1_init (l : Launch) (G : GG) (sz : Nat) (h : HH) (a0 : Nat) (Q : HH → Prop) (hw : wp_J1_init G h a0 Q) : Met l yJ1_init (ws_ yJ1_init cJ1_init 1 (none : Option FieldType)) rm_J1_init (hv_Pc G h sz [.ref a0]) (hv_Qv G h sz Q) 0 0 (hv_A h sz) := by
  refine Met.ofW (cc := cJ1_init) (maxL := 1) (ret := (none : Option FieldType)) (by decide) rfl ?_
  intro p e s m args below meth c s₁ B hml hv
  have hin2 : meth.name = "<init>" := (name_of_methodNamed B.named B.method).1
  obtain ⟨rfl, rfl, hE, hI⟩ := hv_open B hml hv
  have hE : hv_E p s m ([.ref a0] : List Value).toArray meth c cJ1_init 1 (none : Option FieldType) RJ1 G h := hE
  obtain ⟨⟨hx, hb, hml, hown, hts⟩, hr, hlocks, hXX⟩ := id hE
  have hl := lv_entry ([.ref a0] : List Value) (n := 1) (Nat.le_of_ble_eq_true rfl)
  rw [lg_entry_eq]
  generalize (lg_sl ([.ref a0] : List Value) ++ List.replicate (1 - (lg_sl ([.ref a0] : List Value)).length) Slot.unset).toArray = ls at hl ⊢
  have hl : lv_has ls 1 [(0, .ref a0)] := hl
  unfold wp_J1_init at hw
  refine lv_aload_n hx hb dJ1_init_0 rfl (lv_at hl 0 rfl) ?_
  refine hv_rcv hI (va_runI (As := []) (b := a0) (rest := []) hE.1 (snd_J0_init l G _ h a0 _ hw) (cwI 0 hts (lw_meth q199) rfl rfl rfl (hts _ q100) (hts _ q197) (hts _ q198) rfl (by decide +kernel) ⟨Nat.le_of_ble_eq_true rfl, Nat.le_of_ble_eq_true rfl⟩) (hv_preS hE hI) rfl rfl hl.1 rfl (lv_room (Nat.le_of_ble_eq_true rfl)) dJ1_init_1 ⟨Nat.le_of_ble_eq_true rfl, Nat.le_of_ble_eq_true rfl⟩) (fun h1 H locs hw hI => ?_)
  refine lv_aload_n hx hb dJ1_init_4 rfl (lv_at hl 0 rfl) ?_
  refine lv_iconst (v := 0) hx hb dJ1_init_5 (by decide) ?_
  refine hv_wput (v := .int (0 : Int32)) tyJ2 hE hI in_J2 tyJ2_ok nmJ2 (ci := 4) rfl 0 (by decide) (hts _ q207) (fun _ hx => hx) rfl (ty := .int) rfl rfl rfl hw dJ1_init_6 (fun h2 H locs hw hI => ?_)
  exact hv_vret hE hI (Nat.le_refl _) (Nat.le_refl _) hw dJ1_init_9

/-- java/util/ArrayList.<init>()V -/
abbrev rm_J2_init : Room := { frames := 3, cells := 0, slots := 0, locals := 72 }
def wp_J2_init (G : GG) (h : HH) (a0 : Nat) (Q : HH → Prop) : Prop := wp_J1_init G h a0 (fun h1 => w_put h1 a0 4 1 (.ref (G.2.2 0)) (fun h2 => Q h2))
set_option maxHeartbeats 4000000 in
theorem snd_J2_init (l : Launch) (G : GG) (sz : Nat) (h : HH) (a0 : Nat) (Q : HH → Prop) (hw : wp_J2_init G h a0 Q) : Met l yJ2_init (ws_ yJ2_init cJ2_init 1 (none : Option FieldType)) rm_J2_init (hv_Pc G h sz [.ref a0]) (hv_Qv G h sz Q) 0 0 (hv_A h sz) := by
  refine Met.ofW (cc := cJ2_init) (maxL := 1) (ret := (none : Option FieldType)) (by decide) rfl ?_
  intro p e s m args below meth c s₁ B hml hv
  have hin2 : meth.name = "<init>" := (name_of_methodNamed B.named B.method).1
  obtain ⟨rfl, rfl, hE, hI⟩ := hv_open B hml hv
  have hE : hv_E p s m ([.ref a0] : List Value).toArray meth c cJ2_init 1 (none : Option FieldType) RJ2 G h := hE
  obtain ⟨⟨hx, hb, hml, hown, hts⟩, hr, hlocks, hXX⟩ := id hE
  have hl := lv_entry ([.ref a0] : List Value) (n := 1) (Nat.le_of_ble_eq_true rfl)
  rw [lg_entry_eq]
  generalize (lg_sl ([.ref a0] : List Value) ++ List.replicate (1 - (lg_sl ([.ref a0] : List Value)).length) Slot.unset).toArray = ls at hl ⊢
  have hl : lv_has ls 1 [(0, .ref a0)] := hl
  unfold wp_J2_init at hw
  refine lv_aload_n hx hb dJ2_init_0 rfl (lv_at hl 0 rfl) ?_
  refine hv_rcv hI (va_runI (As := []) (b := a0) (rest := []) hE.1 (snd_J1_init l G _ h a0 _ hw) (cwI 0 hts (lw_meth q196) rfl rfl rfl (hts _ q101) (hts _ q194) (hts _ q195) rfl (by decide +kernel) ⟨Nat.le_of_ble_eq_true rfl, Nat.le_of_ble_eq_true rfl⟩) (hv_preS hE hI) rfl rfl hl.1 rfl (lv_room (Nat.le_of_ble_eq_true rfl)) dJ2_init_1 ⟨Nat.le_of_ble_eq_true rfl, Nat.le_of_ble_eq_true rfl⟩) (fun h1 H locs hw hI => ?_)
  refine lv_aload_n hx hb dJ2_init_4 rfl (lv_at hl 0 rfl) ?_
  refine hv_gets hE hI (hv_zH hE).1 (hts _ q201) (fun _ hx => hx) dJ2_init_5 ?_
  refine hv_wput (v := .ref (G.2.2 0)) tyJ2 hE hI in_J2 tyJ2_ok nmJ2 (ci := 4) rfl 1 (by decide) (hts _ q203) (fun _ hx => hx) rfl (ty := (.array (.object "java/lang/Object"))) rfl rfl rfl hw dJ2_init_8 (fun h2 H locs hw hI => ?_)
  exact hv_vret hE hI (Nat.le_refl _) (Nat.le_refl _) hw dJ2_init_11

/-- MatchmakerRules$Book.<init>()V -/
abbrev rm_X2_init (mc ms : Nat) : Room := { frames := 4, cells := mc, slots := ms, locals := 92 }
def wp_X2_init (G : GG) (mc : Nat) (ms : Nat) (h : HH) (a0 : Nat) (Q : HH → Prop) : Prop := (0 + 1 ≤ mc ∧ 0 + 8 ≤ ms ∧ w_new h (.inr (3, df_X3)) (fun a1 h2 => (∃ mc3 ms3, (0 + 1) + mc3 ≤ mc ∧ (0 + 8) + ms3 ≤ ms ∧ wp_X3_init G mc3 ms3 h2 a1 (some a0) (fun h4 => w_put h4 a0 2 0 (.ref a1) (fun h5 => (((0 + 1) + mc3) + 1 ≤ mc ∧ ((0 + 8) + ms3) + 3 ≤ ms ∧ w_new h5 (.inr (4, df_J2)) (fun a6 h7 => wp_J2_init G h7 a6 (fun h8 => w_put h8 a0 2 1 (.ref a6) (fun h9 => ((((0 + 1) + mc3) + 1) + 1 ≤ mc ∧ (((0 + 8) + ms3) + 3) + 3 ≤ ms ∧ w_new h9 (.inr (4, df_J2)) (fun a10 h11 => wp_J2_init G h11 a10 (fun h12 => w_put h12 a0 2 2 (.ref a10) (fun h13 => Q h13)))))))))))))
set_option maxHeartbeats 4000000 in
theorem snd_X2_init (l : Launch) (G : GG) (sz : Nat) (mc : Nat) (ms : Nat) (h : HH) (a0 : Nat) (Q : HH → Prop) (hw : wp_X2_init G mc ms h a0 Q) : Met l yX2_init (ws_ yX2_init cX2_init 1 (none : Option FieldType)) (rm_X2_init mc ms) (hv_Pc G h sz [.ref a0]) (hv_Qv G h sz Q) mc ms (hv_A h sz) := by
  refine Met.ofW (cc := cX2_init) (maxL := 1) (ret := (none : Option FieldType)) (by decide) rfl ?_
  intro p e s m args below meth c s₁ B hml hv
  have hin2 : meth.name = "<init>" := (name_of_methodNamed B.named B.method).1
  obtain ⟨rfl, rfl, hE, hI⟩ := hv_open B hml hv
  have hE : hv_E p s m ([.ref a0] : List Value).toArray meth c cX2_init 1 (none : Option FieldType) RX2 G h := hE
  obtain ⟨⟨hx, hb, hml, hown, hts⟩, hr, hlocks, hXX⟩ := id hE
  have hl := lv_entry ([.ref a0] : List Value) (n := 1) (Nat.le_of_ble_eq_true rfl)
  rw [lg_entry_eq]
  generalize (lg_sl ([.ref a0] : List Value) ++ List.replicate (1 - (lg_sl ([.ref a0] : List Value)).length) Slot.unset).toArray = ls at hl ⊢
  have hl : lv_has ls 1 [(0, .ref a0)] := hl
  have hc : 0 ≤ mc := Nat.zero_le _
  have hs : 0 ≤ ms := Nat.zero_le _
  unfold wp_X2_init at hw
  refine lv_aload_n hx hb dX2_init_0 rfl (lv_at hl 0 rfl) ?_
  refine hv_objI (rest := []) hE (hts _ q153) (hts _ q146) (hts _ q147) hl.1 dX2_init_1 (Nat.le_of_ble_eq_true rfl) (Nat.le_of_ble_eq_true rfl) ?_
  refine lv_aload_n hx hb dX2_init_4 rfl (lv_at hl 0 rfl) ?_
  obtain ⟨hc, hs, hw⟩ := hw
  refine hv_wnew tyX3 hE hI in_X3 tyX3_ok (hts _ q154) (hts _ q155) (hts _ q99) (ci := 3) rfl df_X3_ok hw hc hs dX2_init_5 (fun a1 h2 H hw hI => ?_)
  refine lv_dup hx hb dX2_init_8 rfl ?_
  refine lv_aload_n hx hb dX2_init_9 rfl (lv_at hl 0 rfl) ?_
  obtain ⟨mc3, ms3, hc, hs, hw⟩ := hw
  refine hv_rcv hI (va_runIN (As := [.ref a0]) (b := a1) (rest := [.ref a1, .ref a0]) hE.1 (snd_X3_init l G _ mc3 ms3 h2 a1 (some a0) _ hw) ⟨va_cnB 1 hts (lw_meth q158) rfl rfl rfl (hE.2.2.2.2.1.M 1 rfl) (hts _ q99) (by decide +kernel) ⟨Nat.le_of_ble_eq_true rfl, Nat.le_of_ble_eq_true rfl⟩, rfl, hts _ q157⟩ (hv_preS hE hI) rfl rfl hl.1 rfl (lv_room (Nat.le_of_ble_eq_true rfl)) dX2_init_10 ⟨hc, hs⟩) (fun h4 H locs hw hI => ?_)
  refine hv_wputF (v := .ref a1) tyX2 hE hI in_X2 tyX2_ok nmX2 (ci := 2) rfl 0 (by decide) (hts _ q218) (fun _ hx => hx) rfl hin2 rfl (ty := (.object "MatchmakerRules$Book$Walk")) rfl rfl rfl hw dX2_init_13 (fun h5 H locs hw hI => ?_)
  refine lv_aload_n hx hb dX2_init_16 rfl (lv_at hl 0 rfl) ?_
  obtain ⟨hc, hs, hw⟩ := hw
  refine hv_wnew tyJ2 hE hI in_J2 tyJ2_ok (hts _ q189) (hts _ q190) (hts _ q102) (ci := 4) rfl df_J2_ok hw hc hs dX2_init_17 (fun a6 h7 H hw hI => ?_)
  refine lv_dup hx hb dX2_init_20 rfl ?_
  refine hv_rcv hI (va_runI (As := []) (b := a6) (rest := [.ref a6, .ref a0]) hE.1 (snd_J2_init l G _ h7 a6 _ hw) (cwI 0 hts (lw_meth q193) rfl rfl rfl (hts _ q102) (hts _ q191) (hts _ q192) rfl (by decide +kernel) ⟨Nat.le_of_ble_eq_true rfl, Nat.le_of_ble_eq_true rfl⟩) (hv_preS hE hI) rfl rfl hl.1 rfl (lv_room (Nat.le_of_ble_eq_true rfl)) dX2_init_21 ⟨hc, hs⟩) (fun h8 H locs hw hI => ?_)
  refine hv_wputF (v := .ref a6) tyX2 hE hI in_X2 tyX2_ok nmX2 (ci := 2) rfl 1 (by decide) (hts _ q219) (fun _ hx => hx) rfl hin2 rfl (ty := (.object "java/util/ArrayList")) rfl rfl rfl hw dX2_init_24 (fun h9 H locs hw hI => ?_)
  refine lv_aload_n hx hb dX2_init_27 rfl (lv_at hl 0 rfl) ?_
  obtain ⟨hc, hs, hw⟩ := hw
  refine hv_wnew tyJ2 hE hI in_J2 tyJ2_ok (hts _ q189) (hts _ q190) (hts _ q102) (ci := 4) rfl df_J2_ok hw hc hs dX2_init_28 (fun a10 h11 H hw hI => ?_)
  refine lv_dup hx hb dX2_init_31 rfl ?_
  refine hv_rcv hI (va_runI (As := []) (b := a10) (rest := [.ref a10, .ref a0]) hE.1 (snd_J2_init l G _ h11 a10 _ hw) (cwI 0 hts (lw_meth q193) rfl rfl rfl (hts _ q102) (hts _ q191) (hts _ q192) rfl (by decide +kernel) ⟨Nat.le_of_ble_eq_true rfl, Nat.le_of_ble_eq_true rfl⟩) (hv_preS hE hI) rfl rfl hl.1 rfl (lv_room (Nat.le_of_ble_eq_true rfl)) dX2_init_32 ⟨hc, hs⟩) (fun h12 H locs hw hI => ?_)
  refine hv_wputF (v := .ref a10) tyX2 hE hI in_X2 tyX2_ok nmX2 (ci := 2) rfl 2 (by decide) (hts _ q222) (fun _ hx => hx) rfl hin2 rfl (ty := (.object "java/util/ArrayList")) rfl rfl rfl hw dX2_init_35 (fun h13 H locs hw hI => ?_)
  exact hv_vret hE hI hc hs hw dX2_init_38

/-- java/util/ArrayDeque.<init>()V -/
abbrev rm_J3_init (mc ms : Nat) : Room := { frames := 2, cells := mc, slots := ms, locals := 52 }
def wp_J3_init (G : GG) (mc : Nat) (ms : Nat) (h : HH) (a0 : Nat) (Q : HH → Prop) : Prop := wp_J0_init G h a0 (fun h1 => (0 + 1 ≤ mc ∧ 0 + 17 ≤ ms ∧ w_new h1 (.inl (G.2.1 6, 17, .inr (.inr (.inr (.inr (fun _ => none)))))) (fun a2 h3 => w_put h3 a0 5 0 (.ref a2) (fun h4 => Q h4))))
set_option maxHeartbeats 4000000 in
theorem snd_J3_init (l : Launch) (G : GG) (sz : Nat) (mc : Nat) (ms : Nat) (h : HH) (a0 : Nat) (Q : HH → Prop) (hw : wp_J3_init G mc ms h a0 Q) : Met l yJ3_init (ws_ yJ3_init cJ3_init 1 (none : Option FieldType)) (rm_J3_init mc ms) (hv_Pc G h sz [.ref a0]) (hv_Qv G h sz Q) mc ms (hv_A h sz) := by
  refine Met.ofW (cc := cJ3_init) (maxL := 1) (ret := (none : Option FieldType)) (by decide) rfl ?_
  intro p e s m args below meth c s₁ B hml hv
  have hin2 : meth.name = "<init>" := (name_of_methodNamed B.named B.method).1
  obtain ⟨rfl, rfl, hE, hI⟩ := hv_open B hml hv
  have hE : hv_E p s m ([.ref a0] : List Value).toArray meth c cJ3_init 1 (none : Option FieldType) RJ3 G h := hE
  obtain ⟨⟨hx, hb, hml, hown, hts⟩, hr, hlocks, hXX⟩ := id hE
  have hl := lv_entry ([.ref a0] : List Value) (n := 1) (Nat.le_of_ble_eq_true rfl)
  rw [lg_entry_eq]
  generalize (lg_sl ([.ref a0] : List Value) ++ List.replicate (1 - (lg_sl ([.ref a0] : List Value)).length) Slot.unset).toArray = ls at hl ⊢
  have hl : lv_has ls 1 [(0, .ref a0)] := hl
  have hc : 0 ≤ mc := Nat.zero_le _
  have hs : 0 ≤ ms := Nat.zero_le _
  unfold wp_J3_init at hw
  refine lv_aload_n hx hb dJ3_init_0 rfl (lv_at hl 0 rfl) ?_
  refine hv_rcv hI (va_runI (As := []) (b := a0) (rest := []) hE.1 (snd_J0_init l G _ h a0 _ hw) (cwI 0 hts (lw_meth q199) rfl rfl rfl (hts _ q100) (hts _ q253) (hts _ q198) rfl (by decide +kernel) ⟨Nat.le_of_ble_eq_true rfl, Nat.le_of_ble_eq_true rfl⟩) (hv_preS hE hI) rfl rfl hl.1 rfl (lv_room (Nat.le_of_ble_eq_true rfl)) dJ3_init_1 ⟨hc, hs⟩) (fun h1 H locs hw hI => ?_)
  refine lv_aload_n hx hb dJ3_init_4 rfl (lv_at hl 0 rfl) ?_
  refine lv_bipush (v := 17) hx hb dJ3_init_5 (by decide) ?_
  obtain ⟨hc, hs, hw⟩ := hw
  refine hv_wnewq (N' := 17) hE hI (hts _ q254) (by decide +kernel) (by decide +kernel) (by decide) hw hc hs dJ3_init_7 (fun a2 h3 H hw hI => ?_)
  refine hv_wput (v := .ref a2) tyJ3 hE hI in_J3 tyJ3_ok nmJ3 (ci := 5) rfl 0 (by decide) (hts _ q256) (fun _ hx => hx) rfl (ty := (.array (.object "java/lang/Object"))) rfl rfl rfl hw dJ3_init_10 (fun h4 H locs hw hI => ?_)
  exact hv_vret hE hI hc hs hw dJ3_init_13

/-- java/lang/AbstractStringBuilder.<init>(I)V -/
abbrev rm_J4_init (mc ms : Nat) : Room := { frames := 1, cells := mc, slots := ms, locals := 32 }
def wp_J4_init (G : GG) (mc : Nat) (ms : Nat) (h : HH) (a0 : Nat) (x1 : Int32) (Q : HH → Prop) : Prop := (((1 : Int32) = 0 → False) ∧ (¬ (1 : Int32) = 0 → (¬ x1 < 0 ∧ (Int32.toNatClampNeg x1) ≤ 1000000 ∧ (0 + 1 ≤ mc ∧ 0 + (Int32.toNatClampNeg x1) ≤ ms ∧ w_new h (.inl (G.2.1 1, (Int32.toNatClampNeg x1), .inl (fun _ => 0))) (fun a1 h2 => w_put h2 a0 6 0 (.ref a1) (fun h3 => w_put h3 a0 6 1 (.int (0 : Int32)) (fun h4 => Q h4)))))))
set_option maxHeartbeats 4000000 in
theorem snd_J4_init (l : Launch) (G : GG) (sz : Nat) (mc : Nat) (ms : Nat) (h : HH) (a0 : Nat) (x1 : Int32) (Q : HH → Prop) (hw : wp_J4_init G mc ms h a0 x1 Q) : Met l yJ4_init (ws_ yJ4_init cJ4_init 2 (none : Option FieldType)) (rm_J4_init mc ms) (hv_Pc G h sz [.ref a0, .int x1]) (hv_Qv G h sz Q) mc ms (hv_A h sz) := by
  refine Met.ofW (cc := cJ4_init) (maxL := 2) (ret := (none : Option FieldType)) (by decide) rfl ?_
  intro p e s m args below meth c s₁ B hml hv
  have hin2 : meth.name = "<init>" := (name_of_methodNamed B.named B.method).1
  obtain ⟨rfl, rfl, hE, hI⟩ := hv_open B hml hv
  have hE : hv_E p s m ([.ref a0, .int x1] : List Value).toArray meth c cJ4_init 2 (none : Option FieldType) RJ4 G h := hE
  obtain ⟨⟨hx, hb, hml, hown, hts⟩, hr, hlocks, hXX⟩ := id hE
  have hl := lv_entry ([.ref a0, .int x1] : List Value) (n := 2) (Nat.le_of_ble_eq_true rfl)
  rw [lg_entry_eq]
  generalize (lg_sl ([.ref a0, .int x1] : List Value) ++ List.replicate (2 - (lg_sl ([.ref a0, .int x1] : List Value)).length) Slot.unset).toArray = ls at hl ⊢
  have hl : lv_has ls 2 [(0, .ref a0), (1, .int x1)] := hl
  have hc : 0 ≤ mc := Nat.zero_le _
  have hs : 0 ≤ ms := Nat.zero_le _
  unfold wp_J4_init at hw
  refine lv_aload_n hx hb dJ4_init_0 rfl (lv_at hl 0 rfl) ?_
  refine hv_objI (rest := []) hE (hts _ q275) (hts _ q146) (hts _ q147) hl.1 dJ4_init_1 (Nat.le_of_ble_eq_true rfl) (Nat.le_of_ble_eq_true rfl) ?_
  refine hv_gets hE hI (hv_zH hE).2.2.1 (hts _ q276) (fun _ hx => hx) dJ4_init_4 ?_
  refine lv_if_eq (tgt := 25) hx hb dJ4_init_7 (by decide) (fun c_7 => ?_) (fun c_7 => ?_)
  · have hw := hw.1 c_7
    refine lv_aload_n hx hb dJ4_init_25 rfl (lv_at hl 0 rfl) ?_
    refine lv_iload_n hx hb dJ4_init_26 rfl (lv_at hl 1 rfl) ?_
    exact hw.elim
  · have hw := hw.2 c_7
    refine lv_aload_n hx hb dJ4_init_10 rfl (lv_at hl 0 rfl) ?_
    refine lv_iload_n hx hb dJ4_init_11 rfl (lv_at hl 1 rfl) ?_
    obtain ⟨hneg, hby, hw⟩ := hw
    obtain ⟨hc, hs, hw⟩ := hw
    refine hv_wnewa_byte (N' := (Int32.toNatClampNeg x1)) hE hI (hts _ q298) rfl hneg hby hw hc hs dJ4_init_12 (fun a1 h2 H hw hI => ?_)
    refine hv_wput (v := .ref a1) tyJ5 hE hI in_J5 tyJ5_ok nmJ5 (ci := 6) rfl 0 (by decide) (hts _ q285) (fun _ hx => hx) rfl (ty := (.array .byte)) rfl rfl rfl hw dJ4_init_14 (fun h3 H locs hw hI => ?_)
    refine lv_aload_n hx hb dJ4_init_17 rfl (lv_at hl 0 rfl) ?_
    refine lv_iconst (v := 0) hx hb dJ4_init_18 (by decide) ?_
    refine hv_wput (v := .int (0 : Int32)) tyJ5 hE hI in_J5 tyJ5_ok nmJ5 (ci := 6) rfl 1 (by decide) (hts _ q286) (fun _ hx => hx) rfl (ty := .byte) rfl (by decide +kernel) (by decide +kernel) hw dJ4_init_19 (fun h4 H locs hw hI => ?_)
    refine lv_goto (tgt := 38) hx hb dJ4_init_22 (by decide) ?_
    exact hv_vret hE hI hc hs hw dJ4_init_38

/-- java/lang/StringBuilder.<init>()V -/
abbrev rm_J5_init (mc ms : Nat) : Room := { frames := 2, cells := mc, slots := ms, locals := 53 }
def wp_J5_init (G : GG) (mc : Nat) (ms : Nat) (h : HH) (a0 : Nat) (Q : HH → Prop) : Prop := (∃ mc1 ms1, 0 + mc1 ≤ mc ∧ 0 + ms1 ≤ ms ∧ wp_J4_init G mc1 ms1 h a0 (16 : Int32) (fun h2 => Q h2))
set_option maxHeartbeats 4000000 in
theorem snd_J5_init (l : Launch) (G : GG) (sz : Nat) (mc : Nat) (ms : Nat) (h : HH) (a0 : Nat) (Q : HH → Prop) (hw : wp_J5_init G mc ms h a0 Q) : Met l yJ5_init (ws_ yJ5_init cJ5_init 1 (none : Option FieldType)) (rm_J5_init mc ms) (hv_Pc G h sz [.ref a0]) (hv_Qv G h sz Q) mc ms (hv_A h sz) := by
  refine Met.ofW (cc := cJ5_init) (maxL := 1) (ret := (none : Option FieldType)) (by decide) rfl ?_
  intro p e s m args below meth c s₁ B hml hv
  have hin2 : meth.name = "<init>" := (name_of_methodNamed B.named B.method).1
  obtain ⟨rfl, rfl, hE, hI⟩ := hv_open B hml hv
  have hE : hv_E p s m ([.ref a0] : List Value).toArray meth c cJ5_init 1 (none : Option FieldType) RJ5 G h := hE
  obtain ⟨⟨hx, hb, hml, hown, hts⟩, hr, hlocks, hXX⟩ := id hE
  have hl := lv_entry ([.ref a0] : List Value) (n := 1) (Nat.le_of_ble_eq_true rfl)
  rw [lg_entry_eq]
  generalize (lg_sl ([.ref a0] : List Value) ++ List.replicate (1 - (lg_sl ([.ref a0] : List Value)).length) Slot.unset).toArray = ls at hl ⊢
  have hl : lv_has ls 1 [(0, .ref a0)] := hl
  have hc : 0 ≤ mc := Nat.zero_le _
  have hs : 0 ≤ ms := Nat.zero_le _
  unfold wp_J5_init at hw
  refine lv_aload_n hx hb dJ5_init_0 rfl (lv_at hl 0 rfl) ?_
  refine lv_bipush (v := 16) hx hb dJ5_init_1 (by decide) ?_
  obtain ⟨mc1, ms1, hc, hs, hw⟩ := hw
  refine hv_rcv hI (va_runI (As := [.int (16 : Int32)]) (b := a0) (rest := []) hE.1 (snd_J4_init l G _ mc1 ms1 h a0 (16 : Int32) _ hw) (cwI 1 hts (lw_meth q274) rfl rfl rfl (hts _ q104) (hts _ q272) (hts _ q273) rfl (by decide +kernel) ⟨Nat.le_of_ble_eq_true rfl, Nat.le_of_ble_eq_true rfl⟩) (hv_preS hE hI) rfl rfl hl.1 rfl (lv_room (Nat.le_of_ble_eq_true rfl)) dJ5_init_3 ⟨hc, hs⟩) (fun h2 H locs hw hI => ?_)
  exact hv_vret hE hI hc hs hw dJ5_init_6

/-- MatchmakerRules.<init>()V -/
abbrev rm_X1_init (mc ms : Nat) : Room := { frames := 5, cells := mc, slots := ms, locals := 112 }
def wp_X1_init (G : GG) (mc : Nat) (ms : Nat) (h : HH) (a0 : Nat) (Q : HH → Prop) : Prop := (0 + 1 ≤ mc ∧ 0 + 7 ≤ ms ∧ w_new h (.inr (2, df_X2)) (fun a1 h2 => (∃ mc3 ms3, (0 + 1) + mc3 ≤ mc ∧ (0 + 7) + ms3 ≤ ms ∧ wp_X2_init G mc3 ms3 h2 a1 (fun h4 => w_put h4 a0 1 0 (.ref a1) (fun h5 => (((0 + 1) + mc3) + 1 ≤ mc ∧ ((0 + 7) + ms3) + 3 ≤ ms ∧ w_new h5 (.inr (5, df_J3)) (fun a6 h7 => (∃ mc8 ms8, (((0 + 1) + mc3) + 1) + mc8 ≤ mc ∧ (((0 + 7) + ms3) + 3) + ms8 ≤ ms ∧ wp_J3_init G mc8 ms8 h7 a6 (fun h9 => w_put h9 a0 1 1 (.ref a6) (fun h10 => (((((0 + 1) + mc3) + 1) + mc8) + 1 ≤ mc ∧ ((((0 + 7) + ms3) + 3) + ms8) + 2 ≤ ms ∧ w_new h10 (.inl (G.2.1 6, 2, .inr (.inr (.inr (.inr (fun _ => none)))))) (fun a11 h12 => w_put h12 a0 1 3 (.ref a11) (fun h13 => ((((((0 + 1) + mc3) + 1) + mc8) + 1) + 1 ≤ mc ∧ (((((0 + 7) + ms3) + 3) + ms8) + 2) + 4 ≤ ms ∧ w_new h13 (.inr (6, df_J5)) (fun a14 h15 => (∃ mc16 ms16, ((((((0 + 1) + mc3) + 1) + mc8) + 1) + 1) + mc16 ≤ mc ∧ ((((((0 + 7) + ms3) + 3) + ms8) + 2) + 4) + ms16 ≤ ms ∧ wp_J5_init G mc16 ms16 h15 a14 (fun h17 => w_put h17 a0 1 4 (.ref a14) (fun h18 => w_put h18 a0 1 5 (.ref (G.2.2 4)) (fun h19 => w_put h19 a0 1 7 (.int (-1 : Int32)) (fun h20 => Q h20))))))))))))))))))))
set_option maxHeartbeats 4000000 in
theorem snd_X1_init (l : Launch) (G : GG) (sz : Nat) (mc : Nat) (ms : Nat) (h : HH) (a0 : Nat) (Q : HH → Prop) (hw : wp_X1_init G mc ms h a0 Q) : Met l yX1_init (ws_ yX1_init cX1_init 1 (none : Option FieldType)) (rm_X1_init mc ms) (hv_Pc G h sz [.ref a0]) (hv_Qv G h sz Q) mc ms (hv_A h sz) := by
  refine Met.ofW (cc := cX1_init) (maxL := 1) (ret := (none : Option FieldType)) (by decide) rfl ?_
  intro p e s m args below meth c s₁ B hml hv
  have hin2 : meth.name = "<init>" := (name_of_methodNamed B.named B.method).1
  obtain ⟨rfl, rfl, hE, hI⟩ := hv_open B hml hv
  have hE : hv_E p s m ([.ref a0] : List Value).toArray meth c cX1_init 1 (none : Option FieldType) RX1 G h := hE
  obtain ⟨⟨hx, hb, hml, hown, hts⟩, hr, hlocks, hXX⟩ := id hE
  have hl := lv_entry ([.ref a0] : List Value) (n := 1) (Nat.le_of_ble_eq_true rfl)
  rw [lg_entry_eq]
  generalize (lg_sl ([.ref a0] : List Value) ++ List.replicate (1 - (lg_sl ([.ref a0] : List Value)).length) Slot.unset).toArray = ls at hl ⊢
  have hl : lv_has ls 1 [(0, .ref a0)] := hl
  have hc : 0 ≤ mc := Nat.zero_le _
  have hs : 0 ≤ ms := Nat.zero_le _
  unfold wp_X1_init at hw
  refine lv_aload_n hx hb dX1_init_0 rfl (lv_at hl 0 rfl) ?_
  refine hv_objI (rest := []) hE (hts _ q145) (hts _ q146) (hts _ q147) hl.1 dX1_init_1 (Nat.le_of_ble_eq_true rfl) (Nat.le_of_ble_eq_true rfl) ?_
  refine lv_aload_n hx hb dX1_init_4 rfl (lv_at hl 0 rfl) ?_
  obtain ⟨hc, hs, hw⟩ := hw
  refine hv_wnew tyX2 hE hI in_X2 tyX2_ok (hts _ q148) (hts _ q149) (hts _ q98) (ci := 2) rfl df_X2_ok hw hc hs dX1_init_5 (fun a1 h2 H hw hI => ?_)
  refine lv_dup hx hb dX1_init_8 rfl ?_
  obtain ⟨mc3, ms3, hc, hs, hw⟩ := hw
  refine hv_rcv hI (va_runIN (As := []) (b := a1) (rest := [.ref a1, .ref a0]) hE.1 (snd_X2_init l G _ mc3 ms3 h2 a1 _ hw) ⟨va_cnB 0 hts (lw_meth q152) rfl rfl rfl (hE.2.2.2.2.1.M 0 rfl) (hts _ q98) (by decide +kernel) ⟨Nat.le_of_ble_eq_true rfl, Nat.le_of_ble_eq_true rfl⟩, rfl, hts _ q151⟩ (hv_preS hE hI) rfl rfl hl.1 rfl (lv_room (Nat.le_of_ble_eq_true rfl)) dX1_init_9 ⟨hc, hs⟩) (fun h4 H locs hw hI => ?_)
  refine hv_wput (v := .ref a1) tyX1 hE hI in_X1 tyX1_ok nmX1 (ci := 1) rfl 0 (by decide) (hts _ q300) (fun _ hx => hx) rfl (ty := (.object "MatchmakerRules$Book")) rfl rfl rfl hw dX1_init_12 (fun h5 H locs hw hI => ?_)
  refine lv_aload_n hx hb dX1_init_15 rfl (lv_at hl 0 rfl) ?_
  obtain ⟨hc, hs, hw⟩ := hw
  refine hv_wnew tyJ3 hE hI in_J3 tyJ3_ok (hts _ q248) (hts _ q249) (hts _ q103) (ci := 5) rfl df_J3_ok hw hc hs dX1_init_16 (fun a6 h7 H hw hI => ?_)
  refine lv_dup hx hb dX1_init_19 rfl ?_
  obtain ⟨mc8, ms8, hc, hs, hw⟩ := hw
  refine hv_rcv hI (va_runI (As := []) (b := a6) (rest := [.ref a6, .ref a0]) hE.1 (snd_J3_init l G _ mc8 ms8 h7 a6 _ hw) (cwI 0 hts (lw_meth q252) rfl rfl rfl (hts _ q103) (hts _ q250) (hts _ q251) rfl (by decide +kernel) ⟨Nat.le_of_ble_eq_true rfl, Nat.le_of_ble_eq_true rfl⟩) (hv_preS hE hI) rfl rfl hl.1 rfl (lv_room (Nat.le_of_ble_eq_true rfl)) dX1_init_20 ⟨hc, hs⟩) (fun h9 H locs hw hI => ?_)
  refine hv_wputF (v := .ref a6) tyX1 hE hI in_X1 tyX1_ok nmX1 (ci := 1) rfl 1 (by decide) (hts _ q301) (fun _ hx => hx) rfl hin2 rfl (ty := (.object "java/util/ArrayDeque")) rfl rfl rfl hw dX1_init_23 (fun h10 H locs hw hI => ?_)
  refine lv_aload_n hx hb dX1_init_26 rfl (lv_at hl 0 rfl) ?_
  refine lv_iconst (v := 2) hx hb dX1_init_27 (by decide) ?_
  obtain ⟨hc, hs, hw⟩ := hw
  refine hv_wnewq (N' := 2) hE hI (hts _ q266) (by decide +kernel) (by decide +kernel) (by decide) hw hc hs dX1_init_28 (fun a11 h12 H hw hI => ?_)
  refine hv_wputF (v := .ref a11) tyX1 hE hI in_X1 tyX1_ok nmX1 (ci := 1) rfl 3 (by decide) (hts _ q303) (fun _ hx => hx) rfl hin2 rfl (ty := (.array (.object "java/lang/Object"))) rfl rfl rfl hw dX1_init_31 (fun h13 H locs hw hI => ?_)
  refine lv_aload_n hx hb dX1_init_34 rfl (lv_at hl 0 rfl) ?_
  obtain ⟨hc, hs, hw⟩ := hw
  refine hv_wnew tyJ5 hE hI in_J5 tyJ5_ok (hts _ q267) (hts _ q268) (hts _ q105) (ci := 6) rfl df_J5_ok hw hc hs dX1_init_35 (fun a14 h15 H hw hI => ?_)
  refine lv_dup hx hb dX1_init_38 rfl ?_
  obtain ⟨mc16, ms16, hc, hs, hw⟩ := hw
  refine hv_rcv hI (va_runI (As := []) (b := a14) (rest := [.ref a14, .ref a0]) hE.1 (snd_J5_init l G _ mc16 ms16 h15 a14 _ hw) (cwI 0 hts (lw_meth q271) rfl rfl rfl (hts _ q105) (hts _ q269) (hts _ q270) rfl (by decide +kernel) ⟨Nat.le_of_ble_eq_true rfl, Nat.le_of_ble_eq_true rfl⟩) (hv_preS hE hI) rfl rfl hl.1 rfl (lv_room (Nat.le_of_ble_eq_true rfl)) dX1_init_39 ⟨hc, hs⟩) (fun h17 H locs hw hI => ?_)
  refine hv_wput (v := .ref a14) tyX1 hE hI in_X1 tyX1_ok nmX1 (ci := 1) rfl 4 (by decide) (hts _ q304) (fun _ hx => hx) rfl (ty := (.object "java/lang/StringBuilder")) rfl rfl rfl hw dX1_init_42 (fun h18 H locs hw hI => ?_)
  refine lv_aload_n hx hb dX1_init_45 rfl (lv_at hl 0 rfl) ?_
  refine hv_ldcS hE (hv_zH hE).2.2.2.2.2.2.2.2.2.2.2.1 rfl dX1_init_46 ?_
  refine hv_wput (v := .ref (G.2.2 4)) tyX1 hE hI in_X1 tyX1_ok nmX1 (ci := 1) rfl 5 (by decide) (hts _ q305) (fun _ hx => hx) rfl (ty := (.object "java/lang/String")) rfl rfl rfl hw dX1_init_48 (fun h19 H locs hw hI => ?_)
  refine lv_aload_n hx hb dX1_init_51 rfl (lv_at hl 0 rfl) ?_
  refine lv_iconst (v := -1) hx hb dX1_init_52 (by decide) ?_
  refine hv_wput (v := .int (-1 : Int32)) tyX1 hE hI in_X1 tyX1_ok nmX1 (ci := 1) rfl 7 (by decide) (hts _ q307) (fun _ hx => hx) rfl (ty := .int) rfl rfl rfl hw dX1_init_53 (fun h20 H locs hw hI => ?_)
  exact hv_vret hE hI hc hs hw dX1_init_56

/-- java/util/ArrayList.size()I -/
abbrev rm_J2_size : Room := { frames := 1, cells := 0, slots := 0, locals := 12 }
def wp_J2_size (G : GG) (h : HH) (a0 : Nat) (Q : Int32 → HH → Prop) : Prop := w_geti h a0 4 2 (fun r1 => Q r1 h)
set_option maxHeartbeats 4000000 in
theorem snd_J2_size (l : Launch) (G : GG) (sz : Nat) (h : HH) (a0 : Nat) (Q : Int32 → HH → Prop) (hw : wp_J2_size G h a0 Q) : Met l yJ2_size (ws_ yJ2_size cJ2_size 1 (some FieldType.int)) rm_J2_size (hv_Pc G h sz [.ref a0]) (hv_Qi G h sz Q) 0 0 (hv_A h sz) := by
  refine Met.ofW (cc := cJ2_size) (maxL := 1) (ret := (some FieldType.int)) (by decide) rfl ?_
  intro p e s m args below meth c s₁ B hml hv
  obtain ⟨rfl, rfl, hE, hI⟩ := hv_open B hml hv
  have hE : hv_E p s m ([.ref a0] : List Value).toArray meth c cJ2_size 1 (some FieldType.int) RJ2 G h := hE
  obtain ⟨⟨hx, hb, hml, hown, hts⟩, hr, hlocks, hXX⟩ := id hE
  have hl := lv_entry ([.ref a0] : List Value) (n := 1) (Nat.le_of_ble_eq_true rfl)
  rw [lg_entry_eq]
  generalize (lg_sl ([.ref a0] : List Value) ++ List.replicate (1 - (lg_sl ([.ref a0] : List Value)).length) Slot.unset).toArray = ls at hl ⊢
  have hl : lv_has ls 1 [(0, .ref a0)] := hl
  unfold wp_J2_size at hw
  refine lv_aload_n hx hb dJ2_size_0 rfl (lv_at hl 0 rfl) ?_
  refine hv_wgeti hE hI in_J2 (ci := 4) rfl 2 (by decide) (hts _ q206) (fun _ hx => hx) hw dJ2_size_1 (fun r1 hw => ?_)
  exact hv_iret hE hI (Nat.le_refl _) (Nat.le_refl _) hw dJ2_size_4

/-- java/util/ArrayDeque.circularClear([Ljava/lang/Object;II)V -/
abbrev rm_J3_circularClear : Room := { frames := 1, cells := 0, slots := 0, locals := 12 }
def wp_J3_circularClear_L12 (G : GG) (Q : HH → Prop) : Nat → (HH) → (Option Nat) → (Int32) → (Int32) → (Int32) → Prop
  | 0, _, _, _, _, _ => False
  | n + 1, h, x0, x1, x2, x3 => ((x3 ≤ x1 → ((¬ x3 = x2 → wp_J3_circularClear_L12 G Q n h x0 (0 : Int32) x2 x2) ∧ (x3 = x2 → Q h))) ∧ (¬ x3 ≤ x1 → w_nn x0 (fun a3 => w_qst G h a3 x1 none (fun h4 => wp_J3_circularClear_L12 G Q n h4 (some a3) (x1 + (1 : Int32)) x2 x3))))
set_option maxHeartbeats 4000000 in
theorem snd_J3_circularClear_L12 {p : Program} {l : Launch} {e : Env} {s : State} {m : MethodId} {args : Array Value} {below : List Frame} {meth : Method} {c : Code} {h0 : HH} (G : GG) (Q : HH → Prop) (hE : hv_E p s m args meth c cJ3_circularClear 4 (none : Option FieldType) RJ3 G h0) : ∀ (n : Nat) (h : HH) (x0 : Option Nat) (x1 : Int32) (x2 : Int32) (x3 : Int32), wp_J3_circularClear_L12 G Q n h x0 x1 x2 x3 → ∀ (H : Heap) (locs : List Loc) (ls : Array Slot), hv_I G h0 s.heap h H locs → lv_has ls 4 [(0, va_rf x0), (1, .int x1), (2, .int x2), (3, .int x3)] → W p l e (headSpec (ws_ yJ3_circularClear cJ3_circularClear 4 (none : Option FieldType)) rm_J3_circularClear).room s m args below meth c H locs 0 0 (MQ below (hv_Qv G h0 s.heap.size Q) args s 0 0 (hv_A h0 s.heap.size)) (F0 m 12 ls []) := by
  obtain ⟨⟨hx, hb, hml, hown, hts⟩, hr, hlocks, hXX⟩ := id hE
  intro n
  induction n with
  | zero => intro h x0 x1 x2 x3 hw; exact hw.elim
  | succ n ih =>
    intro h x0 x1 x2 x3 hw H locs ls hI hl
    unfold wp_J3_circularClear_L12 at hw
    refine lv_iload_n hx hb dJ3_circularClear_12 rfl (lv_at hl 1 rfl) ?_
    refine lv_iload_n hx hb dJ3_circularClear_13 rfl (lv_at hl 3 rfl) ?_
    refine lv_icmp_ge (tgt := 27) hx hb dJ3_circularClear_14 (by decide) (fun c_14 => ?_) (fun c_14 => ?_)
    · have hw := hw.1 c_14
      refine lv_iload_n hx hb dJ3_circularClear_27 rfl (lv_at hl 3 rfl) ?_
      refine lv_iload_n hx hb dJ3_circularClear_28 rfl (lv_at hl 2 rfl) ?_
      refine lv_icmp_ne (tgt := 35) hx hb dJ3_circularClear_29 (by decide) (fun c_29 => ?_) (fun c_29 => ?_)
      · have hw := hw.1 c_29
        refine lv_iconst (v := 0) hx hb dJ3_circularClear_35 (by decide) ?_
        refine lv_istore_n (lv' := [(1, .int (0 : Int32)), (0, va_rf x0), (2, .int x2), (3, .int x3)]) hx hb dJ3_circularClear_36 rfl hl (by decide) (by cases x0 <;> exact rfl) (fun ls hl => ?_)
        refine lv_iload_n hx hb dJ3_circularClear_37 rfl (lv_at hl 2 rfl) ?_
        refine lv_istore_n (lv' := [(3, .int x2), (1, .int (0 : Int32)), (0, va_rf x0), (2, .int x2)]) hx hb dJ3_circularClear_38 rfl hl (by decide) rfl (fun ls hl => ?_)
        refine lv_goto (tgt := 12) hx hb dJ3_circularClear_39 (by decide) ?_
        exact ih h x0 (0 : Int32) x2 x2 hw _ _ _ hI (lv_sub hl [2, 1, 3, 0] rfl)
      · have hw := hw.2 c_29
        refine lv_goto (tgt := 42) hx hb dJ3_circularClear_32 (by decide) ?_
        exact hv_vret hE hI (Nat.le_refl _) (Nat.le_refl _) hw dJ3_circularClear_42
    · have hw := hw.2 c_14
      refine lv_aload_nq hx hb dJ3_circularClear_17 rfl (lv_at hl 0 rfl) ?_
      refine lv_iload_n hx hb dJ3_circularClear_18 rfl (lv_at hl 1 rfl) ?_
      refine lv_null hx hb dJ3_circularClear_19 ?_
      obtain ⟨a3, hz, hwa3⟩ := hw; have hla3 := hl; subst hz; have hw := hwa3; have hl := hla3
      refine hv_wqst (x1 := none) hE hI hw dJ3_circularClear_20 (fun h4 H locs hw hI => ?_)
      refine lv_iinc (v := (x1 + (1 : Int32))) (lv' := [(1, .int (x1 + (1 : Int32))), (0, .ref a3), (2, .int x2), (3, .int x3)]) hx hb dJ3_circularClear_21 hl (k := 1) rfl rfl (by decide) rfl (fun ls hl => ?_)
      refine lv_goto (tgt := 12) hx hb dJ3_circularClear_24 (by decide) ?_
      exact ih h4 (some a3) (x1 + (1 : Int32)) x2 x3 hw _ _ _ hI (lv_sub hl [1, 0, 2, 3] rfl)
def wp_J3_circularClear (G : GG) (h : HH) (x0 : Option Nat) (x1 : Int32) (x2 : Int32) (Q : HH → Prop) : Prop := ((x2 < x1 → w_nn x0 (fun a1 => w_len G h a1 (fun r2 => (∃ n12, wp_J3_circularClear_L12 G Q n12 h (some a1) x1 x2 r2)))) ∧ (¬ x2 < x1 → (∃ n12, wp_J3_circularClear_L12 G Q n12 h x0 x1 x2 x2)))
set_option maxHeartbeats 4000000 in
theorem snd_J3_circularClear (l : Launch) (G : GG) (sz : Nat) (h : HH) (x0 : Option Nat) (x1 : Int32) (x2 : Int32) (Q : HH → Prop) (hw : wp_J3_circularClear G h x0 x1 x2 Q) : Met l yJ3_circularClear (ws_ yJ3_circularClear cJ3_circularClear 4 (none : Option FieldType)) rm_J3_circularClear (hv_Pc G h sz [va_rf x0, .int x1, .int x2]) (hv_Qv G h sz Q) 0 0 (hv_A h sz) := by
  refine Met.ofW (cc := cJ3_circularClear) (maxL := 4) (ret := (none : Option FieldType)) (by decide) rfl ?_
  intro p e s m args below meth c s₁ B hml hv
  obtain ⟨rfl, rfl, hE, hI⟩ := hv_open B hml hv
  have hE : hv_E p s m ([va_rf x0, .int x1, .int x2] : List Value).toArray meth c cJ3_circularClear 4 (none : Option FieldType) RJ3 G h := hE
  obtain ⟨⟨hx, hb, hml, hown, hts⟩, hr, hlocks, hXX⟩ := id hE
  have hl := lv_entry ([va_rf x0, .int x1, .int x2] : List Value) (n := 4) (by cases x0 <;> exact Nat.le_of_ble_eq_true rfl)
  rw [lg_entry_eq]
  generalize (lg_sl ([va_rf x0, .int x1, .int x2] : List Value) ++ List.replicate (4 - (lg_sl ([va_rf x0, .int x1, .int x2] : List Value)).length) Slot.unset).toArray = ls at hl ⊢
  have hl : lv_has ls 4 [(0, va_rf x0), (1, .int x1), (2, .int x2)] := (by cases x0 <;> exact hl)
  unfold wp_J3_circularClear at hw
  refine lv_iload_n hx hb dJ3_circularClear_0 rfl (lv_at hl 1 rfl) ?_
  refine lv_iload_n hx hb dJ3_circularClear_1 rfl (lv_at hl 2 rfl) ?_
  refine lv_icmp_gt (tgt := 9) hx hb dJ3_circularClear_2 (by decide) (fun c_2 => ?_) (fun c_2 => ?_)
  · have hw := hw.1 c_2
    refine lv_aload_nq hx hb dJ3_circularClear_9 rfl (lv_at hl 0 rfl) ?_
    obtain ⟨a1, hz, hwa1⟩ := hw; have hla1 := hl; subst hz; have hw := hwa1; have hl := hla1
    refine hv_len hE hI hw dJ3_circularClear_10 (fun r2 hw => ?_)
    refine lv_istore_n (lv' := [(3, .int r2), (0, .ref a1), (1, .int x1), (2, .int x2)]) hx hb dJ3_circularClear_11 rfl hl (by decide) rfl (fun ls hl => ?_)
    obtain ⟨n12, hw⟩ := hw
    exact snd_J3_circularClear_L12 G Q hE n12 h (some a1) x1 x2 r2 hw _ _ _ hI (lv_sub hl [1, 2, 3, 0] rfl)
  · have hw := hw.2 c_2
    refine lv_iload_n hx hb dJ3_circularClear_5 rfl (lv_at hl 2 rfl) ?_
    refine lv_goto (tgt := 11) hx hb dJ3_circularClear_6 (by decide) ?_
    refine lv_istore_n (lv' := [(3, .int x2), (0, va_rf x0), (1, .int x1), (2, .int x2)]) hx hb dJ3_circularClear_11 rfl hl (by decide) rfl (fun ls hl => ?_)
    obtain ⟨n12, hw⟩ := hw
    exact snd_J3_circularClear_L12 G Q hE n12 h x0 x1 x2 x2 hw _ _ _ hI (lv_sub hl [1, 2, 3, 0] rfl)

/-- java/util/ArrayDeque.clear()V -/
abbrev rm_J3_clear : Room := { frames := 2, cells := 0, slots := 0, locals := 35 }
def wp_J3_clear (G : GG) (h : HH) (a0 : Nat) (Q : HH → Prop) : Prop := w_getq h a0 5 0 (fun r1 => w_geti h a0 5 1 (fun r2 => w_geti h a0 5 2 (fun r3 => wp_J3_circularClear G h r1 r2 r3 (fun h4 => w_put h4 a0 5 2 (.int (0 : Int32)) (fun h5 => w_put h5 a0 5 1 (.int (0 : Int32)) (fun h6 => Q h6))))))
set_option maxHeartbeats 4000000 in
theorem snd_J3_clear (l : Launch) (G : GG) (sz : Nat) (h : HH) (a0 : Nat) (Q : HH → Prop) (hw : wp_J3_clear G h a0 Q) : Met l yJ3_clear (ws_ yJ3_clear cJ3_clear 1 (none : Option FieldType)) rm_J3_clear (hv_Pc G h sz [.ref a0]) (hv_Qv G h sz Q) 0 0 (hv_A h sz) := by
  refine Met.ofW (cc := cJ3_clear) (maxL := 1) (ret := (none : Option FieldType)) (by decide) rfl ?_
  intro p e s m args below meth c s₁ B hml hv
  obtain ⟨rfl, rfl, hE, hI⟩ := hv_open B hml hv
  have hE : hv_E p s m ([.ref a0] : List Value).toArray meth c cJ3_clear 1 (none : Option FieldType) RJ3 G h := hE
  obtain ⟨⟨hx, hb, hml, hown, hts⟩, hr, hlocks, hXX⟩ := id hE
  have hl := lv_entry ([.ref a0] : List Value) (n := 1) (Nat.le_of_ble_eq_true rfl)
  rw [lg_entry_eq]
  generalize (lg_sl ([.ref a0] : List Value) ++ List.replicate (1 - (lg_sl ([.ref a0] : List Value)).length) Slot.unset).toArray = ls at hl ⊢
  have hl : lv_has ls 1 [(0, .ref a0)] := hl
  unfold wp_J3_clear at hw
  refine lv_aload_n hx hb dJ3_clear_0 rfl (lv_at hl 0 rfl) ?_
  refine hv_wgetq hE hI in_J3 (ci := 5) rfl 0 (by decide) (hts _ q256) (fun _ hx => hx) hw dJ3_clear_1 (fun r1 hw => ?_)
  refine lv_aload_n hx hb dJ3_clear_4 rfl (lv_at hl 0 rfl) ?_
  refine hv_wgeti hE hI in_J3 (ci := 5) rfl 1 (by decide) (hts _ q257) (fun _ hx => hx) hw dJ3_clear_5 (fun r2 hw => ?_)
  refine lv_aload_n hx hb dJ3_clear_8 rfl (lv_at hl 0 rfl) ?_
  refine hv_wgeti hE hI in_J3 (ci := 5) rfl 2 (by decide) (hts _ q258) (fun _ hx => hx) hw dJ3_clear_9 (fun r3 hw => ?_)
  refine hv_rcv hI (va_runS (As := [va_rf r1, .int r2, .int r3]) (rest := []) hE.1 (snd_J3_circularClear l G _ h r1 r2 r3 _ hw) (va_cwS 3 hts (lw_S q340 q341 q103 q342) rfl rfl rfl (by decide +kernel) ⟨Nat.le_of_ble_eq_true rfl, Nat.le_of_ble_eq_true rfl⟩) (hv_preS hE hI) rfl rfl hl.1 rfl (lv_room (Nat.le_of_ble_eq_true rfl)) dJ3_clear_12 ⟨Nat.le_of_ble_eq_true rfl, Nat.le_of_ble_eq_true rfl⟩) (fun h4 H locs hw hI => ?_)
  refine lv_aload_n hx hb dJ3_clear_15 rfl (lv_at hl 0 rfl) ?_
  refine lv_aload_n hx hb dJ3_clear_16 rfl (lv_at hl 0 rfl) ?_
  refine lv_iconst (v := 0) hx hb dJ3_clear_17 (by decide) ?_
  refine lv_dup_x1 hx hb dJ3_clear_18 rfl rfl ?_
  refine hv_wput (v := .int (0 : Int32)) tyJ3 hE hI in_J3 tyJ3_ok nmJ3 (ci := 5) rfl 2 (by decide) (hts _ q258) (fun _ hx => hx) rfl (ty := .int) rfl rfl rfl hw dJ3_clear_19 (fun h5 H locs hw hI => ?_)
  refine hv_wput (v := .int (0 : Int32)) tyJ3 hE hI in_J3 tyJ3_ok nmJ3 (ci := 5) rfl 1 (by decide) (hts _ q257) (fun _ hx => hx) rfl (ty := .int) rfl rfl rfl hw dJ3_clear_22 (fun h6 H locs hw hI => ?_)
  exact hv_vret hE hI (Nat.le_refl _) (Nat.le_refl _) hw dJ3_clear_25

/-- MatchmakerRules.clear()I -/
abbrev rm_X1_clear (mc ms : Nat) : Room := { frames := 5, cells := mc, slots := ms, locals := 112 }
def wp_X1_clear (G : GG) (mc : Nat) (ms : Nat) (h : HH) (a0 : Nat) (Q : Int32 → HH → Prop) : Prop := w_getq h a0 1 0 (fun r1 => w_nn r1 (fun a2 => w_getq h a2 2 2 (fun r3 => w_nn r3 (fun a4 => w_is h a4 4 (wp_J2_size G h a4 (fun r5 h6 => (0 + 1 ≤ mc ∧ 0 + 7 ≤ ms ∧ w_new h6 (.inr (2, df_X2)) (fun a7 h8 => (∃ mc9 ms9, (0 + 1) + mc9 ≤ mc ∧ (0 + 7) + ms9 ≤ ms ∧ wp_X2_init G mc9 ms9 h8 a7 (fun h10 => w_put h10 a0 1 0 (.ref a7) (fun h11 => w_getq h11 a0 1 1 (fun r12 => w_nn r12 (fun a13 => w_is h11 a13 5 (wp_J3_clear G h11 a13 (fun h14 => Q r5 h14)))))))))))))))
set_option maxHeartbeats 4000000 in
theorem snd_X1_clear (l : Launch) (G : GG) (sz : Nat) (mc : Nat) (ms : Nat) (h : HH) (a0 : Nat) (Q : Int32 → HH → Prop) (hw : wp_X1_clear G mc ms h a0 Q) : Met l yX1_clear (ws_ yX1_clear cX1_clear 2 (some FieldType.int)) (rm_X1_clear mc ms) (hv_Pc G h sz [.ref a0]) (hv_Qi G h sz Q) mc ms (hv_A h sz) := by
  refine Met.ofW (cc := cX1_clear) (maxL := 2) (ret := (some FieldType.int)) (by decide) rfl ?_
  intro p e s m args below meth c s₁ B hml hv
  obtain ⟨rfl, rfl, hE, hI⟩ := hv_open B hml hv
  have hE : hv_E p s m ([.ref a0] : List Value).toArray meth c cX1_clear 2 (some FieldType.int) RX1 G h := hE
  obtain ⟨⟨hx, hb, hml, hown, hts⟩, hr, hlocks, hXX⟩ := id hE
  have hl := lv_entry ([.ref a0] : List Value) (n := 2) (Nat.le_of_ble_eq_true rfl)
  rw [lg_entry_eq]
  generalize (lg_sl ([.ref a0] : List Value) ++ List.replicate (2 - (lg_sl ([.ref a0] : List Value)).length) Slot.unset).toArray = ls at hl ⊢
  have hl : lv_has ls 2 [(0, .ref a0)] := hl
  have hc : 0 ≤ mc := Nat.zero_le _
  have hs : 0 ≤ ms := Nat.zero_le _
  unfold wp_X1_clear at hw
  refine lv_aload_n hx hb dX1_clear_0 rfl (lv_at hl 0 rfl) ?_
  refine hv_wgetq hE hI in_X1 (ci := 1) rfl 0 (by decide) (hts _ q300) (fun _ hx => hx) hw dX1_clear_1 (fun r1 hw => ?_)
  obtain ⟨a2, hz, hwa2⟩ := hw; have hla2 := hl; subst hz; have hw := hwa2; have hl := hla2
  refine hv_wgetqN hE hI in_X2 (ci := 2) rfl 2 (by decide) (hE.2.2.2.2.1.F 1 rfl) (fun _ hx => hx) hw dX1_clear_4 (fun r3 hw => ?_)
  obtain ⟨a4, hz, hwa4⟩ := hw; have hla4 := hl; subst hz; have hw := hwa4; have hl := hla4
  obtain ⟨⟨fs, hre⟩, hw⟩ := hw
  refine hv_rci hI (va_runV (As := []) (b := a4) (rest := []) hE.1 (snd_J2_size l G _ h a4 _ hw) (cwV 0 hts (lw_V q332 q333 q334 q102 q335) rfl rfl rfl (by decide +kernel) ⟨Nat.le_of_ble_eq_true rfl, Nat.le_of_ble_eq_true rfl⟩) (hv_preV hE hI (ci := 4) rfl hre) rfl rfl hl.1 rfl (lv_room (Nat.le_of_ble_eq_true rfl)) dX1_clear_7 ⟨hc, hs⟩) (fun r5 h6 H locs hw hI => ?_)
  refine lv_istore_n (lv' := [(1, .int r5), (0, .ref a0)]) hx hb dX1_clear_10 rfl hl (by decide) rfl (fun ls hl => ?_)
  refine lv_aload_n hx hb dX1_clear_11 rfl (lv_at hl 1 rfl) ?_
  obtain ⟨hc, hs, hw⟩ := hw
  refine hv_wnew tyX2 hE hI in_X2 tyX2_ok (hts _ q148) (hts _ q149) (hts _ q98) (ci := 2) rfl df_X2_ok hw hc hs dX1_clear_12 (fun a7 h8 H hw hI => ?_)
  refine lv_dup hx hb dX1_clear_15 rfl ?_
  obtain ⟨mc9, ms9, hc, hs, hw⟩ := hw
  refine hv_rcv hI (va_runIN (As := []) (b := a7) (rest := [.ref a7, .ref a0]) hE.1 (snd_X2_init l G _ mc9 ms9 h8 a7 _ hw) ⟨va_cnB 0 hts (lw_meth q152) rfl rfl rfl (hE.2.2.2.2.1.M 0 rfl) (hts _ q98) (by decide +kernel) ⟨Nat.le_of_ble_eq_true rfl, Nat.le_of_ble_eq_true rfl⟩, rfl, hts _ q151⟩ (hv_preS hE hI) rfl rfl hl.1 rfl (lv_room (Nat.le_of_ble_eq_true rfl)) dX1_clear_16 ⟨hc, hs⟩) (fun h10 H locs hw hI => ?_)
  refine hv_wput (v := .ref a7) tyX1 hE hI in_X1 tyX1_ok nmX1 (ci := 1) rfl 0 (by decide) (hts _ q300) (fun _ hx => hx) rfl (ty := (.object "MatchmakerRules$Book")) rfl rfl rfl hw dX1_clear_19 (fun h11 H locs hw hI => ?_)
  refine lv_aload_n hx hb dX1_clear_22 rfl (lv_at hl 1 rfl) ?_
  refine hv_wgetq hE hI in_X1 (ci := 1) rfl 1 (by decide) (hts _ q301) (fun _ hx => hx) hw dX1_clear_23 (fun r12 hw => ?_)
  obtain ⟨a13, hz, hwa13⟩ := hw; have hla13 := hl; subst hz; have hw := hwa13; have hl := hla13
  obtain ⟨⟨fs, hre⟩, hw⟩ := hw
  refine hv_rcv hI (va_runV (As := []) (b := a13) (rest := []) hE.1 (snd_J3_clear l G _ h11 a13 _ hw) (cwV 0 hts (lw_V q336 q337 q338 q103 q339) rfl rfl rfl (by decide +kernel) ⟨Nat.le_of_ble_eq_true rfl, Nat.le_of_ble_eq_true rfl⟩) (hv_preV hE hI (ci := 5) rfl hre) rfl rfl hl.1 rfl (lv_room (Nat.le_of_ble_eq_true rfl)) dX1_clear_26 ⟨hc, hs⟩) (fun h14 H locs hw hI => ?_)
  refine lv_iload_n hx hb dX1_clear_29 rfl (lv_at hl 0 rfl) ?_
  exact hv_iret hE hI hc hs hw dX1_clear_30

/-- java/util/ArrayList$Itr.<init>(Ljava/util/ArrayList;)V -/
abbrev rm_J15_init : Room := { frames := 1, cells := 0, slots := 0, locals := 32 }
def wp_J15_init (G : GG) (h : HH) (a0 : Nat) (x1 : Option Nat) (Q : HH → Prop) : Prop := w_put h a0 13 3 (va_rf x1) (fun h1 => w_put h1 a0 13 1 (.int (-1 : Int32)) (fun h2 => w_getq h2 a0 13 3 (fun r3 => w_nn r3 (fun a4 => w_geti h2 a4 4 0 (fun r5 => w_put h2 a0 13 2 (.int r5) (fun h6 => Q h6))))))
set_option maxHeartbeats 4000000 in
theorem snd_J15_init (l : Launch) (G : GG) (sz : Nat) (h : HH) (a0 : Nat) (x1 : Option Nat) (Q : HH → Prop) (hw : wp_J15_init G h a0 x1 Q) : Met l yJ15_init (ws_ yJ15_init cJ15_init 2 (none : Option FieldType)) rm_J15_init (hv_Pc G h sz [.ref a0, va_rf x1]) (hv_Qv G h sz Q) 0 0 (hv_A h sz) := by
  refine Met.ofW (cc := cJ15_init) (maxL := 2) (ret := (none : Option FieldType)) (by decide) rfl ?_
  intro p e s m args below meth c s₁ B hml hv
  have hin2 : meth.name = "<init>" := (name_of_methodNamed B.named B.method).1
  obtain ⟨rfl, rfl, hE, hI⟩ := hv_open B hml hv
  have hE : hv_E p s m ([.ref a0, va_rf x1] : List Value).toArray meth c cJ15_init 2 (none : Option FieldType) RJ15 G h := hE
  obtain ⟨⟨hx, hb, hml, hown, hts⟩, hr, hlocks, hXX⟩ := id hE
  have hl := lv_entry ([.ref a0, va_rf x1] : List Value) (n := 2) (by cases x1 <;> exact Nat.le_of_ble_eq_true rfl)
  rw [lg_entry_eq]
  generalize (lg_sl ([.ref a0, va_rf x1] : List Value) ++ List.replicate (2 - (lg_sl ([.ref a0, va_rf x1] : List Value)).length) Slot.unset).toArray = ls at hl ⊢
  have hl : lv_has ls 2 [(0, .ref a0), (1, va_rf x1)] := (by cases x1 <;> exact hl)
  unfold wp_J15_init at hw
  refine lv_aload_n hx hb dJ15_init_0 rfl (lv_at hl 0 rfl) ?_
  refine lv_aload_nq hx hb dJ15_init_1 rfl (lv_at hl 1 rfl) ?_
  refine hv_wputF (v := va_rf x1) tyJ15 hE hI in_J15 tyJ15_ok nmJ15 (ci := 13) rfl 3 (by decide) (hts _ q364) (fun _ hx => hx) rfl hin2 rfl (ty := (.object "java/util/ArrayList")) rfl (va_rf_nar _ _) (va_rf_fit _ _) hw dJ15_init_2 (fun h1 H locs hw hI => ?_)
  refine lv_aload_n hx hb dJ15_init_5 rfl (lv_at hl 0 rfl) ?_
  refine hv_objI (rest := []) hE (hts _ q360) (hts _ q146) (hts _ q147) hl.1 dJ15_init_6 (Nat.le_of_ble_eq_true rfl) (Nat.le_of_ble_eq_true rfl) ?_
  refine lv_aload_n hx hb dJ15_init_9 rfl (lv_at hl 0 rfl) ?_
  refine lv_iconst (v := -1) hx hb dJ15_init_10 (by decide) ?_
  refine hv_wput (v := .int (-1 : Int32)) tyJ15 hE hI in_J15 tyJ15_ok nmJ15 (ci := 13) rfl 1 (by decide) (hts _ q362) (fun _ hx => hx) rfl (ty := .int) rfl rfl rfl hw dJ15_init_11 (fun h2 H locs hw hI => ?_)
  refine lv_aload_n hx hb dJ15_init_14 rfl (lv_at hl 0 rfl) ?_
  refine lv_aload_n hx hb dJ15_init_15 rfl (lv_at hl 0 rfl) ?_
  refine hv_wgetq hE hI in_J15 (ci := 13) rfl 3 (by decide) (hts _ q364) (fun _ hx => hx) hw dJ15_init_16 (fun r3 hw => ?_)
  obtain ⟨a4, hz, hwa4⟩ := hw; have hla4 := hl; subst hz; have hw := hwa4; have hl := hla4
  refine hv_wgeti hE hI in_J2 (ci := 4) rfl 0 (by decide) (hts _ q208) (fun x hx => u_same (hts _ q209) x hx) hw dJ15_init_19 (fun r5 hw => ?_)
  refine hv_wput (v := .int r5) tyJ15 hE hI in_J15 tyJ15_ok nmJ15 (ci := 13) rfl 2 (by decide) (hts _ q363) (fun _ hx => hx) rfl (ty := .int) rfl rfl rfl hw dJ15_init_22 (fun h6 H locs hw hI => ?_)
  exact hv_vret hE hI (Nat.le_refl _) (Nat.le_refl _) hw dJ15_init_25

/-- java/util/ArrayList.iterator()Ljava/util/Iterator; -/
abbrev rm_J2_iterator (mc ms : Nat) : Room := { frames := 2, cells := mc, slots := ms, locals := 53 }
def wp_J2_iterator (G : GG) (mc : Nat) (ms : Nat) (h : HH) (a0 : Nat) (Q : Option Nat → HH → Prop) : Prop := (0 + 1 ≤ mc ∧ 0 + 4 ≤ ms ∧ w_new h (.inr (13, df_J15)) (fun a1 h2 => wp_J15_init G h2 a1 (some a0) (fun h3 => Q (some a1) h3)))
set_option maxHeartbeats 4000000 in
theorem snd_J2_iterator (l : Launch) (G : GG) (sz : Nat) (mc : Nat) (ms : Nat) (h : HH) (a0 : Nat) (Q : Option Nat → HH → Prop) (hw : wp_J2_iterator G mc ms h a0 Q) : Met l yJ2_iterator (ws_ yJ2_iterator cJ2_iterator 1 (some (FieldType.object "java/util/Iterator"))) (rm_J2_iterator mc ms) (hv_Pc G h sz [.ref a0]) (hv_Qq G h sz Q) mc ms (hv_A h sz) := by
  refine Met.ofW (cc := cJ2_iterator) (maxL := 1) (ret := (some (FieldType.object "java/util/Iterator"))) (by decide) rfl ?_
  intro p e s m args below meth c s₁ B hml hv
  obtain ⟨rfl, rfl, hE, hI⟩ := hv_open B hml hv
  have hE : hv_E p s m ([.ref a0] : List Value).toArray meth c cJ2_iterator 1 (some (FieldType.object "java/util/Iterator")) RJ2 G h := hE
  obtain ⟨⟨hx, hb, hml, hown, hts⟩, hr, hlocks, hXX⟩ := id hE
  have hl := lv_entry ([.ref a0] : List Value) (n := 1) (Nat.le_of_ble_eq_true rfl)
  rw [lg_entry_eq]
  generalize (lg_sl ([.ref a0] : List Value) ++ List.replicate (1 - (lg_sl ([.ref a0] : List Value)).length) Slot.unset).toArray = ls at hl ⊢
  have hl : lv_has ls 1 [(0, .ref a0)] := hl
  have hc : 0 ≤ mc := Nat.zero_le _
  have hs : 0 ≤ ms := Nat.zero_le _
  unfold wp_J2_iterator at hw
  obtain ⟨hc, hs, hw⟩ := hw
  refine hv_wnew tyJ15 hE hI in_J15 tyJ15_ok (hts _ q355) (hts _ q356) (hts _ q121) (ci := 13) rfl df_J15_ok hw hc hs dJ2_iterator_0 (fun a1 h2 H hw hI => ?_)
  refine lv_dup hx hb dJ2_iterator_3 rfl ?_
  refine lv_aload_n hx hb dJ2_iterator_4 rfl (lv_at hl 0 rfl) ?_
  refine hv_rcv hI (va_runI (As := [.ref a0]) (b := a1) (rest := [.ref a1]) hE.1 (snd_J15_init l G _ h2 a1 (some a0) _ hw) (cwI 1 hts (lw_meth q359) rfl rfl rfl (hts _ q121) (hts _ q357) (hts _ q358) rfl (by decide +kernel) ⟨Nat.le_of_ble_eq_true rfl, Nat.le_of_ble_eq_true rfl⟩) (hv_preS hE hI) rfl rfl hl.1 rfl (lv_room (Nat.le_of_ble_eq_true rfl)) dJ2_iterator_5 ⟨hc, hs⟩) (fun h3 H locs hw hI => ?_)
  exact hv_qret (v := (some a1)) hE (Or.inl ⟨_, rfl⟩) hI hc hs hw dJ2_iterator_8

/-- java/util/ArrayList$Itr.hasNext()Z -/
abbrev rm_J15_hasNext : Room := { frames := 1, cells := 0, slots := 0, locals := 12 }
def wp_J15_hasNext (G : GG) (h : HH) (a0 : Nat) (Q : Int32 → HH → Prop) : Prop := w_geti h a0 13 0 (fun r1 => w_getq h a0 13 3 (fun r2 => w_nn r2 (fun a3 => w_geti h a3 4 2 (fun r4 => ((r1 = r4 → Q (0 : Int32) h) ∧ (¬ r1 = r4 → Q (1 : Int32) h))))))
set_option maxHeartbeats 4000000 in
theorem snd_J15_hasNext (l : Launch) (G : GG) (sz : Nat) (h : HH) (a0 : Nat) (Q : Int32 → HH → Prop) (hw : wp_J15_hasNext G h a0 Q) : Met l yJ15_hasNext (ws_ yJ15_hasNext cJ15_hasNext 1 (some FieldType.boolean)) rm_J15_hasNext (hv_Pc G h sz [.ref a0]) (hv_Qi G h sz Q) 0 0 (hv_A h sz) := by
  refine Met.ofW (cc := cJ15_hasNext) (maxL := 1) (ret := (some FieldType.boolean)) (by decide) rfl ?_
  intro p e s m args below meth c s₁ B hml hv
  obtain ⟨rfl, rfl, hE, hI⟩ := hv_open B hml hv
  have hE : hv_E p s m ([.ref a0] : List Value).toArray meth c cJ15_hasNext 1 (some FieldType.boolean) RJ15 G h := hE
  obtain ⟨⟨hx, hb, hml, hown, hts⟩, hr, hlocks, hXX⟩ := id hE
  have hl := lv_entry ([.ref a0] : List Value) (n := 1) (Nat.le_of_ble_eq_true rfl)
  rw [lg_entry_eq]
  generalize (lg_sl ([.ref a0] : List Value) ++ List.replicate (1 - (lg_sl ([.ref a0] : List Value)).length) Slot.unset).toArray = ls at hl ⊢
  have hl : lv_has ls 1 [(0, .ref a0)] := hl
  unfold wp_J15_hasNext at hw
  refine lv_aload_n hx hb dJ15_hasNext_0 rfl (lv_at hl 0 rfl) ?_
  refine hv_wgeti hE hI in_J15 (ci := 13) rfl 0 (by decide) (hts _ q361) (fun _ hx => hx) hw dJ15_hasNext_1 (fun r1 hw => ?_)
  refine lv_aload_n hx hb dJ15_hasNext_4 rfl (lv_at hl 0 rfl) ?_
  refine hv_wgetq hE hI in_J15 (ci := 13) rfl 3 (by decide) (hts _ q364) (fun _ hx => hx) hw dJ15_hasNext_5 (fun r2 hw => ?_)
  obtain ⟨a3, hz, hwa3⟩ := hw; have hla3 := hl; subst hz; have hw := hwa3; have hl := hla3
  refine hv_wgetiN hE hI in_J2 (ci := 4) rfl 2 (by decide) (hE.2.2.2.2.1.F 50 rfl) (fun _ hx => hx) hw dJ15_hasNext_8 (fun r4 hw => ?_)
  refine lv_icmp_eq (tgt := 18) hx hb dJ15_hasNext_11 (by decide) (fun c_11 => ?_) (fun c_11 => ?_)
  · have hw := hw.1 c_11
    refine lv_iconst (v := 0) hx hb dJ15_hasNext_18 (by decide) ?_
    exact hv_zret hE hI (Nat.le_refl _) (Nat.le_refl _) rfl hw dJ15_hasNext_19
  · have hw := hw.2 c_11
    refine lv_iconst (v := 1) hx hb dJ15_hasNext_14 (by decide) ?_
    refine lv_goto (tgt := 19) hx hb dJ15_hasNext_15 (by decide) ?_
    exact hv_zret hE hI (Nat.le_refl _) (Nat.le_refl _) rfl hw dJ15_hasNext_19

/-- java/util/ArrayList$Itr.checkForComodification()V -/
abbrev rm_J15_checkForComodification : Room := { frames := 1, cells := 0, slots := 0, locals := 12 }
def wp_J15_checkForComodification (G : GG) (h : HH) (a0 : Nat) (Q : HH → Prop) : Prop := w_getq h a0 13 3 (fun r1 => w_nn r1 (fun a2 => w_geti h a2 4 0 (fun r3 => w_geti h a0 13 2 (fun r4 => ((r3 = r4 → Q h) ∧ (¬ r3 = r4 → False))))))
set_option maxHeartbeats 4000000 in
theorem snd_J15_checkForComodification (l : Launch) (G : GG) (sz : Nat) (h : HH) (a0 : Nat) (Q : HH → Prop) (hw : wp_J15_checkForComodification G h a0 Q) : Met l yJ15_checkForComodification (ws_ yJ15_checkForComodification cJ15_checkForComodification 1 (none : Option FieldType)) rm_J15_checkForComodification (hv_Pc G h sz [.ref a0]) (hv_Qv G h sz Q) 0 0 (hv_A h sz) := by
  refine Met.ofW (cc := cJ15_checkForComodification) (maxL := 1) (ret := (none : Option FieldType)) (by decide) rfl ?_
  intro p e s m args below meth c s₁ B hml hv
  obtain ⟨rfl, rfl, hE, hI⟩ := hv_open B hml hv
  have hE : hv_E p s m ([.ref a0] : List Value).toArray meth c cJ15_checkForComodification 1 (none : Option FieldType) RJ15 G h := hE
  obtain ⟨⟨hx, hb, hml, hown, hts⟩, hr, hlocks, hXX⟩ := id hE
  have hl := lv_entry ([.ref a0] : List Value) (n := 1) (Nat.le_of_ble_eq_true rfl)
  rw [lg_entry_eq]
  generalize (lg_sl ([.ref a0] : List Value) ++ List.replicate (1 - (lg_sl ([.ref a0] : List Value)).length) Slot.unset).toArray = ls at hl ⊢
  have hl : lv_has ls 1 [(0, .ref a0)] := hl
  unfold wp_J15_checkForComodification at hw
  refine lv_aload_n hx hb dJ15_checkForComodification_0 rfl (lv_at hl 0 rfl) ?_
  refine hv_wgetq hE hI in_J15 (ci := 13) rfl 3 (by decide) (hts _ q364) (fun _ hx => hx) hw dJ15_checkForComodification_1 (fun r1 hw => ?_)
  obtain ⟨a2, hz, hwa2⟩ := hw; have hla2 := hl; subst hz; have hw := hwa2; have hl := hla2
  refine hv_wgeti hE hI in_J2 (ci := 4) rfl 0 (by decide) (hts _ q208) (fun x hx => u_same (hts _ q209) x hx) hw dJ15_checkForComodification_4 (fun r3 hw => ?_)
  refine lv_aload_n hx hb dJ15_checkForComodification_7 rfl (lv_at hl 0 rfl) ?_
  refine hv_wgeti hE hI in_J15 (ci := 13) rfl 2 (by decide) (hts _ q363) (fun _ hx => hx) hw dJ15_checkForComodification_8 (fun r4 hw => ?_)
  refine lv_icmp_eq (tgt := 22) hx hb dJ15_checkForComodification_11 (by decide) (fun c_11 => ?_) (fun c_11 => ?_)
  · have hw := hw.1 c_11
    exact hv_vret hE hI (Nat.le_refl _) (Nat.le_refl _) hw dJ15_checkForComodification_22
  · have hw := hw.2 c_11
    exact hw.elim

/-- java/util/ArrayList$Itr.next()Ljava/lang/Object; -/
abbrev rm_J15_next : Room := { frames := 2, cells := 0, slots := 0, locals := 32 }
def wp_J15_next (G : GG) (h : HH) (a0 : Nat) (Q : Option Nat → HH → Prop) : Prop := w_is h a0 13 (wp_J15_checkForComodification G h a0 (fun h1 => w_geti h1 a0 13 0 (fun r2 => w_getq h1 a0 13 3 (fun r3 => w_nn r3 (fun a4 => w_geti h1 a4 4 2 (fun r5 => ((r2 < r5 → w_getq h1 a0 13 3 (fun r6 => w_nn r6 (fun a7 => w_getq h1 a7 4 1 (fun r8 => w_nn r8 (fun a9 => w_len G h1 a9 (fun r10 => ((r2 < r10 → w_put h1 a0 13 0 (.int (r2 + (1 : Int32))) (fun h11 => w_put h11 a0 13 1 (.int r2) (fun h12 => w_qld G h12 a9 r2 (fun r13 => Q r13 h12)))) ∧ (¬ r2 < r10 → False)))))))) ∧ (¬ r2 < r5 → False))))))))
set_option maxHeartbeats 4000000 in
theorem snd_J15_next (l : Launch) (G : GG) (sz : Nat) (h : HH) (a0 : Nat) (Q : Option Nat → HH → Prop) (hw : wp_J15_next G h a0 Q) : Met l yJ15_next (ws_ yJ15_next cJ15_next 3 (some (FieldType.object "java/lang/Object"))) rm_J15_next (hv_Pc G h sz [.ref a0]) (hv_Qq G h sz Q) 0 0 (hv_A h sz) := by
  refine Met.ofW (cc := cJ15_next) (maxL := 3) (ret := (some (FieldType.object "java/lang/Object"))) (by decide) rfl ?_
  intro p e s m args below meth c s₁ B hml hv
  obtain ⟨rfl, rfl, hE, hI⟩ := hv_open B hml hv
  have hE : hv_E p s m ([.ref a0] : List Value).toArray meth c cJ15_next 3 (some (FieldType.object "java/lang/Object")) RJ15 G h := hE
  obtain ⟨⟨hx, hb, hml, hown, hts⟩, hr, hlocks, hXX⟩ := id hE
  have hl := lv_entry ([.ref a0] : List Value) (n := 3) (Nat.le_of_ble_eq_true rfl)
  rw [lg_entry_eq]
  generalize (lg_sl ([.ref a0] : List Value) ++ List.replicate (3 - (lg_sl ([.ref a0] : List Value)).length) Slot.unset).toArray = ls at hl ⊢
  have hl : lv_has ls 3 [(0, .ref a0)] := hl
  unfold wp_J15_next at hw
  refine lv_aload_n hx hb dJ15_next_0 rfl (lv_at hl 0 rfl) ?_
  obtain ⟨⟨fs, hre⟩, hw⟩ := hw
  refine hv_rcv hI (va_runV (As := []) (b := a0) (rest := []) hE.1 (snd_J15_checkForComodification l G _ h a0 _ hw) (cwV 0 hts (lw_V q393 q394 q395 q121 q396) rfl rfl rfl (by decide +kernel) ⟨Nat.le_of_ble_eq_true rfl, Nat.le_of_ble_eq_true rfl⟩) (hv_preV hE hI (ci := 13) rfl hre) rfl rfl hl.1 rfl (lv_room (Nat.le_of_ble_eq_true rfl)) dJ15_next_1 ⟨Nat.le_of_ble_eq_true rfl, Nat.le_of_ble_eq_true rfl⟩) (fun h1 H locs hw hI => ?_)
  refine lv_aload_n hx hb dJ15_next_4 rfl (lv_at hl 0 rfl) ?_
  refine hv_wgeti hE hI in_J15 (ci := 13) rfl 0 (by decide) (hts _ q361) (fun _ hx => hx) hw dJ15_next_5 (fun r2 hw => ?_)
  refine lv_istore_n (lv' := [(1, .int r2), (0, .ref a0)]) hx hb dJ15_next_8 rfl hl (by decide) rfl (fun ls hl => ?_)
  refine lv_iload_n hx hb dJ15_next_9 rfl (lv_at hl 0 rfl) ?_
  refine lv_aload_n hx hb dJ15_next_10 rfl (lv_at hl 1 rfl) ?_
  refine hv_wgetq hE hI in_J15 (ci := 13) rfl 3 (by decide) (hts _ q364) (fun _ hx => hx) hw dJ15_next_11 (fun r3 hw => ?_)
  obtain ⟨a4, hz, hwa4⟩ := hw; have hla4 := hl; subst hz; have hw := hwa4; have hl := hla4
  refine hv_wgetiN hE hI in_J2 (ci := 4) rfl 2 (by decide) (hE.2.2.2.2.1.F 50 rfl) (fun _ hx => hx) hw dJ15_next_14 (fun r5 hw => ?_)
  refine lv_icmp_lt (tgt := 28) hx hb dJ15_next_17 (by decide) (fun c_17 => ?_) (fun c_17 => ?_)
  · have hw := hw.1 c_17
    refine lv_aload_n hx hb dJ15_next_28 rfl (lv_at hl 1 rfl) ?_
    refine hv_wgetq hE hI in_J15 (ci := 13) rfl 3 (by decide) (hts _ q364) (fun _ hx => hx) hw dJ15_next_29 (fun r6 hw => ?_)
    obtain ⟨a7, hz, hwa7⟩ := hw; have hla7 := hl; subst hz; have hw := hwa7; have hl := hla7
    refine hv_wgetq hE hI in_J2 (ci := 4) rfl 1 (by decide) (hts _ q204) (fun _ hx => hx) hw dJ15_next_32 (fun r8 hw => ?_)
    refine lv_astore_nq (lv' := [(2, va_rf r8), (1, .int r2), (0, .ref a0)]) hx hb dJ15_next_35 rfl hl (by decide) rfl (fun ls hl => ?_)
    refine lv_iload_n hx hb dJ15_next_36 rfl (lv_at hl 1 rfl) ?_
    refine lv_aload_nq hx hb dJ15_next_37 rfl (lv_at hl 0 rfl) ?_
    obtain ⟨a9, hz, hwa9⟩ := hw; have hla9 := hl; subst hz; have hw := hwa9; have hl := hla9
    refine hv_len hE hI hw dJ15_next_38 (fun r10 hw => ?_)
    refine lv_icmp_lt (tgt := 50) hx hb dJ15_next_39 (by decide) (fun c_39 => ?_) (fun c_39 => ?_)
    · have hw := hw.1 c_39
      refine lv_aload_n hx hb dJ15_next_50 rfl (lv_at hl 2 rfl) ?_
      refine lv_iload_n hx hb dJ15_next_51 rfl (lv_at hl 1 rfl) ?_
      refine lv_iconst (v := 1) hx hb dJ15_next_52 (by decide) ?_
      refine lv_iadd hx hb dJ15_next_53 ?_
      refine hv_wput (v := .int (r2 + (1 : Int32))) tyJ15 hE hI in_J15 tyJ15_ok nmJ15 (ci := 13) rfl 0 (by decide) (hts _ q361) (fun _ hx => hx) rfl (ty := .int) rfl rfl rfl hw dJ15_next_54 (fun h11 H locs hw hI => ?_)
      refine lv_aload_n hx hb dJ15_next_57 rfl (lv_at hl 0 rfl) ?_
      refine lv_aload_n hx hb dJ15_next_58 rfl (lv_at hl 2 rfl) ?_
      refine lv_iload_n hx hb dJ15_next_59 rfl (lv_at hl 1 rfl) ?_
      refine lv_dup_x1 hx hb dJ15_next_60 rfl rfl ?_
      refine hv_wput (v := .int r2) tyJ15 hE hI in_J15 tyJ15_ok nmJ15 (ci := 13) rfl 1 (by decide) (hts _ q362) (fun _ hx => hx) rfl (ty := .int) rfl rfl rfl hw dJ15_next_61 (fun h12 H locs hw hI => ?_)
      refine hv_wqld hE hI hw dJ15_next_64 (fun r13 hw => ?_)
      exact hv_qret (v := r13) hE (Or.inl ⟨_, rfl⟩) hI (Nat.le_refl _) (Nat.le_refl _) hw dJ15_next_65
    · have hw := hw.2 c_39
      exact hw.elim
  · have hw := hw.2 c_17
    exact hw.elim
