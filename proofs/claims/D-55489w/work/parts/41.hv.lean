/-! walks over a world (by gen/hvrun.py) -/
set_option maxRecDepth 100000
/-- jdk/internal/util/Preconditions.checkIndex(IILjava/util/function/BiFunction;)I -/
abbrev rm_J9_checkIndex : Room := { frames := 1, cells := 0, slots := 0, locals := 12 }
def wp_J9_checkIndex (G : GG) (h : HH) (x0 : Int32) (x1 : Int32) (x2 : Option Nat) (Q : Int32 → HH → Prop) : Prop := ((x0 < 0 → False) ∧ (¬ x0 < 0 → ((x0 < x1 → Q x0 h) ∧ (¬ x0 < x1 → False))))
set_option maxHeartbeats 4000000 in
theorem snd_J9_checkIndex (l : Launch) (G : GG) (sz : Nat) (h : HH) (x0 : Int32) (x1 : Int32) (x2 : Option Nat) (Q : Int32 → HH → Prop) (hw : wp_J9_checkIndex G h x0 x1 x2 Q) : Met l yJ9_checkIndex (ws_ yJ9_checkIndex cJ9_checkIndex 3 (some FieldType.int)) rm_J9_checkIndex (hv_Pc G h sz [.int x0, .int x1, va_rf x2]) (hv_Qi G h sz Q) 0 0 (hv_A h sz) := by
  refine Met.ofW (cc := cJ9_checkIndex) (maxL := 3) (ret := (some FieldType.int)) (by decide) rfl ?_
  intro p e s m args below meth c s₁ B hml hv
  obtain ⟨rfl, rfl, hE, hI⟩ := hv_open B hml hv
  have hE : hv_E p s m ([.int x0, .int x1, va_rf x2] : List Value).toArray meth c cJ9_checkIndex 3 (some FieldType.int) RJ9 G h := hE
  obtain ⟨⟨hx, hb, hml, hown, hts⟩, hr, hlocks, hXX⟩ := id hE
  have hl := lv_entry ([.int x0, .int x1, va_rf x2] : List Value) (n := 3) (by cases x2 <;> exact Nat.le_of_ble_eq_true rfl)
  rw [lg_entry_eq]
  generalize (lg_sl ([.int x0, .int x1, va_rf x2] : List Value) ++ List.replicate (3 - (lg_sl ([.int x0, .int x1, va_rf x2] : List Value)).length) Slot.unset).toArray = ls at hl ⊢
  have hl : lv_has ls 3 [(0, .int x0), (1, .int x1), (2, va_rf x2)] := (by cases x2 <;> exact hl)
  unfold wp_J9_checkIndex at hw
  refine lv_iload_n hx hb dJ9_checkIndex_0 rfl (lv_at hl 0 rfl) ?_
  refine lv_if_lt (tgt := 9) hx hb dJ9_checkIndex_1 (by decide) (fun c_1 => ?_) (fun c_1 => ?_)
  · have hw := hw.1 c_1
    refine lv_aload_nq hx hb dJ9_checkIndex_9 rfl (lv_at hl 2 rfl) ?_
    refine lv_iload_n hx hb dJ9_checkIndex_10 rfl (lv_at hl 0 rfl) ?_
    refine lv_iload_n hx hb dJ9_checkIndex_11 rfl (lv_at hl 1 rfl) ?_
    exact hw.elim
  · have hw := hw.2 c_1
    refine lv_iload_n hx hb dJ9_checkIndex_4 rfl (lv_at hl 0 rfl) ?_
    refine lv_iload_n hx hb dJ9_checkIndex_5 rfl (lv_at hl 1 rfl) ?_
    refine lv_icmp_lt (tgt := 16) hx hb dJ9_checkIndex_6 (by decide) (fun c_6 => ?_) (fun c_6 => ?_)
    · have hw := hw.1 c_6
      refine lv_iload_n hx hb dJ9_checkIndex_16 rfl (lv_at hl 0 rfl) ?_
      exact hv_iret hE hI (Nat.le_refl _) (Nat.le_refl _) hw dJ9_checkIndex_17
    · have hw := hw.2 c_6
      refine lv_aload_nq hx hb dJ9_checkIndex_9 rfl (lv_at hl 2 rfl) ?_
      refine lv_iload_n hx hb dJ9_checkIndex_10 rfl (lv_at hl 0 rfl) ?_
      refine lv_iload_n hx hb dJ9_checkIndex_11 rfl (lv_at hl 1 rfl) ?_
      exact hw.elim

/-- java/util/Objects.checkIndex(II)I -/
abbrev rm_J19_checkIndex : Room := { frames := 2, cells := 0, slots := 0, locals := 34 }
def wp_J19_checkIndex (G : GG) (h : HH) (x0 : Int32) (x1 : Int32) (Q : Int32 → HH → Prop) : Prop := wp_J9_checkIndex G h x0 x1 none (fun r1 h2 => Q r1 h2)
set_option maxHeartbeats 4000000 in
theorem snd_J19_checkIndex (l : Launch) (G : GG) (sz : Nat) (h : HH) (x0 : Int32) (x1 : Int32) (Q : Int32 → HH → Prop) (hw : wp_J19_checkIndex G h x0 x1 Q) : Met l yJ19_checkIndex (ws_ yJ19_checkIndex cJ19_checkIndex 2 (some FieldType.int)) rm_J19_checkIndex (hv_Pc G h sz [.int x0, .int x1]) (hv_Qi G h sz Q) 0 0 (hv_A h sz) := by
  refine Met.ofW (cc := cJ19_checkIndex) (maxL := 2) (ret := (some FieldType.int)) (by decide) rfl ?_
  intro p e s m args below meth c s₁ B hml hv
  obtain ⟨rfl, rfl, hE, hI⟩ := hv_open B hml hv
  have hE : hv_E p s m ([.int x0, .int x1] : List Value).toArray meth c cJ19_checkIndex 2 (some FieldType.int) RJ19 G h := hE
  obtain ⟨⟨hx, hb, hml, hown, hts⟩, hr, hlocks, hXX⟩ := id hE
  have hl := lv_entry ([.int x0, .int x1] : List Value) (n := 2) (Nat.le_of_ble_eq_true rfl)
  rw [lg_entry_eq]
  generalize (lg_sl ([.int x0, .int x1] : List Value) ++ List.replicate (2 - (lg_sl ([.int x0, .int x1] : List Value)).length) Slot.unset).toArray = ls at hl ⊢
  have hl : lv_has ls 2 [(0, .int x0), (1, .int x1)] := hl
  unfold wp_J19_checkIndex at hw
  refine lv_iload_n hx hb dJ19_checkIndex_0 rfl (lv_at hl 0 rfl) ?_
  refine lv_iload_n hx hb dJ19_checkIndex_1 rfl (lv_at hl 1 rfl) ?_
  refine lv_null hx hb dJ19_checkIndex_2 ?_
  refine hv_rci hI (va_runS (As := [.int x0, .int x1, .null]) (rest := []) hE.1 (snd_J9_checkIndex l G _ h x0 x1 none _ hw) (va_cwS 3 hts (lw_S q478 q479 q112 q480) rfl rfl rfl (by decide +kernel) ⟨Nat.le_of_ble_eq_true rfl, Nat.le_of_ble_eq_true rfl⟩) (hv_preS hE hI) rfl rfl hl.1 rfl (lv_room (Nat.le_of_ble_eq_true rfl)) dJ19_checkIndex_3 ⟨Nat.le_of_ble_eq_true rfl, Nat.le_of_ble_eq_true rfl⟩) (fun r1 h2 H locs hw hI => ?_)
  exact hv_iret hE hI (Nat.le_refl _) (Nat.le_refl _) hw dJ19_checkIndex_6

/-- java/util/ArrayList.elementData(I)Ljava/lang/Object; -/
abbrev rm_J2_elementData : Room := { frames := 1, cells := 0, slots := 0, locals := 12 }
def wp_J2_elementData (G : GG) (h : HH) (a0 : Nat) (x1 : Int32) (Q : Option Nat → HH → Prop) : Prop := w_getq h a0 4 1 (fun r1 => w_nn r1 (fun a2 => w_qld G h a2 x1 (fun r3 => Q r3 h)))
set_option maxHeartbeats 4000000 in
theorem snd_J2_elementData (l : Launch) (G : GG) (sz : Nat) (h : HH) (a0 : Nat) (x1 : Int32) (Q : Option Nat → HH → Prop) (hw : wp_J2_elementData G h a0 x1 Q) : Met l yJ2_elementData (ws_ yJ2_elementData cJ2_elementData 2 (some (FieldType.object "java/lang/Object"))) rm_J2_elementData (hv_Pc G h sz [.ref a0, .int x1]) (hv_Qq G h sz Q) 0 0 (hv_A h sz) := by
  refine Met.ofW (cc := cJ2_elementData) (maxL := 2) (ret := (some (FieldType.object "java/lang/Object"))) (by decide) rfl ?_
  intro p e s m args below meth c s₁ B hml hv
  obtain ⟨rfl, rfl, hE, hI⟩ := hv_open B hml hv
  have hE : hv_E p s m ([.ref a0, .int x1] : List Value).toArray meth c cJ2_elementData 2 (some (FieldType.object "java/lang/Object")) RJ2 G h := hE
  obtain ⟨⟨hx, hb, hml, hown, hts⟩, hr, hlocks, hXX⟩ := id hE
  have hl := lv_entry ([.ref a0, .int x1] : List Value) (n := 2) (Nat.le_of_ble_eq_true rfl)
  rw [lg_entry_eq]
  generalize (lg_sl ([.ref a0, .int x1] : List Value) ++ List.replicate (2 - (lg_sl ([.ref a0, .int x1] : List Value)).length) Slot.unset).toArray = ls at hl ⊢
  have hl : lv_has ls 2 [(0, .ref a0), (1, .int x1)] := hl
  unfold wp_J2_elementData at hw
  refine lv_aload_n hx hb dJ2_elementData_0 rfl (lv_at hl 0 rfl) ?_
  refine hv_wgetq hE hI in_J2 (ci := 4) rfl 1 (by decide) (hts _ q203) (fun _ hx => hx) hw dJ2_elementData_1 (fun r1 hw => ?_)
  refine lv_iload_n hx hb dJ2_elementData_4 rfl (lv_at hl 1 rfl) ?_
  obtain ⟨a2, hz, hwa2⟩ := hw; have hla2 := hl; subst hz; have hw := hwa2; have hl := hla2
  refine hv_wqld hE hI hw dJ2_elementData_5 (fun r3 hw => ?_)
  exact hv_qret (v := r3) hE (Or.inl ⟨_, rfl⟩) hI (Nat.le_refl _) (Nat.le_refl _) hw dJ2_elementData_6

/-- java/util/ArrayList.get(I)Ljava/lang/Object; -/
abbrev rm_J2_get : Room := { frames := 3, cells := 0, slots := 0, locals := 55 }
def wp_J2_get (G : GG) (h : HH) (a0 : Nat) (x1 : Int32) (Q : Option Nat → HH → Prop) : Prop := w_geti h a0 4 2 (fun r1 => wp_J19_checkIndex G h x1 r1 (fun r2 h3 => w_is h3 a0 4 (wp_J2_elementData G h3 a0 x1 (fun r4 h5 => Q r4 h5))))
set_option maxHeartbeats 4000000 in
theorem snd_J2_get (l : Launch) (G : GG) (sz : Nat) (h : HH) (a0 : Nat) (x1 : Int32) (Q : Option Nat → HH → Prop) (hw : wp_J2_get G h a0 x1 Q) : Met l yJ2_get (ws_ yJ2_get cJ2_get 2 (some (FieldType.object "java/lang/Object"))) rm_J2_get (hv_Pc G h sz [.ref a0, .int x1]) (hv_Qq G h sz Q) 0 0 (hv_A h sz) := by
  refine Met.ofW (cc := cJ2_get) (maxL := 2) (ret := (some (FieldType.object "java/lang/Object"))) (by decide) rfl ?_
  intro p e s m args below meth c s₁ B hml hv
  obtain ⟨rfl, rfl, hE, hI⟩ := hv_open B hml hv
  have hE : hv_E p s m ([.ref a0, .int x1] : List Value).toArray meth c cJ2_get 2 (some (FieldType.object "java/lang/Object")) RJ2 G h := hE
  obtain ⟨⟨hx, hb, hml, hown, hts⟩, hr, hlocks, hXX⟩ := id hE
  have hl := lv_entry ([.ref a0, .int x1] : List Value) (n := 2) (Nat.le_of_ble_eq_true rfl)
  rw [lg_entry_eq]
  generalize (lg_sl ([.ref a0, .int x1] : List Value) ++ List.replicate (2 - (lg_sl ([.ref a0, .int x1] : List Value)).length) Slot.unset).toArray = ls at hl ⊢
  have hl : lv_has ls 2 [(0, .ref a0), (1, .int x1)] := hl
  unfold wp_J2_get at hw
  refine lv_iload_n hx hb dJ2_get_0 rfl (lv_at hl 1 rfl) ?_
  refine lv_aload_n hx hb dJ2_get_1 rfl (lv_at hl 0 rfl) ?_
  refine hv_wgeti hE hI in_J2 (ci := 4) rfl 2 (by decide) (hts _ q206) (fun _ hx => hx) hw dJ2_get_2 (fun r1 hw => ?_)
  refine hv_rci hI (va_runS (As := [.int x1, .int r1]) (rest := []) hE.1 (snd_J19_checkIndex l G _ h x1 r1 _ hw) (va_cwS 2 hts (lw_S q475 q476 q128 q477) rfl rfl rfl (by decide +kernel) ⟨Nat.le_of_ble_eq_true rfl, Nat.le_of_ble_eq_true rfl⟩) (hv_preS hE hI) rfl rfl hl.1 rfl (lv_room (Nat.le_of_ble_eq_true rfl)) dJ2_get_5 ⟨Nat.le_of_ble_eq_true rfl, Nat.le_of_ble_eq_true rfl⟩) (fun r2 h3 H locs hw hI => ?_)
  refine lv_pop hx hb dJ2_get_8 rfl ?_
  refine lv_aload_n hx hb dJ2_get_9 rfl (lv_at hl 0 rfl) ?_
  refine lv_iload_n hx hb dJ2_get_10 rfl (lv_at hl 1 rfl) ?_
  obtain ⟨⟨fs, hre⟩, hw⟩ := hw
  refine hv_rcq hI (va_runV (As := [.int x1]) (b := a0) (rest := []) hE.1 (snd_J2_elementData l G _ h3 a0 x1 _ hw) (cwV 1 hts (lw_V q481 q482 q483 q102 q484) rfl rfl rfl (by decide +kernel) ⟨Nat.le_of_ble_eq_true rfl, Nat.le_of_ble_eq_true rfl⟩) (hv_preV hE hI (ci := 4) rfl hre) rfl rfl hl.1 rfl (lv_room (Nat.le_of_ble_eq_true rfl)) dJ2_get_11 ⟨Nat.le_of_ble_eq_true rfl, Nat.le_of_ble_eq_true rfl⟩) (fun r4 h5 H locs hw hI => ?_)
  exact hv_qret (v := r4) hE (Or.inl ⟨_, rfl⟩) hI (Nat.le_refl _) (Nat.le_refl _) hw dJ2_get_14

/-- MatchmakerRules$Book$Walk.begin(LMatchmakerRules$Rule;)LMatchmakerRules$Book$Walk; -/
abbrev rm_X3_begin : Room := { frames := 1, cells := 0, slots := 0, locals := 12 }
def wp_X3_begin (G : GG) (h : HH) (a0 : Nat) (x1 : Option Nat) (Q : Option Nat → HH → Prop) : Prop := w_put h a0 3 0 (va_rf x1) (fun h1 => w_put h1 a0 3 3 (.int (0 : Int32)) (fun h2 => w_put h2 a0 3 4 (.int (-1 : Int32)) (fun h3 => w_put h3 a0 3 5 (.null) (fun h4 => w_put h4 a0 3 6 (.int (-1 : Int32)) (fun h5 => Q (some a0) h5)))))
set_option maxHeartbeats 4000000 in
theorem snd_X3_begin (l : Launch) (G : GG) (sz : Nat) (h : HH) (a0 : Nat) (x1 : Option Nat) (Q : Option Nat → HH → Prop) (hw : wp_X3_begin G h a0 x1 Q) : Met l yX3_begin (ws_ yX3_begin cX3_begin 2 (some (FieldType.object "MatchmakerRules$Book$Walk"))) rm_X3_begin (hv_Pc G h sz [.ref a0, va_rf x1]) (hv_Qq G h sz Q) 0 0 (hv_A h sz) := by
  refine Met.ofW (cc := cX3_begin) (maxL := 2) (ret := (some (FieldType.object "MatchmakerRules$Book$Walk"))) (by decide) rfl ?_
  intro p e s m args below meth c s₁ B hml hv
  obtain ⟨rfl, rfl, hE, hI⟩ := hv_open B hml hv
  have hE : hv_E p s m ([.ref a0, va_rf x1] : List Value).toArray meth c cX3_begin 2 (some (FieldType.object "MatchmakerRules$Book$Walk")) RX3 G h := hE
  obtain ⟨⟨hx, hb, hml, hown, hts⟩, hr, hlocks, hXX⟩ := id hE
  have hl := lv_entry ([.ref a0, va_rf x1] : List Value) (n := 2) (by cases x1 <;> exact Nat.le_of_ble_eq_true rfl)
  rw [lg_entry_eq]
  generalize (lg_sl ([.ref a0, va_rf x1] : List Value) ++ List.replicate (2 - (lg_sl ([.ref a0, va_rf x1] : List Value)).length) Slot.unset).toArray = ls at hl ⊢
  have hl : lv_has ls 2 [(0, .ref a0), (1, va_rf x1)] := (by cases x1 <;> exact hl)
  unfold wp_X3_begin at hw
  refine lv_aload_n hx hb dX3_begin_0 rfl (lv_at hl 0 rfl) ?_
  refine lv_aload_nq hx hb dX3_begin_1 rfl (lv_at hl 1 rfl) ?_
  refine hv_wput (v := va_rf x1) tyX3 hE hI in_X3 tyX3_ok nmX3 (ci := 3) rfl 0 (by decide) (hts _ q160) (fun _ hx => hx) rfl (ty := (.object "MatchmakerRules$Rule")) rfl (va_rf_nar _ _) (va_rf_fit _ _) hw dX3_begin_2 (fun h1 H locs hw hI => ?_)
  refine lv_aload_n hx hb dX3_begin_5 rfl (lv_at hl 0 rfl) ?_
  refine lv_iconst (v := 0) hx hb dX3_begin_6 (by decide) ?_
  refine hv_wput (v := .int (0 : Int32)) tyX3 hE hI in_X3 tyX3_ok nmX3 (ci := 3) rfl 3 (by decide) (hts _ q164) (fun _ hx => hx) rfl (ty := .int) rfl rfl rfl hw dX3_begin_7 (fun h2 H locs hw hI => ?_)
  refine lv_aload_n hx hb dX3_begin_10 rfl (lv_at hl 0 rfl) ?_
  refine lv_iconst (v := -1) hx hb dX3_begin_11 (by decide) ?_
  refine hv_wput (v := .int (-1 : Int32)) tyX3 hE hI in_X3 tyX3_ok nmX3 (ci := 3) rfl 4 (by decide) (hts _ q165) (fun _ hx => hx) rfl (ty := .int) rfl rfl rfl hw dX3_begin_12 (fun h3 H locs hw hI => ?_)
  refine lv_aload_n hx hb dX3_begin_15 rfl (lv_at hl 0 rfl) ?_
  refine lv_null hx hb dX3_begin_16 ?_
  refine hv_wput (v := .null) tyX3 hE hI in_X3 tyX3_ok nmX3 (ci := 3) rfl 5 (by decide) (hts _ q166) (fun _ hx => hx) rfl (ty := (.object "MatchmakerRules$Fact")) rfl rfl rfl hw dX3_begin_17 (fun h4 H locs hw hI => ?_)
  refine lv_aload_n hx hb dX3_begin_20 rfl (lv_at hl 0 rfl) ?_
  refine lv_iconst (v := -1) hx hb dX3_begin_21 (by decide) ?_
  refine hv_wput (v := .int (-1 : Int32)) tyX3 hE hI in_X3 tyX3_ok nmX3 (ci := 3) rfl 6 (by decide) (hts _ q168) (fun _ hx => hx) rfl (ty := .int) rfl rfl rfl hw dX3_begin_22 (fun h5 H locs hw hI => ?_)
  refine lv_aload_n hx hb dX3_begin_25 rfl (lv_at hl 0 rfl) ?_
  exact hv_qret (v := (some a0)) hE (Or.inl ⟨_, rfl⟩) hI (Nat.le_refl _) (Nat.le_refl _) hw dX3_begin_26

/-- MatchmakerRules$Book.free([I)V -/
abbrev rm_X2_free : Room := { frames := 1, cells := 0, slots := 0, locals := 12 }
def wp_X2_free_L2 (G : GG) (Q : HH → Prop) : Nat → (HH) → (Option Nat) → (Int32) → Prop
  | 0, _, _, _ => False
  | n + 1, h, x0, x1 => (((3 : Int32) ≤ x1 → Q h) ∧ (¬ (3 : Int32) ≤ x1 → w_nn x0 (fun a1 => w_ist G h a1 x1 (-1 : Int32) (fun h2 => wp_X2_free_L2 G Q n h2 (some a1) (x1 + (1 : Int32))))))
set_option maxHeartbeats 4000000 in
theorem snd_X2_free_L2 {p : Program} {l : Launch} {e : Env} {s : State} {m : MethodId} {args : Array Value} {below : List Frame} {meth : Method} {c : Code} {h0 : HH} (G : GG) (Q : HH → Prop) (hE : hv_E p s m args meth c cX2_free 2 (none : Option FieldType) RX2 G h0) : ∀ (n : Nat) (h : HH) (x0 : Option Nat) (x1 : Int32), wp_X2_free_L2 G Q n h x0 x1 → ∀ (H : Heap) (locs : List Loc) (ls : Array Slot), hv_I G h0 s.heap h H locs → lv_has ls 2 [(0, va_rf x0), (1, .int x1)] → W p l e (headSpec (ws_ yX2_free cX2_free 2 (none : Option FieldType)) rm_X2_free).room s m args below meth c H locs 0 0 (MQ below (hv_Qv G h0 s.heap.size Q) args s 0 0 (hv_A h0 s.heap.size)) (F0 m 2 ls []) := by
  obtain ⟨⟨hx, hb, hml, hown, hts⟩, hr, hlocks, hXX⟩ := id hE
  intro n
  induction n with
  | zero => intro h x0 x1 hw; exact hw.elim
  | succ n ih =>
    intro h x0 x1 hw H locs ls hI hl
    unfold wp_X2_free_L2 at hw
    refine lv_iload_n hx hb dX2_free_2 rfl (lv_at hl 1 rfl) ?_
    refine lv_iconst (v := 3) hx hb dX2_free_3 (by decide) ?_
    refine lv_icmp_ge (tgt := 17) hx hb dX2_free_4 (by decide) (fun c_4 => ?_) (fun c_4 => ?_)
    · have hw := hw.1 c_4
      exact hv_vret hE hI (Nat.le_refl _) (Nat.le_refl _) hw dX2_free_17
    · have hw := hw.2 c_4
      refine lv_aload_nq hx hb dX2_free_7 rfl (lv_at hl 0 rfl) ?_
      refine lv_iload_n hx hb dX2_free_8 rfl (lv_at hl 1 rfl) ?_
      refine lv_iconst (v := -1) hx hb dX2_free_9 (by decide) ?_
      obtain ⟨a1, hz, hwa1⟩ := hw; have hla1 := hl; subst hz; have hw := hwa1; have hl := hla1
      refine hv_wist hE hI hw dX2_free_10 (fun h2 H locs hw hI => ?_)
      refine lv_iinc (v := (x1 + (1 : Int32))) (lv' := [(1, .int (x1 + (1 : Int32))), (0, .ref a1)]) hx hb dX2_free_11 hl (k := 1) rfl rfl (by decide) rfl (fun ls hl => ?_)
      refine lv_goto (tgt := 2) hx hb dX2_free_14 (by decide) ?_
      exact ih h2 (some a1) (x1 + (1 : Int32)) hw _ _ _ hI (lv_sub hl [1, 0] rfl)
def wp_X2_free (G : GG) (h : HH) (x0 : Option Nat) (Q : HH → Prop) : Prop := (∃ n2, wp_X2_free_L2 G Q n2 h x0 (0 : Int32))
set_option maxHeartbeats 4000000 in
theorem snd_X2_free (l : Launch) (G : GG) (sz : Nat) (h : HH) (x0 : Option Nat) (Q : HH → Prop) (hw : wp_X2_free G h x0 Q) : Met l yX2_free (ws_ yX2_free cX2_free 2 (none : Option FieldType)) rm_X2_free (hv_Pc G h sz [va_rf x0]) (hv_Qv G h sz Q) 0 0 (hv_A h sz) := by
  refine Met.ofW (cc := cX2_free) (maxL := 2) (ret := (none : Option FieldType)) (by decide) rfl ?_
  intro p e s m args below meth c s₁ B hml hv
  obtain ⟨rfl, rfl, hE, hI⟩ := hv_open B hml hv
  have hE : hv_E p s m ([va_rf x0] : List Value).toArray meth c cX2_free 2 (none : Option FieldType) RX2 G h := hE
  obtain ⟨⟨hx, hb, hml, hown, hts⟩, hr, hlocks, hXX⟩ := id hE
  have hl := lv_entry ([va_rf x0] : List Value) (n := 2) (by cases x0 <;> exact Nat.le_of_ble_eq_true rfl)
  rw [lg_entry_eq]
  generalize (lg_sl ([va_rf x0] : List Value) ++ List.replicate (2 - (lg_sl ([va_rf x0] : List Value)).length) Slot.unset).toArray = ls at hl ⊢
  have hl : lv_has ls 2 [(0, va_rf x0)] := (by cases x0 <;> exact hl)
  unfold wp_X2_free at hw
  refine lv_iconst (v := 0) hx hb dX2_free_0 (by decide) ?_
  refine lv_istore_n (lv' := [(1, .int (0 : Int32)), (0, va_rf x0)]) hx hb dX2_free_1 rfl hl (by decide) (by cases x0 <;> exact rfl) (fun ls hl => ?_)
  obtain ⟨n2, hw⟩ := hw
  exact snd_X2_free_L2 G Q hE n2 h x0 (0 : Int32) hw _ _ _ hI (lv_sub hl [1, 0] rfl)

/-- MatchmakerRules$Pattern.fits(II[I)Z -/
abbrev rm_X8_fits_2 : Room := { frames := 1, cells := 0, slots := 0, locals := 12 }
def wp_X8_fits_2_L67 (G : GG) (a0 : Nat) (Q : Int32 → HH → Prop) (h : HH) (x2 : Int32) (x3 : Nat) (x5 : Int32) (t0 : Nat) (t1 : Int32) (t2 : Int32) : Prop := w_ist G h t0 t1 t2 (fun h7 => w_ild G h7 x3 x5 (fun r8 => ((¬ r8 = x2 → Q (0 : Int32) h7) ∧ (r8 = x2 → Q (1 : Int32) h7))))
set_option maxHeartbeats 4000000 in
theorem snd_X8_fits_2_L67 {p : Program} {l : Launch} {e : Env} {s : State} {m : MethodId} {args : Array Value} {below : List Frame} {meth : Method} {c : Code} {h0 : HH} (G : GG) (a0 : Nat) (Q : Int32 → HH → Prop) (hE : hv_E p s m args meth c cX8_fits_2 7 (some FieldType.boolean) RX8 G h0) : ∀ (h : HH) (x2 : Int32) (x3 : Nat) (x5 : Int32) (t0 : Nat) (t1 : Int32) (t2 : Int32), wp_X8_fits_2_L67 G a0 Q h x2 x3 x5 t0 t1 t2 → ∀ (H : Heap) (locs : List Loc) (ls : Array Slot), hv_I G h0 s.heap h H locs → lv_has ls 7 [(2, .int x2), (3, .ref x3), (5, .int x5)] → W p l e (headSpec (ws_ yX8_fits_2 cX8_fits_2 7 (some FieldType.boolean)) rm_X8_fits_2).room s m args below meth c H locs 0 0 (MQ below (hv_Qi G h0 s.heap.size Q) args s 0 0 (hv_A h0 s.heap.size)) (F0 m 67 ls [.int t2, .int t1, .ref t0]) := by
  obtain ⟨⟨hx, hb, hml, hown, hts⟩, hr, hlocks, hXX⟩ := id hE
  intro h x2 x3 x5 t0 t1 t2 hw H locs ls hI hl
  unfold wp_X8_fits_2_L67 at hw
  refine hv_wist hE hI hw dX8_fits_2_67 (fun h7 H locs hw hI => ?_)
  refine lv_aload_n hx hb dX8_fits_2_68 rfl (lv_at hl 1 rfl) ?_
  refine lv_iload hx hb dX8_fits_2_69 (lv_at hl 2 rfl) ?_
  refine hv_wild hE hI hw dX8_fits_2_71 (fun r8 hw => ?_)
  refine lv_iload_n hx hb dX8_fits_2_72 rfl (lv_at hl 0 rfl) ?_
  refine lv_icmp_ne (tgt := 80) hx hb dX8_fits_2_73 (by decide) (fun c_73 => ?_) (fun c_73 => ?_)
  · have hw := hw.1 c_73
    refine lv_iconst (v := 0) hx hb dX8_fits_2_80 (by decide) ?_
    exact hv_zret hE hI (Nat.le_refl _) (Nat.le_refl _) rfl hw dX8_fits_2_81
  · have hw := hw.2 c_73
    refine lv_iconst (v := 1) hx hb dX8_fits_2_76 (by decide) ?_
    refine lv_goto (tgt := 81) hx hb dX8_fits_2_77 (by decide) ?_
    exact hv_zret hE hI (Nat.le_refl _) (Nat.le_refl _) rfl hw dX8_fits_2_81
def wp_X8_fits_2_L49 (G : GG) (a0 : Nat) (Q : Int32 → HH → Prop) (h : HH) (x2 : Int32) (x3 : Nat) (x5 : Int32) (t0 : Int32) : Prop := ((t0 = 0 → w_ild G h x3 x5 (fun r6 => wp_X8_fits_2_L67 G a0 Q h x2 x3 x5 x3 x5 r6)) ∧ (¬ t0 = 0 → wp_X8_fits_2_L67 G a0 Q h x2 x3 x5 x3 x5 x2))
set_option maxHeartbeats 4000000 in
theorem snd_X8_fits_2_L49 {p : Program} {l : Launch} {e : Env} {s : State} {m : MethodId} {args : Array Value} {below : List Frame} {meth : Method} {c : Code} {h0 : HH} (G : GG) (a0 : Nat) (Q : Int32 → HH → Prop) (hE : hv_E p s m args meth c cX8_fits_2 7 (some FieldType.boolean) RX8 G h0) : ∀ (h : HH) (x2 : Int32) (x3 : Nat) (x5 : Int32) (t0 : Int32), wp_X8_fits_2_L49 G a0 Q h x2 x3 x5 t0 → ∀ (H : Heap) (locs : List Loc) (ls : Array Slot), hv_I G h0 s.heap h H locs → lv_has ls 7 [(2, .int x2), (3, .ref x3), (5, .int x5)] → W p l e (headSpec (ws_ yX8_fits_2 cX8_fits_2 7 (some FieldType.boolean)) rm_X8_fits_2).room s m args below meth c H locs 0 0 (MQ below (hv_Qi G h0 s.heap.size Q) args s 0 0 (hv_A h0 s.heap.size)) (F0 m 49 ls [.int t0]) := by
  obtain ⟨⟨hx, hb, hml, hown, hts⟩, hr, hlocks, hXX⟩ := id hE
  intro h x2 x3 x5 t0 hw H locs ls hI hl
  unfold wp_X8_fits_2_L49 at hw
  refine lv_istore (lv' := [(6, .int t0), (2, .int x2), (3, .ref x3), (5, .int x5)]) hx hb dX8_fits_2_49 hl (by decide) rfl (fun ls hl => ?_)
  refine lv_aload_n hx hb dX8_fits_2_51 rfl (lv_at hl 2 rfl) ?_
  refine lv_iload hx hb dX8_fits_2_52 (lv_at hl 3 rfl) ?_
  refine lv_iload hx hb dX8_fits_2_54 (lv_at hl 0 rfl) ?_
  refine lv_if_eq (tgt := 63) hx hb dX8_fits_2_56 (by decide) (fun c_56 => ?_) (fun c_56 => ?_)
  · have hw := hw.1 c_56
    refine lv_aload_n hx hb dX8_fits_2_63 rfl (lv_at hl 2 rfl) ?_
    refine lv_iload hx hb dX8_fits_2_64 (lv_at hl 3 rfl) ?_
    refine hv_wild hE hI hw dX8_fits_2_66 (fun r6 hw => ?_)
    exact snd_X8_fits_2_L67 G a0 Q hE h x2 x3 x5 x3 x5 r6 hw _ _ _ hI (lv_sub hl [1, 2, 3] rfl)
  · have hw := hw.2 c_56
    refine lv_iload_n hx hb dX8_fits_2_59 rfl (lv_at hl 1 rfl) ?_
    refine lv_goto (tgt := 67) hx hb dX8_fits_2_60 (by decide) ?_
    exact snd_X8_fits_2_L67 G a0 Q hE h x2 x3 x5 x3 x5 x2 hw _ _ _ hI (lv_sub hl [1, 2, 3] rfl)
def wp_X8_fits_2 (G : GG) (h : HH) (a0 : Nat) (x1 : Int32) (x2 : Int32) (x3 : Option Nat) (Q : Int32 → HH → Prop) : Prop := w_getq h a0 11 1 (fun r1 => w_nn r1 (fun a2 => w_ild G h a2 x1 (fun r3 => (((9 : Int32) < r3 → w_nn x3 (fun a4 => w_ild G h a4 ((r3 - (9 : Int32)) - (1 : Int32)) (fun r5 => ((¬ r5 = (-1 : Int32) → wp_X8_fits_2_L49 G a0 Q h x2 a4 ((r3 - (9 : Int32)) - (1 : Int32)) (0 : Int32)) ∧ (r5 = (-1 : Int32) → wp_X8_fits_2_L49 G a0 Q h x2 a4 ((r3 - (9 : Int32)) - (1 : Int32)) (1 : Int32)))))) ∧ (¬ (9 : Int32) < r3 → ((¬ r3 = x2 → Q (0 : Int32) h) ∧ (r3 = x2 → Q (1 : Int32) h)))))))
set_option maxHeartbeats 4000000 in
theorem snd_X8_fits_2 (l : Launch) (G : GG) (sz : Nat) (h : HH) (a0 : Nat) (x1 : Int32) (x2 : Int32) (x3 : Option Nat) (Q : Int32 → HH → Prop) (hw : wp_X8_fits_2 G h a0 x1 x2 x3 Q) : Met l yX8_fits_2 (ws_ yX8_fits_2 cX8_fits_2 7 (some FieldType.boolean)) rm_X8_fits_2 (hv_Pc G h sz [.ref a0, .int x1, .int x2, va_rf x3]) (hv_Qi G h sz Q) 0 0 (hv_A h sz) := by
  refine Met.ofW (cc := cX8_fits_2) (maxL := 7) (ret := (some FieldType.boolean)) (by decide) rfl ?_
  intro p e s m args below meth c s₁ B hml hv
  obtain ⟨rfl, rfl, hE, hI⟩ := hv_open B hml hv
  have hE : hv_E p s m ([.ref a0, .int x1, .int x2, va_rf x3] : List Value).toArray meth c cX8_fits_2 7 (some FieldType.boolean) RX8 G h := hE
  obtain ⟨⟨hx, hb, hml, hown, hts⟩, hr, hlocks, hXX⟩ := id hE
  have hl := lv_entry ([.ref a0, .int x1, .int x2, va_rf x3] : List Value) (n := 7) (by cases x3 <;> exact Nat.le_of_ble_eq_true rfl)
  rw [lg_entry_eq]
  generalize (lg_sl ([.ref a0, .int x1, .int x2, va_rf x3] : List Value) ++ List.replicate (7 - (lg_sl ([.ref a0, .int x1, .int x2, va_rf x3] : List Value)).length) Slot.unset).toArray = ls at hl ⊢
  have hl : lv_has ls 7 [(0, .ref a0), (1, .int x1), (2, .int x2), (3, va_rf x3)] := (by cases x3 <;> exact hl)
  unfold wp_X8_fits_2 at hw
  refine lv_aload_n hx hb dX8_fits_2_0 rfl (lv_at hl 0 rfl) ?_
  refine hv_wgetq hE hI in_X8 (ci := 11) rfl 1 (by decide) (hts _ q830) (fun _ hx => hx) hw dX8_fits_2_1 (fun r1 hw => ?_)
  refine lv_iload_n hx hb dX8_fits_2_4 rfl (lv_at hl 1 rfl) ?_
  obtain ⟨a2, hz, hwa2⟩ := hw; have hla2 := hl; subst hz; have hw := hwa2; have hl := hla2
  refine hv_wild hE hI hw dX8_fits_2_5 (fun r3 hw => ?_)
  refine lv_istore (lv' := [(4, .int r3), (0, .ref a0), (1, .int x1), (2, .int x2), (3, va_rf x3)]) hx hb dX8_fits_2_6 hl (by decide) (by cases x3 <;> exact rfl) (fun ls hl => ?_)
  refine lv_iload hx hb dX8_fits_2_8 (lv_at hl 0 rfl) ?_
  refine lv_bipush (v := 9) hx hb dX8_fits_2_10 (by decide) ?_
  refine lv_icmp_gt (tgt := 27) hx hb dX8_fits_2_12 (by decide) (fun c_12 => ?_) (fun c_12 => ?_)
  · have hw := hw.1 c_12
    refine lv_iload hx hb dX8_fits_2_27 (lv_at hl 0 rfl) ?_
    refine lv_bipush (v := 9) hx hb dX8_fits_2_29 (by decide) ?_
    refine lv_isub hx hb dX8_fits_2_31 ?_
    refine lv_iconst (v := 1) hx hb dX8_fits_2_32 (by decide) ?_
    refine lv_isub hx hb dX8_fits_2_33 ?_
    refine lv_istore (lv' := [(5, .int ((r3 - (9 : Int32)) - (1 : Int32))), (4, .int r3), (0, .ref a0), (1, .int x1), (2, .int x2), (3, va_rf x3)]) hx hb dX8_fits_2_34 hl (by decide) rfl (fun ls hl => ?_)
    refine lv_aload_nq hx hb dX8_fits_2_36 rfl (lv_at hl 5 rfl) ?_
    refine lv_iload hx hb dX8_fits_2_37 (lv_at hl 0 rfl) ?_
    obtain ⟨a4, hz, hwa4⟩ := hw; have hla4 := hl; subst hz; have hw := hwa4; have hl := hla4
    refine hv_wild hE hI hw dX8_fits_2_39 (fun r5 hw => ?_)
    refine lv_iconst (v := -1) hx hb dX8_fits_2_40 (by decide) ?_
    refine lv_icmp_ne (tgt := 48) hx hb dX8_fits_2_41 (by decide) (fun c_41 => ?_) (fun c_41 => ?_)
    · have hw := hw.1 c_41
      refine lv_iconst (v := 0) hx hb dX8_fits_2_48 (by decide) ?_
      exact snd_X8_fits_2_L49 G a0 Q hE h x2 a4 ((r3 - (9 : Int32)) - (1 : Int32)) (0 : Int32) hw _ _ _ hI (lv_sub hl [4, 5, 0] rfl)
    · have hw := hw.2 c_41
      refine lv_iconst (v := 1) hx hb dX8_fits_2_44 (by decide) ?_
      refine lv_goto (tgt := 49) hx hb dX8_fits_2_45 (by decide) ?_
      exact snd_X8_fits_2_L49 G a0 Q hE h x2 a4 ((r3 - (9 : Int32)) - (1 : Int32)) (1 : Int32) hw _ _ _ hI (lv_sub hl [4, 5, 0] rfl)
  · have hw := hw.2 c_12
    refine lv_iload hx hb dX8_fits_2_15 (lv_at hl 0 rfl) ?_
    refine lv_iload_n hx hb dX8_fits_2_17 rfl (lv_at hl 3 rfl) ?_
    refine lv_icmp_ne (tgt := 25) hx hb dX8_fits_2_18 (by decide) (fun c_18 => ?_) (fun c_18 => ?_)
    · have hw := hw.1 c_18
      refine lv_iconst (v := 0) hx hb dX8_fits_2_25 (by decide) ?_
      exact hv_zret hE hI (Nat.le_refl _) (Nat.le_refl _) rfl hw dX8_fits_2_26
    · have hw := hw.2 c_18
      refine lv_iconst (v := 1) hx hb dX8_fits_2_21 (by decide) ?_
      refine lv_goto (tgt := 26) hx hb dX8_fits_2_22 (by decide) ?_
      exact hv_zret hE hI (Nat.le_refl _) (Nat.le_refl _) rfl hw dX8_fits_2_26

/-- MatchmakerRules$Pattern.fits(LMatchmakerRules$Fact;[I)Z -/
abbrev rm_X8_fits : Room := { frames := 2, cells := 0, slots := 0, locals := 38 }
def wp_X8_fits (G : GG) (h : HH) (a0 : Nat) (x1 : Option Nat) (x2 : Option Nat) (Q : Int32 → HH → Prop) : Prop := w_nn x1 (fun a1 => w_geti h a1 14 1 (fun r2 => w_geti h a0 11 0 (fun r3 => ((¬ r2 = r3 → Q (0 : Int32) h) ∧ (r2 = r3 → w_geti h a1 14 2 (fun r4 => w_is h a0 11 (wp_X8_fits_2 G h a0 (0 : Int32) r4 x2 (fun r5 h6 => ((r5 = 0 → Q (0 : Int32) h6) ∧ (¬ r5 = 0 → w_geti h6 a1 14 3 (fun r7 => w_is h6 a0 11 (wp_X8_fits_2 G h6 a0 (1 : Int32) r7 x2 (fun r8 h9 => ((r8 = 0 → Q (0 : Int32) h9) ∧ (¬ r8 = 0 → Q (1 : Int32) h9)))))))))))))))
set_option maxHeartbeats 4000000 in
theorem snd_X8_fits (l : Launch) (G : GG) (sz : Nat) (h : HH) (a0 : Nat) (x1 : Option Nat) (x2 : Option Nat) (Q : Int32 → HH → Prop) (hw : wp_X8_fits G h a0 x1 x2 Q) : Met l yX8_fits (ws_ yX8_fits cX8_fits 3 (some FieldType.boolean)) rm_X8_fits (hv_Pc G h sz [.ref a0, va_rf x1, va_rf x2]) (hv_Qi G h sz Q) 0 0 (hv_A h sz) := by
  refine Met.ofW (cc := cX8_fits) (maxL := 3) (ret := (some FieldType.boolean)) (by decide) rfl ?_
  intro p e s m args below meth c s₁ B hml hv
  obtain ⟨rfl, rfl, hE, hI⟩ := hv_open B hml hv
  have hE : hv_E p s m ([.ref a0, va_rf x1, va_rf x2] : List Value).toArray meth c cX8_fits 3 (some FieldType.boolean) RX8 G h := hE
  obtain ⟨⟨hx, hb, hml, hown, hts⟩, hr, hlocks, hXX⟩ := id hE
  have hl := lv_entry ([.ref a0, va_rf x1, va_rf x2] : List Value) (n := 3) (by cases x1 <;> cases x2 <;> exact Nat.le_of_ble_eq_true rfl)
  rw [lg_entry_eq]
  generalize (lg_sl ([.ref a0, va_rf x1, va_rf x2] : List Value) ++ List.replicate (3 - (lg_sl ([.ref a0, va_rf x1, va_rf x2] : List Value)).length) Slot.unset).toArray = ls at hl ⊢
  have hl : lv_has ls 3 [(0, .ref a0), (1, va_rf x1), (2, va_rf x2)] := (by cases x1 <;> cases x2 <;> exact hl)
  unfold wp_X8_fits at hw
  refine lv_aload_nq hx hb dX8_fits_0 rfl (lv_at hl 1 rfl) ?_
  obtain ⟨a1, hz, hwa1⟩ := hw; have hla1 := hl; subst hz; have hw := hwa1; have hl := hla1
  refine hv_wgetiN hE hI in_X10 (ci := 14) rfl 1 (by decide) (hE.2.2.2.2.1.F 47 rfl) (fun _ hx => hx) hw dX8_fits_1 (fun r2 hw => ?_)
  refine lv_aload_n hx hb dX8_fits_4 rfl (lv_at hl 0 rfl) ?_
  refine hv_wgeti hE hI in_X8 (ci := 11) rfl 0 (by decide) (hts _ q828) (fun _ hx => hx) hw dX8_fits_5 (fun r3 hw => ?_)
  refine lv_icmp_ne (tgt := 41) hx hb dX8_fits_8 (by decide) (fun c_8 => ?_) (fun c_8 => ?_)
  · have hw := hw.1 c_8
    refine lv_iconst (v := 0) hx hb dX8_fits_41 (by decide) ?_
    exact hv_zret hE hI (Nat.le_refl _) (Nat.le_refl _) rfl hw dX8_fits_42
  · have hw := hw.2 c_8
    refine lv_aload_n hx hb dX8_fits_11 rfl (lv_at hl 0 rfl) ?_
    refine lv_iconst (v := 0) hx hb dX8_fits_12 (by decide) ?_
    refine lv_aload_n hx hb dX8_fits_13 rfl (lv_at hl 1 rfl) ?_
    refine hv_wgetiN hE hI in_X10 (ci := 14) rfl 2 (by decide) (hE.2.2.2.2.1.F 48 rfl) (fun _ hx => hx) hw dX8_fits_14 (fun r4 hw => ?_)
    refine lv_aload_nq hx hb dX8_fits_17 rfl (lv_at hl 2 rfl) ?_
    obtain ⟨⟨fs, hre⟩, hw⟩ := hw
    refine hv_rci hI (va_runV (As := [.int (0 : Int32), .int r4, va_rf x2]) (b := a0) (rest := []) hE.1 (snd_X8_fits_2 l G _ h a0 (0 : Int32) r4 x2 _ hw) (cwV 3 hts (lw_V q508 q510 qs2 q117 q512) rfl rfl rfl (by decide +kernel) ⟨Nat.le_of_ble_eq_true rfl, Nat.le_of_ble_eq_true rfl⟩) (hv_preV hE hI (ci := 11) rfl hre) rfl rfl hl.1 rfl (lv_room (Nat.le_of_ble_eq_true rfl)) dX8_fits_18 ⟨Nat.le_of_ble_eq_true rfl, Nat.le_of_ble_eq_true rfl⟩) (fun r5 h6 H locs hw hI => ?_)
    refine lv_if_eq (tgt := 41) hx hb dX8_fits_21 (by decide) (fun c_21 => ?_) (fun c_21 => ?_)
    · have hw := hw.1 c_21
      refine lv_iconst (v := 0) hx hb dX8_fits_41 (by decide) ?_
      exact hv_zret hE hI (Nat.le_refl _) (Nat.le_refl _) rfl hw dX8_fits_42
    · have hw := hw.2 c_21
      refine lv_aload_n hx hb dX8_fits_24 rfl (lv_at hl 0 rfl) ?_
      refine lv_iconst (v := 1) hx hb dX8_fits_25 (by decide) ?_
      refine lv_aload_n hx hb dX8_fits_26 rfl (lv_at hl 1 rfl) ?_
      refine hv_wgetiN hE hI in_X10 (ci := 14) rfl 3 (by decide) (hE.2.2.2.2.1.F 49 rfl) (fun _ hx => hx) hw dX8_fits_27 (fun r7 hw => ?_)
      refine lv_aload_nq hx hb dX8_fits_30 rfl (lv_at hl 2 rfl) ?_
      obtain ⟨⟨fs, hre⟩, hw⟩ := hw
      refine hv_rci hI (va_runV (As := [.int (1 : Int32), .int r7, va_rf x2]) (b := a0) (rest := []) hE.1 (snd_X8_fits_2 l G _ h6 a0 (1 : Int32) r7 x2 _ hw) (cwV 3 hts (lw_V q508 q510 qs2 q117 q512) rfl rfl rfl (by decide +kernel) ⟨Nat.le_of_ble_eq_true rfl, Nat.le_of_ble_eq_true rfl⟩) (hv_preV hE hI (ci := 11) rfl hre) rfl rfl hl.1 rfl (lv_room (Nat.le_of_ble_eq_true rfl)) dX8_fits_31 ⟨Nat.le_of_ble_eq_true rfl, Nat.le_of_ble_eq_true rfl⟩) (fun r8 h9 H locs hw hI => ?_)
      refine lv_if_eq (tgt := 41) hx hb dX8_fits_34 (by decide) (fun c_34 => ?_) (fun c_34 => ?_)
      · have hw := hw.1 c_34
        refine lv_iconst (v := 0) hx hb dX8_fits_41 (by decide) ?_
        exact hv_zret hE hI (Nat.le_refl _) (Nat.le_refl _) rfl hw dX8_fits_42
      · have hw := hw.2 c_34
        refine lv_iconst (v := 1) hx hb dX8_fits_37 (by decide) ?_
        refine lv_goto (tgt := 42) hx hb dX8_fits_38 (by decide) ?_
        exact hv_zret hE hI (Nat.le_refl _) (Nat.le_refl _) rfl hw dX8_fits_42

/-- MatchmakerRules$Book$Walk.isSecond(LMatchmakerRules$Fact;)Z -/
abbrev rm_X3_isSecond : Room := { frames := 3, cells := 0, slots := 0, locals := 64 }
def wp_X3_isSecond (G : GG) (h : HH) (a0 : Nat) (x1 : Option Nat) (Q : Int32 → HH → Prop) : Prop := w_getq h a0 3 1 (fun r1 => w_getq h a0 3 2 (fun r2 => w_nn r1 (fun a3 => w_nn r2 (fun a4 => w_cpi G 0 h a3 (0 : Int32) a4 (0 : Int32) (3 : Int32) (fun h5 => w_getq h5 a0 3 0 (fun r6 => w_nn r6 (fun a7 => w_getq h5 a7 12 1 (fun r8 => w_getq h5 a0 3 2 (fun r9 => w_nn r8 (fun a10 => w_is h5 a10 11 (wp_X8_fits G h5 a10 x1 r9 (fun r11 h12 => (narrow .boolean (.int r11) = .int r11 ∧ Q r11 h12)))))))))))))
set_option maxHeartbeats 4000000 in
theorem snd_X3_isSecond (l : Launch) (G : GG) (sz : Nat) (h : HH) (a0 : Nat) (x1 : Option Nat) (Q : Int32 → HH → Prop) (hw : wp_X3_isSecond G h a0 x1 Q) : Met l yX3_isSecond (ws_ yX3_isSecond cX3_isSecond 2 (some FieldType.boolean)) rm_X3_isSecond (hv_Pc G h sz [.ref a0, va_rf x1]) (hv_Qi G h sz Q) 0 0 (hv_A h sz) := by
  refine Met.ofW (cc := cX3_isSecond) (maxL := 2) (ret := (some FieldType.boolean)) (by decide) rfl ?_
  intro p e s m args below meth c s₁ B hml hv
  obtain ⟨rfl, rfl, hE, hI⟩ := hv_open B hml hv
  have hE : hv_E p s m ([.ref a0, va_rf x1] : List Value).toArray meth c cX3_isSecond 2 (some FieldType.boolean) RX3 G h := hE
  obtain ⟨⟨hx, hb, hml, hown, hts⟩, hr, hlocks, hXX⟩ := id hE
  have hl := lv_entry ([.ref a0, va_rf x1] : List Value) (n := 2) (by cases x1 <;> exact Nat.le_of_ble_eq_true rfl)
  rw [lg_entry_eq]
  generalize (lg_sl ([.ref a0, va_rf x1] : List Value) ++ List.replicate (2 - (lg_sl ([.ref a0, va_rf x1] : List Value)).length) Slot.unset).toArray = ls at hl ⊢
  have hl : lv_has ls 2 [(0, .ref a0), (1, va_rf x1)] := (by cases x1 <;> exact hl)
  unfold wp_X3_isSecond at hw
  refine lv_aload_n hx hb dX3_isSecond_0 rfl (lv_at hl 0 rfl) ?_
  refine hv_wgetq hE hI in_X3 (ci := 3) rfl 1 (by decide) (hts _ q162) (fun _ hx => hx) hw dX3_isSecond_1 (fun r1 hw => ?_)
  refine lv_iconst (v := 0) hx hb dX3_isSecond_4 (by decide) ?_
  refine lv_aload_n hx hb dX3_isSecond_5 rfl (lv_at hl 0 rfl) ?_
  refine hv_wgetq hE hI in_X3 (ci := 3) rfl 2 (by decide) (hts _ q163) (fun _ hx => hx) hw dX3_isSecond_6 (fun r2 hw => ?_)
  refine lv_iconst (v := 0) hx hb dX3_isSecond_9 (by decide) ?_
  refine lv_iconst (v := 3) hx hb dX3_isSecond_10 (by decide) ?_
  obtain ⟨a3, hz, hwa3⟩ := hw; have hla3 := hl; subst hz; have hw := hwa3; have hl := hla3
  obtain ⟨a4, hz, hwa4⟩ := hw; have hla4 := hl; subst hz; have hw := hwa4; have hl := hla4
  refine hv_cpi (rest := []) (t := 0) (ty := .int) rfl rfl (fun _ _ _ _ => rfl) hE hI hw hl.1 (hts _ q521) (hts _ q523) (hts _ q522) (hts _ q125) (Nat.le_of_ble_eq_true rfl) (Nat.le_of_ble_eq_true rfl) dX3_isSecond_11 (fun h5 H locs hw hI => ?_)
  refine lv_aload_n hx hb dX3_isSecond_14 rfl (lv_at hl 0 rfl) ?_
  refine hv_wgetq hE hI in_X3 (ci := 3) rfl 0 (by decide) (hts _ q160) (fun _ hx => hx) hw dX3_isSecond_15 (fun r6 hw => ?_)
  obtain ⟨a7, hz, hwa7⟩ := hw; have hla7 := hl; subst hz; have hw := hwa7; have hl := hla7
  refine hv_wgetqN hE hI in_X9 (ci := 12) rfl 1 (by decide) (hE.2.2.2.2.1.F 38 rfl) (fun _ hx => hx) hw dX3_isSecond_18 (fun r8 hw => ?_)
  refine lv_aload_nq hx hb dX3_isSecond_21 rfl (lv_at hl 1 rfl) ?_
  refine lv_aload_n hx hb dX3_isSecond_22 rfl (lv_at hl 0 rfl) ?_
  refine hv_wgetq hE hI in_X3 (ci := 3) rfl 2 (by decide) (hts _ q163) (fun _ hx => hx) hw dX3_isSecond_23 (fun r9 hw => ?_)
  obtain ⟨a10, hz, hwa10⟩ := hw; have hla10 := hl; subst hz; have hw := hwa10; have hl := hla10
  obtain ⟨⟨fs, hre⟩, hw⟩ := hw
  refine hv_rci hI (va_runV (As := [va_rf x1, va_rf r9]) (b := a10) (rest := []) hE.1 (snd_X8_fits l G _ h5 a10 x1 r9 _ hw) (cwV 2 hts (lw_V q504 q505 q506 q117 q507) rfl rfl rfl (by decide +kernel) ⟨Nat.le_of_ble_eq_true rfl, Nat.le_of_ble_eq_true rfl⟩) (hv_preV hE hI (ci := 11) rfl hre) rfl rfl hl.1 rfl (lv_room (Nat.le_of_ble_eq_true rfl)) dX3_isSecond_26 ⟨Nat.le_of_ble_eq_true rfl, Nat.le_of_ble_eq_true rfl⟩) (fun r11 h12 H locs hw hI => ?_)
  obtain ⟨hnr, hw⟩ := hw
  exact hv_zret hE hI (Nat.le_refl _) (Nat.le_refl _) hnr hw dX3_isSecond_29

/-- MatchmakerRules$Book$Walk.isFulfilled()Z -/
abbrev rm_X3_isFulfilled : Room := { frames := 4, cells := 0, slots := 0, locals := 85 }
def wp_X3_isFulfilled_L4 (G : GG) (a0 : Nat) (Q : Int32 → HH → Prop) : Nat → (HH) → (Int32) → (Int32) → Prop
  | 0, _, _, _ => False
  | n + 1, h, x1, x2 => w_getq h a0 3 7 (fun r1 => w_nn r1 (fun a2 => w_getq h a2 2 2 (fun r3 => w_nn r3 (fun a4 => w_is h a4 4 (wp_J2_size G h a4 (fun r5 h6 => ((r5 ≤ x2 → ((¬ x1 = 0 → Q (0 : Int32) h6) ∧ (x1 = 0 → Q (1 : Int32) h6))) ∧ (¬ r5 ≤ x2 → w_getq h6 a0 3 7 (fun r7 => w_nn r7 (fun a8 => w_getq h6 a8 2 2 (fun r9 => w_nn r9 (fun a10 => w_is h6 a10 4 (wp_J2_get G h6 a10 x2 (fun r11 h12 => w_nn r11 (fun a13 => w_cast h12 a13 14 (w_is h12 a0 3 (wp_X3_isSecond G h12 a0 (some a13) (fun r14 h15 => wp_X3_isFulfilled_L4 G a0 Q n h15 (x1 ||| r14) (x2 + (1 : Int32))))))))))))))))))))
set_option maxHeartbeats 4000000 in
theorem snd_X3_isFulfilled_L4 {p : Program} {l : Launch} {e : Env} {s : State} {m : MethodId} {args : Array Value} {below : List Frame} {meth : Method} {c : Code} {h0 : HH} (G : GG) (a0 : Nat) (Q : Int32 → HH → Prop) (hE : hv_E p s m args meth c cX3_isFulfilled 3 (some FieldType.boolean) RX3 G h0) : ∀ (n : Nat) (h : HH) (x1 : Int32) (x2 : Int32), wp_X3_isFulfilled_L4 G a0 Q n h x1 x2 → ∀ (H : Heap) (locs : List Loc) (ls : Array Slot), hv_I G h0 s.heap h H locs → lv_has ls 3 [(0, .ref a0), (1, .int x1), (2, .int x2)] → W p l e (headSpec (ws_ yX3_isFulfilled cX3_isFulfilled 3 (some FieldType.boolean)) rm_X3_isFulfilled).room s m args below meth c H locs 0 0 (MQ below (hv_Qi G h0 s.heap.size Q) args s 0 0 (hv_A h0 s.heap.size)) (F0 m 4 ls []) := by
  obtain ⟨⟨hx, hb, hml, hown, hts⟩, hr, hlocks, hXX⟩ := id hE
  intro n
  induction n with
  | zero => intro h x1 x2 hw; exact hw.elim
  | succ n ih =>
    intro h x1 x2 hw H locs ls hI hl
    unfold wp_X3_isFulfilled_L4 at hw
    refine lv_iload_n hx hb dX3_isFulfilled_4 rfl (lv_at hl 2 rfl) ?_
    refine lv_aload_n hx hb dX3_isFulfilled_5 rfl (lv_at hl 0 rfl) ?_
    refine hv_wgetq hE hI in_X3 (ci := 3) rfl 7 (by decide) (hts _ q170) (fun _ hx => hx) hw dX3_isFulfilled_6 (fun r1 hw => ?_)
    obtain ⟨a2, hz, hwa2⟩ := hw; have hla2 := hl; subst hz; have hw := hwa2; have hl := hla2
    refine hv_wgetqN hE hI in_X2 (ci := 2) rfl 2 (by decide) (hE.2.2.2.2.1.F 36 rfl) (fun _ hx => hx) hw dX3_isFulfilled_9 (fun r3 hw => ?_)
    obtain ⟨a4, hz, hwa4⟩ := hw; have hla4 := hl; subst hz; have hw := hwa4; have hl := hla4
    obtain ⟨⟨fs, hre⟩, hw⟩ := hw
    refine hv_rci hI (va_runV (As := []) (b := a4) (rest := [.int x2]) hE.1 (snd_J2_size l G _ h a4 _ hw) (cwV 0 hts (lw_V q494 q333 q334 q102 q335) rfl rfl rfl (by decide +kernel) ⟨Nat.le_of_ble_eq_true rfl, Nat.le_of_ble_eq_true rfl⟩) (hv_preV hE hI (ci := 4) rfl hre) rfl rfl hl.1 rfl (lv_room (Nat.le_of_ble_eq_true rfl)) dX3_isFulfilled_12 ⟨Nat.le_of_ble_eq_true rfl, Nat.le_of_ble_eq_true rfl⟩) (fun r5 h6 H locs hw hI => ?_)
    refine lv_icmp_ge (tgt := 45) hx hb dX3_isFulfilled_15 (by decide) (fun c_15 => ?_) (fun c_15 => ?_)
    · have hw := hw.1 c_15
      refine lv_iload_n hx hb dX3_isFulfilled_45 rfl (lv_at hl 1 rfl) ?_
      refine lv_if_ne (tgt := 53) hx hb dX3_isFulfilled_46 (by decide) (fun c_46 => ?_) (fun c_46 => ?_)
      · have hw := hw.1 c_46
        refine lv_iconst (v := 0) hx hb dX3_isFulfilled_53 (by decide) ?_
        exact hv_zret hE hI (Nat.le_refl _) (Nat.le_refl _) rfl hw dX3_isFulfilled_54
      · have hw := hw.2 c_46
        refine lv_iconst (v := 1) hx hb dX3_isFulfilled_49 (by decide) ?_
        refine lv_goto (tgt := 54) hx hb dX3_isFulfilled_50 (by decide) ?_
        exact hv_zret hE hI (Nat.le_refl _) (Nat.le_refl _) rfl hw dX3_isFulfilled_54
    · have hw := hw.2 c_15
      refine lv_iload_n hx hb dX3_isFulfilled_18 rfl (lv_at hl 1 rfl) ?_
      refine lv_aload_n hx hb dX3_isFulfilled_19 rfl (lv_at hl 0 rfl) ?_
      refine lv_aload_n hx hb dX3_isFulfilled_20 rfl (lv_at hl 0 rfl) ?_
      refine hv_wgetq hE hI in_X3 (ci := 3) rfl 7 (by decide) (hts _ q170) (fun _ hx => hx) hw dX3_isFulfilled_21 (fun r7 hw => ?_)
      obtain ⟨a8, hz, hwa8⟩ := hw; have hla8 := hl; subst hz; have hw := hwa8; have hl := hla8
      refine hv_wgetqN hE hI in_X2 (ci := 2) rfl 2 (by decide) (hE.2.2.2.2.1.F 36 rfl) (fun _ hx => hx) hw dX3_isFulfilled_24 (fun r9 hw => ?_)
      refine lv_iload_n hx hb dX3_isFulfilled_27 rfl (lv_at hl 2 rfl) ?_
      obtain ⟨a10, hz, hwa10⟩ := hw; have hla10 := hl; subst hz; have hw := hwa10; have hl := hla10
      obtain ⟨⟨fs, hre⟩, hw⟩ := hw
      refine hv_rcq hI (va_runV (As := [.int x2]) (b := a10) (rest := [.ref a0, .int x1]) hE.1 (snd_J2_get l G _ h6 a10 x2 _ hw) (cwV 1 hts (lw_V q495 q472 q473 q102 q474) rfl rfl rfl (by decide +kernel) ⟨Nat.le_of_ble_eq_true rfl, Nat.le_of_ble_eq_true rfl⟩) (hv_preV hE hI (ci := 4) rfl hre) rfl rfl hl.1 rfl (lv_room (Nat.le_of_ble_eq_true rfl)) dX3_isFulfilled_28 ⟨Nat.le_of_ble_eq_true rfl, Nat.le_of_ble_eq_true rfl⟩) (fun r11 h12 H locs hw hI => ?_)
      obtain ⟨a13, hz, hwa13⟩ := hw; have hla13 := hl; subst hz; have hw := hwa13; have hl := hla13
      refine hv_wcast (ci := 14) hE hI (hts _ q496) rfl hw dX3_isFulfilled_31 (fun hw => ?_)
      obtain ⟨⟨fs, hre⟩, hw⟩ := hw
      refine hv_rci hI (va_runV (As := [.ref a13]) (b := a0) (rest := [.int x1]) hE.1 (snd_X3_isSecond l G _ h12 a0 (some a13) _ hw) (cwV 1 hts (lw_V q517 q519 qs4 q99 q520) rfl rfl rfl (by decide +kernel) ⟨Nat.le_of_ble_eq_true rfl, Nat.le_of_ble_eq_true rfl⟩) (hv_preV hE hI (ci := 3) rfl hre) rfl rfl hl.1 rfl (lv_room (Nat.le_of_ble_eq_true rfl)) dX3_isFulfilled_34 ⟨Nat.le_of_ble_eq_true rfl, Nat.le_of_ble_eq_true rfl⟩) (fun r14 h15 H locs hw hI => ?_)
      refine lv_ior hx hb dX3_isFulfilled_37 ?_
      refine lv_istore_n (lv' := [(1, .int (x1 ||| r14)), (0, .ref a0), (2, .int x2)]) hx hb dX3_isFulfilled_38 rfl hl (by decide) rfl (fun ls hl => ?_)
      refine lv_iinc (v := (x2 + (1 : Int32))) (lv' := [(2, .int (x2 + (1 : Int32))), (1, .int (x1 ||| r14)), (0, .ref a0)]) hx hb dX3_isFulfilled_39 hl (k := 2) rfl rfl (by decide) rfl (fun ls hl => ?_)
      refine lv_goto (tgt := 4) hx hb dX3_isFulfilled_42 (by decide) ?_
      exact ih h15 (x1 ||| r14) (x2 + (1 : Int32)) hw _ _ _ hI (lv_sub hl [2, 1, 0] rfl)
def wp_X3_isFulfilled (G : GG) (h : HH) (a0 : Nat) (Q : Int32 → HH → Prop) : Prop := (∃ n4, wp_X3_isFulfilled_L4 G a0 Q n4 h (0 : Int32) (0 : Int32))
set_option maxHeartbeats 4000000 in
theorem snd_X3_isFulfilled (l : Launch) (G : GG) (sz : Nat) (h : HH) (a0 : Nat) (Q : Int32 → HH → Prop) (hw : wp_X3_isFulfilled G h a0 Q) : Met l yX3_isFulfilled (ws_ yX3_isFulfilled cX3_isFulfilled 3 (some FieldType.boolean)) rm_X3_isFulfilled (hv_Pc G h sz [.ref a0]) (hv_Qi G h sz Q) 0 0 (hv_A h sz) := by
  refine Met.ofW (cc := cX3_isFulfilled) (maxL := 3) (ret := (some FieldType.boolean)) (by decide) rfl ?_
  intro p e s m args below meth c s₁ B hml hv
  obtain ⟨rfl, rfl, hE, hI⟩ := hv_open B hml hv
  have hE : hv_E p s m ([.ref a0] : List Value).toArray meth c cX3_isFulfilled 3 (some FieldType.boolean) RX3 G h := hE
  obtain ⟨⟨hx, hb, hml, hown, hts⟩, hr, hlocks, hXX⟩ := id hE
  have hl := lv_entry ([.ref a0] : List Value) (n := 3) (Nat.le_of_ble_eq_true rfl)
  rw [lg_entry_eq]
  generalize (lg_sl ([.ref a0] : List Value) ++ List.replicate (3 - (lg_sl ([.ref a0] : List Value)).length) Slot.unset).toArray = ls at hl ⊢
  have hl : lv_has ls 3 [(0, .ref a0)] := hl
  unfold wp_X3_isFulfilled at hw
  refine lv_iconst (v := 0) hx hb dX3_isFulfilled_0 (by decide) ?_
  refine lv_istore_n (lv' := [(1, .int (0 : Int32)), (0, .ref a0)]) hx hb dX3_isFulfilled_1 rfl hl (by decide) rfl (fun ls hl => ?_)
  refine lv_iconst (v := 0) hx hb dX3_isFulfilled_2 (by decide) ?_
  refine lv_istore_n (lv' := [(2, .int (0 : Int32)), (1, .int (0 : Int32)), (0, .ref a0)]) hx hb dX3_isFulfilled_3 rfl hl (by decide) rfl (fun ls hl => ?_)
  obtain ⟨n4, hw⟩ := hw
  exact snd_X3_isFulfilled_L4 G a0 Q hE n4 h (0 : Int32) (0 : Int32) hw _ _ _ hI (lv_sub hl [2, 1, 0] rfl)

/-- MatchmakerRules$Book$Walk.isFirst()Z -/
abbrev rm_X3_isFirst : Room := { frames := 5, cells := 0, slots := 0, locals := 107 }
def wp_X3_isFirst (G : GG) (h : HH) (a0 : Nat) (Q : Int32 → HH → Prop) : Prop := w_getq h a0 3 1 (fun r1 => wp_X2_free G h r1 (fun h2 => w_getq h2 a0 3 0 (fun r3 => w_nn r3 (fun a4 => w_getq h2 a4 12 0 (fun r5 => w_getq h2 a0 3 5 (fun r6 => w_getq h2 a0 3 1 (fun r7 => w_nn r5 (fun a8 => w_is h2 a8 11 (wp_X8_fits G h2 a8 r6 r7 (fun r9 h10 => ((r9 = 0 → Q (0 : Int32) h10) ∧ (¬ r9 = 0 → w_getq h10 a0 3 0 (fun r11 => w_nn r11 (fun a12 => w_getq h10 a12 12 1 (fun r13 => ((r13 = none → Q (1 : Int32) h10) ∧ (∀ a14, r13 = some a14 → w_getq h10 a0 3 0 (fun r15 => w_nn r15 (fun a16 => w_geti h10 a16 12 2 (fun r17 => ((r17 = 0 → Q (1 : Int32) h10) ∧ (¬ r17 = 0 → w_is h10 a0 3 (wp_X3_isFulfilled G h10 a0 (fun r18 h19 => ((r18 = 0 → Q (0 : Int32) h19) ∧ (¬ r18 = 0 → Q (1 : Int32) h19))))))))))))))))))))))))))
set_option maxHeartbeats 4000000 in
theorem snd_X3_isFirst (l : Launch) (G : GG) (sz : Nat) (h : HH) (a0 : Nat) (Q : Int32 → HH → Prop) (hw : wp_X3_isFirst G h a0 Q) : Met l yX3_isFirst (ws_ yX3_isFirst cX3_isFirst 1 (some FieldType.boolean)) rm_X3_isFirst (hv_Pc G h sz [.ref a0]) (hv_Qi G h sz Q) 0 0 (hv_A h sz) := by
  refine Met.ofW (cc := cX3_isFirst) (maxL := 1) (ret := (some FieldType.boolean)) (by decide) rfl ?_
  intro p e s m args below meth c s₁ B hml hv
  obtain ⟨rfl, rfl, hE, hI⟩ := hv_open B hml hv
  have hE : hv_E p s m ([.ref a0] : List Value).toArray meth c cX3_isFirst 1 (some FieldType.boolean) RX3 G h := hE
  obtain ⟨⟨hx, hb, hml, hown, hts⟩, hr, hlocks, hXX⟩ := id hE
  have hl := lv_entry ([.ref a0] : List Value) (n := 1) (Nat.le_of_ble_eq_true rfl)
  rw [lg_entry_eq]
  generalize (lg_sl ([.ref a0] : List Value) ++ List.replicate (1 - (lg_sl ([.ref a0] : List Value)).length) Slot.unset).toArray = ls at hl ⊢
  have hl : lv_has ls 1 [(0, .ref a0)] := hl
  unfold wp_X3_isFirst at hw
  refine lv_aload_n hx hb dX3_isFirst_0 rfl (lv_at hl 0 rfl) ?_
  refine hv_wgetq hE hI in_X3 (ci := 3) rfl 1 (by decide) (hts _ q162) (fun _ hx => hx) hw dX3_isFirst_1 (fun r1 hw => ?_)
  refine hv_rcv hI (va_runSN (As := [va_rf r1]) (rest := []) hE.1 (snd_X2_free l G _ h r1 _ hw) ⟨va_cnB 1 hts (lw_meth q503) rfl rfl rfl (hE.2.2.2.2.1.M 9 rfl) (hts _ q98) (by decide +kernel) ⟨Nat.le_of_ble_eq_true rfl, Nat.le_of_ble_eq_true rfl⟩, hts _ q502, trivial⟩ (hv_preS hE hI) rfl rfl hl.1 rfl (lv_room (Nat.le_of_ble_eq_true rfl)) dX3_isFirst_4 ⟨Nat.le_of_ble_eq_true rfl, Nat.le_of_ble_eq_true rfl⟩) (fun h2 H locs hw hI => ?_)
  refine lv_aload_n hx hb dX3_isFirst_7 rfl (lv_at hl 0 rfl) ?_
  refine hv_wgetq hE hI in_X3 (ci := 3) rfl 0 (by decide) (hts _ q160) (fun _ hx => hx) hw dX3_isFirst_8 (fun r3 hw => ?_)
  obtain ⟨a4, hz, hwa4⟩ := hw; have hla4 := hl; subst hz; have hw := hwa4; have hl := hla4
  refine hv_wgetqN hE hI in_X9 (ci := 12) rfl 0 (by decide) (hE.2.2.2.2.1.F 37 rfl) (fun _ hx => hx) hw dX3_isFirst_11 (fun r5 hw => ?_)
  refine lv_aload_n hx hb dX3_isFirst_14 rfl (lv_at hl 0 rfl) ?_
  refine hv_wgetq hE hI in_X3 (ci := 3) rfl 5 (by decide) (hts _ q166) (fun _ hx => hx) hw dX3_isFirst_15 (fun r6 hw => ?_)
  refine lv_aload_n hx hb dX3_isFirst_18 rfl (lv_at hl 0 rfl) ?_
  refine hv_wgetq hE hI in_X3 (ci := 3) rfl 1 (by decide) (hts _ q162) (fun _ hx => hx) hw dX3_isFirst_19 (fun r7 hw => ?_)
  obtain ⟨a8, hz, hwa8⟩ := hw; have hla8 := hl; subst hz; have hw := hwa8; have hl := hla8
  obtain ⟨⟨fs, hre⟩, hw⟩ := hw
  refine hv_rci hI (va_runV (As := [va_rf r6, va_rf r7]) (b := a8) (rest := []) hE.1 (snd_X8_fits l G _ h2 a8 r6 r7 _ hw) (cwV 2 hts (lw_V q504 q505 q506 q117 q507) rfl rfl rfl (by decide +kernel) ⟨Nat.le_of_ble_eq_true rfl, Nat.le_of_ble_eq_true rfl⟩) (hv_preV hE hI (ci := 11) rfl hre) rfl rfl hl.1 rfl (lv_room (Nat.le_of_ble_eq_true rfl)) dX3_isFirst_22 ⟨Nat.le_of_ble_eq_true rfl, Nat.le_of_ble_eq_true rfl⟩) (fun r9 h10 H locs hw hI => ?_)
  refine lv_if_eq (tgt := 59) hx hb dX3_isFirst_25 (by decide) (fun c_25 => ?_) (fun c_25 => ?_)
  · have hw := hw.1 c_25
    refine lv_iconst (v := 0) hx hb dX3_isFirst_59 (by decide) ?_
    exact hv_zret hE hI (Nat.le_refl _) (Nat.le_refl _) rfl hw dX3_isFirst_60
  · have hw := hw.2 c_25
    refine lv_aload_n hx hb dX3_isFirst_28 rfl (lv_at hl 0 rfl) ?_
    refine hv_wgetq hE hI in_X3 (ci := 3) rfl 0 (by decide) (hts _ q160) (fun _ hx => hx) hw dX3_isFirst_29 (fun r11 hw => ?_)
    obtain ⟨a12, hz, hwa12⟩ := hw; have hla12 := hl; subst hz; have hw := hwa12; have hl := hla12
    refine hv_wgetqN hE hI in_X9 (ci := 12) rfl 1 (by decide) (hE.2.2.2.2.1.F 38 rfl) (fun _ hx => hx) hw dX3_isFirst_32 (fun r13 hw => ?_)
    refine lv_ifnullq (tgt := 55) hx hb dX3_isFirst_35 (by decide) (fun c_35 => ?_) (fun c_35 => ?_)
    · have hwa14 := hw.1 c_35; have hla14 := hl; subst c_35; have hw := hwa14; have hl := hla14
      refine lv_iconst (v := 1) hx hb dX3_isFirst_55 (by decide) ?_
      refine lv_goto (tgt := 60) hx hb dX3_isFirst_56 (by decide) ?_
      exact hv_zret hE hI (Nat.le_refl _) (Nat.le_refl _) rfl hw dX3_isFirst_60
    · obtain ⟨a14, hz⟩ := Option.ne_none_iff_exists.mp c_35
      have hwa14 := hw.2 a14 hz.symm; have hla14 := hl; subst hz; have hw := hwa14; have hl := hla14
      refine lv_aload_n hx hb dX3_isFirst_38 rfl (lv_at hl 0 rfl) ?_
      refine hv_wgetq hE hI in_X3 (ci := 3) rfl 0 (by decide) (hts _ q160) (fun _ hx => hx) hw dX3_isFirst_39 (fun r15 hw => ?_)
      obtain ⟨a16, hz, hwa16⟩ := hw; have hla16 := hl; subst hz; have hw := hwa16; have hl := hla16
      refine hv_wgetiN hE hI in_X9 (ci := 12) rfl 2 (by decide) (hE.2.2.2.2.1.F 39 rfl) (fun _ hx => hx) hw dX3_isFirst_42 (fun r17 hw => ?_)
      refine lv_if_eq (tgt := 55) hx hb dX3_isFirst_45 (by decide) (fun c_45 => ?_) (fun c_45 => ?_)
      · have hw := hw.1 c_45
        refine lv_iconst (v := 1) hx hb dX3_isFirst_55 (by decide) ?_
        refine lv_goto (tgt := 60) hx hb dX3_isFirst_56 (by decide) ?_
        exact hv_zret hE hI (Nat.le_refl _) (Nat.le_refl _) rfl hw dX3_isFirst_60
      · have hw := hw.2 c_45
        refine lv_aload_n hx hb dX3_isFirst_48 rfl (lv_at hl 0 rfl) ?_
        obtain ⟨⟨fs, hre⟩, hw⟩ := hw
        refine hv_rci hI (va_runV (As := []) (b := a0) (rest := []) hE.1 (snd_X3_isFulfilled l G _ h10 a0 _ hw) (cwV 0 hts (lw_V q513 q515 qs3 q99 q516) rfl rfl rfl (by decide +kernel) ⟨Nat.le_of_ble_eq_true rfl, Nat.le_of_ble_eq_true rfl⟩) (hv_preV hE hI (ci := 3) rfl hre) rfl rfl hl.1 rfl (lv_room (Nat.le_of_ble_eq_true rfl)) dX3_isFirst_49 ⟨Nat.le_of_ble_eq_true rfl, Nat.le_of_ble_eq_true rfl⟩) (fun r18 h19 H locs hw hI => ?_)
        refine lv_if_eq (tgt := 59) hx hb dX3_isFirst_52 (by decide) (fun c_52 => ?_) (fun c_52 => ?_)
        · have hw := hw.1 c_52
          refine lv_iconst (v := 0) hx hb dX3_isFirst_59 (by decide) ?_
          exact hv_zret hE hI (Nat.le_refl _) (Nat.le_refl _) rfl hw dX3_isFirst_60
        · have hw := hw.2 c_52
          refine lv_iconst (v := 1) hx hb dX3_isFirst_55 (by decide) ?_
          refine lv_goto (tgt := 60) hx hb dX3_isFirst_56 (by decide) ?_
          exact hv_zret hE hI (Nat.le_refl _) (Nat.le_refl _) rfl hw dX3_isFirst_60

/-- MatchmakerRules$Rule.wantsTwo()Z -/
abbrev rm_X9_wantsTwo : Room := { frames := 1, cells := 0, slots := 0, locals := 12 }
def wp_X9_wantsTwo (G : GG) (h : HH) (a0 : Nat) (Q : Int32 → HH → Prop) : Prop := w_getq h a0 12 1 (fun r1 => ((r1 = none → Q (0 : Int32) h) ∧ (∀ a2, r1 = some a2 → w_geti h a0 12 2 (fun r3 => ((¬ r3 = 0 → Q (0 : Int32) h) ∧ (r3 = 0 → Q (1 : Int32) h))))))
set_option maxHeartbeats 4000000 in
theorem snd_X9_wantsTwo (l : Launch) (G : GG) (sz : Nat) (h : HH) (a0 : Nat) (Q : Int32 → HH → Prop) (hw : wp_X9_wantsTwo G h a0 Q) : Met l yX9_wantsTwo (ws_ yX9_wantsTwo cX9_wantsTwo 1 (some FieldType.boolean)) rm_X9_wantsTwo (hv_Pc G h sz [.ref a0]) (hv_Qi G h sz Q) 0 0 (hv_A h sz) := by
  refine Met.ofW (cc := cX9_wantsTwo) (maxL := 1) (ret := (some FieldType.boolean)) (by decide) rfl ?_
  intro p e s m args below meth c s₁ B hml hv
  obtain ⟨rfl, rfl, hE, hI⟩ := hv_open B hml hv
  have hE : hv_E p s m ([.ref a0] : List Value).toArray meth c cX9_wantsTwo 1 (some FieldType.boolean) RX9 G h := hE
  obtain ⟨⟨hx, hb, hml, hown, hts⟩, hr, hlocks, hXX⟩ := id hE
  have hl := lv_entry ([.ref a0] : List Value) (n := 1) (Nat.le_of_ble_eq_true rfl)
  rw [lg_entry_eq]
  generalize (lg_sl ([.ref a0] : List Value) ++ List.replicate (1 - (lg_sl ([.ref a0] : List Value)).length) Slot.unset).toArray = ls at hl ⊢
  have hl : lv_has ls 1 [(0, .ref a0)] := hl
  unfold wp_X9_wantsTwo at hw
  refine lv_aload_n hx hb dX9_wantsTwo_0 rfl (lv_at hl 0 rfl) ?_
  refine hv_wgetq hE hI in_X9 (ci := 12) rfl 1 (by decide) (hts _ q849) (fun _ hx => hx) hw dX9_wantsTwo_1 (fun r1 hw => ?_)
  refine lv_ifnullq (tgt := 18) hx hb dX9_wantsTwo_4 (by decide) (fun c_4 => ?_) (fun c_4 => ?_)
  · have hwa2 := hw.1 c_4; have hla2 := hl; subst c_4; have hw := hwa2; have hl := hla2
    refine lv_iconst (v := 0) hx hb dX9_wantsTwo_18 (by decide) ?_
    exact hv_zret hE hI (Nat.le_refl _) (Nat.le_refl _) rfl hw dX9_wantsTwo_19
  · obtain ⟨a2, hz⟩ := Option.ne_none_iff_exists.mp c_4
    have hwa2 := hw.2 a2 hz.symm; have hla2 := hl; subst hz; have hw := hwa2; have hl := hla2
    refine lv_aload_n hx hb dX9_wantsTwo_7 rfl (lv_at hl 0 rfl) ?_
    refine hv_wgeti hE hI in_X9 (ci := 12) rfl 2 (by decide) (hts _ q852) (fun _ hx => hx) hw dX9_wantsTwo_8 (fun r3 hw => ?_)
    refine lv_if_ne (tgt := 18) hx hb dX9_wantsTwo_11 (by decide) (fun c_11 => ?_) (fun c_11 => ?_)
    · have hw := hw.1 c_11
      refine lv_iconst (v := 0) hx hb dX9_wantsTwo_18 (by decide) ?_
      exact hv_zret hE hI (Nat.le_refl _) (Nat.le_refl _) rfl hw dX9_wantsTwo_19
    · have hw := hw.2 c_11
      refine lv_iconst (v := 1) hx hb dX9_wantsTwo_14 (by decide) ?_
      refine lv_goto (tgt := 19) hx hb dX9_wantsTwo_15 (by decide) ?_
      exact hv_zret hE hI (Nat.le_refl _) (Nat.le_refl _) rfl hw dX9_wantsTwo_19

/-- MatchmakerRules$Book$Walk.goesOn()Z -/
abbrev rm_X3_goesOn : Room := { frames := 6, cells := 0, slots := 0, locals := 127 }
def wp_X3_goesOn_L99 (G : GG) (a0 : Nat) (Q : Int32 → HH → Prop) (k0 : (HH) → Prop) : Nat → (HH) → Prop
  | 0, _ => False
  | n + 1, h => w_geti h a0 3 4 (fun r9 => w_getq h a0 3 7 (fun r10 => w_nn r10 (fun a11 => w_getq h a11 2 2 (fun r12 => w_nn r12 (fun a13 => w_is h a13 4 (wp_J2_size G h a13 (fun r14 h15 => ((r14 ≤ r9 → w_put h15 a0 3 4 (.int (-1 : Int32)) (fun h16 => w_geti h16 a0 3 3 (fun r17 => w_put h16 a0 3 3 (.int (r17 + (1 : Int32))) (fun h18 => k0 h18)))) ∧ (¬ r14 ≤ r9 → w_getq h15 a0 3 7 (fun r19 => w_nn r19 (fun a20 => w_getq h15 a20 2 2 (fun r21 => w_geti h15 a0 3 4 (fun r22 => w_nn r21 (fun a23 => w_is h15 a23 4 (wp_J2_get G h15 a23 r22 (fun r24 h25 => w_nn r24 (fun a26 => w_cast h25 a26 14 (w_geti h25 a0 3 4 (fun r27 => w_put h25 a0 3 4 (.int (r27 + (1 : Int32))) (fun h28 => w_is h28 a0 3 (wp_X3_isSecond G h28 a0 (some a26) (fun r29 h30 => ((r29 = 0 → wp_X3_goesOn_L99 G a0 Q k0 n h30) ∧ (¬ r29 = 0 → w_geti h30 a26 14 0 (fun r31 => w_put h30 a0 3 6 (.int r31) (fun h32 => Q (1 : Int32) h32))))))))))))))))))))))))))
set_option maxHeartbeats 4000000 in
theorem snd_X3_goesOn_L99 {p : Program} {l : Launch} {e : Env} {s : State} {m : MethodId} {args : Array Value} {below : List Frame} {meth : Method} {c : Code} {h0 : HH} (G : GG) (a0 : Nat) (Q : Int32 → HH → Prop) (hE : hv_E p s m args meth c cX3_goesOn 2 (some FieldType.boolean) RX3 G h0) (k0 : (HH) → Prop) (hk0 : ∀ (h : HH), k0 h → ∀ (H : Heap) (locs : List Loc) (ls : Array Slot), hv_I G h0 s.heap h H locs → lv_has ls 2 [(0, .ref a0)] → W p l e (headSpec (ws_ yX3_goesOn cX3_goesOn 2 (some FieldType.boolean)) rm_X3_goesOn).room s m args below meth c H locs 0 0 (MQ below (hv_Qi G h0 s.heap.size Q) args s 0 0 (hv_A h0 s.heap.size)) (F0 m 0 ls [])) : ∀ (n : Nat) (h : HH), wp_X3_goesOn_L99 G a0 Q k0 n h → ∀ (H : Heap) (locs : List Loc) (ls : Array Slot), hv_I G h0 s.heap h H locs → lv_has ls 2 [(0, .ref a0)] → W p l e (headSpec (ws_ yX3_goesOn cX3_goesOn 2 (some FieldType.boolean)) rm_X3_goesOn).room s m args below meth c H locs 0 0 (MQ below (hv_Qi G h0 s.heap.size Q) args s 0 0 (hv_A h0 s.heap.size)) (F0 m 99 ls []) := by
  obtain ⟨⟨hx, hb, hml, hown, hts⟩, hr, hlocks, hXX⟩ := id hE
  intro n
  induction n with
  | zero => intro h hw; exact hw.elim
  | succ n ih =>
    intro h hw H locs ls hI hl
    unfold wp_X3_goesOn_L99 at hw
    refine lv_aload_n hx hb dX3_goesOn_99 rfl (lv_at hl 0 rfl) ?_
    refine hv_wgeti hE hI in_X3 (ci := 3) rfl 4 (by decide) (hts _ q165) (fun _ hx => hx) hw dX3_goesOn_100 (fun r9 hw => ?_)
    refine lv_aload_n hx hb dX3_goesOn_103 rfl (lv_at hl 0 rfl) ?_
    refine hv_wgetq hE hI in_X3 (ci := 3) rfl 7 (by decide) (hts _ q170) (fun _ hx => hx) hw dX3_goesOn_104 (fun r10 hw => ?_)
    obtain ⟨a11, hz, hwa11⟩ := hw; have hla11 := hl; subst hz; have hw := hwa11; have hl := hla11
    refine hv_wgetqN hE hI in_X2 (ci := 2) rfl 2 (by decide) (hE.2.2.2.2.1.F 36 rfl) (fun _ hx => hx) hw dX3_goesOn_107 (fun r12 hw => ?_)
    obtain ⟨a13, hz, hwa13⟩ := hw; have hla13 := hl; subst hz; have hw := hwa13; have hl := hla13
    obtain ⟨⟨fs, hre⟩, hw⟩ := hw
    refine hv_rci hI (va_runV (As := []) (b := a13) (rest := [.int r9]) hE.1 (snd_J2_size l G _ h a13 _ hw) (cwV 0 hts (lw_V q494 q333 q334 q102 q335) rfl rfl rfl (by decide +kernel) ⟨Nat.le_of_ble_eq_true rfl, Nat.le_of_ble_eq_true rfl⟩) (hv_preV hE hI (ci := 4) rfl hre) rfl rfl hl.1 rfl (lv_room (Nat.le_of_ble_eq_true rfl)) dX3_goesOn_110 ⟨Nat.le_of_ble_eq_true rfl, Nat.le_of_ble_eq_true rfl⟩) (fun r14 h15 H locs hw hI => ?_)
    refine lv_icmp_ge (tgt := 165) hx hb dX3_goesOn_113 (by decide) (fun c_113 => ?_) (fun c_113 => ?_)
    · have hw := hw.1 c_113
      refine lv_aload_n hx hb dX3_goesOn_165 rfl (lv_at hl 0 rfl) ?_
      refine lv_iconst (v := -1) hx hb dX3_goesOn_166 (by decide) ?_
      refine hv_wput (v := .int (-1 : Int32)) tyX3 hE hI in_X3 tyX3_ok nmX3 (ci := 3) rfl 4 (by decide) (hts _ q165) (fun _ hx => hx) rfl (ty := .int) rfl rfl rfl hw dX3_goesOn_167 (fun h16 H locs hw hI => ?_)
      refine lv_aload_n hx hb dX3_goesOn_170 rfl (lv_at hl 0 rfl) ?_
      refine lv_dup hx hb dX3_goesOn_171 rfl ?_
      refine hv_wgeti hE hI in_X3 (ci := 3) rfl 3 (by decide) (hts _ q164) (fun _ hx => hx) hw dX3_goesOn_172 (fun r17 hw => ?_)
      refine lv_iconst (v := 1) hx hb dX3_goesOn_175 (by decide) ?_
      refine lv_iadd hx hb dX3_goesOn_176 ?_
      refine hv_wput (v := .int (r17 + (1 : Int32))) tyX3 hE hI in_X3 tyX3_ok nmX3 (ci := 3) rfl 3 (by decide) (hts _ q164) (fun _ hx => hx) rfl (ty := .int) rfl rfl rfl hw dX3_goesOn_177 (fun h18 H locs hw hI => ?_)
      refine lv_goto (tgt := 0) hx hb dX3_goesOn_180 (by decide) ?_
      exact hk0 h18 hw _ _ _ hI (lv_sub hl [0] rfl)
    · have hw := hw.2 c_113
      refine lv_aload_n hx hb dX3_goesOn_116 rfl (lv_at hl 0 rfl) ?_
      refine hv_wgetq hE hI in_X3 (ci := 3) rfl 7 (by decide) (hts _ q170) (fun _ hx => hx) hw dX3_goesOn_117 (fun r19 hw => ?_)
      obtain ⟨a20, hz, hwa20⟩ := hw; have hla20 := hl; subst hz; have hw := hwa20; have hl := hla20
      refine hv_wgetqN hE hI in_X2 (ci := 2) rfl 2 (by decide) (hE.2.2.2.2.1.F 36 rfl) (fun _ hx => hx) hw dX3_goesOn_120 (fun r21 hw => ?_)
      refine lv_aload_n hx hb dX3_goesOn_123 rfl (lv_at hl 0 rfl) ?_
      refine hv_wgeti hE hI in_X3 (ci := 3) rfl 4 (by decide) (hts _ q165) (fun _ hx => hx) hw dX3_goesOn_124 (fun r22 hw => ?_)
      obtain ⟨a23, hz, hwa23⟩ := hw; have hla23 := hl; subst hz; have hw := hwa23; have hl := hla23
      obtain ⟨⟨fs, hre⟩, hw⟩ := hw
      refine hv_rcq hI (va_runV (As := [.int r22]) (b := a23) (rest := []) hE.1 (snd_J2_get l G _ h15 a23 r22 _ hw) (cwV 1 hts (lw_V q495 q472 q473 q102 q474) rfl rfl rfl (by decide +kernel) ⟨Nat.le_of_ble_eq_true rfl, Nat.le_of_ble_eq_true rfl⟩) (hv_preV hE hI (ci := 4) rfl hre) rfl rfl hl.1 rfl (lv_room (Nat.le_of_ble_eq_true rfl)) dX3_goesOn_127 ⟨Nat.le_of_ble_eq_true rfl, Nat.le_of_ble_eq_true rfl⟩) (fun r24 h25 H locs hw hI => ?_)
      obtain ⟨a26, hz, hwa26⟩ := hw; have hla26 := hl; subst hz; have hw := hwa26; have hl := hla26
      refine hv_wcast (ci := 14) hE hI (hts _ q496) rfl hw dX3_goesOn_130 (fun hw => ?_)
      refine lv_astore_n (lv' := [(1, .ref a26), (0, .ref a0)]) hx hb dX3_goesOn_133 rfl hl (by decide) rfl (fun ls hl => ?_)
      refine lv_aload_n hx hb dX3_goesOn_134 rfl (lv_at hl 1 rfl) ?_
      refine lv_dup hx hb dX3_goesOn_135 rfl ?_
      refine hv_wgeti hE hI in_X3 (ci := 3) rfl 4 (by decide) (hts _ q165) (fun _ hx => hx) hw dX3_goesOn_136 (fun r27 hw => ?_)
      refine lv_iconst (v := 1) hx hb dX3_goesOn_139 (by decide) ?_
      refine lv_iadd hx hb dX3_goesOn_140 ?_
      refine hv_wput (v := .int (r27 + (1 : Int32))) tyX3 hE hI in_X3 tyX3_ok nmX3 (ci := 3) rfl 4 (by decide) (hts _ q165) (fun _ hx => hx) rfl (ty := .int) rfl rfl rfl hw dX3_goesOn_141 (fun h28 H locs hw hI => ?_)
      refine lv_aload_n hx hb dX3_goesOn_144 rfl (lv_at hl 1 rfl) ?_
      refine lv_aload_n hx hb dX3_goesOn_145 rfl (lv_at hl 0 rfl) ?_
      obtain ⟨⟨fs, hre⟩, hw⟩ := hw
      refine hv_rci hI (va_runV (As := [.ref a26]) (b := a0) (rest := []) hE.1 (snd_X3_isSecond l G _ h28 a0 (some a26) _ hw) (cwV 1 hts (lw_V q517 q519 qs4 q99 q520) rfl rfl rfl (by decide +kernel) ⟨Nat.le_of_ble_eq_true rfl, Nat.le_of_ble_eq_true rfl⟩) (hv_preV hE hI (ci := 3) rfl hre) rfl rfl hl.1 rfl (lv_room (Nat.le_of_ble_eq_true rfl)) dX3_goesOn_146 ⟨Nat.le_of_ble_eq_true rfl, Nat.le_of_ble_eq_true rfl⟩) (fun r29 h30 H locs hw hI => ?_)
      refine lv_if_eq (tgt := 162) hx hb dX3_goesOn_149 (by decide) (fun c_149 => ?_) (fun c_149 => ?_)
      · have hw := hw.1 c_149
        refine lv_goto (tgt := 99) hx hb dX3_goesOn_162 (by decide) ?_
        exact ih h30 hw _ _ _ hI (lv_sub hl [1] rfl)
      · have hw := hw.2 c_149
        refine lv_aload_n hx hb dX3_goesOn_152 rfl (lv_at hl 1 rfl) ?_
        refine lv_aload_n hx hb dX3_goesOn_153 rfl (lv_at hl 0 rfl) ?_
        refine hv_wgetiN hE hI in_X10 (ci := 14) rfl 0 (by decide) (hE.2.2.2.2.1.F 41 rfl) (fun _ hx => hx) hw dX3_goesOn_154 (fun r31 hw => ?_)
        refine hv_wput (v := .int r31) tyX3 hE hI in_X3 tyX3_ok nmX3 (ci := 3) rfl 6 (by decide) (hts _ q168) (fun _ hx => hx) rfl (ty := .int) rfl rfl rfl hw dX3_goesOn_157 (fun h32 H locs hw hI => ?_)
        refine lv_iconst (v := 1) hx hb dX3_goesOn_160 (by decide) ?_
        exact hv_zret hE hI (Nat.le_refl _) (Nat.le_refl _) rfl hw dX3_goesOn_161
def wp_X3_goesOn_L77 (G : GG) (a0 : Nat) (Q : Int32 → HH → Prop) (k0 : (HH) → Prop) (h : HH) (x1 : Int32) : Prop := ((x1 = 0 → w_getq h a0 3 7 (fun r44 => w_nn r44 (fun a45 => w_getq h a45 2 2 (fun r46 => w_nn r46 (fun a47 => w_is h a47 4 (wp_J2_size G h a47 (fun r48 h49 => w_put h49 a0 3 4 (.int r48) (fun h50 => (∃ n99, wp_X3_goesOn_L99 G a0 Q k0 n99 h50))))))))) ∧ (¬ x1 = 0 → w_put h a0 3 4 (.int (0 : Int32)) (fun h51 => (∃ n99, wp_X3_goesOn_L99 G a0 Q k0 n99 h51))))
set_option maxHeartbeats 4000000 in
theorem snd_X3_goesOn_L77 {p : Program} {l : Launch} {e : Env} {s : State} {m : MethodId} {args : Array Value} {below : List Frame} {meth : Method} {c : Code} {h0 : HH} (G : GG) (a0 : Nat) (Q : Int32 → HH → Prop) (hE : hv_E p s m args meth c cX3_goesOn 2 (some FieldType.boolean) RX3 G h0) (k0 : (HH) → Prop) (hk0 : ∀ (h : HH), k0 h → ∀ (H : Heap) (locs : List Loc) (ls : Array Slot), hv_I G h0 s.heap h H locs → lv_has ls 2 [(0, .ref a0)] → W p l e (headSpec (ws_ yX3_goesOn cX3_goesOn 2 (some FieldType.boolean)) rm_X3_goesOn).room s m args below meth c H locs 0 0 (MQ below (hv_Qi G h0 s.heap.size Q) args s 0 0 (hv_A h0 s.heap.size)) (F0 m 0 ls [])) : ∀ (h : HH) (x1 : Int32), wp_X3_goesOn_L77 G a0 Q k0 h x1 → ∀ (H : Heap) (locs : List Loc) (ls : Array Slot), hv_I G h0 s.heap h H locs → lv_has ls 2 [(0, .ref a0), (1, .int x1)] → W p l e (headSpec (ws_ yX3_goesOn cX3_goesOn 2 (some FieldType.boolean)) rm_X3_goesOn).room s m args below meth c H locs 0 0 (MQ below (hv_Qi G h0 s.heap.size Q) args s 0 0 (hv_A h0 s.heap.size)) (F0 m 77 ls []) := by
  obtain ⟨⟨hx, hb, hml, hown, hts⟩, hr, hlocks, hXX⟩ := id hE
  intro h x1 hw H locs ls hI hl
  unfold wp_X3_goesOn_L77 at hw
  refine lv_aload_n hx hb dX3_goesOn_77 rfl (lv_at hl 0 rfl) ?_
  refine lv_iload_n hx hb dX3_goesOn_78 rfl (lv_at hl 1 rfl) ?_
  refine lv_if_eq (tgt := 86) hx hb dX3_goesOn_79 (by decide) (fun c_79 => ?_) (fun c_79 => ?_)
  · have hw := hw.1 c_79
    refine lv_aload_n hx hb dX3_goesOn_86 rfl (lv_at hl 0 rfl) ?_
    refine hv_wgetq hE hI in_X3 (ci := 3) rfl 7 (by decide) (hts _ q170) (fun _ hx => hx) hw dX3_goesOn_87 (fun r44 hw => ?_)
    obtain ⟨a45, hz, hwa45⟩ := hw; have hla45 := hl; subst hz; have hw := hwa45; have hl := hla45
    refine hv_wgetqN hE hI in_X2 (ci := 2) rfl 2 (by decide) (hE.2.2.2.2.1.F 36 rfl) (fun _ hx => hx) hw dX3_goesOn_90 (fun r46 hw => ?_)
    obtain ⟨a47, hz, hwa47⟩ := hw; have hla47 := hl; subst hz; have hw := hwa47; have hl := hla47
    obtain ⟨⟨fs, hre⟩, hw⟩ := hw
    refine hv_rci hI (va_runV (As := []) (b := a47) (rest := [.ref a0]) hE.1 (snd_J2_size l G _ h a47 _ hw) (cwV 0 hts (lw_V q494 q333 q334 q102 q335) rfl rfl rfl (by decide +kernel) ⟨Nat.le_of_ble_eq_true rfl, Nat.le_of_ble_eq_true rfl⟩) (hv_preV hE hI (ci := 4) rfl hre) rfl rfl hl.1 rfl (lv_room (Nat.le_of_ble_eq_true rfl)) dX3_goesOn_93 ⟨Nat.le_of_ble_eq_true rfl, Nat.le_of_ble_eq_true rfl⟩) (fun r48 h49 H locs hw hI => ?_)
    refine hv_wput (v := .int r48) tyX3 hE hI in_X3 tyX3_ok nmX3 (ci := 3) rfl 4 (by decide) (hts _ q165) (fun _ hx => hx) rfl (ty := .int) rfl rfl rfl hw dX3_goesOn_96 (fun h50 H locs hw hI => ?_)
    obtain ⟨n99, hw⟩ := hw
    exact snd_X3_goesOn_L99 G a0 Q hE k0 hk0 n99 h50 hw _ _ _ hI (lv_sub hl [0] rfl)
  · have hw := hw.2 c_79
    refine lv_iconst (v := 0) hx hb dX3_goesOn_82 (by decide) ?_
    refine lv_goto (tgt := 96) hx hb dX3_goesOn_83 (by decide) ?_
    refine hv_wput (v := .int (0 : Int32)) tyX3 hE hI in_X3 tyX3_ok nmX3 (ci := 3) rfl 4 (by decide) (hts _ q165) (fun _ hx => hx) rfl (ty := .int) rfl rfl rfl hw dX3_goesOn_96 (fun h51 H locs hw hI => ?_)
    obtain ⟨n99, hw⟩ := hw
    exact snd_X3_goesOn_L99 G a0 Q hE k0 hk0 n99 h51 hw _ _ _ hI (lv_sub hl [0] rfl)
def wp_X3_goesOn_L0 (G : GG) (a0 : Nat) (Q : Int32 → HH → Prop) : Nat → (HH) → Prop
  | 0, _ => False
  | n + 1, h => w_geti h a0 3 3 (fun r1 => w_getq h a0 3 7 (fun r2 => w_nn r2 (fun a3 => w_getq h a3 2 2 (fun r4 => w_nn r4 (fun a5 => w_is h a5 4 (wp_J2_size G h a5 (fun r6 h7 => ((r6 ≤ r1 → Q (0 : Int32) h7) ∧ (¬ r6 ≤ r1 → w_geti h7 a0 3 4 (fun r8 => ((¬ r8 = (-1 : Int32) → (∃ n99, wp_X3_goesOn_L99 G a0 Q (fun h => wp_X3_goesOn_L0 G a0 Q n h) n99 h7)) ∧ (r8 = (-1 : Int32) → w_getq h7 a0 3 7 (fun r33 => w_nn r33 (fun a34 => w_getq h7 a34 2 2 (fun r35 => w_geti h7 a0 3 3 (fun r36 => w_nn r35 (fun a37 => w_is h7 a37 4 (wp_J2_get G h7 a37 r36 (fun r38 h39 => w_nn r38 (fun a40 => w_cast h39 a40 14 (w_put h39 a0 3 5 (.ref a40) (fun h41 => w_is h41 a0 3 (wp_X3_isFirst G h41 a0 (fun r42 h43 => ((r42 = 0 → wp_X3_goesOn_L77 G a0 Q (fun h => wp_X3_goesOn_L0 G a0 Q n h) h43 r42) ∧ (¬ r42 = 0 → w_getq h43 a0 3 0 (fun r52 => w_nn r52 (fun a53 => w_is h43 a53 12 (wp_X9_wantsTwo G h43 a53 (fun r54 h55 => ((¬ r54 = 0 → wp_X3_goesOn_L77 G a0 Q (fun h => wp_X3_goesOn_L0 G a0 Q n h) h55 r42) ∧ (r54 = 0 → w_geti h55 a0 3 3 (fun r56 => w_put h55 a0 3 3 (.int (r56 + (1 : Int32))) (fun h57 => Q (1 : Int32) h57))))))))))))))))))))))))))))))))))
set_option maxHeartbeats 4000000 in
theorem snd_X3_goesOn_L0 {p : Program} {l : Launch} {e : Env} {s : State} {m : MethodId} {args : Array Value} {below : List Frame} {meth : Method} {c : Code} {h0 : HH} (G : GG) (a0 : Nat) (Q : Int32 → HH → Prop) (hE : hv_E p s m args meth c cX3_goesOn 2 (some FieldType.boolean) RX3 G h0) : ∀ (n : Nat) (h : HH), wp_X3_goesOn_L0 G a0 Q n h → ∀ (H : Heap) (locs : List Loc) (ls : Array Slot), hv_I G h0 s.heap h H locs → lv_has ls 2 [(0, .ref a0)] → W p l e (headSpec (ws_ yX3_goesOn cX3_goesOn 2 (some FieldType.boolean)) rm_X3_goesOn).room s m args below meth c H locs 0 0 (MQ below (hv_Qi G h0 s.heap.size Q) args s 0 0 (hv_A h0 s.heap.size)) (F0 m 0 ls []) := by
  obtain ⟨⟨hx, hb, hml, hown, hts⟩, hr, hlocks, hXX⟩ := id hE
  intro n
  induction n with
  | zero => intro h hw; exact hw.elim
  | succ n ih =>
    intro h hw H locs ls hI hl
    unfold wp_X3_goesOn_L0 at hw
    refine lv_aload_n hx hb dX3_goesOn_0 rfl (lv_at hl 0 rfl) ?_
    refine hv_wgeti hE hI in_X3 (ci := 3) rfl 3 (by decide) (hts _ q164) (fun _ hx => hx) hw dX3_goesOn_1 (fun r1 hw => ?_)
    refine lv_aload_n hx hb dX3_goesOn_4 rfl (lv_at hl 0 rfl) ?_
    refine hv_wgetq hE hI in_X3 (ci := 3) rfl 7 (by decide) (hts _ q170) (fun _ hx => hx) hw dX3_goesOn_5 (fun r2 hw => ?_)
    obtain ⟨a3, hz, hwa3⟩ := hw; have hla3 := hl; subst hz; have hw := hwa3; have hl := hla3
    refine hv_wgetqN hE hI in_X2 (ci := 2) rfl 2 (by decide) (hE.2.2.2.2.1.F 36 rfl) (fun _ hx => hx) hw dX3_goesOn_8 (fun r4 hw => ?_)
    obtain ⟨a5, hz, hwa5⟩ := hw; have hla5 := hl; subst hz; have hw := hwa5; have hl := hla5
    obtain ⟨⟨fs, hre⟩, hw⟩ := hw
    refine hv_rci hI (va_runV (As := []) (b := a5) (rest := [.int r1]) hE.1 (snd_J2_size l G _ h a5 _ hw) (cwV 0 hts (lw_V q494 q333 q334 q102 q335) rfl rfl rfl (by decide +kernel) ⟨Nat.le_of_ble_eq_true rfl, Nat.le_of_ble_eq_true rfl⟩) (hv_preV hE hI (ci := 4) rfl hre) rfl rfl hl.1 rfl (lv_room (Nat.le_of_ble_eq_true rfl)) dX3_goesOn_11 ⟨Nat.le_of_ble_eq_true rfl, Nat.le_of_ble_eq_true rfl⟩) (fun r6 h7 H locs hw hI => ?_)
    refine lv_icmp_ge (tgt := 183) hx hb dX3_goesOn_14 (by decide) (fun c_14 => ?_) (fun c_14 => ?_)
    · have hw := hw.1 c_14
      refine lv_iconst (v := 0) hx hb dX3_goesOn_183 (by decide) ?_
      exact hv_zret hE hI (Nat.le_refl _) (Nat.le_refl _) rfl hw dX3_goesOn_184
    · have hw := hw.2 c_14
      refine lv_aload_n hx hb dX3_goesOn_17 rfl (lv_at hl 0 rfl) ?_
      refine hv_wgeti hE hI in_X3 (ci := 3) rfl 4 (by decide) (hts _ q165) (fun _ hx => hx) hw dX3_goesOn_18 (fun r8 hw => ?_)
      refine lv_iconst (v := -1) hx hb dX3_goesOn_21 (by decide) ?_
      refine lv_icmp_ne (tgt := 99) hx hb dX3_goesOn_22 (by decide) (fun c_22 => ?_) (fun c_22 => ?_)
      · have hw := hw.1 c_22
        obtain ⟨n99, hw⟩ := hw
        exact snd_X3_goesOn_L99 G a0 Q hE (fun h => wp_X3_goesOn_L0 G a0 Q n h) (fun h => ih h) n99 h7 hw _ _ _ hI (lv_sub hl [0] rfl)
      · have hw := hw.2 c_22
        refine lv_aload_n hx hb dX3_goesOn_25 rfl (lv_at hl 0 rfl) ?_
        refine lv_aload_n hx hb dX3_goesOn_26 rfl (lv_at hl 0 rfl) ?_
        refine hv_wgetq hE hI in_X3 (ci := 3) rfl 7 (by decide) (hts _ q170) (fun _ hx => hx) hw dX3_goesOn_27 (fun r33 hw => ?_)
        obtain ⟨a34, hz, hwa34⟩ := hw; have hla34 := hl; subst hz; have hw := hwa34; have hl := hla34
        refine hv_wgetqN hE hI in_X2 (ci := 2) rfl 2 (by decide) (hE.2.2.2.2.1.F 36 rfl) (fun _ hx => hx) hw dX3_goesOn_30 (fun r35 hw => ?_)
        refine lv_aload_n hx hb dX3_goesOn_33 rfl (lv_at hl 0 rfl) ?_
        refine hv_wgeti hE hI in_X3 (ci := 3) rfl 3 (by decide) (hts _ q164) (fun _ hx => hx) hw dX3_goesOn_34 (fun r36 hw => ?_)
        obtain ⟨a37, hz, hwa37⟩ := hw; have hla37 := hl; subst hz; have hw := hwa37; have hl := hla37
        obtain ⟨⟨fs, hre⟩, hw⟩ := hw
        refine hv_rcq hI (va_runV (As := [.int r36]) (b := a37) (rest := [.ref a0]) hE.1 (snd_J2_get l G _ h7 a37 r36 _ hw) (cwV 1 hts (lw_V q495 q472 q473 q102 q474) rfl rfl rfl (by decide +kernel) ⟨Nat.le_of_ble_eq_true rfl, Nat.le_of_ble_eq_true rfl⟩) (hv_preV hE hI (ci := 4) rfl hre) rfl rfl hl.1 rfl (lv_room (Nat.le_of_ble_eq_true rfl)) dX3_goesOn_37 ⟨Nat.le_of_ble_eq_true rfl, Nat.le_of_ble_eq_true rfl⟩) (fun r38 h39 H locs hw hI => ?_)
        obtain ⟨a40, hz, hwa40⟩ := hw; have hla40 := hl; subst hz; have hw := hwa40; have hl := hla40
        refine hv_wcast (ci := 14) hE hI (hts _ q496) rfl hw dX3_goesOn_40 (fun hw => ?_)
        refine hv_wput (v := .ref a40) tyX3 hE hI in_X3 tyX3_ok nmX3 (ci := 3) rfl 5 (by decide) (hts _ q166) (fun _ hx => hx) rfl (ty := (.object "MatchmakerRules$Fact")) rfl rfl rfl hw dX3_goesOn_43 (fun h41 H locs hw hI => ?_)
        refine lv_aload_n hx hb dX3_goesOn_46 rfl (lv_at hl 0 rfl) ?_
        obtain ⟨⟨fs, hre⟩, hw⟩ := hw
        refine hv_rci hI (va_runV (As := []) (b := a0) (rest := []) hE.1 (snd_X3_isFirst l G _ h41 a0 _ hw) (cwV 0 hts (lw_V q497 q499 qs1 q99 q500) rfl rfl rfl (by decide +kernel) ⟨Nat.le_of_ble_eq_true rfl, Nat.le_of_ble_eq_true rfl⟩) (hv_preV hE hI (ci := 3) rfl hre) rfl rfl hl.1 rfl (lv_room (Nat.le_of_ble_eq_true rfl)) dX3_goesOn_47 ⟨Nat.le_of_ble_eq_true rfl, Nat.le_of_ble_eq_true rfl⟩) (fun r42 h43 H locs hw hI => ?_)
        refine lv_istore_n (lv' := [(1, .int r42), (0, .ref a0)]) hx hb dX3_goesOn_50 rfl hl (by decide) rfl (fun ls hl => ?_)
        refine lv_iload_n hx hb dX3_goesOn_51 rfl (lv_at hl 0 rfl) ?_
        refine lv_if_eq (tgt := 77) hx hb dX3_goesOn_52 (by decide) (fun c_52 => ?_) (fun c_52 => ?_)
        · have hw := hw.1 c_52
          exact snd_X3_goesOn_L77 G a0 Q hE (fun h => wp_X3_goesOn_L0 G a0 Q n h) (fun h => ih h) h43 r42 hw _ _ _ hI (lv_sub hl [1, 0] rfl)
        · have hw := hw.2 c_52
          refine lv_aload_n hx hb dX3_goesOn_55 rfl (lv_at hl 1 rfl) ?_
          refine hv_wgetq hE hI in_X3 (ci := 3) rfl 0 (by decide) (hts _ q160) (fun _ hx => hx) hw dX3_goesOn_56 (fun r52 hw => ?_)
          obtain ⟨a53, hz, hwa53⟩ := hw; have hla53 := hl; subst hz; have hw := hwa53; have hl := hla53
          obtain ⟨⟨fs, hre⟩, hw⟩ := hw
          refine hv_rci hI (va_runV (As := []) (b := a53) (rest := []) hE.1 (snd_X9_wantsTwo l G _ h43 a53 _ hw) (cwV 0 hts (lw_V q524 q525 q526 q118 q527) rfl rfl rfl (by decide +kernel) ⟨Nat.le_of_ble_eq_true rfl, Nat.le_of_ble_eq_true rfl⟩) (hv_preV hE hI (ci := 12) rfl hre) rfl rfl hl.1 rfl (lv_room (Nat.le_of_ble_eq_true rfl)) dX3_goesOn_59 ⟨Nat.le_of_ble_eq_true rfl, Nat.le_of_ble_eq_true rfl⟩) (fun r54 h55 H locs hw hI => ?_)
          refine lv_if_ne (tgt := 77) hx hb dX3_goesOn_62 (by decide) (fun c_62 => ?_) (fun c_62 => ?_)
          · have hw := hw.1 c_62
            exact snd_X3_goesOn_L77 G a0 Q hE (fun h => wp_X3_goesOn_L0 G a0 Q n h) (fun h => ih h) h55 r42 hw _ _ _ hI (lv_sub hl [1, 0] rfl)
          · have hw := hw.2 c_62
            refine lv_aload_n hx hb dX3_goesOn_65 rfl (lv_at hl 1 rfl) ?_
            refine lv_dup hx hb dX3_goesOn_66 rfl ?_
            refine hv_wgeti hE hI in_X3 (ci := 3) rfl 3 (by decide) (hts _ q164) (fun _ hx => hx) hw dX3_goesOn_67 (fun r56 hw => ?_)
            refine lv_iconst (v := 1) hx hb dX3_goesOn_70 (by decide) ?_
            refine lv_iadd hx hb dX3_goesOn_71 ?_
            refine hv_wput (v := .int (r56 + (1 : Int32))) tyX3 hE hI in_X3 tyX3_ok nmX3 (ci := 3) rfl 3 (by decide) (hts _ q164) (fun _ hx => hx) rfl (ty := .int) rfl rfl rfl hw dX3_goesOn_72 (fun h57 H locs hw hI => ?_)
            refine lv_iconst (v := 1) hx hb dX3_goesOn_75 (by decide) ?_
            exact hv_zret hE hI (Nat.le_refl _) (Nat.le_refl _) rfl hw dX3_goesOn_76
def wp_X3_goesOn (G : GG) (h : HH) (a0 : Nat) (Q : Int32 → HH → Prop) : Prop := (∃ n0, wp_X3_goesOn_L0 G a0 Q n0 h)
set_option maxHeartbeats 4000000 in
theorem snd_X3_goesOn (l : Launch) (G : GG) (sz : Nat) (h : HH) (a0 : Nat) (Q : Int32 → HH → Prop) (hw : wp_X3_goesOn G h a0 Q) : Met l yX3_goesOn (ws_ yX3_goesOn cX3_goesOn 2 (some FieldType.boolean)) rm_X3_goesOn (hv_Pc G h sz [.ref a0]) (hv_Qi G h sz Q) 0 0 (hv_A h sz) := by
  refine Met.ofW (cc := cX3_goesOn) (maxL := 2) (ret := (some FieldType.boolean)) (by decide) rfl ?_
  intro p e s m args below meth c s₁ B hml hv
  obtain ⟨rfl, rfl, hE, hI⟩ := hv_open B hml hv
  have hE : hv_E p s m ([.ref a0] : List Value).toArray meth c cX3_goesOn 2 (some FieldType.boolean) RX3 G h := hE
  obtain ⟨⟨hx, hb, hml, hown, hts⟩, hr, hlocks, hXX⟩ := id hE
  have hl := lv_entry ([.ref a0] : List Value) (n := 2) (Nat.le_of_ble_eq_true rfl)
  rw [lg_entry_eq]
  generalize (lg_sl ([.ref a0] : List Value) ++ List.replicate (2 - (lg_sl ([.ref a0] : List Value)).length) Slot.unset).toArray = ls at hl ⊢
  have hl : lv_has ls 2 [(0, .ref a0)] := hl
  unfold wp_X3_goesOn at hw
  obtain ⟨n0, hw⟩ := hw
  exact snd_X3_goesOn_L0 G a0 Q hE n0 h hw _ _ _ hI (lv_sub hl [0] rfl)
