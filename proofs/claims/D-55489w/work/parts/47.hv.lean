/-! walks over a world (by gen/hvrun.py) -/
set_option maxRecDepth 100000
/-- java/util/Arrays.copyOf([Ljava/lang/Object;I)[Ljava/lang/Object; -/
abbrev rm_J18_copyOf (mc ms : Nat) : Room := { frames := 2, cells := mc, slots := ms, locals := 87 }
def wp_J18_copyOf (G : GG) (mc : Nat) (ms : Nat) (h : HH) (x0 : Option Nat) (x1 : Int32) (Q : Option Nat → HH → Prop) : Prop := w_nn x0 (fun a1 => w_castA G h a1 6 ((∃ mc2 ms2, 0 + mc2 ≤ mc ∧ 0 + ms2 ≤ ms ∧ wp_J18_copyOf_2 G mc2 ms2 h (some a1) x1 (some (G.2.2 3)) (fun r3 h4 => Q r3 h4))))
set_option maxHeartbeats 4000000 in
theorem snd_J18_copyOf (l : Launch) (G : GG) (sz : Nat) (mc : Nat) (ms : Nat) (h : HH) (x0 : Option Nat) (x1 : Int32) (Q : Option Nat → HH → Prop) (hw : wp_J18_copyOf G mc ms h x0 x1 Q) : Met l yJ18_copyOf (ws_ yJ18_copyOf cJ18_copyOf 2 (some (FieldType.array (FieldType.object "java/lang/Object")))) (rm_J18_copyOf mc ms) (hv_Pc G h sz [va_rf x0, .int x1]) (hv_Qq G h sz Q) mc ms (hv_A h sz) := by
  refine Met.ofW (cc := cJ18_copyOf) (maxL := 2) (ret := (some (FieldType.array (FieldType.object "java/lang/Object")))) (by decide) rfl ?_
  intro p e s m args below meth c s₁ B hml hv
  obtain ⟨rfl, rfl, hE, hI⟩ := hv_open B hml hv
  have hE : hv_E p s m ([va_rf x0, .int x1] : List Value).toArray meth c cJ18_copyOf 2 (some (FieldType.array (FieldType.object "java/lang/Object"))) RJ18 G h := hE
  obtain ⟨⟨hx, hb, hml, hown, hts⟩, hr, hlocks, hXX⟩ := id hE
  have hl := lv_entry ([va_rf x0, .int x1] : List Value) (n := 2) (by cases x0 <;> exact Nat.le_of_ble_eq_true rfl)
  rw [lg_entry_eq]
  generalize (lg_sl ([va_rf x0, .int x1] : List Value) ++ List.replicate (2 - (lg_sl ([va_rf x0, .int x1] : List Value)).length) Slot.unset).toArray = ls at hl ⊢
  have hl : lv_has ls 2 [(0, va_rf x0), (1, .int x1)] := (by cases x0 <;> exact hl)
  have hc : 0 ≤ mc := Nat.zero_le _
  have hs : 0 ≤ ms := Nat.zero_le _
  unfold wp_J18_copyOf at hw
  refine lv_aload_nq hx hb dJ18_copyOf_0 rfl (lv_at hl 0 rfl) ?_
  refine lv_iload_n hx hb dJ18_copyOf_1 rfl (lv_at hl 1 rfl) ?_
  refine lv_aload_nq hx hb dJ18_copyOf_2 rfl (lv_at hl 0 rfl) ?_
  obtain ⟨a1, hz, hwa1⟩ := hw; have hla1 := hl; subst hz; have hw := hwa1; have hl := hla1
  refine hv_getCQ (rest := [.int x1, .ref a1]) hE hI hw hl.1 (hts _ q936) ((hE.2.2.2.2.1.D 9 rfl).use rfl) (hts _ q2555) (hts _ q937) (hts _ q965) (Nat.le_of_ble_eq_true rfl) (Nat.le_of_ble_eq_true rfl) dJ18_copyOf_3 (fun hw => ?_)
  obtain ⟨mc2, ms2, hc, hs, hw⟩ := hw
  refine hv_rcq hI (va_runS (As := [.ref a1, .int x1, .ref (G.2.2 3)]) (rest := []) hE.1 (snd_J18_copyOf_2 l G _ mc2 ms2 h (some a1) x1 (some (G.2.2 3)) _ hw) (va_cwS 3 hts (lw_S q966 q967 q124 q968) rfl rfl rfl (by decide +kernel) ⟨Nat.le_of_ble_eq_true rfl, Nat.le_of_ble_eq_true rfl⟩) (hv_preS hE hI) rfl rfl hl.1 rfl (lv_room (Nat.le_of_ble_eq_true rfl)) dJ18_copyOf_6 ⟨hc, hs⟩) (fun r3 h4 H locs hw hI => ?_)
  exact hv_qret (v := r3) hE (Or.inr ⟨_, rfl⟩) hI hc hs hw dJ18_copyOf_9

/-- java/util/ArrayList.grow(I)[Ljava/lang/Object; -/
abbrev rm_J2_grow_2 (mc ms : Nat) : Room := { frames := 3, cells := mc, slots := ms, locals := 108 }
def wp_J2_grow_2_L20 (G : GG) (mc : Nat) (ms : Nat) (a0 : Nat) (Q : Option Nat → HH → Prop) (h : HH) (nc : Nat) (nk : Nat) (x1 : Int32) (x2 : Int32) : Prop := wp_J17_newLength G h x2 (x1 - x2) (x2 >>> ((1 : Int32) &&& 31)) (fun r4 h5 => w_getq h5 a0 4 1 (fun r6 => (∃ mc7 ms7, nc + mc7 ≤ mc ∧ nk + ms7 ≤ ms ∧ wp_J18_copyOf G mc7 ms7 h5 r6 r4 (fun r8 h9 => w_put h9 a0 4 1 (va_rf r8) (fun h10 => Q r8 h10)))))
set_option maxHeartbeats 4000000 in
theorem snd_J2_grow_2_L20 {p : Program} {l : Launch} {e : Env} {s : State} {m : MethodId} {args : Array Value} {below : List Frame} {meth : Method} {c : Code} {h0 : HH} (G : GG) (mc : Nat) (ms : Nat) (a0 : Nat) (Q : Option Nat → HH → Prop) (hE : hv_E p s m args meth c cJ2_grow_2 4 (some (FieldType.array (FieldType.object "java/lang/Object"))) RJ2 G h0) : ∀ (h : HH) (nc : Nat) (nk : Nat) (x1 : Int32) (x2 : Int32), wp_J2_grow_2_L20 G mc ms a0 Q h nc nk x1 x2 → nc ≤ mc → nk ≤ ms → ∀ (H : Heap) (locs : List Loc) (ls : Array Slot), hv_I G h0 s.heap h H locs → lv_has ls 4 [(0, .ref a0), (1, .int x1), (2, .int x2)] → W p l e (headSpec (ws_ yJ2_grow_2 cJ2_grow_2 4 (some (FieldType.array (FieldType.object "java/lang/Object")))) (rm_J2_grow_2 mc ms)).room s m args below meth c H locs nc nk (MQ below (hv_Qq G h0 s.heap.size Q) args s mc ms (hv_A h0 s.heap.size)) (F0 m 20 ls []) := by
  obtain ⟨⟨hx, hb, hml, hown, hts⟩, hr, hlocks, hXX⟩ := id hE
  intro h nc nk x1 x2 hw hc hs H locs ls hI hl
  unfold wp_J2_grow_2_L20 at hw
  refine lv_iload_n hx hb dJ2_grow_2_20 rfl (lv_at hl 2 rfl) ?_
  refine lv_iload_n hx hb dJ2_grow_2_21 rfl (lv_at hl 1 rfl) ?_
  refine lv_iload_n hx hb dJ2_grow_2_22 rfl (lv_at hl 2 rfl) ?_
  refine lv_isub hx hb dJ2_grow_2_23 ?_
  refine lv_iload_n hx hb dJ2_grow_2_24 rfl (lv_at hl 2 rfl) ?_
  refine lv_iconst (v := 1) hx hb dJ2_grow_2_25 (by decide) ?_
  refine lv_ishr hx hb dJ2_grow_2_26 ?_
  refine hv_rci hI (va_runS (As := [.int x2, .int (x1 - x2), .int (x2 >>> ((1 : Int32) &&& 31))]) (rest := []) hE.1 (snd_J17_newLength l G _ h x2 (x1 - x2) (x2 >>> ((1 : Int32) &&& 31)) _ hw) (va_cwS 3 hts (lw_S q925 q926 q123 q927) rfl rfl rfl (by decide +kernel) ⟨Nat.le_of_ble_eq_true rfl, Nat.le_of_ble_eq_true rfl⟩) (hv_preS hE hI) rfl rfl hl.1 rfl (lv_room (Nat.le_of_ble_eq_true rfl)) dJ2_grow_2_27 ⟨hc, hs⟩) (fun r4 h5 H locs hw hI => ?_)
  refine lv_istore_n (lv' := [(3, .int r4), (0, .ref a0), (1, .int x1), (2, .int x2)]) hx hb dJ2_grow_2_30 rfl hl (by decide) rfl (fun ls hl => ?_)
  refine lv_aload_n hx hb dJ2_grow_2_31 rfl (lv_at hl 1 rfl) ?_
  refine lv_aload_n hx hb dJ2_grow_2_32 rfl (lv_at hl 1 rfl) ?_
  refine hv_wgetq hE hI in_J2 (ci := 4) rfl 1 (by decide) (hts _ q203) (fun _ hx => hx) hw dJ2_grow_2_33 (fun r6 hw => ?_)
  refine lv_iload_n hx hb dJ2_grow_2_36 rfl (lv_at hl 0 rfl) ?_
  obtain ⟨mc7, ms7, hc, hs, hw⟩ := hw
  refine hv_rcq hI (va_runS (As := [va_rf r6, .int r4]) (rest := [.ref a0]) hE.1 (snd_J18_copyOf l G _ mc7 ms7 h5 r6 r4 _ hw) (va_cwS 2 hts (lw_S q933 q934 q124 q935) rfl rfl rfl (by decide +kernel) ⟨Nat.le_of_ble_eq_true rfl, Nat.le_of_ble_eq_true rfl⟩) (hv_preS hE hI) rfl rfl hl.1 rfl (lv_room (Nat.le_of_ble_eq_true rfl)) dJ2_grow_2_37 ⟨hc, hs⟩) (fun r8 h9 H locs hw hI => ?_)
  refine lv_dup_x1 hx hb dJ2_grow_2_40 (va_rf_cat _) rfl ?_
  refine hv_wput (v := va_rf r8) tyJ2 hE hI in_J2 tyJ2_ok nmJ2 (ci := 4) rfl 1 (by decide) (hts _ q203) (fun _ hx => hx) rfl (ty := (.array (.object "java/lang/Object"))) rfl (va_rf_narA _ _) (va_rf_fitA _ _) hw dJ2_grow_2_41 (fun h10 H locs hw hI => ?_)
  exact hv_qret (v := r8) hE (Or.inr ⟨_, rfl⟩) hI hc hs hw dJ2_grow_2_44
def wp_J2_grow_2 (G : GG) (mc : Nat) (ms : Nat) (h : HH) (a0 : Nat) (x1 : Int32) (Q : Option Nat → HH → Prop) : Prop := w_getq h a0 4 1 (fun r1 => w_nn r1 (fun a2 => w_len G h a2 (fun r3 => ((0 < r3 → wp_J2_grow_2_L20 G mc ms a0 Q h 0 0 x1 r3) ∧ (¬ 0 < r3 → w_getq h a0 4 1 (fun r11 => ((r11 = (some (G.2.2 0)) → (¬ (if (10 : Int32) < x1 then x1 else (10 : Int32)) < 0 ∧ (Int32.toNatClampNeg (if (10 : Int32) < x1 then x1 else (10 : Int32))) ≤ 1000000 ∧ (0 + 1 ≤ mc ∧ 0 + (Int32.toNatClampNeg (if (10 : Int32) < x1 then x1 else (10 : Int32))) ≤ ms ∧ w_new h (.inl (G.2.1 6, (Int32.toNatClampNeg (if (10 : Int32) < x1 then x1 else (10 : Int32))), .inr (.inr (.inr (.inr (fun _ => none)))))) (fun a12 h13 => w_put h13 a0 4 1 (.ref a12) (fun h14 => Q (some a12) h14))))) ∧ (¬ r11 = (some (G.2.2 0)) → wp_J2_grow_2_L20 G mc ms a0 Q h 0 0 x1 r3))))))))
set_option maxHeartbeats 4000000 in
theorem snd_J2_grow_2 (l : Launch) (G : GG) (sz : Nat) (mc : Nat) (ms : Nat) (h : HH) (a0 : Nat) (x1 : Int32) (Q : Option Nat → HH → Prop) (hw : wp_J2_grow_2 G mc ms h a0 x1 Q) : Met l yJ2_grow_2 (ws_ yJ2_grow_2 cJ2_grow_2 4 (some (FieldType.array (FieldType.object "java/lang/Object")))) (rm_J2_grow_2 mc ms) (hv_Pc G h sz [.ref a0, .int x1]) (hv_Qq G h sz Q) mc ms (hv_A h sz) := by
  refine Met.ofW (cc := cJ2_grow_2) (maxL := 4) (ret := (some (FieldType.array (FieldType.object "java/lang/Object")))) (by decide) rfl ?_
  intro p e s m args below meth c s₁ B hml hv
  obtain ⟨rfl, rfl, hE, hI⟩ := hv_open B hml hv
  have hE : hv_E p s m ([.ref a0, .int x1] : List Value).toArray meth c cJ2_grow_2 4 (some (FieldType.array (FieldType.object "java/lang/Object"))) RJ2 G h := hE
  obtain ⟨⟨hx, hb, hml, hown, hts⟩, hr, hlocks, hXX⟩ := id hE
  have hl := lv_entry ([.ref a0, .int x1] : List Value) (n := 4) (Nat.le_of_ble_eq_true rfl)
  rw [lg_entry_eq]
  generalize (lg_sl ([.ref a0, .int x1] : List Value) ++ List.replicate (4 - (lg_sl ([.ref a0, .int x1] : List Value)).length) Slot.unset).toArray = ls at hl ⊢
  have hl : lv_has ls 4 [(0, .ref a0), (1, .int x1)] := hl
  have hc : 0 ≤ mc := Nat.zero_le _
  have hs : 0 ≤ ms := Nat.zero_le _
  unfold wp_J2_grow_2 at hw
  refine lv_aload_n hx hb dJ2_grow_2_0 rfl (lv_at hl 0 rfl) ?_
  refine hv_wgetq hE hI in_J2 (ci := 4) rfl 1 (by decide) (hts _ q203) (fun _ hx => hx) hw dJ2_grow_2_1 (fun r1 hw => ?_)
  obtain ⟨a2, hz, hwa2⟩ := hw; have hla2 := hl; subst hz; have hw := hwa2; have hl := hla2
  refine hv_len hE hI hw dJ2_grow_2_4 (fun r3 hw => ?_)
  refine lv_istore_n (lv' := [(2, .int r3), (0, .ref a0), (1, .int x1)]) hx hb dJ2_grow_2_5 rfl hl (by decide) rfl (fun ls hl => ?_)
  refine lv_iload_n hx hb dJ2_grow_2_6 rfl (lv_at hl 0 rfl) ?_
  refine lv_if_gt (tgt := 20) hx hb dJ2_grow_2_7 (by decide) (fun c_7 => ?_) (fun c_7 => ?_)
  · have hw := hw.1 c_7
    exact snd_J2_grow_2_L20 G mc ms a0 Q hE h 0 0 x1 r3 hw hc hs _ _ _ hI (lv_sub hl [1, 2, 0] rfl)
  · have hw := hw.2 c_7
    refine lv_aload_n hx hb dJ2_grow_2_10 rfl (lv_at hl 1 rfl) ?_
    refine hv_wgetq hE hI in_J2 (ci := 4) rfl 1 (by decide) (hts _ q203) (fun _ hx => hx) hw dJ2_grow_2_11 (fun r11 hw => ?_)
    refine hv_gets hE hI (hv_zH hE).1 (hts _ q201) (fun _ hx => hx) dJ2_grow_2_14 ?_
    refine lv_acmp_eq (rx := r11) (ry := (some (G.2.2 0))) (tgt := 45) hx hb dJ2_grow_2_17 (by decide) (fun c_17 => ?_) (fun c_17 => ?_)
    · have hw := hw.1 c_17
      refine lv_aload_n hx hb dJ2_grow_2_45 rfl (lv_at hl 1 rfl) ?_
      refine lv_bipush (v := 10) hx hb dJ2_grow_2_46 (by decide) ?_
      refine lv_iload_n hx hb dJ2_grow_2_48 rfl (lv_at hl 2 rfl) ?_
      refine va_mmax (rest := [.ref a0]) hx hb (hml.trans hl.1.symm) hown (hts _ q973) (hts _ q533) (hts _ q113) (hts _ q534) (Nat.le_of_ble_eq_true rfl) (Nat.le_of_ble_eq_true rfl) hc hs dJ2_grow_2_49 ?_
      obtain ⟨hneg, hby, hw⟩ := hw
      obtain ⟨hc, hs, hw⟩ := hw
      refine hv_wnewq (N' := (Int32.toNatClampNeg (if (10 : Int32) < x1 then x1 else (10 : Int32)))) hE hI (hts _ q974) rfl hneg hby hw hc hs dJ2_grow_2_52 (fun a12 h13 H hw hI => ?_)
      refine lv_dup_x1 hx hb dJ2_grow_2_55 rfl rfl ?_
      refine hv_wput (v := .ref a12) tyJ2 hE hI in_J2 tyJ2_ok nmJ2 (ci := 4) rfl 1 (by decide) (hts _ q203) (fun _ hx => hx) rfl (ty := (.array (.object "java/lang/Object"))) rfl rfl rfl hw dJ2_grow_2_56 (fun h14 H locs hw hI => ?_)
      exact hv_qret (v := (some a12)) hE (Or.inr ⟨_, rfl⟩) hI hc hs hw dJ2_grow_2_59
    · have hw := hw.2 c_17
      exact snd_J2_grow_2_L20 G mc ms a0 Q hE h 0 0 x1 r3 hw hc hs _ _ _ hI (lv_sub hl [1, 2, 0] rfl)

/-- java/util/ArrayList.grow()[Ljava/lang/Object; -/
abbrev rm_J2_grow (mc ms : Nat) : Room := { frames := 4, cells := mc, slots := ms, locals := 131 }
def wp_J2_grow (G : GG) (mc : Nat) (ms : Nat) (h : HH) (a0 : Nat) (Q : Option Nat → HH → Prop) : Prop := w_geti h a0 4 2 (fun r1 => (∃ mc2 ms2, 0 + mc2 ≤ mc ∧ 0 + ms2 ≤ ms ∧ w_is h a0 4 (wp_J2_grow_2 G mc2 ms2 h a0 (r1 + (1 : Int32)) (fun r3 h4 => Q r3 h4))))
set_option maxHeartbeats 4000000 in
theorem snd_J2_grow (l : Launch) (G : GG) (sz : Nat) (mc : Nat) (ms : Nat) (h : HH) (a0 : Nat) (Q : Option Nat → HH → Prop) (hw : wp_J2_grow G mc ms h a0 Q) : Met l yJ2_grow (ws_ yJ2_grow cJ2_grow 1 (some (FieldType.array (FieldType.object "java/lang/Object")))) (rm_J2_grow mc ms) (hv_Pc G h sz [.ref a0]) (hv_Qq G h sz Q) mc ms (hv_A h sz) := by
  refine Met.ofW (cc := cJ2_grow) (maxL := 1) (ret := (some (FieldType.array (FieldType.object "java/lang/Object")))) (by decide) rfl ?_
  intro p e s m args below meth c s₁ B hml hv
  obtain ⟨rfl, rfl, hE, hI⟩ := hv_open B hml hv
  have hE : hv_E p s m ([.ref a0] : List Value).toArray meth c cJ2_grow 1 (some (FieldType.array (FieldType.object "java/lang/Object"))) RJ2 G h := hE
  obtain ⟨⟨hx, hb, hml, hown, hts⟩, hr, hlocks, hXX⟩ := id hE
  have hl := lv_entry ([.ref a0] : List Value) (n := 1) (Nat.le_of_ble_eq_true rfl)
  rw [lg_entry_eq]
  generalize (lg_sl ([.ref a0] : List Value) ++ List.replicate (1 - (lg_sl ([.ref a0] : List Value)).length) Slot.unset).toArray = ls at hl ⊢
  have hl : lv_has ls 1 [(0, .ref a0)] := hl
  have hc : 0 ≤ mc := Nat.zero_le _
  have hs : 0 ≤ ms := Nat.zero_le _
  unfold wp_J2_grow at hw
  refine lv_aload_n hx hb dJ2_grow_0 rfl (lv_at hl 0 rfl) ?_
  refine lv_aload_n hx hb dJ2_grow_1 rfl (lv_at hl 0 rfl) ?_
  refine hv_wgeti hE hI in_J2 (ci := 4) rfl 2 (by decide) (hts _ q206) (fun _ hx => hx) hw dJ2_grow_2 (fun r1 hw => ?_)
  refine lv_iconst (v := 1) hx hb dJ2_grow_5 (by decide) ?_
  refine lv_iadd hx hb dJ2_grow_6 ?_
  obtain ⟨mc2, ms2, hc, hs, hw⟩ := hw
  obtain ⟨⟨fs, hre⟩, hw⟩ := hw
  refine hv_rcq hI (va_runV (As := [.int (r1 + (1 : Int32))]) (b := a0) (rest := []) hE.1 (snd_J2_grow_2 l G _ mc2 ms2 h a0 (r1 + (1 : Int32)) _ hw) (cwV 1 hts (lw_V q921 q923 qs18 q102 q924) rfl rfl rfl (by decide +kernel) ⟨Nat.le_of_ble_eq_true rfl, Nat.le_of_ble_eq_true rfl⟩) (hv_preV hE hI (ci := 4) rfl hre) rfl rfl hl.1 rfl (lv_room (Nat.le_of_ble_eq_true rfl)) dJ2_grow_7 ⟨hc, hs⟩) (fun r3 h4 H locs hw hI => ?_)
  exact hv_qret (v := r3) hE (Or.inr ⟨_, rfl⟩) hI hc hs hw dJ2_grow_10

/-- java/util/ArrayList.add(Ljava/lang/Object;[Ljava/lang/Object;I)V -/
abbrev rm_J2_add_2 (mc ms : Nat) : Room := { frames := 5, cells := mc, slots := ms, locals := 151 }
def wp_J2_add_2 (G : GG) (mc : Nat) (ms : Nat) (h : HH) (a0 : Nat) (x1 : Option Nat) (x2 : Option Nat) (x3 : Int32) (Q : HH → Prop) : Prop := w_nn x2 (fun a1 => w_len G h a1 (fun r2 => ((¬ x3 = r2 → w_qst G h a1 x3 x1 (fun h3 => w_put h3 a0 4 2 (.int (x3 + (1 : Int32))) (fun h4 => Q h4))) ∧ (x3 = r2 → (∃ mc5 ms5, 0 + mc5 ≤ mc ∧ 0 + ms5 ≤ ms ∧ w_is h a0 4 (wp_J2_grow G mc5 ms5 h a0 (fun r6 h7 => w_nn r6 (fun a8 => w_qst G h7 a8 x3 x1 (fun h9 => w_put h9 a0 4 2 (.int (x3 + (1 : Int32))) (fun h10 => Q h10))))))))))
set_option maxHeartbeats 4000000 in
theorem snd_J2_add_2 (l : Launch) (G : GG) (sz : Nat) (mc : Nat) (ms : Nat) (h : HH) (a0 : Nat) (x1 : Option Nat) (x2 : Option Nat) (x3 : Int32) (Q : HH → Prop) (hw : wp_J2_add_2 G mc ms h a0 x1 x2 x3 Q) : Met l yJ2_add_2 (ws_ yJ2_add_2 cJ2_add_2 4 (none : Option FieldType)) (rm_J2_add_2 mc ms) (hv_Pc G h sz [.ref a0, va_rf x1, va_rf x2, .int x3]) (hv_Qv G h sz Q) mc ms (hv_A h sz) := by
  refine Met.ofW (cc := cJ2_add_2) (maxL := 4) (ret := (none : Option FieldType)) (by decide) rfl ?_
  intro p e s m args below meth c s₁ B hml hv
  obtain ⟨rfl, rfl, hE, hI⟩ := hv_open B hml hv
  have hE : hv_E p s m ([.ref a0, va_rf x1, va_rf x2, .int x3] : List Value).toArray meth c cJ2_add_2 4 (none : Option FieldType) RJ2 G h := hE
  obtain ⟨⟨hx, hb, hml, hown, hts⟩, hr, hlocks, hXX⟩ := id hE
  have hl := lv_entry ([.ref a0, va_rf x1, va_rf x2, .int x3] : List Value) (n := 4) (by cases x1 <;> cases x2 <;> exact Nat.le_of_ble_eq_true rfl)
  rw [lg_entry_eq]
  generalize (lg_sl ([.ref a0, va_rf x1, va_rf x2, .int x3] : List Value) ++ List.replicate (4 - (lg_sl ([.ref a0, va_rf x1, va_rf x2, .int x3] : List Value)).length) Slot.unset).toArray = ls at hl ⊢
  have hl : lv_has ls 4 [(0, .ref a0), (1, va_rf x1), (2, va_rf x2), (3, .int x3)] := (by cases x1 <;> cases x2 <;> exact hl)
  have hc : 0 ≤ mc := Nat.zero_le _
  have hs : 0 ≤ ms := Nat.zero_le _
  unfold wp_J2_add_2 at hw
  refine lv_iload_n hx hb dJ2_add_2_0 rfl (lv_at hl 3 rfl) ?_
  refine lv_aload_nq hx hb dJ2_add_2_1 rfl (lv_at hl 2 rfl) ?_
  obtain ⟨a1, hz, hwa1⟩ := hw; have hla1 := hl; subst hz; have hw := hwa1; have hl := hla1
  refine hv_len hE hI hw dJ2_add_2_2 (fun r2 hw => ?_)
  refine lv_icmp_ne (tgt := 11) hx hb dJ2_add_2_3 (by decide) (fun c_3 => ?_) (fun c_3 => ?_)
  · have hw := hw.1 c_3
    refine lv_aload_n hx hb dJ2_add_2_11 rfl (lv_at hl 2 rfl) ?_
    refine lv_iload_n hx hb dJ2_add_2_12 rfl (lv_at hl 3 rfl) ?_
    refine lv_aload_nq hx hb dJ2_add_2_13 rfl (lv_at hl 1 rfl) ?_
    refine hv_wqst (x1 := x1) hE hI hw dJ2_add_2_14 (fun h3 H locs hw hI => ?_)
    refine lv_aload_n hx hb dJ2_add_2_15 rfl (lv_at hl 0 rfl) ?_
    refine lv_iload_n hx hb dJ2_add_2_16 rfl (lv_at hl 3 rfl) ?_
    refine lv_iconst (v := 1) hx hb dJ2_add_2_17 (by decide) ?_
    refine lv_iadd hx hb dJ2_add_2_18 ?_
    refine hv_wput (v := .int (x3 + (1 : Int32))) tyJ2 hE hI in_J2 tyJ2_ok nmJ2 (ci := 4) rfl 2 (by decide) (hts _ q206) (fun _ hx => hx) rfl (ty := .int) rfl rfl rfl hw dJ2_add_2_19 (fun h4 H locs hw hI => ?_)
    exact hv_vret hE hI hc hs hw dJ2_add_2_22
  · have hw := hw.2 c_3
    refine lv_aload_n hx hb dJ2_add_2_6 rfl (lv_at hl 0 rfl) ?_
    obtain ⟨mc5, ms5, hc, hs, hw⟩ := hw
    obtain ⟨⟨fs, hre⟩, hw⟩ := hw
    refine hv_rcq hI (va_runV (As := []) (b := a0) (rest := []) hE.1 (snd_J2_grow l G _ mc5 ms5 h a0 _ hw) (cwV 0 hts (lw_V q917 q919 qs17 q102 q920) rfl rfl rfl (by decide +kernel) ⟨Nat.le_of_ble_eq_true rfl, Nat.le_of_ble_eq_true rfl⟩) (hv_preV hE hI (ci := 4) rfl hre) rfl rfl hl.1 rfl (lv_room (Nat.le_of_ble_eq_true rfl)) dJ2_add_2_7 ⟨hc, hs⟩) (fun r6 h7 H locs hw hI => ?_)
    refine lv_astore_nq (lv' := [(2, va_rf r6), (0, .ref a0), (1, va_rf x1), (3, .int x3)]) hx hb dJ2_add_2_10 rfl hl (by decide) (by cases x1 <;> exact rfl) (fun ls hl => ?_)
    refine lv_aload_nq hx hb dJ2_add_2_11 rfl (lv_at hl 0 rfl) ?_
    refine lv_iload_n hx hb dJ2_add_2_12 rfl (lv_at hl 3 rfl) ?_
    refine lv_aload_nq hx hb dJ2_add_2_13 rfl (lv_at hl 2 rfl) ?_
    obtain ⟨a8, hz, hwa8⟩ := hw; have hla8 := hl; subst hz; have hw := hwa8; have hl := hla8
    refine hv_wqst (x1 := x1) hE hI hw dJ2_add_2_14 (fun h9 H locs hw hI => ?_)
    refine lv_aload_n hx hb dJ2_add_2_15 rfl (lv_at hl 1 rfl) ?_
    refine lv_iload_n hx hb dJ2_add_2_16 rfl (lv_at hl 3 rfl) ?_
    refine lv_iconst (v := 1) hx hb dJ2_add_2_17 (by decide) ?_
    refine lv_iadd hx hb dJ2_add_2_18 ?_
    refine hv_wput (v := .int (x3 + (1 : Int32))) tyJ2 hE hI in_J2 tyJ2_ok nmJ2 (ci := 4) rfl 2 (by decide) (hts _ q206) (fun _ hx => hx) rfl (ty := .int) rfl rfl rfl hw dJ2_add_2_19 (fun h10 H locs hw hI => ?_)
    exact hv_vret hE hI hc hs hw dJ2_add_2_22

/-- java/util/ArrayList.add(Ljava/lang/Object;)Z -/
abbrev rm_J2_add (mc ms : Nat) : Room := { frames := 6, cells := mc, slots := ms, locals := 174 }
def wp_J2_add (G : GG) (mc : Nat) (ms : Nat) (h : HH) (a0 : Nat) (x1 : Option Nat) (Q : Int32 → HH → Prop) : Prop := w_geti h a0 4 0 (fun r1 => w_put h a0 4 0 (.int (r1 + (1 : Int32))) (fun h2 => w_getq h2 a0 4 1 (fun r3 => w_geti h2 a0 4 2 (fun r4 => (∃ mc5 ms5, 0 + mc5 ≤ mc ∧ 0 + ms5 ≤ ms ∧ w_is h2 a0 4 (wp_J2_add_2 G mc5 ms5 h2 a0 x1 r3 r4 (fun h6 => Q (1 : Int32) h6)))))))
set_option maxHeartbeats 4000000 in
theorem snd_J2_add (l : Launch) (G : GG) (sz : Nat) (mc : Nat) (ms : Nat) (h : HH) (a0 : Nat) (x1 : Option Nat) (Q : Int32 → HH → Prop) (hw : wp_J2_add G mc ms h a0 x1 Q) : Met l yJ2_add (ws_ yJ2_add cJ2_add 2 (some FieldType.boolean)) (rm_J2_add mc ms) (hv_Pc G h sz [.ref a0, va_rf x1]) (hv_Qi G h sz Q) mc ms (hv_A h sz) := by
  refine Met.ofW (cc := cJ2_add) (maxL := 2) (ret := (some FieldType.boolean)) (by decide) rfl ?_
  intro p e s m args below meth c s₁ B hml hv
  obtain ⟨rfl, rfl, hE, hI⟩ := hv_open B hml hv
  have hE : hv_E p s m ([.ref a0, va_rf x1] : List Value).toArray meth c cJ2_add 2 (some FieldType.boolean) RJ2 G h := hE
  obtain ⟨⟨hx, hb, hml, hown, hts⟩, hr, hlocks, hXX⟩ := id hE
  have hl := lv_entry ([.ref a0, va_rf x1] : List Value) (n := 2) (by cases x1 <;> exact Nat.le_of_ble_eq_true rfl)
  rw [lg_entry_eq]
  generalize (lg_sl ([.ref a0, va_rf x1] : List Value) ++ List.replicate (2 - (lg_sl ([.ref a0, va_rf x1] : List Value)).length) Slot.unset).toArray = ls at hl ⊢
  have hl : lv_has ls 2 [(0, .ref a0), (1, va_rf x1)] := (by cases x1 <;> exact hl)
  have hc : 0 ≤ mc := Nat.zero_le _
  have hs : 0 ≤ ms := Nat.zero_le _
  unfold wp_J2_add at hw
  refine lv_aload_n hx hb dJ2_add_0 rfl (lv_at hl 0 rfl) ?_
  refine lv_dup hx hb dJ2_add_1 rfl ?_
  refine hv_wgeti hE hI in_J2 (ci := 4) rfl 0 (by decide) (hts _ q210) (fun x hx => u_same (hts _ q209) x hx) hw dJ2_add_2 (fun r1 hw => ?_)
  refine lv_iconst (v := 1) hx hb dJ2_add_5 (by decide) ?_
  refine lv_iadd hx hb dJ2_add_6 ?_
  refine hv_wput (v := .int (r1 + (1 : Int32))) tyJ2 hE hI in_J2 tyJ2_ok nmJ2 (ci := 4) rfl 0 (by decide) (hts _ q210) (fun x hx => u_same (hts _ q209) x hx) rfl (ty := .int) rfl rfl rfl hw dJ2_add_7 (fun h2 H locs hw hI => ?_)
  refine lv_aload_n hx hb dJ2_add_10 rfl (lv_at hl 0 rfl) ?_
  refine lv_aload_nq hx hb dJ2_add_11 rfl (lv_at hl 1 rfl) ?_
  refine lv_aload_n hx hb dJ2_add_12 rfl (lv_at hl 0 rfl) ?_
  refine hv_wgetq hE hI in_J2 (ci := 4) rfl 1 (by decide) (hts _ q203) (fun _ hx => hx) hw dJ2_add_13 (fun r3 hw => ?_)
  refine lv_aload_n hx hb dJ2_add_16 rfl (lv_at hl 0 rfl) ?_
  refine hv_wgeti hE hI in_J2 (ci := 4) rfl 2 (by decide) (hts _ q206) (fun _ hx => hx) hw dJ2_add_17 (fun r4 hw => ?_)
  obtain ⟨mc5, ms5, hc, hs, hw⟩ := hw
  obtain ⟨⟨fs, hre⟩, hw⟩ := hw
  refine hv_rcv hI (va_runV (As := [va_rf x1, va_rf r3, .int r4]) (b := a0) (rest := []) hE.1 (snd_J2_add_2 l G _ mc5 ms5 h2 a0 x1 r3 r4 _ hw) (cwV 3 hts (lw_V q913 q915 qs16 q102 q916) rfl rfl rfl (by decide +kernel) ⟨Nat.le_of_ble_eq_true rfl, Nat.le_of_ble_eq_true rfl⟩) (hv_preV hE hI (ci := 4) rfl hre) rfl rfl hl.1 rfl (lv_room (Nat.le_of_ble_eq_true rfl)) dJ2_add_20 ⟨hc, hs⟩) (fun h6 H locs hw hI => ?_)
  refine lv_iconst (v := 1) hx hb dJ2_add_23 (by decide) ?_
  exact hv_zret hE hI hc hs rfl hw dJ2_add_24

/-- MatchmakerRules$Fact.<init>(ICIIFI)V -/
abbrev rm_X10_init (mc ms : Nat) : Room := { frames := 4, cells := mc, slots := ms, locals := 92 }
def wp_X10_init (G : GG) (mc : Nat) (ms : Nat) (h : HH) (a0 : Nat) (x1 : Int32) (x2 : Int32) (x3 : Int32) (x4 : Int32) (x5 : UInt32) (x6 : Int32) (Q : HH → Prop) : Prop := (0 + 1 ≤ mc ∧ 0 + 3 ≤ ms ∧ w_new h (.inr (4, df_J2)) (fun a1 h2 => wp_J2_init G h2 a1 (fun h3 => w_put h3 a0 14 7 (.ref a1) (fun h4 => ((0 + 1) + 1 ≤ mc ∧ (0 + 3) + 3 ≤ ms ∧ w_new h4 (.inr (4, df_J2)) (fun a5 h6 => wp_J2_init G h6 a5 (fun h7 => w_put h7 a0 14 8 (.ref a5) (fun h8 => w_put h8 a0 14 0 (.int x1) (fun h9 => ((narrow .char (.int x2) = .int x2 ∧ fits .char (.int x2) = true) ∧ w_put h9 a0 14 1 (.int x2) (fun h10 => w_put h10 a0 14 2 (.int x3) (fun h11 => w_put h11 a0 14 3 (.int x4) (fun h12 => w_put h12 a0 14 4 (.float x5) (fun h13 => w_put h13 a0 14 5 (.int x6) (fun h14 => Q h14)))))))))))))))
set_option maxHeartbeats 4000000 in
theorem snd_X10_init (l : Launch) (G : GG) (sz : Nat) (mc : Nat) (ms : Nat) (h : HH) (a0 : Nat) (x1 : Int32) (x2 : Int32) (x3 : Int32) (x4 : Int32) (x5 : UInt32) (x6 : Int32) (Q : HH → Prop) (hw : wp_X10_init G mc ms h a0 x1 x2 x3 x4 x5 x6 Q) : Met l yX10_init (ws_ yX10_init cX10_init 7 (none : Option FieldType)) (rm_X10_init mc ms) (hv_Pc G h sz [.ref a0, .int x1, .int x2, .int x3, .int x4, .float x5, .int x6]) (hv_Qv G h sz Q) mc ms (hv_A h sz) := by
  refine Met.ofW (cc := cX10_init) (maxL := 7) (ret := (none : Option FieldType)) (by decide) rfl ?_
  intro p e s m args below meth c s₁ B hml hv
  have hin2 : meth.name = "<init>" := (name_of_methodNamed B.named B.method).1
  obtain ⟨rfl, rfl, hE, hI⟩ := hv_open B hml hv
  have hE : hv_E p s m ([.ref a0, .int x1, .int x2, .int x3, .int x4, .float x5, .int x6] : List Value).toArray meth c cX10_init 7 (none : Option FieldType) RX10 G h := hE
  obtain ⟨⟨hx, hb, hml, hown, hts⟩, hr, hlocks, hXX⟩ := id hE
  have hl := lv_entry ([.ref a0, .int x1, .int x2, .int x3, .int x4, .float x5, .int x6] : List Value) (n := 7) (Nat.le_of_ble_eq_true rfl)
  rw [lg_entry_eq]
  generalize (lg_sl ([.ref a0, .int x1, .int x2, .int x3, .int x4, .float x5, .int x6] : List Value) ++ List.replicate (7 - (lg_sl ([.ref a0, .int x1, .int x2, .int x3, .int x4, .float x5, .int x6] : List Value)).length) Slot.unset).toArray = ls at hl ⊢
  have hl : lv_has ls 7 [(0, .ref a0), (1, .int x1), (2, .int x2), (3, .int x3), (4, .int x4), (5, .float x5), (6, .int x6)] := hl
  have hc : 0 ≤ mc := Nat.zero_le _
  have hs : 0 ≤ ms := Nat.zero_le _
  unfold wp_X10_init at hw
  refine lv_aload_n hx hb dX10_init_0 rfl (lv_at hl 0 rfl) ?_
  refine hv_objI (rest := []) hE (hts _ q984) (hts _ q146) (hts _ q147) hl.1 dX10_init_1 (Nat.le_of_ble_eq_true rfl) (Nat.le_of_ble_eq_true rfl) ?_
  refine lv_aload_n hx hb dX10_init_4 rfl (lv_at hl 0 rfl) ?_
  obtain ⟨hc, hs, hw⟩ := hw
  refine hv_wnew tyJ2 hE hI in_J2 tyJ2_ok (hts _ q985) (hts _ q190) (hts _ q102) (ci := 4) rfl df_J2_ok hw hc hs dX10_init_5 (fun a1 h2 H hw hI => ?_)
  refine lv_dup hx hb dX10_init_8 rfl ?_
  refine hv_rcv hI (va_runI (As := []) (b := a1) (rest := [.ref a1, .ref a0]) hE.1 (snd_J2_init l G _ h2 a1 _ hw) (cwI 0 hts (lw_meth q193) rfl rfl rfl (hts _ q102) (hts _ q986) (hts _ q192) rfl (by decide +kernel) ⟨Nat.le_of_ble_eq_true rfl, Nat.le_of_ble_eq_true rfl⟩) (hv_preS hE hI) rfl rfl hl.1 rfl (lv_room (Nat.le_of_ble_eq_true rfl)) dX10_init_9 ⟨hc, hs⟩) (fun h3 H locs hw hI => ?_)
  refine hv_wputF (v := .ref a1) tyX10 hE hI in_X10 tyX10_ok nmX10 (ci := 14) rfl 7 (by decide) (hts _ q1011) (fun _ hx => hx) rfl hin2 rfl (ty := (.object "java/util/ArrayList")) rfl rfl rfl hw dX10_init_12 (fun h4 H locs hw hI => ?_)
  refine lv_aload_n hx hb dX10_init_15 rfl (lv_at hl 0 rfl) ?_
  obtain ⟨hc, hs, hw⟩ := hw
  refine hv_wnew tyJ2 hE hI in_J2 tyJ2_ok (hts _ q985) (hts _ q190) (hts _ q102) (ci := 4) rfl df_J2_ok hw hc hs dX10_init_16 (fun a5 h6 H hw hI => ?_)
  refine lv_dup hx hb dX10_init_19 rfl ?_
  refine hv_rcv hI (va_runI (As := []) (b := a5) (rest := [.ref a5, .ref a0]) hE.1 (snd_J2_init l G _ h6 a5 _ hw) (cwI 0 hts (lw_meth q193) rfl rfl rfl (hts _ q102) (hts _ q986) (hts _ q192) rfl (by decide +kernel) ⟨Nat.le_of_ble_eq_true rfl, Nat.le_of_ble_eq_true rfl⟩) (hv_preS hE hI) rfl rfl hl.1 rfl (lv_room (Nat.le_of_ble_eq_true rfl)) dX10_init_20 ⟨hc, hs⟩) (fun h7 H locs hw hI => ?_)
  refine hv_wputF (v := .ref a5) tyX10 hE hI in_X10 tyX10_ok nmX10 (ci := 14) rfl 8 (by decide) (hts _ q1014) (fun _ hx => hx) rfl hin2 rfl (ty := (.object "java/util/ArrayList")) rfl rfl rfl hw dX10_init_23 (fun h8 H locs hw hI => ?_)
  refine lv_aload_n hx hb dX10_init_26 rfl (lv_at hl 0 rfl) ?_
  refine lv_iload_n hx hb dX10_init_27 rfl (lv_at hl 1 rfl) ?_
  refine hv_wputF (v := .int x1) tyX10 hE hI in_X10 tyX10_ok nmX10 (ci := 14) rfl 0 (by decide) (hts _ q987) (fun _ hx => hx) rfl hin2 rfl (ty := .int) rfl rfl rfl hw dX10_init_28 (fun h9 H locs hw hI => ?_)
  refine lv_aload_n hx hb dX10_init_31 rfl (lv_at hl 0 rfl) ?_
  refine lv_iload_n hx hb dX10_init_32 rfl (lv_at hl 2 rfl) ?_
  obtain ⟨⟨hn1, hn2⟩, hw⟩ := hw
  refine hv_wputF (v := .int x2) tyX10 hE hI in_X10 tyX10_ok nmX10 (ci := 14) rfl 1 (by decide) (hts _ q991) (fun _ hx => hx) rfl hin2 rfl (ty := .char) rfl hn1 hn2 hw dX10_init_33 (fun h10 H locs hw hI => ?_)
  refine lv_aload_n hx hb dX10_init_36 rfl (lv_at hl 0 rfl) ?_
  refine lv_iload_n hx hb dX10_init_37 rfl (lv_at hl 3 rfl) ?_
  refine hv_wputF (v := .int x3) tyX10 hE hI in_X10 tyX10_ok nmX10 (ci := 14) rfl 2 (by decide) (hts _ q995) (fun _ hx => hx) rfl hin2 rfl (ty := .int) rfl rfl rfl hw dX10_init_38 (fun h11 H locs hw hI => ?_)
  refine lv_aload_n hx hb dX10_init_41 rfl (lv_at hl 0 rfl) ?_
  refine lv_iload hx hb dX10_init_42 (lv_at hl 4 rfl) ?_
  refine hv_wputF (v := .int x4) tyX10 hE hI in_X10 tyX10_ok nmX10 (ci := 14) rfl 3 (by decide) (hts _ q999) (fun _ hx => hx) rfl hin2 rfl (ty := .int) rfl rfl rfl hw dX10_init_44 (fun h12 H locs hw hI => ?_)
  refine lv_aload_n hx hb dX10_init_47 rfl (lv_at hl 0 rfl) ?_
  refine lv_fload hx hb dX10_init_48 (lv_at hl 5 rfl) ?_
  refine hv_wputF (v := .float x5) tyX10 hE hI in_X10 tyX10_ok nmX10 (ci := 14) rfl 4 (by decide) (hts _ q1003) (fun _ hx => hx) rfl hin2 rfl (ty := .float) rfl rfl rfl hw dX10_init_50 (fun h13 H locs hw hI => ?_)
  refine lv_aload_n hx hb dX10_init_53 rfl (lv_at hl 0 rfl) ?_
  refine lv_iload hx hb dX10_init_54 (lv_at hl 6 rfl) ?_
  refine hv_wputF (v := .int x6) tyX10 hE hI in_X10 tyX10_ok nmX10 (ci := 14) rfl 5 (by decide) (hts _ q1006) (fun _ hx => hx) rfl hin2 rfl (ty := .int) rfl rfl rfl hw dX10_init_56 (fun h14 H locs hw hI => ?_)
  exact hv_vret hE hI hc hs hw dX10_init_59

/-- MatchmakerRules$Fact.copy()LMatchmakerRules$Fact; -/
abbrev rm_X10_copy (mc ms : Nat) : Room := { frames := 7, cells := mc, slots := ms, locals := 195 }
def wp_X10_copy_L88 (G : GG) (mc : Nat) (ms : Nat) (a0 : Nat) (Q : Option Nat → HH → Prop) : Nat → (HH) → (Nat) → (Nat) → (Nat) → (Option Nat) → Prop
  | 0, _, _, _, _, _ => False
  | n + 1, h, nc, nk, x1, x2 => w_nn x2 (fun a26 => w_is h a26 13 (wp_J15_hasNext G h a26 (fun r27 h28 => ((r27 = 0 → Q (some x1) h28) ∧ (¬ r27 = 0 → w_is h28 a26 13 (wp_J15_next G h28 a26 (fun r29 h30 => w_nn r29 (fun a31 => w_cast h30 a31 16 (w_getq h30 x1 14 8 (fun r32 => w_nn r32 (fun a33 => (∃ mc34 ms34, nc + mc34 ≤ mc ∧ nk + ms34 ≤ ms ∧ w_is h30 a33 4 (wp_J2_add G mc34 ms34 h30 a33 (some a31) (fun r35 h36 => wp_X10_copy_L88 G mc ms a0 Q n h36 (nc + mc34) (nk + ms34) x1 (some a26)))))))))))))))
set_option maxHeartbeats 4000000 in
theorem snd_X10_copy_L88 {p : Program} {l : Launch} {e : Env} {s : State} {m : MethodId} {args : Array Value} {below : List Frame} {meth : Method} {c : Code} {h0 : HH} (G : GG) (mc : Nat) (ms : Nat) (a0 : Nat) (Q : Option Nat → HH → Prop) (hE : hv_E p s m args meth c cX10_copy 5 (some (FieldType.object "MatchmakerRules$Fact")) RX10 G h0) : ∀ (n : Nat) (h : HH) (nc : Nat) (nk : Nat) (x1 : Nat) (x2 : Option Nat), wp_X10_copy_L88 G mc ms a0 Q n h nc nk x1 x2 → nc ≤ mc → nk ≤ ms → ∀ (H : Heap) (locs : List Loc) (ls : Array Slot), hv_I G h0 s.heap h H locs → lv_has ls 5 [(1, .ref x1), (2, va_rf x2)] → W p l e (headSpec (ws_ yX10_copy cX10_copy 5 (some (FieldType.object "MatchmakerRules$Fact"))) (rm_X10_copy mc ms)).room s m args below meth c H locs nc nk (MQ below (hv_Qq G h0 s.heap.size Q) args s mc ms (hv_A h0 s.heap.size)) (F0 m 88 ls []) := by
  obtain ⟨⟨hx, hb, hml, hown, hts⟩, hr, hlocks, hXX⟩ := id hE
  intro n
  induction n with
  | zero => intro h nc nk x1 x2 hw; exact hw.elim
  | succ n ih =>
    intro h nc nk x1 x2 hw hc hs H locs ls hI hl
    unfold wp_X10_copy_L88 at hw
    refine lv_aload_nq hx hb dX10_copy_88 rfl (lv_at hl 1 rfl) ?_
    obtain ⟨a26, hz, hwa26⟩ := hw; have hla26 := hl; subst hz; have hw := hwa26; have hl := hla26
    obtain ⟨⟨fs, hre⟩, hw⟩ := hw
    refine hv_rFi hI (va_runF (As := []) (b := a26) (rest := []) (hXX.1.1 13 _ rfl).2 hE.1 (snd_J15_hasNext l G _ h a26 _ hw) (va_cwF 0 hts (lw_F q1038 q379 q381 q121 q383) rfl rfl rfl (hv_fw0 hE.2.2.2.2.1) (by decide +kernel) ⟨Nat.le_of_ble_eq_true rfl, Nat.le_of_ble_eq_true rfl⟩) (hv_preV hE hI (ci := 13) rfl hre) rfl rfl hl.1 rfl (lv_room (Nat.le_of_ble_eq_true rfl)) dX10_copy_89 ⟨hc, hs⟩) (fun r27 h28 H locs hw hI => ?_)
    refine lv_if_eq (tgt := 120) hx hb dX10_copy_94 (by decide) (fun c_94 => ?_) (fun c_94 => ?_)
    · have hw := hw.1 c_94
      refine lv_aload_n hx hb dX10_copy_120 rfl (lv_at hl 0 rfl) ?_
      exact hv_qret (v := (some x1)) hE (Or.inl ⟨_, rfl⟩) hI hc hs hw dX10_copy_121
    · have hw := hw.2 c_94
      refine lv_aload_n hx hb dX10_copy_97 rfl (lv_at hl 1 rfl) ?_
      obtain ⟨⟨fs, hre⟩, hw⟩ := hw
      refine hv_rFq hI (va_runF (As := []) (b := a26) (rest := []) (hXX.1.1 13 _ rfl).2 hE.1 (snd_J15_next l G _ h28 a26 _ hw) (va_cwF 0 hts (lw_F q1040 q388 q390 q121 q392) rfl rfl rfl (hv_fw1 hE.2.2.2.2.1) (by decide +kernel) ⟨Nat.le_of_ble_eq_true rfl, Nat.le_of_ble_eq_true rfl⟩) (hv_preV hE hI (ci := 13) rfl hre) rfl rfl hl.1 rfl (lv_room (Nat.le_of_ble_eq_true rfl)) dX10_copy_98 ⟨hc, hs⟩) (fun r29 h30 H locs hw hI => ?_)
      obtain ⟨a31, hz, hwa31⟩ := hw; have hla31 := hl; subst hz; have hw := hwa31; have hl := hla31
      refine hv_wcast (ci := 16) hE hI (hts _ q1041) rfl hw dX10_copy_103 (fun hw => ?_)
      refine lv_astore_n (lv' := [(3, .ref a31), (1, .ref x1), (2, .ref a26)]) hx hb dX10_copy_106 rfl hl (by decide) rfl (fun ls hl => ?_)
      refine lv_aload_n hx hb dX10_copy_107 rfl (lv_at hl 1 rfl) ?_
      refine hv_wgetq hE hI in_X10 (ci := 14) rfl 8 (by decide) (hts _ q1014) (fun _ hx => hx) hw dX10_copy_108 (fun r32 hw => ?_)
      refine lv_aload_n hx hb dX10_copy_111 rfl (lv_at hl 0 rfl) ?_
      obtain ⟨a33, hz, hwa33⟩ := hw; have hla33 := hl; subst hz; have hw := hwa33; have hl := hla33
      obtain ⟨mc34, ms34, hc, hs, hw⟩ := hw
      obtain ⟨⟨fs, hre⟩, hw⟩ := hw
      refine hv_rci hI (va_runV (As := [.ref a31]) (b := a33) (rest := []) hE.1 (snd_J2_add l G _ mc34 ms34 h30 a33 (some a31) _ hw) (cwV 1 hts (lw_V q1042 q910 q911 q102 q912) rfl rfl rfl (by decide +kernel) ⟨Nat.le_of_ble_eq_true rfl, Nat.le_of_ble_eq_true rfl⟩) (hv_preV hE hI (ci := 4) rfl hre) rfl rfl hl.1 rfl (lv_room (Nat.le_of_ble_eq_true rfl)) dX10_copy_112 ⟨hc, hs⟩) (fun r35 h36 H locs hw hI => ?_)
      refine lv_istore (lv' := [(4, .int r35), (3, .ref a31), (1, .ref x1), (2, .ref a26)]) hx hb dX10_copy_115 hl (by decide) rfl (fun ls hl => ?_)
      refine lv_goto (tgt := 88) hx hb dX10_copy_117 (by decide) ?_
      exact ih h36 (nc + mc34) (nk + ms34) x1 (some a26) hw hc hs _ _ _ hI (lv_sub hl [2, 3] rfl)
def wp_X10_copy_L48 (G : GG) (mc : Nat) (ms : Nat) (a0 : Nat) (Q : Option Nat → HH → Prop) : Nat → (HH) → (Nat) → (Nat) → (Nat) → (Option Nat) → Prop
  | 0, _, _, _, _, _ => False
  | n + 1, h, nc, nk, x1, x2 => w_nn x2 (fun a18 => w_is h a18 13 (wp_J15_hasNext G h a18 (fun r19 h20 => ((r19 = 0 → w_getq h20 a0 14 8 (fun r21 => w_nn r21 (fun a22 => (∃ mc23 ms23, nc + mc23 ≤ mc ∧ nk + ms23 ≤ ms ∧ w_is h20 a22 4 (wp_J2_iterator G mc23 ms23 h20 a22 (fun r24 h25 => (∃ n88, wp_X10_copy_L88 G mc ms a0 Q n88 h25 (nc + mc23) (nk + ms23) x1 r24))))))) ∧ (¬ r19 = 0 → w_is h20 a18 13 (wp_J15_next G h20 a18 (fun r37 h38 => w_nn r37 (fun a39 => w_cast h38 a39 16 (w_getq h38 x1 14 7 (fun r40 => w_nn r40 (fun a41 => (∃ mc42 ms42, nc + mc42 ≤ mc ∧ nk + ms42 ≤ ms ∧ w_is h38 a41 4 (wp_J2_add G mc42 ms42 h38 a41 (some a39) (fun r43 h44 => wp_X10_copy_L48 G mc ms a0 Q n h44 (nc + mc42) (nk + ms42) x1 (some a18)))))))))))))))
set_option maxHeartbeats 4000000 in
theorem snd_X10_copy_L48 {p : Program} {l : Launch} {e : Env} {s : State} {m : MethodId} {args : Array Value} {below : List Frame} {meth : Method} {c : Code} {h0 : HH} (G : GG) (mc : Nat) (ms : Nat) (a0 : Nat) (Q : Option Nat → HH → Prop) (hE : hv_E p s m args meth c cX10_copy 5 (some (FieldType.object "MatchmakerRules$Fact")) RX10 G h0) : ∀ (n : Nat) (h : HH) (nc : Nat) (nk : Nat) (x1 : Nat) (x2 : Option Nat), wp_X10_copy_L48 G mc ms a0 Q n h nc nk x1 x2 → nc ≤ mc → nk ≤ ms → ∀ (H : Heap) (locs : List Loc) (ls : Array Slot), hv_I G h0 s.heap h H locs → lv_has ls 5 [(0, .ref a0), (1, .ref x1), (2, va_rf x2)] → W p l e (headSpec (ws_ yX10_copy cX10_copy 5 (some (FieldType.object "MatchmakerRules$Fact"))) (rm_X10_copy mc ms)).room s m args below meth c H locs nc nk (MQ below (hv_Qq G h0 s.heap.size Q) args s mc ms (hv_A h0 s.heap.size)) (F0 m 48 ls []) := by
  obtain ⟨⟨hx, hb, hml, hown, hts⟩, hr, hlocks, hXX⟩ := id hE
  intro n
  induction n with
  | zero => intro h nc nk x1 x2 hw; exact hw.elim
  | succ n ih =>
    intro h nc nk x1 x2 hw hc hs H locs ls hI hl
    unfold wp_X10_copy_L48 at hw
    refine lv_aload_nq hx hb dX10_copy_48 rfl (lv_at hl 2 rfl) ?_
    obtain ⟨a18, hz, hwa18⟩ := hw; have hla18 := hl; subst hz; have hw := hwa18; have hl := hla18
    obtain ⟨⟨fs, hre⟩, hw⟩ := hw
    refine hv_rFi hI (va_runF (As := []) (b := a18) (rest := []) (hXX.1.1 13 _ rfl).2 hE.1 (snd_J15_hasNext l G _ h a18 _ hw) (va_cwF 0 hts (lw_F q1038 q379 q381 q121 q383) rfl rfl rfl (hv_fw0 hE.2.2.2.2.1) (by decide +kernel) ⟨Nat.le_of_ble_eq_true rfl, Nat.le_of_ble_eq_true rfl⟩) (hv_preV hE hI (ci := 13) rfl hre) rfl rfl hl.1 rfl (lv_room (Nat.le_of_ble_eq_true rfl)) dX10_copy_49 ⟨hc, hs⟩) (fun r19 h20 H locs hw hI => ?_)
    refine lv_if_eq (tgt := 80) hx hb dX10_copy_54 (by decide) (fun c_54 => ?_) (fun c_54 => ?_)
    · have hw := hw.1 c_54
      refine lv_aload_n hx hb dX10_copy_80 rfl (lv_at hl 0 rfl) ?_
      refine hv_wgetq hE hI in_X10 (ci := 14) rfl 8 (by decide) (hts _ q1014) (fun _ hx => hx) hw dX10_copy_81 (fun r21 hw => ?_)
      obtain ⟨a22, hz, hwa22⟩ := hw; have hla22 := hl; subst hz; have hw := hwa22; have hl := hla22
      obtain ⟨mc23, ms23, hc, hs, hw⟩ := hw
      obtain ⟨⟨fs, hre⟩, hw⟩ := hw
      refine hv_rcq hI (va_runV (As := []) (b := a22) (rest := []) hE.1 (snd_J2_iterator l G _ mc23 ms23 h20 a22 _ hw) (cwV 0 hts (lw_V q1036 q352 q353 q102 q354) rfl rfl rfl (by decide +kernel) ⟨Nat.le_of_ble_eq_true rfl, Nat.le_of_ble_eq_true rfl⟩) (hv_preV hE hI (ci := 4) rfl hre) rfl rfl hl.1 rfl (lv_room (Nat.le_of_ble_eq_true rfl)) dX10_copy_84 ⟨hc, hs⟩) (fun r24 h25 H locs hw hI => ?_)
      refine lv_astore_nq (lv' := [(2, va_rf r24), (0, .ref a0), (1, .ref x1)]) hx hb dX10_copy_87 rfl hl (by decide) rfl (fun ls hl => ?_)
      obtain ⟨n88, hw⟩ := hw
      exact snd_X10_copy_L88 G mc ms a0 Q hE n88 h25 (nc + mc23) (nk + ms23) x1 r24 hw hc hs _ _ _ hI (lv_sub hl [2, 0] rfl)
    · have hw := hw.2 c_54
      refine lv_aload_n hx hb dX10_copy_57 rfl (lv_at hl 2 rfl) ?_
      obtain ⟨⟨fs, hre⟩, hw⟩ := hw
      refine hv_rFq hI (va_runF (As := []) (b := a18) (rest := []) (hXX.1.1 13 _ rfl).2 hE.1 (snd_J15_next l G _ h20 a18 _ hw) (va_cwF 0 hts (lw_F q1040 q388 q390 q121 q392) rfl rfl rfl (hv_fw1 hE.2.2.2.2.1) (by decide +kernel) ⟨Nat.le_of_ble_eq_true rfl, Nat.le_of_ble_eq_true rfl⟩) (hv_preV hE hI (ci := 13) rfl hre) rfl rfl hl.1 rfl (lv_room (Nat.le_of_ble_eq_true rfl)) dX10_copy_58 ⟨hc, hs⟩) (fun r37 h38 H locs hw hI => ?_)
      obtain ⟨a39, hz, hwa39⟩ := hw; have hla39 := hl; subst hz; have hw := hwa39; have hl := hla39
      refine hv_wcast (ci := 16) hE hI (hts _ q1041) rfl hw dX10_copy_63 (fun hw => ?_)
      refine lv_astore_n (lv' := [(3, .ref a39), (0, .ref a0), (1, .ref x1), (2, .ref a18)]) hx hb dX10_copy_66 rfl hl (by decide) rfl (fun ls hl => ?_)
      refine lv_aload_n hx hb dX10_copy_67 rfl (lv_at hl 2 rfl) ?_
      refine hv_wgetq hE hI in_X10 (ci := 14) rfl 7 (by decide) (hts _ q1011) (fun _ hx => hx) hw dX10_copy_68 (fun r40 hw => ?_)
      refine lv_aload_n hx hb dX10_copy_71 rfl (lv_at hl 0 rfl) ?_
      obtain ⟨a41, hz, hwa41⟩ := hw; have hla41 := hl; subst hz; have hw := hwa41; have hl := hla41
      obtain ⟨mc42, ms42, hc, hs, hw⟩ := hw
      obtain ⟨⟨fs, hre⟩, hw⟩ := hw
      refine hv_rci hI (va_runV (As := [.ref a39]) (b := a41) (rest := []) hE.1 (snd_J2_add l G _ mc42 ms42 h38 a41 (some a39) _ hw) (cwV 1 hts (lw_V q1042 q910 q911 q102 q912) rfl rfl rfl (by decide +kernel) ⟨Nat.le_of_ble_eq_true rfl, Nat.le_of_ble_eq_true rfl⟩) (hv_preV hE hI (ci := 4) rfl hre) rfl rfl hl.1 rfl (lv_room (Nat.le_of_ble_eq_true rfl)) dX10_copy_72 ⟨hc, hs⟩) (fun r43 h44 H locs hw hI => ?_)
      refine lv_istore (lv' := [(4, .int r43), (3, .ref a39), (0, .ref a0), (1, .ref x1), (2, .ref a18)]) hx hb dX10_copy_75 hl (by decide) rfl (fun ls hl => ?_)
      refine lv_goto (tgt := 48) hx hb dX10_copy_77 (by decide) ?_
      exact ih h44 (nc + mc42) (nk + ms42) x1 (some a18) hw hc hs _ _ _ hI (lv_sub hl [2, 3, 4] rfl)
def wp_X10_copy (G : GG) (mc : Nat) (ms : Nat) (h : HH) (a0 : Nat) (Q : Option Nat → HH → Prop) : Prop := (0 + 1 ≤ mc ∧ 0 + 9 ≤ ms ∧ w_new h (.inr (14, df_X10)) (fun a1 h2 => w_geti h2 a0 14 0 (fun r3 => w_geti h2 a0 14 1 (fun r4 => w_geti h2 a0 14 2 (fun r5 => w_geti h2 a0 14 3 (fun r6 => w_getf h2 a0 14 4 (fun r7 => w_geti h2 a0 14 5 (fun r8 => (∃ mc9 ms9, (0 + 1) + mc9 ≤ mc ∧ (0 + 9) + ms9 ≤ ms ∧ wp_X10_init G mc9 ms9 h2 a1 r3 r4 r5 r6 r7 r8 (fun h10 => w_geti h10 a0 14 6 (fun r11 => ((narrow .boolean (.int r11) = .int r11 ∧ fits .boolean (.int r11) = true) ∧ w_put h10 a1 14 6 (.int r11) (fun h12 => w_getq h12 a0 14 7 (fun r13 => w_nn r13 (fun a14 => (∃ mc15 ms15, ((0 + 1) + mc9) + mc15 ≤ mc ∧ ((0 + 9) + ms9) + ms15 ≤ ms ∧ w_is h12 a14 4 (wp_J2_iterator G mc15 ms15 h12 a14 (fun r16 h17 => (∃ n48, wp_X10_copy_L48 G mc ms a0 Q n48 h17 (((0 + 1) + mc9) + mc15) (((0 + 9) + ms9) + ms15) a1 r16)))))))))))))))))))
set_option maxHeartbeats 4000000 in
theorem snd_X10_copy (l : Launch) (G : GG) (sz : Nat) (mc : Nat) (ms : Nat) (h : HH) (a0 : Nat) (Q : Option Nat → HH → Prop) (hw : wp_X10_copy G mc ms h a0 Q) : Met l yX10_copy (ws_ yX10_copy cX10_copy 5 (some (FieldType.object "MatchmakerRules$Fact"))) (rm_X10_copy mc ms) (hv_Pc G h sz [.ref a0]) (hv_Qq G h sz Q) mc ms (hv_A h sz) := by
  refine Met.ofW (cc := cX10_copy) (maxL := 5) (ret := (some (FieldType.object "MatchmakerRules$Fact"))) (by decide) rfl ?_
  intro p e s m args below meth c s₁ B hml hv
  obtain ⟨rfl, rfl, hE, hI⟩ := hv_open B hml hv
  have hE : hv_E p s m ([.ref a0] : List Value).toArray meth c cX10_copy 5 (some (FieldType.object "MatchmakerRules$Fact")) RX10 G h := hE
  obtain ⟨⟨hx, hb, hml, hown, hts⟩, hr, hlocks, hXX⟩ := id hE
  have hl := lv_entry ([.ref a0] : List Value) (n := 5) (Nat.le_of_ble_eq_true rfl)
  rw [lg_entry_eq]
  generalize (lg_sl ([.ref a0] : List Value) ++ List.replicate (5 - (lg_sl ([.ref a0] : List Value)).length) Slot.unset).toArray = ls at hl ⊢
  have hl : lv_has ls 5 [(0, .ref a0)] := hl
  have hc : 0 ≤ mc := Nat.zero_le _
  have hs : 0 ≤ ms := Nat.zero_le _
  unfold wp_X10_copy at hw
  obtain ⟨hc, hs, hw⟩ := hw
  refine hv_wnew tyX10 hE hI in_X10 tyX10_ok (hts _ q979) (hts _ q980) (hts _ q126) (ci := 14) rfl df_X10_ok hw hc hs dX10_copy_0 (fun a1 h2 H hw hI => ?_)
  refine lv_dup hx hb dX10_copy_3 rfl ?_
  refine lv_aload_n hx hb dX10_copy_4 rfl (lv_at hl 0 rfl) ?_
  refine hv_wgeti hE hI in_X10 (ci := 14) rfl 0 (by decide) (hts _ q987) (fun _ hx => hx) hw dX10_copy_5 (fun r3 hw => ?_)
  refine lv_aload_n hx hb dX10_copy_8 rfl (lv_at hl 0 rfl) ?_
  refine hv_wgeti hE hI in_X10 (ci := 14) rfl 1 (by decide) (hts _ q991) (fun _ hx => hx) hw dX10_copy_9 (fun r4 hw => ?_)
  refine lv_aload_n hx hb dX10_copy_12 rfl (lv_at hl 0 rfl) ?_
  refine hv_wgeti hE hI in_X10 (ci := 14) rfl 2 (by decide) (hts _ q995) (fun _ hx => hx) hw dX10_copy_13 (fun r5 hw => ?_)
  refine lv_aload_n hx hb dX10_copy_16 rfl (lv_at hl 0 rfl) ?_
  refine hv_wgeti hE hI in_X10 (ci := 14) rfl 3 (by decide) (hts _ q999) (fun _ hx => hx) hw dX10_copy_17 (fun r6 hw => ?_)
  refine lv_aload_n hx hb dX10_copy_20 rfl (lv_at hl 0 rfl) ?_
  refine hv_wgetf hE hI in_X10 (ci := 14) rfl 4 (by decide) (hts _ q1003) (fun _ hx => hx) hw dX10_copy_21 (fun r7 hw => ?_)
  refine lv_aload_n hx hb dX10_copy_24 rfl (lv_at hl 0 rfl) ?_
  refine hv_wgeti hE hI in_X10 (ci := 14) rfl 5 (by decide) (hts _ q1006) (fun _ hx => hx) hw dX10_copy_25 (fun r8 hw => ?_)
  obtain ⟨mc9, ms9, hc, hs, hw⟩ := hw
  refine hv_rcv hI (va_runI (As := [.int r3, .int r4, .int r5, .int r6, .float r7, .int r8]) (b := a1) (rest := [.ref a1]) hE.1 (snd_X10_init l G _ mc9 ms9 h2 a1 r3 r4 r5 r6 r7 r8 _ hw) (cwI 6 hts (lw_meth q983) rfl rfl rfl (hts _ q126) (hts _ q981) (hts _ q982) rfl (by decide +kernel) ⟨Nat.le_of_ble_eq_true rfl, Nat.le_of_ble_eq_true rfl⟩) (hv_preS hE hI) rfl rfl hl.1 rfl (lv_room (Nat.le_of_ble_eq_true rfl)) dX10_copy_28 ⟨hc, hs⟩) (fun h10 H locs hw hI => ?_)
  refine lv_astore_n (lv' := [(1, .ref a1), (0, .ref a0)]) hx hb dX10_copy_31 rfl hl (by decide) rfl (fun ls hl => ?_)
  refine lv_aload_n hx hb dX10_copy_32 rfl (lv_at hl 0 rfl) ?_
  refine lv_aload_n hx hb dX10_copy_33 rfl (lv_at hl 1 rfl) ?_
  refine hv_wgeti hE hI in_X10 (ci := 14) rfl 6 (by decide) (hts _ q1008) (fun _ hx => hx) hw dX10_copy_34 (fun r11 hw => ?_)
  obtain ⟨⟨hn1, hn2⟩, hw⟩ := hw
  refine hv_wput (v := .int r11) tyX10 hE hI in_X10 tyX10_ok nmX10 (ci := 14) rfl 6 (by decide) (hts _ q1008) (fun _ hx => hx) rfl (ty := .boolean) rfl hn1 hn2 hw dX10_copy_37 (fun h12 H locs hw hI => ?_)
  refine lv_aload_n hx hb dX10_copy_40 rfl (lv_at hl 1 rfl) ?_
  refine hv_wgetq hE hI in_X10 (ci := 14) rfl 7 (by decide) (hts _ q1011) (fun _ hx => hx) hw dX10_copy_41 (fun r13 hw => ?_)
  obtain ⟨a14, hz, hwa14⟩ := hw; have hla14 := hl; subst hz; have hw := hwa14; have hl := hla14
  obtain ⟨mc15, ms15, hc, hs, hw⟩ := hw
  obtain ⟨⟨fs, hre⟩, hw⟩ := hw
  refine hv_rcq hI (va_runV (As := []) (b := a14) (rest := []) hE.1 (snd_J2_iterator l G _ mc15 ms15 h12 a14 _ hw) (cwV 0 hts (lw_V q1036 q352 q353 q102 q354) rfl rfl rfl (by decide +kernel) ⟨Nat.le_of_ble_eq_true rfl, Nat.le_of_ble_eq_true rfl⟩) (hv_preV hE hI (ci := 4) rfl hre) rfl rfl hl.1 rfl (lv_room (Nat.le_of_ble_eq_true rfl)) dX10_copy_44 ⟨hc, hs⟩) (fun r16 h17 H locs hw hI => ?_)
  refine lv_astore_nq (lv' := [(2, va_rf r16), (1, .ref a1), (0, .ref a0)]) hx hb dX10_copy_47 rfl hl (by decide) rfl (fun ls hl => ?_)
  obtain ⟨n48, hw⟩ := hw
  exact snd_X10_copy_L48 G mc ms a0 Q hE n48 h17 (((0 + 1) + mc9) + mc15) (((0 + 9) + ms9) + ms15) a1 r16 hw hc hs _ _ _ hI (lv_sub hl [2, 1, 0] rfl)

/-- MatchmakerRules$Book.copy()LMatchmakerRules$Book; -/
abbrev rm_X2_copy (mc ms : Nat) : Room := { frames := 8, cells := mc, slots := ms, locals := 219 }
def wp_X2_copy_L56 (G : GG) (mc : Nat) (ms : Nat) (a0 : Nat) (Q : Option Nat → HH → Prop) : Nat → (HH) → (Nat) → (Nat) → (Nat) → (Option Nat) → Prop
  | 0, _, _, _, _, _ => False
  | n + 1, h, nc, nk, x1, x2 => w_nn x2 (fun a18 => w_is h a18 13 (wp_J15_hasNext G h a18 (fun r19 h20 => ((r19 = 0 → w_geti h20 a0 2 3 (fun r21 => w_put h20 x1 2 3 (.int r21) (fun h22 => w_geti h22 a0 2 4 (fun r23 => w_put h22 x1 2 4 (.int r23) (fun h24 => w_geti h24 a0 2 5 (fun r25 => w_put h24 x1 2 5 (.int r25) (fun h26 => w_geti h26 a0 2 6 (fun r27 => w_put h26 x1 2 6 (.int r27) (fun h28 => Q (some x1) h28))))))))) ∧ (¬ r19 = 0 → w_is h20 a18 13 (wp_J15_next G h20 a18 (fun r29 h30 => w_nn r29 (fun a31 => w_cast h30 a31 14 (w_getq h30 x1 2 2 (fun r32 => (∃ mc33 ms33, nc + mc33 ≤ mc ∧ nk + ms33 ≤ ms ∧ w_is h30 a31 14 (wp_X10_copy G mc33 ms33 h30 a31 (fun r34 h35 => w_nn r32 (fun a36 => (∃ mc37 ms37, (nc + mc33) + mc37 ≤ mc ∧ (nk + ms33) + ms37 ≤ ms ∧ w_is h35 a36 4 (wp_J2_add G mc37 ms37 h35 a36 r34 (fun r38 h39 => wp_X2_copy_L56 G mc ms a0 Q n h39 ((nc + mc33) + mc37) ((nk + ms33) + ms37) x1 (some a18))))))))))))))))))
set_option maxHeartbeats 4000000 in
theorem snd_X2_copy_L56 {p : Program} {l : Launch} {e : Env} {s : State} {m : MethodId} {args : Array Value} {below : List Frame} {meth : Method} {c : Code} {h0 : HH} (G : GG) (mc : Nat) (ms : Nat) (a0 : Nat) (Q : Option Nat → HH → Prop) (hE : hv_E p s m args meth c cX2_copy 5 (some (FieldType.object "MatchmakerRules$Book")) RX2 G h0) : ∀ (n : Nat) (h : HH) (nc : Nat) (nk : Nat) (x1 : Nat) (x2 : Option Nat), wp_X2_copy_L56 G mc ms a0 Q n h nc nk x1 x2 → nc ≤ mc → nk ≤ ms → ∀ (H : Heap) (locs : List Loc) (ls : Array Slot), hv_I G h0 s.heap h H locs → lv_has ls 5 [(0, .ref a0), (1, .ref x1), (2, va_rf x2)] → W p l e (headSpec (ws_ yX2_copy cX2_copy 5 (some (FieldType.object "MatchmakerRules$Book"))) (rm_X2_copy mc ms)).room s m args below meth c H locs nc nk (MQ below (hv_Qq G h0 s.heap.size Q) args s mc ms (hv_A h0 s.heap.size)) (F0 m 56 ls []) := by
  obtain ⟨⟨hx, hb, hml, hown, hts⟩, hr, hlocks, hXX⟩ := id hE
  intro n
  induction n with
  | zero => intro h nc nk x1 x2 hw; exact hw.elim
  | succ n ih =>
    intro h nc nk x1 x2 hw hc hs H locs ls hI hl
    unfold wp_X2_copy_L56 at hw
    refine lv_aload_nq hx hb dX2_copy_56 rfl (lv_at hl 2 rfl) ?_
    obtain ⟨a18, hz, hwa18⟩ := hw; have hla18 := hl; subst hz; have hw := hwa18; have hl := hla18
    obtain ⟨⟨fs, hre⟩, hw⟩ := hw
    refine hv_rFi hI (va_runF (As := []) (b := a18) (rest := []) (hXX.1.1 13 _ rfl).2 hE.1 (snd_J15_hasNext l G _ h a18 _ hw) (va_cwF 0 hts (lw_F q375 q379 q381 q121 q383) rfl rfl rfl (hv_fw0 hE.2.2.2.2.1) (by decide +kernel) ⟨Nat.le_of_ble_eq_true rfl, Nat.le_of_ble_eq_true rfl⟩) (hv_preV hE hI (ci := 13) rfl hre) rfl rfl hl.1 rfl (lv_room (Nat.le_of_ble_eq_true rfl)) dX2_copy_57 ⟨hc, hs⟩) (fun r19 h20 H locs hw hI => ?_)
    refine lv_if_eq (tgt := 91) hx hb dX2_copy_62 (by decide) (fun c_62 => ?_) (fun c_62 => ?_)
    · have hw := hw.1 c_62
      refine lv_aload_n hx hb dX2_copy_91 rfl (lv_at hl 1 rfl) ?_
      refine lv_aload_n hx hb dX2_copy_92 rfl (lv_at hl 0 rfl) ?_
      refine hv_wgeti hE hI in_X2 (ci := 2) rfl 3 (by decide) (hts _ q225) (fun _ hx => hx) hw dX2_copy_93 (fun r21 hw => ?_)
      refine hv_wput (v := .int r21) tyX2 hE hI in_X2 tyX2_ok nmX2 (ci := 2) rfl 3 (by decide) (hts _ q225) (fun _ hx => hx) rfl (ty := .int) rfl rfl rfl hw dX2_copy_96 (fun h22 H locs hw hI => ?_)
      refine lv_aload_n hx hb dX2_copy_99 rfl (lv_at hl 1 rfl) ?_
      refine lv_aload_n hx hb dX2_copy_100 rfl (lv_at hl 0 rfl) ?_
      refine hv_wgeti hE hI in_X2 (ci := 2) rfl 4 (by decide) (hts _ q227) (fun _ hx => hx) hw dX2_copy_101 (fun r23 hw => ?_)
      refine hv_wput (v := .int r23) tyX2 hE hI in_X2 tyX2_ok nmX2 (ci := 2) rfl 4 (by decide) (hts _ q227) (fun _ hx => hx) rfl (ty := .int) rfl rfl rfl hw dX2_copy_104 (fun h24 H locs hw hI => ?_)
      refine lv_aload_n hx hb dX2_copy_107 rfl (lv_at hl 1 rfl) ?_
      refine lv_aload_n hx hb dX2_copy_108 rfl (lv_at hl 0 rfl) ?_
      refine hv_wgeti hE hI in_X2 (ci := 2) rfl 5 (by decide) (hts _ q229) (fun _ hx => hx) hw dX2_copy_109 (fun r25 hw => ?_)
      refine hv_wput (v := .int r25) tyX2 hE hI in_X2 tyX2_ok nmX2 (ci := 2) rfl 5 (by decide) (hts _ q229) (fun _ hx => hx) rfl (ty := .int) rfl rfl rfl hw dX2_copy_112 (fun h26 H locs hw hI => ?_)
      refine lv_aload_n hx hb dX2_copy_115 rfl (lv_at hl 1 rfl) ?_
      refine lv_aload_n hx hb dX2_copy_116 rfl (lv_at hl 0 rfl) ?_
      refine hv_wgeti hE hI in_X2 (ci := 2) rfl 6 (by decide) (hts _ q231) (fun _ hx => hx) hw dX2_copy_117 (fun r27 hw => ?_)
      refine hv_wput (v := .int r27) tyX2 hE hI in_X2 tyX2_ok nmX2 (ci := 2) rfl 6 (by decide) (hts _ q231) (fun _ hx => hx) rfl (ty := .int) rfl rfl rfl hw dX2_copy_120 (fun h28 H locs hw hI => ?_)
      refine lv_aload_n hx hb dX2_copy_123 rfl (lv_at hl 1 rfl) ?_
      exact hv_qret (v := (some x1)) hE (Or.inl ⟨_, rfl⟩) hI hc hs hw dX2_copy_124
    · have hw := hw.2 c_62
      refine lv_aload_n hx hb dX2_copy_65 rfl (lv_at hl 2 rfl) ?_
      obtain ⟨⟨fs, hre⟩, hw⟩ := hw
      refine hv_rFq hI (va_runF (As := []) (b := a18) (rest := []) (hXX.1.1 13 _ rfl).2 hE.1 (snd_J15_next l G _ h20 a18 _ hw) (va_cwF 0 hts (lw_F q385 q388 q390 q121 q392) rfl rfl rfl (hv_fw1 hE.2.2.2.2.1) (by decide +kernel) ⟨Nat.le_of_ble_eq_true rfl, Nat.le_of_ble_eq_true rfl⟩) (hv_preV hE hI (ci := 13) rfl hre) rfl rfl hl.1 rfl (lv_room (Nat.le_of_ble_eq_true rfl)) dX2_copy_66 ⟨hc, hs⟩) (fun r29 h30 H locs hw hI => ?_)
      obtain ⟨a31, hz, hwa31⟩ := hw; have hla31 := hl; subst hz; have hw := hwa31; have hl := hla31
      refine hv_wcast (ci := 14) hE hI (hts _ q469) rfl hw dX2_copy_71 (fun hw => ?_)
      refine lv_astore_n (lv' := [(3, .ref a31), (0, .ref a0), (1, .ref x1), (2, .ref a18)]) hx hb dX2_copy_74 rfl hl (by decide) rfl (fun ls hl => ?_)
      refine lv_aload_n hx hb dX2_copy_75 rfl (lv_at hl 2 rfl) ?_
      refine hv_wgetq hE hI in_X2 (ci := 2) rfl 2 (by decide) (hts _ q222) (fun _ hx => hx) hw dX2_copy_76 (fun r32 hw => ?_)
      refine lv_aload_n hx hb dX2_copy_79 rfl (lv_at hl 0 rfl) ?_
      obtain ⟨mc33, ms33, hc, hs, hw⟩ := hw
      obtain ⟨⟨fs, hre⟩, hw⟩ := hw
      refine hv_rcq hI (va_runV (As := []) (b := a31) (rest := [va_rf r32]) hE.1 (snd_X10_copy l G _ mc33 ms33 h30 a31 _ hw) (cwV 0 hts (lw_V q975 q976 q977 q126 q978) rfl rfl rfl (by decide +kernel) ⟨Nat.le_of_ble_eq_true rfl, Nat.le_of_ble_eq_true rfl⟩) (hv_preV hE hI (ci := 14) rfl hre) rfl rfl hl.1 rfl (lv_room (by cases r32 <;> exact Nat.le_of_ble_eq_true rfl)) dX2_copy_80 ⟨hc, hs⟩) (fun r34 h35 H locs hw hI => ?_)
      obtain ⟨a36, hz, hwa36⟩ := hw; have hla36 := hl; subst hz; have hw := hwa36; have hl := hla36
      obtain ⟨mc37, ms37, hc, hs, hw⟩ := hw
      obtain ⟨⟨fs, hre⟩, hw⟩ := hw
      refine hv_rci hI (va_runV (As := [va_rf r34]) (b := a36) (rest := []) hE.1 (snd_J2_add l G _ mc37 ms37 h35 a36 r34 _ hw) (cwV 1 hts (lw_V q909 q910 q911 q102 q912) rfl rfl rfl (by decide +kernel) ⟨Nat.le_of_ble_eq_true rfl, Nat.le_of_ble_eq_true rfl⟩) (hv_preV hE hI (ci := 4) rfl hre) rfl rfl hl.1 rfl (lv_room (Nat.le_of_ble_eq_true rfl)) dX2_copy_83 ⟨hc, hs⟩) (fun r38 h39 H locs hw hI => ?_)
      refine lv_istore (lv' := [(4, .int r38), (3, .ref a31), (0, .ref a0), (1, .ref x1), (2, .ref a18)]) hx hb dX2_copy_86 hl (by decide) rfl (fun ls hl => ?_)
      refine lv_goto (tgt := 56) hx hb dX2_copy_88 (by decide) ?_
      exact ih h39 ((nc + mc33) + mc37) ((nk + ms33) + ms37) x1 (some a18) hw hc hs _ _ _ hI (lv_sub hl [2, 3, 4] rfl)
def wp_X2_copy_L16 (G : GG) (mc : Nat) (ms : Nat) (a0 : Nat) (Q : Option Nat → HH → Prop) : Nat → (HH) → (Nat) → (Nat) → (Nat) → (Option Nat) → Prop
  | 0, _, _, _, _, _ => False
  | n + 1, h, nc, nk, x1, x2 => w_nn x2 (fun a10 => w_is h a10 13 (wp_J15_hasNext G h a10 (fun r11 h12 => ((r11 = 0 → w_getq h12 a0 2 2 (fun r13 => w_nn r13 (fun a14 => (∃ mc15 ms15, nc + mc15 ≤ mc ∧ nk + ms15 ≤ ms ∧ w_is h12 a14 4 (wp_J2_iterator G mc15 ms15 h12 a14 (fun r16 h17 => (∃ n56, wp_X2_copy_L56 G mc ms a0 Q n56 h17 (nc + mc15) (nk + ms15) x1 r16))))))) ∧ (¬ r11 = 0 → w_is h12 a10 13 (wp_J15_next G h12 a10 (fun r40 h41 => w_nn r40 (fun a42 => w_cast h41 a42 12 (w_getq h41 x1 2 1 (fun r43 => w_nn r43 (fun a44 => (∃ mc45 ms45, nc + mc45 ≤ mc ∧ nk + ms45 ≤ ms ∧ w_is h41 a44 4 (wp_J2_add G mc45 ms45 h41 a44 (some a42) (fun r46 h47 => wp_X2_copy_L16 G mc ms a0 Q n h47 (nc + mc45) (nk + ms45) x1 (some a10)))))))))))))))
set_option maxHeartbeats 4000000 in
theorem snd_X2_copy_L16 {p : Program} {l : Launch} {e : Env} {s : State} {m : MethodId} {args : Array Value} {below : List Frame} {meth : Method} {c : Code} {h0 : HH} (G : GG) (mc : Nat) (ms : Nat) (a0 : Nat) (Q : Option Nat → HH → Prop) (hE : hv_E p s m args meth c cX2_copy 5 (some (FieldType.object "MatchmakerRules$Book")) RX2 G h0) : ∀ (n : Nat) (h : HH) (nc : Nat) (nk : Nat) (x1 : Nat) (x2 : Option Nat), wp_X2_copy_L16 G mc ms a0 Q n h nc nk x1 x2 → nc ≤ mc → nk ≤ ms → ∀ (H : Heap) (locs : List Loc) (ls : Array Slot), hv_I G h0 s.heap h H locs → lv_has ls 5 [(0, .ref a0), (1, .ref x1), (2, va_rf x2)] → W p l e (headSpec (ws_ yX2_copy cX2_copy 5 (some (FieldType.object "MatchmakerRules$Book"))) (rm_X2_copy mc ms)).room s m args below meth c H locs nc nk (MQ below (hv_Qq G h0 s.heap.size Q) args s mc ms (hv_A h0 s.heap.size)) (F0 m 16 ls []) := by
  obtain ⟨⟨hx, hb, hml, hown, hts⟩, hr, hlocks, hXX⟩ := id hE
  intro n
  induction n with
  | zero => intro h nc nk x1 x2 hw; exact hw.elim
  | succ n ih =>
    intro h nc nk x1 x2 hw hc hs H locs ls hI hl
    unfold wp_X2_copy_L16 at hw
    refine lv_aload_nq hx hb dX2_copy_16 rfl (lv_at hl 2 rfl) ?_
    obtain ⟨a10, hz, hwa10⟩ := hw; have hla10 := hl; subst hz; have hw := hwa10; have hl := hla10
    obtain ⟨⟨fs, hre⟩, hw⟩ := hw
    refine hv_rFi hI (va_runF (As := []) (b := a10) (rest := []) (hXX.1.1 13 _ rfl).2 hE.1 (snd_J15_hasNext l G _ h a10 _ hw) (va_cwF 0 hts (lw_F q375 q379 q381 q121 q383) rfl rfl rfl (hv_fw0 hE.2.2.2.2.1) (by decide +kernel) ⟨Nat.le_of_ble_eq_true rfl, Nat.le_of_ble_eq_true rfl⟩) (hv_preV hE hI (ci := 13) rfl hre) rfl rfl hl.1 rfl (lv_room (Nat.le_of_ble_eq_true rfl)) dX2_copy_17 ⟨hc, hs⟩) (fun r11 h12 H locs hw hI => ?_)
    refine lv_if_eq (tgt := 48) hx hb dX2_copy_22 (by decide) (fun c_22 => ?_) (fun c_22 => ?_)
    · have hw := hw.1 c_22
      refine lv_aload_n hx hb dX2_copy_48 rfl (lv_at hl 0 rfl) ?_
      refine hv_wgetq hE hI in_X2 (ci := 2) rfl 2 (by decide) (hts _ q222) (fun _ hx => hx) hw dX2_copy_49 (fun r13 hw => ?_)
      obtain ⟨a14, hz, hwa14⟩ := hw; have hla14 := hl; subst hz; have hw := hwa14; have hl := hla14
      obtain ⟨mc15, ms15, hc, hs, hw⟩ := hw
      obtain ⟨⟨fs, hre⟩, hw⟩ := hw
      refine hv_rcq hI (va_runV (As := []) (b := a14) (rest := []) hE.1 (snd_J2_iterator l G _ mc15 ms15 h12 a14 _ hw) (cwV 0 hts (lw_V q351 q352 q353 q102 q354) rfl rfl rfl (by decide +kernel) ⟨Nat.le_of_ble_eq_true rfl, Nat.le_of_ble_eq_true rfl⟩) (hv_preV hE hI (ci := 4) rfl hre) rfl rfl hl.1 rfl (lv_room (Nat.le_of_ble_eq_true rfl)) dX2_copy_52 ⟨hc, hs⟩) (fun r16 h17 H locs hw hI => ?_)
      refine lv_astore_nq (lv' := [(2, va_rf r16), (0, .ref a0), (1, .ref x1)]) hx hb dX2_copy_55 rfl hl (by decide) rfl (fun ls hl => ?_)
      obtain ⟨n56, hw⟩ := hw
      exact snd_X2_copy_L56 G mc ms a0 Q hE n56 h17 (nc + mc15) (nk + ms15) x1 r16 hw hc hs _ _ _ hI (lv_sub hl [1, 2, 0] rfl)
    · have hw := hw.2 c_22
      refine lv_aload_n hx hb dX2_copy_25 rfl (lv_at hl 2 rfl) ?_
      obtain ⟨⟨fs, hre⟩, hw⟩ := hw
      refine hv_rFq hI (va_runF (As := []) (b := a10) (rest := []) (hXX.1.1 13 _ rfl).2 hE.1 (snd_J15_next l G _ h12 a10 _ hw) (va_cwF 0 hts (lw_F q385 q388 q390 q121 q392) rfl rfl rfl (hv_fw1 hE.2.2.2.2.1) (by decide +kernel) ⟨Nat.le_of_ble_eq_true rfl, Nat.le_of_ble_eq_true rfl⟩) (hv_preV hE hI (ci := 13) rfl hre) rfl rfl hl.1 rfl (lv_room (Nat.le_of_ble_eq_true rfl)) dX2_copy_26 ⟨hc, hs⟩) (fun r40 h41 H locs hw hI => ?_)
      obtain ⟨a42, hz, hwa42⟩ := hw; have hla42 := hl; subst hz; have hw := hwa42; have hl := hla42
      refine hv_wcast (ci := 12) hE hI (hts _ q485) rfl hw dX2_copy_31 (fun hw => ?_)
      refine lv_astore_n (lv' := [(3, .ref a42), (0, .ref a0), (1, .ref x1), (2, .ref a10)]) hx hb dX2_copy_34 rfl hl (by decide) rfl (fun ls hl => ?_)
      refine lv_aload_n hx hb dX2_copy_35 rfl (lv_at hl 2 rfl) ?_
      refine hv_wgetq hE hI in_X2 (ci := 2) rfl 1 (by decide) (hts _ q219) (fun _ hx => hx) hw dX2_copy_36 (fun r43 hw => ?_)
      refine lv_aload_n hx hb dX2_copy_39 rfl (lv_at hl 0 rfl) ?_
      obtain ⟨a44, hz, hwa44⟩ := hw; have hla44 := hl; subst hz; have hw := hwa44; have hl := hla44
      obtain ⟨mc45, ms45, hc, hs, hw⟩ := hw
      obtain ⟨⟨fs, hre⟩, hw⟩ := hw
      refine hv_rci hI (va_runV (As := [.ref a42]) (b := a44) (rest := []) hE.1 (snd_J2_add l G _ mc45 ms45 h41 a44 (some a42) _ hw) (cwV 1 hts (lw_V q909 q910 q911 q102 q912) rfl rfl rfl (by decide +kernel) ⟨Nat.le_of_ble_eq_true rfl, Nat.le_of_ble_eq_true rfl⟩) (hv_preV hE hI (ci := 4) rfl hre) rfl rfl hl.1 rfl (lv_room (Nat.le_of_ble_eq_true rfl)) dX2_copy_40 ⟨hc, hs⟩) (fun r46 h47 H locs hw hI => ?_)
      refine lv_istore (lv' := [(4, .int r46), (3, .ref a42), (0, .ref a0), (1, .ref x1), (2, .ref a10)]) hx hb dX2_copy_43 hl (by decide) rfl (fun ls hl => ?_)
      refine lv_goto (tgt := 16) hx hb dX2_copy_45 (by decide) ?_
      exact ih h47 (nc + mc45) (nk + ms45) x1 (some a10) hw hc hs _ _ _ hI (lv_sub hl [2, 3, 4] rfl)
def wp_X2_copy (G : GG) (mc : Nat) (ms : Nat) (h : HH) (a0 : Nat) (Q : Option Nat → HH → Prop) : Prop := (0 + 1 ≤ mc ∧ 0 + 7 ≤ ms ∧ w_new h (.inr (2, df_X2)) (fun a1 h2 => (∃ mc3 ms3, (0 + 1) + mc3 ≤ mc ∧ (0 + 7) + ms3 ≤ ms ∧ wp_X2_init G mc3 ms3 h2 a1 (fun h4 => w_getq h4 a0 2 1 (fun r5 => w_nn r5 (fun a6 => (∃ mc7 ms7, ((0 + 1) + mc3) + mc7 ≤ mc ∧ ((0 + 7) + ms3) + ms7 ≤ ms ∧ w_is h4 a6 4 (wp_J2_iterator G mc7 ms7 h4 a6 (fun r8 h9 => (∃ n16, wp_X2_copy_L16 G mc ms a0 Q n16 h9 (((0 + 1) + mc3) + mc7) (((0 + 7) + ms3) + ms7) a1 r8))))))))))
set_option maxHeartbeats 4000000 in
theorem snd_X2_copy (l : Launch) (G : GG) (sz : Nat) (mc : Nat) (ms : Nat) (h : HH) (a0 : Nat) (Q : Option Nat → HH → Prop) (hw : wp_X2_copy G mc ms h a0 Q) : Met l yX2_copy (ws_ yX2_copy cX2_copy 5 (some (FieldType.object "MatchmakerRules$Book"))) (rm_X2_copy mc ms) (hv_Pc G h sz [.ref a0]) (hv_Qq G h sz Q) mc ms (hv_A h sz) := by
  refine Met.ofW (cc := cX2_copy) (maxL := 5) (ret := (some (FieldType.object "MatchmakerRules$Book"))) (by decide) rfl ?_
  intro p e s m args below meth c s₁ B hml hv
  obtain ⟨rfl, rfl, hE, hI⟩ := hv_open B hml hv
  have hE : hv_E p s m ([.ref a0] : List Value).toArray meth c cX2_copy 5 (some (FieldType.object "MatchmakerRules$Book")) RX2 G h := hE
  obtain ⟨⟨hx, hb, hml, hown, hts⟩, hr, hlocks, hXX⟩ := id hE
  have hl := lv_entry ([.ref a0] : List Value) (n := 5) (Nat.le_of_ble_eq_true rfl)
  rw [lg_entry_eq]
  generalize (lg_sl ([.ref a0] : List Value) ++ List.replicate (5 - (lg_sl ([.ref a0] : List Value)).length) Slot.unset).toArray = ls at hl ⊢
  have hl : lv_has ls 5 [(0, .ref a0)] := hl
  have hc : 0 ≤ mc := Nat.zero_le _
  have hs : 0 ≤ ms := Nat.zero_le _
  unfold wp_X2_copy at hw
  obtain ⟨hc, hs, hw⟩ := hw
  refine hv_wnew tyX2 hE hI in_X2 tyX2_ok (hts _ q907) (hts _ q149) (hts _ q98) (ci := 2) rfl df_X2_ok hw hc hs dX2_copy_0 (fun a1 h2 H hw hI => ?_)
  refine lv_dup hx hb dX2_copy_3 rfl ?_
  obtain ⟨mc3, ms3, hc, hs, hw⟩ := hw
  refine hv_rcv hI (va_runI (As := []) (b := a1) (rest := [.ref a1]) hE.1 (snd_X2_init l G _ mc3 ms3 h2 a1 _ hw) (cwI 0 hts (lw_meth q152) rfl rfl rfl (hts _ q98) (hts _ q908) (hts _ q151) rfl (by decide +kernel) ⟨Nat.le_of_ble_eq_true rfl, Nat.le_of_ble_eq_true rfl⟩) (hv_preS hE hI) rfl rfl hl.1 rfl (lv_room (Nat.le_of_ble_eq_true rfl)) dX2_copy_4 ⟨hc, hs⟩) (fun h4 H locs hw hI => ?_)
  refine lv_astore_n (lv' := [(1, .ref a1), (0, .ref a0)]) hx hb dX2_copy_7 rfl hl (by decide) rfl (fun ls hl => ?_)
  refine lv_aload_n hx hb dX2_copy_8 rfl (lv_at hl 1 rfl) ?_
  refine hv_wgetq hE hI in_X2 (ci := 2) rfl 1 (by decide) (hts _ q219) (fun _ hx => hx) hw dX2_copy_9 (fun r5 hw => ?_)
  obtain ⟨a6, hz, hwa6⟩ := hw; have hla6 := hl; subst hz; have hw := hwa6; have hl := hla6
  obtain ⟨mc7, ms7, hc, hs, hw⟩ := hw
  obtain ⟨⟨fs, hre⟩, hw⟩ := hw
  refine hv_rcq hI (va_runV (As := []) (b := a6) (rest := []) hE.1 (snd_J2_iterator l G _ mc7 ms7 h4 a6 _ hw) (cwV 0 hts (lw_V q351 q352 q353 q102 q354) rfl rfl rfl (by decide +kernel) ⟨Nat.le_of_ble_eq_true rfl, Nat.le_of_ble_eq_true rfl⟩) (hv_preV hE hI (ci := 4) rfl hre) rfl rfl hl.1 rfl (lv_room (Nat.le_of_ble_eq_true rfl)) dX2_copy_12 ⟨hc, hs⟩) (fun r8 h9 H locs hw hI => ?_)
  refine lv_astore_nq (lv' := [(2, va_rf r8), (1, .ref a1), (0, .ref a0)]) hx hb dX2_copy_15 rfl hl (by decide) rfl (fun ls hl => ?_)
  obtain ⟨n16, hw⟩ := hw
  exact snd_X2_copy_L16 G mc ms a0 Q hE n16 h9 (((0 + 1) + mc3) + mc7) (((0 + 7) + ms3) + ms7) a1 r8 hw hc hs _ _ _ hI (lv_sub hl [2, 1, 0] rfl)
