/-! walks over a world (by gen/hvrun.py) -/
set_option maxRecDepth 100000
/-- MatchmakerRulesLaw.factOf(LMatchmakerRules;II[J)I -/
abbrev rm_X0_factOf (mc ms : Nat) : Room := { frames := 9, cells := mc, slots := ms, locals := 3147 }
def wp_X0_factOf (G : GG) (mc : Nat) (ms : Nat) (h : HH) (x0 : Option Nat) (x1 : Int32) (x2 : Int32) (x3 : Option Nat) (Q : Int32 → HH → Prop) : Prop := w_nn x0 (fun a1 => (∃ mc2 ms2, 0 + mc2 ≤ mc ∧ 0 + ms2 ≤ ms ∧ w_is h a1 1 (wp_X1_factOf G mc2 ms2 h a1 x1 x2 (fun r3 h4 => w_nn x3 (fun a7 => w_lst G h4 a7 (0 : Int32) (Int32.toInt64 r3) (fun h8 => Q (0 : Int32) h8))) (fun E q5 h6 => ((E = "java/lang/IllegalArgumentException" ∧ Q (2 : Int32) h6) ∨ (E = "java/util/NoSuchElementException" ∧ Q (1 : Int32) h6))))))
set_option maxHeartbeats 4000000 in
theorem snd_X0_factOf (l : Launch) (hl0 : l.stackTraces = false) (G : GG) (sz : Nat) (mc : Nat) (ms : Nat) (h : HH) (x0 : Option Nat) (x1 : Int32) (x2 : Int32) (x3 : Option Nat) (Q : Int32 → HH → Prop) (hw : wp_X0_factOf G mc ms h x0 x1 x2 x3 Q) : Met l yX0_factOf (wsW_ yX0_factOf cX0_factOf 5 (some FieldType.int) [(0, 10, 13, 32), (0, 10, 17, 13)]) (rm_X0_factOf mc ms) (hv_Pc G h sz [va_rf x0, .int x1, .int x2, va_rf x3]) (hv_Qi G h sz Q) mc ms (hv_A h sz) := by
  refine va_MetW (cc := cX0_factOf) (maxL := 5) (ret := (some FieldType.int)) (hh := [(0, 10, 13, 32), (0, 10, 17, 13)]) (by decide) rfl ?_
  intro p e s m args below meth c s₁ B hml hv
  have ht : c.exceptionTable.toList = tableOf [(0, 10, 13, 32), (0, 10, 17, 13)] := vx_table (x := yX0_factOf) B (atoms_spec (ws := (wsW_ yX0_factOf cX0_factOf 5 (some FieldType.int) [(0, 10, 13, 32), (0, 10, 17, 13)])) B.pre _ List.mem_cons_self)
  obtain ⟨rfl, rfl, hE, hI⟩ := hv_openW B hml hv
  have hE : hv_E p s m ([va_rf x0, .int x1, .int x2, va_rf x3] : List Value).toArray meth c cX0_factOf 5 (some FieldType.int) RX0 G h := hE
  obtain ⟨⟨hx, hb, hml, hown, hts⟩, hr, hlocks, hXX⟩ := id hE
  have hl := lv_entry ([va_rf x0, .int x1, .int x2, va_rf x3] : List Value) (n := 5) (by cases x0 <;> cases x3 <;> exact Nat.le_of_ble_eq_true rfl)
  rw [lg_entry_eq]
  generalize (lg_sl ([va_rf x0, .int x1, .int x2, va_rf x3] : List Value) ++ List.replicate (5 - (lg_sl ([va_rf x0, .int x1, .int x2, va_rf x3] : List Value)).length) Slot.unset).toArray = ls at hl ⊢
  have hl : lv_has ls 5 [(0, va_rf x0), (1, .int x1), (2, .int x2), (3, va_rf x3)] := (by cases x0 <;> cases x3 <;> exact hl)
  have hc : 0 ≤ mc := Nat.zero_le _
  have hs : 0 ≤ ms := Nat.zero_le _
  unfold wp_X0_factOf at hw
  refine lv_aload_nq hx hb dX0_factOf_0 rfl (lv_at hl 3 rfl) ?_
  refine lv_iconst (v := 0) hx hb dX0_factOf_1 (by decide) ?_
  refine lv_aload_nq hx hb dX0_factOf_2 rfl (lv_at hl 0 rfl) ?_
  refine lv_iload_n hx hb dX0_factOf_3 rfl (lv_at hl 1 rfl) ?_
  refine lv_iload_n hx hb dX0_factOf_4 rfl (lv_at hl 2 rfl) ?_
  obtain ⟨a1, hz, hwa1⟩ := hw; have hla1 := hl; subst hz; have hw := hwa1; have hl := hla1
  obtain ⟨mc2, ms2, hc, hs, hw⟩ := hw
  obtain ⟨⟨fs, hre⟩, hw⟩ := hw
  refine hx_rci hI (vx_runV (As := [.int x1, .int x2]) (b := a1) (rest := [.int (0 : Int32), va_rf x3]) hE.1 (snd_X1_factOf l hl0 G _ mc2 ms2 h a1 x1 x2 _ _ hw) (cwV 2 hts (lw_V q1364 q1365 q1366 q97 q1367) rfl rfl rfl (by decide +kernel) ⟨Nat.le_of_ble_eq_true rfl, Nat.le_of_ble_eq_true rfl⟩) (hv_preV hE hI (ci := 1) rfl hre) rfl rfl hl.1 rfl (lv_room (by cases x3 <;> exact Nat.le_of_ble_eq_true rfl)) dX0_factOf_5 ⟨hc, hs⟩) ?_ (fun r3 h4 H locs hw hI => ?_)
  · intro E q5 h6 H locs hw hI hT
    rcases hw with ⟨rfl, hw⟩ | hw
    · refine hx_catch hE hT [⟨0, 10, 13, 32⟩] ⟨0, 10, 17, 13⟩ [] ht (List.forall_mem_cons.mpr ⟨(Or.inr ⟨by decide, "java/util/NoSuchElementException", hts _ q1337, hE.2.2.2.2.1.N 48 rfl⟩), (fun _ hz => absurd hz List.not_mem_nil)⟩) rfl (by decide) (hts _ q652) ((hE.2.2.2.2.1.C 17 rfl).use rfl) ?_
      refine lv_astore (lv' := [(4, .ref q5), (0, .ref a1), (1, .int x1), (2, .int x2), (3, va_rf x3)]) hx hb dX0_factOf_17 hl (by decide) (by cases x3 <;> exact rfl) (fun ls hl => ?_)
      refine lv_iconst (v := 2) hx hb dX0_factOf_19 (by decide) ?_
      exact hv_iret hE hI hc hs hw dX0_factOf_20
    obtain ⟨rfl, hw⟩ := hw
    refine hx_catch hE hT [] ⟨0, 10, 13, 32⟩ [⟨0, 10, 17, 13⟩] ht (fun _ hz => absurd hz List.not_mem_nil) rfl (by decide) (hts _ q1337) ((hE.2.2.2.2.1.C 21 rfl).use rfl) ?_
    refine lv_astore (lv' := [(4, .ref q5), (0, .ref a1), (1, .int x1), (2, .int x2), (3, va_rf x3)]) hx hb dX0_factOf_13 hl (by decide) (by cases x3 <;> exact rfl) (fun ls hl => ?_)
    refine lv_iconst (v := 1) hx hb dX0_factOf_15 (by decide) ?_
    exact hv_iret hE hI hc hs hw dX0_factOf_16
  refine lv_i2l (v := (Int32.toInt64 r3)) hx hb dX0_factOf_8 rfl ?_
  obtain ⟨a7, hz, hwa7⟩ := hw; have hla7 := hl; subst hz; have hw := hwa7; have hl := hla7
  refine hv_wlst hE hI hw dX0_factOf_9 (fun h8 H locs hw hI => ?_)
  refine lv_goto (tgt := 21) hx hb dX0_factOf_10 (by decide) ?_
  refine lv_iconst (v := 0) hx hb dX0_factOf_21 (by decide) ?_
  exact hv_iret hE hI hc hs hw dX0_factOf_22

/-- MatchmakerRulesLaw.trust(LMatchmakerRules;I[D)I -/
abbrev rm_X0_trust (mc ms : Nat) : Room := { frames := 9, cells := mc, slots := ms, locals := 152 }
def wp_X0_trust (G : GG) (mc : Nat) (ms : Nat) (h : HH) (x0 : Option Nat) (x1 : Int32) (x2 : Option Nat) (Q : Int32 → HH → Prop) : Prop := w_nn x0 (fun a1 => (∃ mc2 ms2, 0 + mc2 ≤ mc ∧ 0 + ms2 ≤ ms ∧ w_is h a1 1 (wp_X1_trust G mc2 ms2 h a1 x1 (fun r3 h4 => (vf_n64 (FP.f2d r3) ∧ w_nn x2 (fun a7 => w_dst G h4 a7 (0 : Int32) (FP.f2d r3) (fun h8 => Q (0 : Int32) h8)))) (fun E q5 h6 => (E = "java/util/NoSuchElementException" ∧ Q (1 : Int32) h6)))))
set_option maxHeartbeats 4000000 in
theorem snd_X0_trust (l : Launch) (hl0 : l.stackTraces = false) (G : GG) (sz : Nat) (mc : Nat) (ms : Nat) (h : HH) (x0 : Option Nat) (x1 : Int32) (x2 : Option Nat) (Q : Int32 → HH → Prop) (hw : wp_X0_trust G mc ms h x0 x1 x2 Q) : Met l yX0_trust (wsW_ yX0_trust cX0_trust 4 (some FieldType.int) [(0, 9, 12, 32)]) (rm_X0_trust mc ms) (hv_Pc G h sz [va_rf x0, .int x1, va_rf x2]) (hv_Qi G h sz Q) mc ms (hv_A h sz) := by
  refine va_MetW (cc := cX0_trust) (maxL := 4) (ret := (some FieldType.int)) (hh := [(0, 9, 12, 32)]) (by decide) rfl ?_
  intro p e s m args below meth c s₁ B hml hv
  have ht : c.exceptionTable.toList = tableOf [(0, 9, 12, 32)] := vx_table (x := yX0_trust) B (atoms_spec (ws := (wsW_ yX0_trust cX0_trust 4 (some FieldType.int) [(0, 9, 12, 32)])) B.pre _ List.mem_cons_self)
  obtain ⟨rfl, rfl, hE, hI⟩ := hv_openW B hml hv
  have hE : hv_E p s m ([va_rf x0, .int x1, va_rf x2] : List Value).toArray meth c cX0_trust 4 (some FieldType.int) RX0 G h := hE
  obtain ⟨⟨hx, hb, hml, hown, hts⟩, hr, hlocks, hXX⟩ := id hE
  have hl := lv_entry ([va_rf x0, .int x1, va_rf x2] : List Value) (n := 4) (by cases x0 <;> cases x2 <;> exact Nat.le_of_ble_eq_true rfl)
  rw [lg_entry_eq]
  generalize (lg_sl ([va_rf x0, .int x1, va_rf x2] : List Value) ++ List.replicate (4 - (lg_sl ([va_rf x0, .int x1, va_rf x2] : List Value)).length) Slot.unset).toArray = ls at hl ⊢
  have hl : lv_has ls 4 [(0, va_rf x0), (1, .int x1), (2, va_rf x2)] := (by cases x0 <;> cases x2 <;> exact hl)
  have hc : 0 ≤ mc := Nat.zero_le _
  have hs : 0 ≤ ms := Nat.zero_le _
  unfold wp_X0_trust at hw
  refine lv_aload_nq hx hb dX0_trust_0 rfl (lv_at hl 2 rfl) ?_
  refine lv_iconst (v := 0) hx hb dX0_trust_1 (by decide) ?_
  refine lv_aload_nq hx hb dX0_trust_2 rfl (lv_at hl 0 rfl) ?_
  refine lv_iload_n hx hb dX0_trust_3 rfl (lv_at hl 1 rfl) ?_
  obtain ⟨a1, hz, hwa1⟩ := hw; have hla1 := hl; subst hz; have hw := hwa1; have hl := hla1
  obtain ⟨mc2, ms2, hc, hs, hw⟩ := hw
  obtain ⟨⟨fs, hre⟩, hw⟩ := hw
  refine hx_rcf hI (vx_runV (As := [.int x1]) (b := a1) (rest := [.int (0 : Int32), va_rf x2]) hE.1 (snd_X1_trust l hl0 G _ mc2 ms2 h a1 x1 _ _ hw) (cwV 1 hts (lw_V q1386 q1387 q1388 q97 q1389) rfl rfl rfl (by decide +kernel) ⟨Nat.le_of_ble_eq_true rfl, Nat.le_of_ble_eq_true rfl⟩) (hv_preV hE hI (ci := 1) rfl hre) rfl rfl hl.1 rfl (lv_room (by cases x2 <;> exact Nat.le_of_ble_eq_true rfl)) dX0_trust_4 ⟨hc, hs⟩) ?_ (fun r3 h4 H locs hw hI => ?_)
  · intro E q5 h6 H locs hw hI hT
    obtain ⟨rfl, hw⟩ := hw
    refine hx_catch hE hT [] ⟨0, 9, 12, 32⟩ [] ht (fun _ hz => absurd hz List.not_mem_nil) rfl (by decide) (hts _ q1337) ((hE.2.2.2.2.1.C 21 rfl).use rfl) ?_
    refine lv_astore_n (lv' := [(3, .ref q5), (0, .ref a1), (1, .int x1), (2, va_rf x2)]) hx hb dX0_trust_12 rfl hl (by decide) (by cases x2 <;> exact rfl) (fun ls hl => ?_)
    refine lv_iconst (v := 1) hx hb dX0_trust_13 (by decide) ?_
    exact hv_iret hE hI hc hs hw dX0_trust_14
  obtain ⟨hne, hw⟩ := hw
  refine lv_f2d hx hb dX0_trust_7 hne ?_
  obtain ⟨a7, hz, hwa7⟩ := hw; have hla7 := hl; subst hz; have hw := hwa7; have hl := hla7
  refine hv_wdst hE hI hw dX0_trust_8 (fun h8 H locs hw hI => ?_)
  refine lv_goto (tgt := 15) hx hb dX0_trust_9 (by decide) ?_
  refine lv_iconst (v := 0) hx hb dX0_trust_15 (by decide) ?_
  exact hv_iret hE hI hc hs hw dX0_trust_16

/-- MatchmakerRulesLaw.trustBits(LMatchmakerRules;I[J)I -/
abbrev rm_X0_trustBits (mc ms : Nat) : Room := { frames := 9, cells := mc, slots := ms, locals := 152 }
def wp_X0_trustBits (G : GG) (mc : Nat) (ms : Nat) (h : HH) (x0 : Option Nat) (x1 : Int32) (x2 : Option Nat) (Q : Int32 → HH → Prop) : Prop := w_nn x0 (fun a1 => (∃ mc2 ms2, 0 + mc2 ≤ mc ∧ 0 + ms2 ≤ ms ∧ w_is h a1 1 (wp_X1_trustBits G mc2 ms2 h a1 x1 (fun r3 h4 => w_nn x2 (fun a7 => w_lst G h4 a7 (0 : Int32) (Int32.toInt64 r3) (fun h8 => Q (0 : Int32) h8))) (fun E q5 h6 => (E = "java/util/NoSuchElementException" ∧ Q (1 : Int32) h6)))))
set_option maxHeartbeats 4000000 in
theorem snd_X0_trustBits (l : Launch) (hl0 : l.stackTraces = false) (G : GG) (sz : Nat) (mc : Nat) (ms : Nat) (h : HH) (x0 : Option Nat) (x1 : Int32) (x2 : Option Nat) (Q : Int32 → HH → Prop) (hw : wp_X0_trustBits G mc ms h x0 x1 x2 Q) : Met l yX0_trustBits (wsW_ yX0_trustBits cX0_trustBits 4 (some FieldType.int) [(0, 9, 12, 32)]) (rm_X0_trustBits mc ms) (hv_Pc G h sz [va_rf x0, .int x1, va_rf x2]) (hv_Qi G h sz Q) mc ms (hv_A h sz) := by
  refine va_MetW (cc := cX0_trustBits) (maxL := 4) (ret := (some FieldType.int)) (hh := [(0, 9, 12, 32)]) (by decide) rfl ?_
  intro p e s m args below meth c s₁ B hml hv
  have ht : c.exceptionTable.toList = tableOf [(0, 9, 12, 32)] := vx_table (x := yX0_trustBits) B (atoms_spec (ws := (wsW_ yX0_trustBits cX0_trustBits 4 (some FieldType.int) [(0, 9, 12, 32)])) B.pre _ List.mem_cons_self)
  obtain ⟨rfl, rfl, hE, hI⟩ := hv_openW B hml hv
  have hE : hv_E p s m ([va_rf x0, .int x1, va_rf x2] : List Value).toArray meth c cX0_trustBits 4 (some FieldType.int) RX0 G h := hE
  obtain ⟨⟨hx, hb, hml, hown, hts⟩, hr, hlocks, hXX⟩ := id hE
  have hl := lv_entry ([va_rf x0, .int x1, va_rf x2] : List Value) (n := 4) (by cases x0 <;> cases x2 <;> exact Nat.le_of_ble_eq_true rfl)
  rw [lg_entry_eq]
  generalize (lg_sl ([va_rf x0, .int x1, va_rf x2] : List Value) ++ List.replicate (4 - (lg_sl ([va_rf x0, .int x1, va_rf x2] : List Value)).length) Slot.unset).toArray = ls at hl ⊢
  have hl : lv_has ls 4 [(0, va_rf x0), (1, .int x1), (2, va_rf x2)] := (by cases x0 <;> cases x2 <;> exact hl)
  have hc : 0 ≤ mc := Nat.zero_le _
  have hs : 0 ≤ ms := Nat.zero_le _
  unfold wp_X0_trustBits at hw
  refine lv_aload_nq hx hb dX0_trustBits_0 rfl (lv_at hl 2 rfl) ?_
  refine lv_iconst (v := 0) hx hb dX0_trustBits_1 (by decide) ?_
  refine lv_aload_nq hx hb dX0_trustBits_2 rfl (lv_at hl 0 rfl) ?_
  refine lv_iload_n hx hb dX0_trustBits_3 rfl (lv_at hl 1 rfl) ?_
  obtain ⟨a1, hz, hwa1⟩ := hw; have hla1 := hl; subst hz; have hw := hwa1; have hl := hla1
  obtain ⟨mc2, ms2, hc, hs, hw⟩ := hw
  obtain ⟨⟨fs, hre⟩, hw⟩ := hw
  refine hx_rci hI (vx_runV (As := [.int x1]) (b := a1) (rest := [.int (0 : Int32), va_rf x2]) hE.1 (snd_X1_trustBits l hl0 G _ mc2 ms2 h a1 x1 _ _ hw) (cwV 1 hts (lw_V q1393 q1394 q1395 q97 q1396) rfl rfl rfl (by decide +kernel) ⟨Nat.le_of_ble_eq_true rfl, Nat.le_of_ble_eq_true rfl⟩) (hv_preV hE hI (ci := 1) rfl hre) rfl rfl hl.1 rfl (lv_room (by cases x2 <;> exact Nat.le_of_ble_eq_true rfl)) dX0_trustBits_4 ⟨hc, hs⟩) ?_ (fun r3 h4 H locs hw hI => ?_)
  · intro E q5 h6 H locs hw hI hT
    obtain ⟨rfl, hw⟩ := hw
    refine hx_catch hE hT [] ⟨0, 9, 12, 32⟩ [] ht (fun _ hz => absurd hz List.not_mem_nil) rfl (by decide) (hts _ q1337) ((hE.2.2.2.2.1.C 21 rfl).use rfl) ?_
    refine lv_astore_n (lv' := [(3, .ref q5), (0, .ref a1), (1, .int x1), (2, va_rf x2)]) hx hb dX0_trustBits_12 rfl hl (by decide) (by cases x2 <;> exact rfl) (fun ls hl => ?_)
    refine lv_iconst (v := 1) hx hb dX0_trustBits_13 (by decide) ?_
    exact hv_iret hE hI hc hs hw dX0_trustBits_14
  refine lv_i2l (v := (Int32.toInt64 r3)) hx hb dX0_trustBits_7 rfl ?_
  obtain ⟨a7, hz, hwa7⟩ := hw; have hla7 := hl; subst hz; have hw := hwa7; have hl := hla7
  refine hv_wlst hE hI hw dX0_trustBits_8 (fun h8 H locs hw hI => ?_)
  refine lv_goto (tgt := 15) hx hb dX0_trustBits_9 (by decide) ?_
  refine lv_iconst (v := 0) hx hb dX0_trustBits_15 (by decide) ?_
  exact hv_iret hE hI hc hs hw dX0_trustBits_16

/-- MatchmakerRulesLaw.trusted(LMatchmakerRules;I[J)I -/
abbrev rm_X0_trusted (mc ms : Nat) : Room := { frames := 9, cells := mc, slots := ms, locals := 150 }
def wp_X0_trusted (G : GG) (mc : Nat) (ms : Nat) (h : HH) (x0 : Option Nat) (x1 : Int32) (x2 : Option Nat) (Q : Int32 → HH → Prop) : Prop := w_nn x0 (fun a1 => (∃ mc2 ms2, 0 + mc2 ≤ mc ∧ 0 + ms2 ≤ ms ∧ w_is h a1 1 (wp_X1_trusted G mc2 ms2 h a1 x1 (fun r3 h4 => w_nn x2 (fun a7 => w_lst G h4 a7 (0 : Int32) (Int32.toInt64 r3) (fun h8 => Q (0 : Int32) h8))) (fun E q5 h6 => (E = "java/util/NoSuchElementException" ∧ Q (1 : Int32) h6)))))
set_option maxHeartbeats 4000000 in
theorem snd_X0_trusted (l : Launch) (hl0 : l.stackTraces = false) (G : GG) (sz : Nat) (mc : Nat) (ms : Nat) (h : HH) (x0 : Option Nat) (x1 : Int32) (x2 : Option Nat) (Q : Int32 → HH → Prop) (hw : wp_X0_trusted G mc ms h x0 x1 x2 Q) : Met l yX0_trusted (wsW_ yX0_trusted cX0_trusted 4 (some FieldType.int) [(0, 9, 12, 32)]) (rm_X0_trusted mc ms) (hv_Pc G h sz [va_rf x0, .int x1, va_rf x2]) (hv_Qi G h sz Q) mc ms (hv_A h sz) := by
  refine va_MetW (cc := cX0_trusted) (maxL := 4) (ret := (some FieldType.int)) (hh := [(0, 9, 12, 32)]) (by decide) rfl ?_
  intro p e s m args below meth c s₁ B hml hv
  have ht : c.exceptionTable.toList = tableOf [(0, 9, 12, 32)] := vx_table (x := yX0_trusted) B (atoms_spec (ws := (wsW_ yX0_trusted cX0_trusted 4 (some FieldType.int) [(0, 9, 12, 32)])) B.pre _ List.mem_cons_self)
  obtain ⟨rfl, rfl, hE, hI⟩ := hv_openW B hml hv
  have hE : hv_E p s m ([va_rf x0, .int x1, va_rf x2] : List Value).toArray meth c cX0_trusted 4 (some FieldType.int) RX0 G h := hE
  obtain ⟨⟨hx, hb, hml, hown, hts⟩, hr, hlocks, hXX⟩ := id hE
  have hl := lv_entry ([va_rf x0, .int x1, va_rf x2] : List Value) (n := 4) (by cases x0 <;> cases x2 <;> exact Nat.le_of_ble_eq_true rfl)
  rw [lg_entry_eq]
  generalize (lg_sl ([va_rf x0, .int x1, va_rf x2] : List Value) ++ List.replicate (4 - (lg_sl ([va_rf x0, .int x1, va_rf x2] : List Value)).length) Slot.unset).toArray = ls at hl ⊢
  have hl : lv_has ls 4 [(0, va_rf x0), (1, .int x1), (2, va_rf x2)] := (by cases x0 <;> cases x2 <;> exact hl)
  have hc : 0 ≤ mc := Nat.zero_le _
  have hs : 0 ≤ ms := Nat.zero_le _
  unfold wp_X0_trusted at hw
  refine lv_aload_nq hx hb dX0_trusted_0 rfl (lv_at hl 2 rfl) ?_
  refine lv_iconst (v := 0) hx hb dX0_trusted_1 (by decide) ?_
  refine lv_aload_nq hx hb dX0_trusted_2 rfl (lv_at hl 0 rfl) ?_
  refine lv_iload_n hx hb dX0_trusted_3 rfl (lv_at hl 1 rfl) ?_
  obtain ⟨a1, hz, hwa1⟩ := hw; have hla1 := hl; subst hz; have hw := hwa1; have hl := hla1
  obtain ⟨mc2, ms2, hc, hs, hw⟩ := hw
  obtain ⟨⟨fs, hre⟩, hw⟩ := hw
  refine hx_rci hI (vx_runV (As := [.int x1]) (b := a1) (rest := [.int (0 : Int32), va_rf x2]) hE.1 (snd_X1_trusted l hl0 G _ mc2 ms2 h a1 x1 _ _ hw) (cwV 1 hts (lw_V q1410 q1411 q1412 q97 q1413) rfl rfl rfl (by decide +kernel) ⟨Nat.le_of_ble_eq_true rfl, Nat.le_of_ble_eq_true rfl⟩) (hv_preV hE hI (ci := 1) rfl hre) rfl rfl hl.1 rfl (lv_room (by cases x2 <;> exact Nat.le_of_ble_eq_true rfl)) dX0_trusted_4 ⟨hc, hs⟩) ?_ (fun r3 h4 H locs hw hI => ?_)
  · intro E q5 h6 H locs hw hI hT
    obtain ⟨rfl, hw⟩ := hw
    refine hx_catch hE hT [] ⟨0, 9, 12, 32⟩ [] ht (fun _ hz => absurd hz List.not_mem_nil) rfl (by decide) (hts _ q1337) ((hE.2.2.2.2.1.C 21 rfl).use rfl) ?_
    refine lv_astore_n (lv' := [(3, .ref q5), (0, .ref a1), (1, .int x1), (2, va_rf x2)]) hx hb dX0_trusted_12 rfl hl (by decide) (by cases x2 <;> exact rfl) (fun ls hl => ?_)
    refine lv_iconst (v := 1) hx hb dX0_trusted_13 (by decide) ?_
    exact hv_iret hE hI hc hs hw dX0_trusted_14
  refine lv_i2l (v := (Int32.toInt64 r3)) hx hb dX0_trusted_7 rfl ?_
  obtain ⟨a7, hz, hwa7⟩ := hw; have hla7 := hl; subst hz; have hw := hwa7; have hl := hla7
  refine hv_wlst hE hI hw dX0_trusted_8 (fun h8 H locs hw hI => ?_)
  refine lv_goto (tgt := 15) hx hb dX0_trusted_9 (by decide) ?_
  refine lv_iconst (v := 0) hx hb dX0_trusted_15 (by decide) ?_
  exact hv_iret hE hI hc hs hw dX0_trusted_16

/-- MatchmakerRulesLaw.agenda(LMatchmakerRules;II[J)I -/
abbrev rm_X0_agenda (mc ms : Nat) : Room := { frames := 10, cells := mc, slots := ms, locals := 223 }
def wp_X0_agenda (G : GG) (mc : Nat) (ms : Nat) (h : HH) (x0 : Option Nat) (x1 : Int32) (x2 : Int32) (x3 : Option Nat) (Q : Int32 → HH → Prop) : Prop := w_nn x0 (fun a1 => (∃ mc2 ms2, 0 + mc2 ≤ mc ∧ 0 + ms2 ≤ ms ∧ w_is h a1 1 (wp_X1_agenda G mc2 ms2 h a1 x1 x2 (fun r3 h4 => w_nn x3 (fun a7 => w_lst G h4 a7 (0 : Int32) (Int32.toInt64 r3) (fun h8 => Q (0 : Int32) h8))) (fun E q5 h6 => ((E = "java/lang/IllegalArgumentException" ∧ Q (2 : Int32) h6) ∨ (E = "java/util/NoSuchElementException" ∧ Q (1 : Int32) h6))))))
set_option maxHeartbeats 4000000 in
theorem snd_X0_agenda (l : Launch) (hl0 : l.stackTraces = false) (G : GG) (sz : Nat) (mc : Nat) (ms : Nat) (h : HH) (x0 : Option Nat) (x1 : Int32) (x2 : Int32) (x3 : Option Nat) (Q : Int32 → HH → Prop) (hw : wp_X0_agenda G mc ms h x0 x1 x2 x3 Q) : Met l yX0_agenda (wsW_ yX0_agenda cX0_agenda 5 (some FieldType.int) [(0, 10, 13, 32), (0, 10, 17, 13)]) (rm_X0_agenda mc ms) (hv_Pc G h sz [va_rf x0, .int x1, .int x2, va_rf x3]) (hv_Qi G h sz Q) mc ms (hv_A h sz) := by
  refine va_MetW (cc := cX0_agenda) (maxL := 5) (ret := (some FieldType.int)) (hh := [(0, 10, 13, 32), (0, 10, 17, 13)]) (by decide) rfl ?_
  intro p e s m args below meth c s₁ B hml hv
  have ht : c.exceptionTable.toList = tableOf [(0, 10, 13, 32), (0, 10, 17, 13)] := vx_table (x := yX0_agenda) B (atoms_spec (ws := (wsW_ yX0_agenda cX0_agenda 5 (some FieldType.int) [(0, 10, 13, 32), (0, 10, 17, 13)])) B.pre _ List.mem_cons_self)
  obtain ⟨rfl, rfl, hE, hI⟩ := hv_openW B hml hv
  have hE : hv_E p s m ([va_rf x0, .int x1, .int x2, va_rf x3] : List Value).toArray meth c cX0_agenda 5 (some FieldType.int) RX0 G h := hE
  obtain ⟨⟨hx, hb, hml, hown, hts⟩, hr, hlocks, hXX⟩ := id hE
  have hl := lv_entry ([va_rf x0, .int x1, .int x2, va_rf x3] : List Value) (n := 5) (by cases x0 <;> cases x3 <;> exact Nat.le_of_ble_eq_true rfl)
  rw [lg_entry_eq]
  generalize (lg_sl ([va_rf x0, .int x1, .int x2, va_rf x3] : List Value) ++ List.replicate (5 - (lg_sl ([va_rf x0, .int x1, .int x2, va_rf x3] : List Value)).length) Slot.unset).toArray = ls at hl ⊢
  have hl : lv_has ls 5 [(0, va_rf x0), (1, .int x1), (2, .int x2), (3, va_rf x3)] := (by cases x0 <;> cases x3 <;> exact hl)
  have hc : 0 ≤ mc := Nat.zero_le _
  have hs : 0 ≤ ms := Nat.zero_le _
  unfold wp_X0_agenda at hw
  refine lv_aload_nq hx hb dX0_agenda_0 rfl (lv_at hl 3 rfl) ?_
  refine lv_iconst (v := 0) hx hb dX0_agenda_1 (by decide) ?_
  refine lv_aload_nq hx hb dX0_agenda_2 rfl (lv_at hl 0 rfl) ?_
  refine lv_iload_n hx hb dX0_agenda_3 rfl (lv_at hl 1 rfl) ?_
  refine lv_iload_n hx hb dX0_agenda_4 rfl (lv_at hl 2 rfl) ?_
  obtain ⟨a1, hz, hwa1⟩ := hw; have hla1 := hl; subst hz; have hw := hwa1; have hl := hla1
  obtain ⟨mc2, ms2, hc, hs, hw⟩ := hw
  obtain ⟨⟨fs, hre⟩, hw⟩ := hw
  refine hx_rci hI (vx_runV (As := [.int x1, .int x2]) (b := a1) (rest := [.int (0 : Int32), va_rf x3]) hE.1 (snd_X1_agenda l hl0 G _ mc2 ms2 h a1 x1 x2 _ _ hw) (cwV 2 hts (lw_V q1425 q1426 q1427 q97 q1428) rfl rfl rfl (by decide +kernel) ⟨Nat.le_of_ble_eq_true rfl, Nat.le_of_ble_eq_true rfl⟩) (hv_preV hE hI (ci := 1) rfl hre) rfl rfl hl.1 rfl (lv_room (by cases x3 <;> exact Nat.le_of_ble_eq_true rfl)) dX0_agenda_5 ⟨hc, hs⟩) ?_ (fun r3 h4 H locs hw hI => ?_)
  · intro E q5 h6 H locs hw hI hT
    rcases hw with ⟨rfl, hw⟩ | hw
    · refine hx_catch hE hT [⟨0, 10, 13, 32⟩] ⟨0, 10, 17, 13⟩ [] ht (List.forall_mem_cons.mpr ⟨(Or.inr ⟨by decide, "java/util/NoSuchElementException", hts _ q1337, hE.2.2.2.2.1.N 48 rfl⟩), (fun _ hz => absurd hz List.not_mem_nil)⟩) rfl (by decide) (hts _ q652) ((hE.2.2.2.2.1.C 17 rfl).use rfl) ?_
      refine lv_astore (lv' := [(4, .ref q5), (0, .ref a1), (1, .int x1), (2, .int x2), (3, va_rf x3)]) hx hb dX0_agenda_17 hl (by decide) (by cases x3 <;> exact rfl) (fun ls hl => ?_)
      refine lv_iconst (v := 2) hx hb dX0_agenda_19 (by decide) ?_
      exact hv_iret hE hI hc hs hw dX0_agenda_20
    obtain ⟨rfl, hw⟩ := hw
    refine hx_catch hE hT [] ⟨0, 10, 13, 32⟩ [⟨0, 10, 17, 13⟩] ht (fun _ hz => absurd hz List.not_mem_nil) rfl (by decide) (hts _ q1337) ((hE.2.2.2.2.1.C 21 rfl).use rfl) ?_
    refine lv_astore (lv' := [(4, .ref q5), (0, .ref a1), (1, .int x1), (2, .int x2), (3, va_rf x3)]) hx hb dX0_agenda_13 hl (by decide) (by cases x3 <;> exact rfl) (fun ls hl => ?_)
    refine lv_iconst (v := 1) hx hb dX0_agenda_15 (by decide) ?_
    exact hv_iret hE hI hc hs hw dX0_agenda_16
  refine lv_i2l (v := (Int32.toInt64 r3)) hx hb dX0_agenda_8 rfl ?_
  obtain ⟨a7, hz, hwa7⟩ := hw; have hla7 := hl; subst hz; have hw := hwa7; have hl := hla7
  refine hv_wlst hE hI hw dX0_agenda_9 (fun h8 H locs hw hI => ?_)
  refine lv_goto (tgt := 21) hx hb dX0_agenda_10 (by decide) ?_
  refine lv_iconst (v := 0) hx hb dX0_agenda_21 (by decide) ?_
  exact hv_iret hE hI hc hs hw dX0_agenda_22

/-- MatchmakerRulesLaw.matches(LMatchmakerRules;I[J)I -/
abbrev rm_X0_matches (mc ms : Nat) : Room := { frames := 9, cells := mc, slots := ms, locals := 192 }
def wp_X0_matches (G : GG) (mc : Nat) (ms : Nat) (h : HH) (x0 : Option Nat) (x1 : Int32) (x2 : Option Nat) (Q : Int32 → HH → Prop) : Prop := w_nn x0 (fun a1 => (∃ mc2 ms2, 0 + mc2 ≤ mc ∧ 0 + ms2 ≤ ms ∧ w_is h a1 1 (wp_X1_matches G mc2 ms2 h a1 x1 (fun r3 h4 => w_nn x2 (fun a7 => w_lst G h4 a7 (0 : Int32) (Int32.toInt64 r3) (fun h8 => Q (0 : Int32) h8))) (fun E q5 h6 => (E = "java/lang/IndexOutOfBoundsException" ∧ Q (1 : Int32) h6)))))
set_option maxHeartbeats 4000000 in
theorem snd_X0_matches (l : Launch) (hl0 : l.stackTraces = false) (G : GG) (sz : Nat) (mc : Nat) (ms : Nat) (h : HH) (x0 : Option Nat) (x1 : Int32) (x2 : Option Nat) (Q : Int32 → HH → Prop) (hw : wp_X0_matches G mc ms h x0 x1 x2 Q) : Met l yX0_matches (wsW_ yX0_matches cX0_matches 4 (some FieldType.int) [(0, 9, 12, 57)]) (rm_X0_matches mc ms) (hv_Pc G h sz [va_rf x0, .int x1, va_rf x2]) (hv_Qi G h sz Q) mc ms (hv_A h sz) := by
  refine va_MetW (cc := cX0_matches) (maxL := 4) (ret := (some FieldType.int)) (hh := [(0, 9, 12, 57)]) (by decide) rfl ?_
  intro p e s m args below meth c s₁ B hml hv
  have ht : c.exceptionTable.toList = tableOf [(0, 9, 12, 57)] := vx_table (x := yX0_matches) B (atoms_spec (ws := (wsW_ yX0_matches cX0_matches 4 (some FieldType.int) [(0, 9, 12, 57)])) B.pre _ List.mem_cons_self)
  obtain ⟨rfl, rfl, hE, hI⟩ := hv_openW B hml hv
  have hE : hv_E p s m ([va_rf x0, .int x1, va_rf x2] : List Value).toArray meth c cX0_matches 4 (some FieldType.int) RX0 G h := hE
  obtain ⟨⟨hx, hb, hml, hown, hts⟩, hr, hlocks, hXX⟩ := id hE
  have hl := lv_entry ([va_rf x0, .int x1, va_rf x2] : List Value) (n := 4) (by cases x0 <;> cases x2 <;> exact Nat.le_of_ble_eq_true rfl)
  rw [lg_entry_eq]
  generalize (lg_sl ([va_rf x0, .int x1, va_rf x2] : List Value) ++ List.replicate (4 - (lg_sl ([va_rf x0, .int x1, va_rf x2] : List Value)).length) Slot.unset).toArray = ls at hl ⊢
  have hl : lv_has ls 4 [(0, va_rf x0), (1, .int x1), (2, va_rf x2)] := (by cases x0 <;> cases x2 <;> exact hl)
  have hc : 0 ≤ mc := Nat.zero_le _
  have hs : 0 ≤ ms := Nat.zero_le _
  unfold wp_X0_matches at hw
  refine lv_aload_nq hx hb dX0_matches_0 rfl (lv_at hl 2 rfl) ?_
  refine lv_iconst (v := 0) hx hb dX0_matches_1 (by decide) ?_
  refine lv_aload_nq hx hb dX0_matches_2 rfl (lv_at hl 0 rfl) ?_
  refine lv_iload_n hx hb dX0_matches_3 rfl (lv_at hl 1 rfl) ?_
  obtain ⟨a1, hz, hwa1⟩ := hw; have hla1 := hl; subst hz; have hw := hwa1; have hl := hla1
  obtain ⟨mc2, ms2, hc, hs, hw⟩ := hw
  obtain ⟨⟨fs, hre⟩, hw⟩ := hw
  refine hx_rci hI (vx_runV (As := [.int x1]) (b := a1) (rest := [.int (0 : Int32), va_rf x2]) hE.1 (snd_X1_matches l hl0 G _ mc2 ms2 h a1 x1 _ _ hw) (cwV 1 hts (lw_V q1466 q1467 q1468 q97 q1469) rfl rfl rfl (by decide +kernel) ⟨Nat.le_of_ble_eq_true rfl, Nat.le_of_ble_eq_true rfl⟩) (hv_preV hE hI (ci := 1) rfl hre) rfl rfl hl.1 rfl (lv_room (by cases x2 <;> exact Nat.le_of_ble_eq_true rfl)) dX0_matches_4 ⟨hc, hs⟩) ?_ (fun r3 h4 H locs hw hI => ?_)
  · intro E q5 h6 H locs hw hI hT
    obtain ⟨rfl, hw⟩ := hw
    refine hx_catch hE hT [] ⟨0, 9, 12, 57⟩ [] ht (fun _ hz => absurd hz List.not_mem_nil) rfl (by decide) (hts _ q1442) ((hE.2.2.2.2.1.C 33 rfl).use rfl) ?_
    refine lv_astore_n (lv' := [(3, .ref q5), (0, .ref a1), (1, .int x1), (2, va_rf x2)]) hx hb dX0_matches_12 rfl hl (by decide) (by cases x2 <;> exact rfl) (fun ls hl => ?_)
    refine lv_iconst (v := 1) hx hb dX0_matches_13 (by decide) ?_
    exact hv_iret hE hI hc hs hw dX0_matches_14
  refine lv_i2l (v := (Int32.toInt64 r3)) hx hb dX0_matches_7 rfl ?_
  obtain ⟨a7, hz, hwa7⟩ := hw; have hla7 := hl; subst hz; have hw := hwa7; have hl := hla7
  refine hv_wlst hE hI hw dX0_matches_8 (fun h8 H locs hw hI => ?_)
  refine lv_goto (tgt := 15) hx hb dX0_matches_9 (by decide) ?_
  refine lv_iconst (v := 0) hx hb dX0_matches_15 (by decide) ?_
  exact hv_iret hE hI hc hs hw dX0_matches_16

/-- MatchmakerRulesLaw.fire(LMatchmakerRules;[J)I -/
abbrev rm_X0_fire (mc ms : Nat) : Room := { frames := 13, cells := mc, slots := ms, locals := 3215 }
def wp_X0_fire (G : GG) (mc : Nat) (ms : Nat) (h : HH) (x0 : Option Nat) (x1 : Option Nat) (Q : Int32 → HH → Prop) (X : String → Nat → HH → Prop) : Prop := w_nn x0 (fun a1 => (∃ mc2 ms2, 0 + mc2 ≤ mc ∧ 0 + ms2 ≤ ms ∧ w_is h a1 1 (wp_X1_fire G mc2 ms2 h a1 (fun r3 h4 => w_nn x1 (fun a7 => w_lst G h4 a7 (0 : Int32) (Int32.toInt64 r3) (fun h8 => Q (0 : Int32) h8))) (fun E q5 h6 => ((E = "java/lang/IllegalArgumentException" ∧ X E q5 h6) ∨ (E = "java/lang/UnsupportedOperationException" ∧ Q (1 : Int32) h6))))))
set_option maxHeartbeats 4000000 in
theorem snd_X0_fire (l : Launch) (hl0 : l.stackTraces = false) (G : GG) (sz : Nat) (mc : Nat) (ms : Nat) (h : HH) (x0 : Option Nat) (x1 : Option Nat) (Q : Int32 → HH → Prop) (X : String → Nat → HH → Prop) (hw : wp_X0_fire G mc ms h x0 x1 Q X) : vx_Met l yX0_fire (wsW_ yX0_fire cX0_fire 3 (some FieldType.int) [(0, 8, 11, 15)]) (rm_X0_fire mc ms) (hv_Pc G h sz [va_rf x0, va_rf x1]) (hv_Qi G h sz Q) (hv_XC G h sz X) mc ms (hv_A h sz) := by
  refine vx_ofWH (cc := cX0_fire) (maxL := 3) (ret := (some FieldType.int)) (hh := [(0, 8, 11, 15)]) (by decide) rfl ?_
  intro p e s m args below meth c s₁ B hml hv
  have ht : c.exceptionTable.toList = tableOf [(0, 8, 11, 15)] := vx_table (x := yX0_fire) B (atoms_spec (ws := (wsW_ yX0_fire cX0_fire 3 (some FieldType.int) [(0, 8, 11, 15)])) B.pre _ List.mem_cons_self)
  obtain ⟨rfl, rfl, hE, hI⟩ := hv_openW B hml hv
  have hE : hv_E p s m ([va_rf x0, va_rf x1] : List Value).toArray meth c cX0_fire 3 (some FieldType.int) RX0 G h := hE
  obtain ⟨⟨hx, hb, hml, hown, hts⟩, hr, hlocks, hXX⟩ := id hE
  have hl := lv_entry ([va_rf x0, va_rf x1] : List Value) (n := 3) (by cases x0 <;> cases x1 <;> exact Nat.le_of_ble_eq_true rfl)
  rw [lg_entry_eq]
  generalize (lg_sl ([va_rf x0, va_rf x1] : List Value) ++ List.replicate (3 - (lg_sl ([va_rf x0, va_rf x1] : List Value)).length) Slot.unset).toArray = ls at hl ⊢
  have hl : lv_has ls 3 [(0, va_rf x0), (1, va_rf x1)] := (by cases x0 <;> cases x1 <;> exact hl)
  have hc : 0 ≤ mc := Nat.zero_le _
  have hs : 0 ≤ ms := Nat.zero_le _
  unfold wp_X0_fire at hw
  refine lv_aload_nq hx hb dX0_fire_0 rfl (lv_at hl 1 rfl) ?_
  refine lv_iconst (v := 0) hx hb dX0_fire_1 (by decide) ?_
  refine lv_aload_nq hx hb dX0_fire_2 rfl (lv_at hl 0 rfl) ?_
  obtain ⟨a1, hz, hwa1⟩ := hw; have hla1 := hl; subst hz; have hw := hwa1; have hl := hla1
  obtain ⟨mc2, ms2, hc, hs, hw⟩ := hw
  obtain ⟨⟨fs, hre⟩, hw⟩ := hw
  refine hx_rci hI (vx_runV (As := []) (b := a1) (rest := [.int (0 : Int32), va_rf x1]) hE.1 (snd_X1_fire l hl0 G _ mc2 ms2 h a1 _ _ hw) (cwV 0 hts (lw_V q1499 q1500 q1501 q97 q1502) rfl rfl rfl (by decide +kernel) ⟨Nat.le_of_ble_eq_true rfl, Nat.le_of_ble_eq_true rfl⟩) (hv_preV hE hI (ci := 1) rfl hre) rfl rfl hl.1 rfl (lv_room (by cases x1 <;> exact Nat.le_of_ble_eq_true rfl)) dX0_fire_3 ⟨hc, hs⟩) ?_ (fun r3 h4 H locs hw hI => ?_)
  · intro E q5 h6 H locs hw hI hT
    rcases hw with ⟨rfl, hw⟩ | hw
    · exact hx_outP hE hI hT hc hs (by rw [ht]; exact (List.forall_mem_cons.mpr ⟨(Or.inr ⟨by decide, "java/lang/UnsupportedOperationException", hts _ q653, hE.2.2.2.2.1.N 47 rfl⟩), (fun _ hz => absurd hz List.not_mem_nil)⟩)) hw
    obtain ⟨rfl, hw⟩ := hw
    refine hx_catch hE hT [] ⟨0, 8, 11, 15⟩ [] ht (fun _ hz => absurd hz List.not_mem_nil) rfl (by decide) (hts _ q653) ((hE.2.2.2.2.1.C 26 rfl).use rfl) ?_
    refine lv_astore_n (lv' := [(2, .ref q5), (0, .ref a1), (1, va_rf x1)]) hx hb dX0_fire_11 rfl hl (by decide) (by cases x1 <;> exact rfl) (fun ls hl => ?_)
    refine lv_iconst (v := 1) hx hb dX0_fire_12 (by decide) ?_
    exact vx_ret (hv_iret hE hI hc hs hw dX0_fire_13)
  refine lv_i2l (v := (Int32.toInt64 r3)) hx hb dX0_fire_6 rfl ?_
  obtain ⟨a7, hz, hwa7⟩ := hw; have hla7 := hl; subst hz; have hw := hwa7; have hl := hla7
  refine hv_wlst hE hI hw dX0_fire_7 (fun h8 H locs hw hI => ?_)
  refine lv_goto (tgt := 14) hx hb dX0_fire_8 (by decide) ?_
  refine lv_iconst (v := 0) hx hb dX0_fire_14 (by decide) ?_
  exact vx_ret (hv_iret hE hI hc hs hw dX0_fire_15)

/-- MatchmakerRulesLaw.run(LMatchmakerRules;I[J)I -/
abbrev rm_X0_run (mc ms : Nat) : Room := { frames := 13, cells := mc, slots := ms, locals := 3216 }
def wp_X0_run (G : GG) (mc : Nat) (ms : Nat) (h : HH) (x0 : Option Nat) (x1 : Int32) (x2 : Option Nat) (Q : Int32 → HH → Prop) (X : String → Nat → HH → Prop) : Prop := w_nn x0 (fun a1 => (∃ mc2 ms2, 0 + mc2 ≤ mc ∧ 0 + ms2 ≤ ms ∧ w_is h a1 1 (wp_X1_run G mc2 ms2 h a1 x1 (fun r3 h4 => w_nn x2 (fun a7 => w_lst G h4 a7 (0 : Int32) (Int32.toInt64 r3) (fun h8 => Q (0 : Int32) h8))) (fun E q5 h6 => ((E = "java/lang/IllegalArgumentException" ∧ Q (1 : Int32) h6) ∨ (E = "java/lang/UnsupportedOperationException" ∧ X E q5 h6))))))
set_option maxHeartbeats 4000000 in
theorem snd_X0_run (l : Launch) (hl0 : l.stackTraces = false) (G : GG) (sz : Nat) (mc : Nat) (ms : Nat) (h : HH) (x0 : Option Nat) (x1 : Int32) (x2 : Option Nat) (Q : Int32 → HH → Prop) (X : String → Nat → HH → Prop) (hw : wp_X0_run G mc ms h x0 x1 x2 Q X) : vx_Met l yX0_run (wsW_ yX0_run cX0_run 4 (some FieldType.int) [(0, 9, 12, 13)]) (rm_X0_run mc ms) (hv_Pc G h sz [va_rf x0, .int x1, va_rf x2]) (hv_Qi G h sz Q) (hv_XC G h sz X) mc ms (hv_A h sz) := by
  refine vx_ofWH (cc := cX0_run) (maxL := 4) (ret := (some FieldType.int)) (hh := [(0, 9, 12, 13)]) (by decide) rfl ?_
  intro p e s m args below meth c s₁ B hml hv
  have ht : c.exceptionTable.toList = tableOf [(0, 9, 12, 13)] := vx_table (x := yX0_run) B (atoms_spec (ws := (wsW_ yX0_run cX0_run 4 (some FieldType.int) [(0, 9, 12, 13)])) B.pre _ List.mem_cons_self)
  obtain ⟨rfl, rfl, hE, hI⟩ := hv_openW B hml hv
  have hE : hv_E p s m ([va_rf x0, .int x1, va_rf x2] : List Value).toArray meth c cX0_run 4 (some FieldType.int) RX0 G h := hE
  obtain ⟨⟨hx, hb, hml, hown, hts⟩, hr, hlocks, hXX⟩ := id hE
  have hl := lv_entry ([va_rf x0, .int x1, va_rf x2] : List Value) (n := 4) (by cases x0 <;> cases x2 <;> exact Nat.le_of_ble_eq_true rfl)
  rw [lg_entry_eq]
  generalize (lg_sl ([va_rf x0, .int x1, va_rf x2] : List Value) ++ List.replicate (4 - (lg_sl ([va_rf x0, .int x1, va_rf x2] : List Value)).length) Slot.unset).toArray = ls at hl ⊢
  have hl : lv_has ls 4 [(0, va_rf x0), (1, .int x1), (2, va_rf x2)] := (by cases x0 <;> cases x2 <;> exact hl)
  have hc : 0 ≤ mc := Nat.zero_le _
  have hs : 0 ≤ ms := Nat.zero_le _
  unfold wp_X0_run at hw
  refine lv_aload_nq hx hb dX0_run_0 rfl (lv_at hl 2 rfl) ?_
  refine lv_iconst (v := 0) hx hb dX0_run_1 (by decide) ?_
  refine lv_aload_nq hx hb dX0_run_2 rfl (lv_at hl 0 rfl) ?_
  refine lv_iload_n hx hb dX0_run_3 rfl (lv_at hl 1 rfl) ?_
  obtain ⟨a1, hz, hwa1⟩ := hw; have hla1 := hl; subst hz; have hw := hwa1; have hl := hla1
  obtain ⟨mc2, ms2, hc, hs, hw⟩ := hw
  obtain ⟨⟨fs, hre⟩, hw⟩ := hw
  refine hx_rci hI (vx_runV (As := [.int x1]) (b := a1) (rest := [.int (0 : Int32), va_rf x2]) hE.1 (snd_X1_run l hl0 G _ mc2 ms2 h a1 x1 _ _ hw) (cwV 1 hts (lw_V q1506 q1507 q1508 q97 q1509) rfl rfl rfl (by decide +kernel) ⟨Nat.le_of_ble_eq_true rfl, Nat.le_of_ble_eq_true rfl⟩) (hv_preV hE hI (ci := 1) rfl hre) rfl rfl hl.1 rfl (lv_room (by cases x2 <;> exact Nat.le_of_ble_eq_true rfl)) dX0_run_4 ⟨hc, hs⟩) ?_ (fun r3 h4 H locs hw hI => ?_)
  · intro E q5 h6 H locs hw hI hT
    rcases hw with ⟨rfl, hw⟩ | hw
    · refine hx_catch hE hT [] ⟨0, 9, 12, 13⟩ [] ht (fun _ hz => absurd hz List.not_mem_nil) rfl (by decide) (hts _ q652) ((hE.2.2.2.2.1.C 17 rfl).use rfl) ?_
      refine lv_astore_n (lv' := [(3, .ref q5), (0, .ref a1), (1, .int x1), (2, va_rf x2)]) hx hb dX0_run_12 rfl hl (by decide) (by cases x2 <;> exact rfl) (fun ls hl => ?_)
      refine lv_iconst (v := 1) hx hb dX0_run_13 (by decide) ?_
      exact vx_ret (hv_iret hE hI hc hs hw dX0_run_14)
    obtain ⟨rfl, hw⟩ := hw
    exact hx_outP hE hI hT hc hs (by rw [ht]; exact (List.forall_mem_cons.mpr ⟨(Or.inr ⟨by decide, "java/lang/IllegalArgumentException", hts _ q652, hE.2.2.2.2.1.N 69 rfl⟩), (fun _ hz => absurd hz List.not_mem_nil)⟩)) hw
  refine lv_i2l (v := (Int32.toInt64 r3)) hx hb dX0_run_7 rfl ?_
  obtain ⟨a7, hz, hwa7⟩ := hw; have hla7 := hl; subst hz; have hw := hwa7; have hl := hla7
  refine hv_wlst hE hI hw dX0_run_8 (fun h8 H locs hw hI => ?_)
  refine lv_goto (tgt := 15) hx hb dX0_run_9 (by decide) ?_
  refine lv_iconst (v := 0) hx hb dX0_run_15 (by decide) ?_
  exact vx_ret (hv_iret hE hI hc hs hw dX0_run_16)

/-- MatchmakerRulesLaw.quietIn(LMatchmakerRules;[J)I -/
abbrev rm_X0_quietIn (mc ms : Nat) : Room := { frames := 11, cells := mc, slots := ms, locals := 296 }
def wp_X0_quietIn (G : GG) (mc : Nat) (ms : Nat) (h : HH) (x0 : Option Nat) (x1 : Option Nat) (Q : Int32 → HH → Prop) : Prop := w_nn x0 (fun a1 => (∃ mc2 ms2, 0 + mc2 ≤ mc ∧ 0 + ms2 ≤ ms ∧ w_is h a1 1 (wp_X1_quietIn G mc2 ms2 h a1 (fun r3 h4 => w_nn x1 (fun a7 => w_lst G h4 a7 (0 : Int32) (Int32.toInt64 r3) (fun h8 => Q (0 : Int32) h8))) (fun E q5 h6 => (E = "java/util/NoSuchElementException" ∧ Q (1 : Int32) h6)))))
set_option maxHeartbeats 4000000 in
theorem snd_X0_quietIn (l : Launch) (hl0 : l.stackTraces = false) (G : GG) (sz : Nat) (mc : Nat) (ms : Nat) (h : HH) (x0 : Option Nat) (x1 : Option Nat) (Q : Int32 → HH → Prop) (hw : wp_X0_quietIn G mc ms h x0 x1 Q) : Met l yX0_quietIn (wsW_ yX0_quietIn cX0_quietIn 3 (some FieldType.int) [(0, 8, 11, 32)]) (rm_X0_quietIn mc ms) (hv_Pc G h sz [va_rf x0, va_rf x1]) (hv_Qi G h sz Q) mc ms (hv_A h sz) := by
  refine va_MetW (cc := cX0_quietIn) (maxL := 3) (ret := (some FieldType.int)) (hh := [(0, 8, 11, 32)]) (by decide) rfl ?_
  intro p e s m args below meth c s₁ B hml hv
  have ht : c.exceptionTable.toList = tableOf [(0, 8, 11, 32)] := vx_table (x := yX0_quietIn) B (atoms_spec (ws := (wsW_ yX0_quietIn cX0_quietIn 3 (some FieldType.int) [(0, 8, 11, 32)])) B.pre _ List.mem_cons_self)
  obtain ⟨rfl, rfl, hE, hI⟩ := hv_openW B hml hv
  have hE : hv_E p s m ([va_rf x0, va_rf x1] : List Value).toArray meth c cX0_quietIn 3 (some FieldType.int) RX0 G h := hE
  obtain ⟨⟨hx, hb, hml, hown, hts⟩, hr, hlocks, hXX⟩ := id hE
  have hl := lv_entry ([va_rf x0, va_rf x1] : List Value) (n := 3) (by cases x0 <;> cases x1 <;> exact Nat.le_of_ble_eq_true rfl)
  rw [lg_entry_eq]
  generalize (lg_sl ([va_rf x0, va_rf x1] : List Value) ++ List.replicate (3 - (lg_sl ([va_rf x0, va_rf x1] : List Value)).length) Slot.unset).toArray = ls at hl ⊢
  have hl : lv_has ls 3 [(0, va_rf x0), (1, va_rf x1)] := (by cases x0 <;> cases x1 <;> exact hl)
  have hc : 0 ≤ mc := Nat.zero_le _
  have hs : 0 ≤ ms := Nat.zero_le _
  unfold wp_X0_quietIn at hw
  refine lv_aload_nq hx hb dX0_quietIn_0 rfl (lv_at hl 1 rfl) ?_
  refine lv_iconst (v := 0) hx hb dX0_quietIn_1 (by decide) ?_
  refine lv_aload_nq hx hb dX0_quietIn_2 rfl (lv_at hl 0 rfl) ?_
  obtain ⟨a1, hz, hwa1⟩ := hw; have hla1 := hl; subst hz; have hw := hwa1; have hl := hla1
  obtain ⟨mc2, ms2, hc, hs, hw⟩ := hw
  obtain ⟨⟨fs, hre⟩, hw⟩ := hw
  refine hx_rci hI (vx_runV (As := []) (b := a1) (rest := [.int (0 : Int32), va_rf x1]) hE.1 (snd_X1_quietIn l hl0 G _ mc2 ms2 h a1 _ _ hw) (cwV 0 hts (lw_V q1513 q1514 q1515 q97 q1516) rfl rfl rfl (by decide +kernel) ⟨Nat.le_of_ble_eq_true rfl, Nat.le_of_ble_eq_true rfl⟩) (hv_preV hE hI (ci := 1) rfl hre) rfl rfl hl.1 rfl (lv_room (by cases x1 <;> exact Nat.le_of_ble_eq_true rfl)) dX0_quietIn_3 ⟨hc, hs⟩) ?_ (fun r3 h4 H locs hw hI => ?_)
  · intro E q5 h6 H locs hw hI hT
    obtain ⟨rfl, hw⟩ := hw
    refine hx_catch hE hT [] ⟨0, 8, 11, 32⟩ [] ht (fun _ hz => absurd hz List.not_mem_nil) rfl (by decide) (hts _ q1337) ((hE.2.2.2.2.1.C 21 rfl).use rfl) ?_
    refine lv_astore_n (lv' := [(2, .ref q5), (0, .ref a1), (1, va_rf x1)]) hx hb dX0_quietIn_11 rfl hl (by decide) (by cases x1 <;> exact rfl) (fun ls hl => ?_)
    refine lv_iconst (v := 1) hx hb dX0_quietIn_12 (by decide) ?_
    exact hv_iret hE hI hc hs hw dX0_quietIn_13
  refine lv_i2l (v := (Int32.toInt64 r3)) hx hb dX0_quietIn_6 rfl ?_
  obtain ⟨a7, hz, hwa7⟩ := hw; have hla7 := hl; subst hz; have hw := hwa7; have hl := hla7
  refine hv_wlst hE hI hw dX0_quietIn_7 (fun h8 H locs hw hI => ?_)
  refine lv_goto (tgt := 14) hx hb dX0_quietIn_8 (by decide) ?_
  refine lv_iconst (v := 0) hx hb dX0_quietIn_14 (by decide) ?_
  exact hv_iret hE hI hc hs hw dX0_quietIn_15

/-- MatchmakerRulesLaw.why(LMatchmakerRules;III[J)I -/
abbrev rm_X0_why (mc ms : Nat) : Room := { frames := 9, cells := mc, slots := ms, locals := 156 }
def wp_X0_why (G : GG) (mc : Nat) (ms : Nat) (h : HH) (x0 : Option Nat) (x1 : Int32) (x2 : Int32) (x3 : Int32) (x4 : Option Nat) (Q : Int32 → HH → Prop) : Prop := w_nn x0 (fun a1 => (∃ mc2 ms2, 0 + mc2 ≤ mc ∧ 0 + ms2 ≤ ms ∧ w_is h a1 1 (wp_X1_why G mc2 ms2 h a1 x1 x2 x3 (fun r3 h4 => w_nn x4 (fun a7 => w_lst G h4 a7 (0 : Int32) (Int32.toInt64 r3) (fun h8 => Q (0 : Int32) h8))) (fun E q5 h6 => ((E = "java/lang/IllegalArgumentException" ∧ Q (2 : Int32) h6) ∨ (E = "java/util/NoSuchElementException" ∧ Q (1 : Int32) h6))))))
set_option maxHeartbeats 4000000 in
theorem snd_X0_why (l : Launch) (hl0 : l.stackTraces = false) (G : GG) (sz : Nat) (mc : Nat) (ms : Nat) (h : HH) (x0 : Option Nat) (x1 : Int32) (x2 : Int32) (x3 : Int32) (x4 : Option Nat) (Q : Int32 → HH → Prop) (hw : wp_X0_why G mc ms h x0 x1 x2 x3 x4 Q) : Met l yX0_why (wsW_ yX0_why cX0_why 6 (some FieldType.int) [(0, 12, 15, 32), (0, 12, 19, 13)]) (rm_X0_why mc ms) (hv_Pc G h sz [va_rf x0, .int x1, .int x2, .int x3, va_rf x4]) (hv_Qi G h sz Q) mc ms (hv_A h sz) := by
  refine va_MetW (cc := cX0_why) (maxL := 6) (ret := (some FieldType.int)) (hh := [(0, 12, 15, 32), (0, 12, 19, 13)]) (by decide) rfl ?_
  intro p e s m args below meth c s₁ B hml hv
  have ht : c.exceptionTable.toList = tableOf [(0, 12, 15, 32), (0, 12, 19, 13)] := vx_table (x := yX0_why) B (atoms_spec (ws := (wsW_ yX0_why cX0_why 6 (some FieldType.int) [(0, 12, 15, 32), (0, 12, 19, 13)])) B.pre _ List.mem_cons_self)
  obtain ⟨rfl, rfl, hE, hI⟩ := hv_openW B hml hv
  have hE : hv_E p s m ([va_rf x0, .int x1, .int x2, .int x3, va_rf x4] : List Value).toArray meth c cX0_why 6 (some FieldType.int) RX0 G h := hE
  obtain ⟨⟨hx, hb, hml, hown, hts⟩, hr, hlocks, hXX⟩ := id hE
  have hl := lv_entry ([va_rf x0, .int x1, .int x2, .int x3, va_rf x4] : List Value) (n := 6) (by cases x0 <;> cases x4 <;> exact Nat.le_of_ble_eq_true rfl)
  rw [lg_entry_eq]
  generalize (lg_sl ([va_rf x0, .int x1, .int x2, .int x3, va_rf x4] : List Value) ++ List.replicate (6 - (lg_sl ([va_rf x0, .int x1, .int x2, .int x3, va_rf x4] : List Value)).length) Slot.unset).toArray = ls at hl ⊢
  have hl : lv_has ls 6 [(0, va_rf x0), (1, .int x1), (2, .int x2), (3, .int x3), (4, va_rf x4)] := (by cases x0 <;> cases x4 <;> exact hl)
  have hc : 0 ≤ mc := Nat.zero_le _
  have hs : 0 ≤ ms := Nat.zero_le _
  unfold wp_X0_why at hw
  refine lv_aloadq hx hb dX0_why_0 (lv_at hl 4 rfl) ?_
  refine lv_iconst (v := 0) hx hb dX0_why_2 (by decide) ?_
  refine lv_aload_nq hx hb dX0_why_3 rfl (lv_at hl 0 rfl) ?_
  refine lv_iload_n hx hb dX0_why_4 rfl (lv_at hl 1 rfl) ?_
  refine lv_iload_n hx hb dX0_why_5 rfl (lv_at hl 2 rfl) ?_
  refine lv_iload_n hx hb dX0_why_6 rfl (lv_at hl 3 rfl) ?_
  obtain ⟨a1, hz, hwa1⟩ := hw; have hla1 := hl; subst hz; have hw := hwa1; have hl := hla1
  obtain ⟨mc2, ms2, hc, hs, hw⟩ := hw
  obtain ⟨⟨fs, hre⟩, hw⟩ := hw
  refine hx_rci hI (vx_runV (As := [.int x1, .int x2, .int x3]) (b := a1) (rest := [.int (0 : Int32), va_rf x4]) hE.1 (snd_X1_why l hl0 G _ mc2 ms2 h a1 x1 x2 x3 _ _ hw) (cwV 3 hts (lw_V q1525 q1526 q1527 q97 q1528) rfl rfl rfl (by decide +kernel) ⟨Nat.le_of_ble_eq_true rfl, Nat.le_of_ble_eq_true rfl⟩) (hv_preV hE hI (ci := 1) rfl hre) rfl rfl hl.1 rfl (lv_room (by cases x4 <;> exact Nat.le_of_ble_eq_true rfl)) dX0_why_7 ⟨hc, hs⟩) ?_ (fun r3 h4 H locs hw hI => ?_)
  · intro E q5 h6 H locs hw hI hT
    rcases hw with ⟨rfl, hw⟩ | hw
    · refine hx_catch hE hT [⟨0, 12, 15, 32⟩] ⟨0, 12, 19, 13⟩ [] ht (List.forall_mem_cons.mpr ⟨(Or.inr ⟨by decide, "java/util/NoSuchElementException", hts _ q1337, hE.2.2.2.2.1.N 48 rfl⟩), (fun _ hz => absurd hz List.not_mem_nil)⟩) rfl (by decide) (hts _ q652) ((hE.2.2.2.2.1.C 17 rfl).use rfl) ?_
      refine lv_astore (lv' := [(5, .ref q5), (0, .ref a1), (1, .int x1), (2, .int x2), (3, .int x3), (4, va_rf x4)]) hx hb dX0_why_19 hl (by decide) (by cases x4 <;> exact rfl) (fun ls hl => ?_)
      refine lv_iconst (v := 2) hx hb dX0_why_21 (by decide) ?_
      exact hv_iret hE hI hc hs hw dX0_why_22
    obtain ⟨rfl, hw⟩ := hw
    refine hx_catch hE hT [] ⟨0, 12, 15, 32⟩ [⟨0, 12, 19, 13⟩] ht (fun _ hz => absurd hz List.not_mem_nil) rfl (by decide) (hts _ q1337) ((hE.2.2.2.2.1.C 21 rfl).use rfl) ?_
    refine lv_astore (lv' := [(5, .ref q5), (0, .ref a1), (1, .int x1), (2, .int x2), (3, .int x3), (4, va_rf x4)]) hx hb dX0_why_15 hl (by decide) (by cases x4 <;> exact rfl) (fun ls hl => ?_)
    refine lv_iconst (v := 1) hx hb dX0_why_17 (by decide) ?_
    exact hv_iret hE hI hc hs hw dX0_why_18
  refine lv_i2l (v := (Int32.toInt64 r3)) hx hb dX0_why_10 rfl ?_
  obtain ⟨a7, hz, hwa7⟩ := hw; have hla7 := hl; subst hz; have hw := hwa7; have hl := hla7
  refine hv_wlst hE hI hw dX0_why_11 (fun h8 H locs hw hI => ?_)
  refine lv_goto (tgt := 23) hx hb dX0_why_12 (by decide) ?_
  refine lv_iconst (v := 0) hx hb dX0_why_23 (by decide) ?_
  exact hv_iret hE hI hc hs hw dX0_why_24

/-- MatchmakerRulesLaw.wouldGo(LMatchmakerRules;I[J)I -/
abbrev rm_X0_wouldGo (mc ms : Nat) : Room := { frames := 11, cells := mc, slots := ms, locals := 3170 }
def wp_X0_wouldGo (G : GG) (mc : Nat) (ms : Nat) (h : HH) (x0 : Option Nat) (x1 : Int32) (x2 : Option Nat) (Q : Int32 → HH → Prop) : Prop := w_nn x0 (fun a1 => (∃ mc2 ms2, 0 + mc2 ≤ mc ∧ 0 + ms2 ≤ ms ∧ w_is h a1 1 (wp_X1_wouldGo G mc2 ms2 h a1 x1 (fun r3 h4 => w_nn x2 (fun a7 => w_lst G h4 a7 (0 : Int32) (Int32.toInt64 r3) (fun h8 => Q (0 : Int32) h8))) (fun E q5 h6 => (E = "java/util/NoSuchElementException" ∧ Q (1 : Int32) h6)))))
set_option maxHeartbeats 4000000 in
theorem snd_X0_wouldGo (l : Launch) (hl0 : l.stackTraces = false) (G : GG) (sz : Nat) (mc : Nat) (ms : Nat) (h : HH) (x0 : Option Nat) (x1 : Int32) (x2 : Option Nat) (Q : Int32 → HH → Prop) (hw : wp_X0_wouldGo G mc ms h x0 x1 x2 Q) : Met l yX0_wouldGo (wsW_ yX0_wouldGo cX0_wouldGo 4 (some FieldType.int) [(0, 9, 12, 32)]) (rm_X0_wouldGo mc ms) (hv_Pc G h sz [va_rf x0, .int x1, va_rf x2]) (hv_Qi G h sz Q) mc ms (hv_A h sz) := by
  refine va_MetW (cc := cX0_wouldGo) (maxL := 4) (ret := (some FieldType.int)) (hh := [(0, 9, 12, 32)]) (by decide) rfl ?_
  intro p e s m args below meth c s₁ B hml hv
  have ht : c.exceptionTable.toList = tableOf [(0, 9, 12, 32)] := vx_table (x := yX0_wouldGo) B (atoms_spec (ws := (wsW_ yX0_wouldGo cX0_wouldGo 4 (some FieldType.int) [(0, 9, 12, 32)])) B.pre _ List.mem_cons_self)
  obtain ⟨rfl, rfl, hE, hI⟩ := hv_openW B hml hv
  have hE : hv_E p s m ([va_rf x0, .int x1, va_rf x2] : List Value).toArray meth c cX0_wouldGo 4 (some FieldType.int) RX0 G h := hE
  obtain ⟨⟨hx, hb, hml, hown, hts⟩, hr, hlocks, hXX⟩ := id hE
  have hl := lv_entry ([va_rf x0, .int x1, va_rf x2] : List Value) (n := 4) (by cases x0 <;> cases x2 <;> exact Nat.le_of_ble_eq_true rfl)
  rw [lg_entry_eq]
  generalize (lg_sl ([va_rf x0, .int x1, va_rf x2] : List Value) ++ List.replicate (4 - (lg_sl ([va_rf x0, .int x1, va_rf x2] : List Value)).length) Slot.unset).toArray = ls at hl ⊢
  have hl : lv_has ls 4 [(0, va_rf x0), (1, .int x1), (2, va_rf x2)] := (by cases x0 <;> cases x2 <;> exact hl)
  have hc : 0 ≤ mc := Nat.zero_le _
  have hs : 0 ≤ ms := Nat.zero_le _
  unfold wp_X0_wouldGo at hw
  refine lv_aload_nq hx hb dX0_wouldGo_0 rfl (lv_at hl 2 rfl) ?_
  refine lv_iconst (v := 0) hx hb dX0_wouldGo_1 (by decide) ?_
  refine lv_aload_nq hx hb dX0_wouldGo_2 rfl (lv_at hl 0 rfl) ?_
  refine lv_iload_n hx hb dX0_wouldGo_3 rfl (lv_at hl 1 rfl) ?_
  obtain ⟨a1, hz, hwa1⟩ := hw; have hla1 := hl; subst hz; have hw := hwa1; have hl := hla1
  obtain ⟨mc2, ms2, hc, hs, hw⟩ := hw
  obtain ⟨⟨fs, hre⟩, hw⟩ := hw
  refine hx_rci hI (vx_runV (As := [.int x1]) (b := a1) (rest := [.int (0 : Int32), va_rf x2]) hE.1 (snd_X1_wouldGo l hl0 G _ mc2 ms2 h a1 x1 _ _ hw) (cwV 1 hts (lw_V q1532 q1533 q1534 q97 q1535) rfl rfl rfl (by decide +kernel) ⟨Nat.le_of_ble_eq_true rfl, Nat.le_of_ble_eq_true rfl⟩) (hv_preV hE hI (ci := 1) rfl hre) rfl rfl hl.1 rfl (lv_room (by cases x2 <;> exact Nat.le_of_ble_eq_true rfl)) dX0_wouldGo_4 ⟨hc, hs⟩) ?_ (fun r3 h4 H locs hw hI => ?_)
  · intro E q5 h6 H locs hw hI hT
    obtain ⟨rfl, hw⟩ := hw
    refine hx_catch hE hT [] ⟨0, 9, 12, 32⟩ [] ht (fun _ hz => absurd hz List.not_mem_nil) rfl (by decide) (hts _ q1337) ((hE.2.2.2.2.1.C 21 rfl).use rfl) ?_
    refine lv_astore_n (lv' := [(3, .ref q5), (0, .ref a1), (1, .int x1), (2, va_rf x2)]) hx hb dX0_wouldGo_12 rfl hl (by decide) (by cases x2 <;> exact rfl) (fun ls hl => ?_)
    refine lv_iconst (v := 1) hx hb dX0_wouldGo_13 (by decide) ?_
    exact hv_iret hE hI hc hs hw dX0_wouldGo_14
  refine lv_i2l (v := (Int32.toInt64 r3)) hx hb dX0_wouldGo_7 rfl ?_
  obtain ⟨a7, hz, hwa7⟩ := hw; have hla7 := hl; subst hz; have hw := hwa7; have hl := hla7
  refine hv_wlst hE hI hw dX0_wouldGo_8 (fun h8 H locs hw hI => ?_)
  refine lv_goto (tgt := 15) hx hb dX0_wouldGo_9 (by decide) ?_
  refine lv_iconst (v := 0) hx hb dX0_wouldGo_15 (by decide) ?_
  exact hv_iret hE hI hc hs hw dX0_wouldGo_16

/-- MatchmakerRulesLaw.line(LMatchmakerRules;I[J)I -/
abbrev rm_X0_line (mc ms : Nat) : Room := { frames := 9, cells := mc, slots := ms, locals := 218 }
def wp_X0_line (G : GG) (mc : Nat) (ms : Nat) (h : HH) (x0 : Option Nat) (x1 : Int32) (x2 : Option Nat) (Q : Int32 → HH → Prop) : Prop := w_nn x0 (fun a1 => (∃ mc2 ms2, 0 + mc2 ≤ mc ∧ 0 + ms2 ≤ ms ∧ w_is h a1 1 (wp_X1_line G mc2 ms2 h a1 x1 (fun r3 h4 => w_nn x2 (fun a7 => w_lst G h4 a7 (0 : Int32) (Int32.toInt64 r3) (fun h8 => Q (0 : Int32) h8))) (fun E q5 h6 => (E = "java/lang/IndexOutOfBoundsException" ∧ Q (1 : Int32) h6)))))
set_option maxHeartbeats 4000000 in
theorem snd_X0_line (l : Launch) (hl0 : l.stackTraces = false) (G : GG) (sz : Nat) (mc : Nat) (ms : Nat) (h : HH) (x0 : Option Nat) (x1 : Int32) (x2 : Option Nat) (Q : Int32 → HH → Prop) (hw : wp_X0_line G mc ms h x0 x1 x2 Q) : Met l yX0_line (wsW_ yX0_line cX0_line 4 (some FieldType.int) [(0, 9, 12, 57)]) (rm_X0_line mc ms) (hv_Pc G h sz [va_rf x0, .int x1, va_rf x2]) (hv_Qi G h sz Q) mc ms (hv_A h sz) := by
  refine va_MetW (cc := cX0_line) (maxL := 4) (ret := (some FieldType.int)) (hh := [(0, 9, 12, 57)]) (by decide) rfl ?_
  intro p e s m args below meth c s₁ B hml hv
  have ht : c.exceptionTable.toList = tableOf [(0, 9, 12, 57)] := vx_table (x := yX0_line) B (atoms_spec (ws := (wsW_ yX0_line cX0_line 4 (some FieldType.int) [(0, 9, 12, 57)])) B.pre _ List.mem_cons_self)
  obtain ⟨rfl, rfl, hE, hI⟩ := hv_openW B hml hv
  have hE : hv_E p s m ([va_rf x0, .int x1, va_rf x2] : List Value).toArray meth c cX0_line 4 (some FieldType.int) RX0 G h := hE
  obtain ⟨⟨hx, hb, hml, hown, hts⟩, hr, hlocks, hXX⟩ := id hE
  have hl := lv_entry ([va_rf x0, .int x1, va_rf x2] : List Value) (n := 4) (by cases x0 <;> cases x2 <;> exact Nat.le_of_ble_eq_true rfl)
  rw [lg_entry_eq]
  generalize (lg_sl ([va_rf x0, .int x1, va_rf x2] : List Value) ++ List.replicate (4 - (lg_sl ([va_rf x0, .int x1, va_rf x2] : List Value)).length) Slot.unset).toArray = ls at hl ⊢
  have hl : lv_has ls 4 [(0, va_rf x0), (1, .int x1), (2, va_rf x2)] := (by cases x0 <;> cases x2 <;> exact hl)
  have hc : 0 ≤ mc := Nat.zero_le _
  have hs : 0 ≤ ms := Nat.zero_le _
  unfold wp_X0_line at hw
  refine lv_aload_nq hx hb dX0_line_0 rfl (lv_at hl 2 rfl) ?_
  refine lv_iconst (v := 0) hx hb dX0_line_1 (by decide) ?_
  refine lv_aload_nq hx hb dX0_line_2 rfl (lv_at hl 0 rfl) ?_
  refine lv_iload_n hx hb dX0_line_3 rfl (lv_at hl 1 rfl) ?_
  obtain ⟨a1, hz, hwa1⟩ := hw; have hla1 := hl; subst hz; have hw := hwa1; have hl := hla1
  obtain ⟨mc2, ms2, hc, hs, hw⟩ := hw
  obtain ⟨⟨fs, hre⟩, hw⟩ := hw
  refine hx_rci hI (vx_runV (As := [.int x1]) (b := a1) (rest := [.int (0 : Int32), va_rf x2]) hE.1 (snd_X1_line l hl0 G _ mc2 ms2 h a1 x1 _ _ hw) (cwV 1 hts (lw_V q1544 q1545 q1546 q97 q1547) rfl rfl rfl (by decide +kernel) ⟨Nat.le_of_ble_eq_true rfl, Nat.le_of_ble_eq_true rfl⟩) (hv_preV hE hI (ci := 1) rfl hre) rfl rfl hl.1 rfl (lv_room (by cases x2 <;> exact Nat.le_of_ble_eq_true rfl)) dX0_line_4 ⟨hc, hs⟩) ?_ (fun r3 h4 H locs hw hI => ?_)
  · intro E q5 h6 H locs hw hI hT
    obtain ⟨rfl, hw⟩ := hw
    refine hx_catch hE hT [] ⟨0, 9, 12, 57⟩ [] ht (fun _ hz => absurd hz List.not_mem_nil) rfl (by decide) (hts _ q1442) ((hE.2.2.2.2.1.C 33 rfl).use rfl) ?_
    refine lv_astore_n (lv' := [(3, .ref q5), (0, .ref a1), (1, .int x1), (2, va_rf x2)]) hx hb dX0_line_12 rfl hl (by decide) (by cases x2 <;> exact rfl) (fun ls hl => ?_)
    refine lv_iconst (v := 1) hx hb dX0_line_13 (by decide) ?_
    exact hv_iret hE hI hc hs hw dX0_line_14
  refine lv_i2l (v := (Int32.toInt64 r3)) hx hb dX0_line_7 rfl ?_
  obtain ⟨a7, hz, hwa7⟩ := hw; have hla7 := hl; subst hz; have hw := hwa7; have hl := hla7
  refine hv_wlst hE hI hw dX0_line_8 (fun h8 H locs hw hI => ?_)
  refine lv_goto (tgt := 15) hx hb dX0_line_9 (by decide) ?_
  refine lv_iconst (v := 0) hx hb dX0_line_15 (by decide) ?_
  exact hv_iret hE hI hc hs hw dX0_line_16

/-- MatchmakerRulesLaw.factLine(LMatchmakerRules;I[J)I -/
abbrev rm_X0_factLine (mc ms : Nat) : Room := { frames := 9, cells := mc, slots := ms, locals := 221 }
def wp_X0_factLine (G : GG) (mc : Nat) (ms : Nat) (h : HH) (x0 : Option Nat) (x1 : Int32) (x2 : Option Nat) (Q : Int32 → HH → Prop) : Prop := w_nn x0 (fun a1 => (∃ mc2 ms2, 0 + mc2 ≤ mc ∧ 0 + ms2 ≤ ms ∧ w_is h a1 1 (wp_X1_factLine G mc2 ms2 h a1 x1 (fun r3 h4 => w_nn x2 (fun a7 => w_lst G h4 a7 (0 : Int32) (Int32.toInt64 r3) (fun h8 => Q (0 : Int32) h8))) (fun E q5 h6 => (E = "java/util/NoSuchElementException" ∧ Q (1 : Int32) h6)))))
set_option maxHeartbeats 4000000 in
theorem snd_X0_factLine (l : Launch) (hl0 : l.stackTraces = false) (G : GG) (sz : Nat) (mc : Nat) (ms : Nat) (h : HH) (x0 : Option Nat) (x1 : Int32) (x2 : Option Nat) (Q : Int32 → HH → Prop) (hw : wp_X0_factLine G mc ms h x0 x1 x2 Q) : Met l yX0_factLine (wsW_ yX0_factLine cX0_factLine 4 (some FieldType.int) [(0, 9, 12, 32)]) (rm_X0_factLine mc ms) (hv_Pc G h sz [va_rf x0, .int x1, va_rf x2]) (hv_Qi G h sz Q) mc ms (hv_A h sz) := by
  refine va_MetW (cc := cX0_factLine) (maxL := 4) (ret := (some FieldType.int)) (hh := [(0, 9, 12, 32)]) (by decide) rfl ?_
  intro p e s m args below meth c s₁ B hml hv
  have ht : c.exceptionTable.toList = tableOf [(0, 9, 12, 32)] := vx_table (x := yX0_factLine) B (atoms_spec (ws := (wsW_ yX0_factLine cX0_factLine 4 (some FieldType.int) [(0, 9, 12, 32)])) B.pre _ List.mem_cons_self)
  obtain ⟨rfl, rfl, hE, hI⟩ := hv_openW B hml hv
  have hE : hv_E p s m ([va_rf x0, .int x1, va_rf x2] : List Value).toArray meth c cX0_factLine 4 (some FieldType.int) RX0 G h := hE
  obtain ⟨⟨hx, hb, hml, hown, hts⟩, hr, hlocks, hXX⟩ := id hE
  have hl := lv_entry ([va_rf x0, .int x1, va_rf x2] : List Value) (n := 4) (by cases x0 <;> cases x2 <;> exact Nat.le_of_ble_eq_true rfl)
  rw [lg_entry_eq]
  generalize (lg_sl ([va_rf x0, .int x1, va_rf x2] : List Value) ++ List.replicate (4 - (lg_sl ([va_rf x0, .int x1, va_rf x2] : List Value)).length) Slot.unset).toArray = ls at hl ⊢
  have hl : lv_has ls 4 [(0, va_rf x0), (1, .int x1), (2, va_rf x2)] := (by cases x0 <;> cases x2 <;> exact hl)
  have hc : 0 ≤ mc := Nat.zero_le _
  have hs : 0 ≤ ms := Nat.zero_le _
  unfold wp_X0_factLine at hw
  refine lv_aload_nq hx hb dX0_factLine_0 rfl (lv_at hl 2 rfl) ?_
  refine lv_iconst (v := 0) hx hb dX0_factLine_1 (by decide) ?_
  refine lv_aload_nq hx hb dX0_factLine_2 rfl (lv_at hl 0 rfl) ?_
  refine lv_iload_n hx hb dX0_factLine_3 rfl (lv_at hl 1 rfl) ?_
  obtain ⟨a1, hz, hwa1⟩ := hw; have hla1 := hl; subst hz; have hw := hwa1; have hl := hla1
  obtain ⟨mc2, ms2, hc, hs, hw⟩ := hw
  obtain ⟨⟨fs, hre⟩, hw⟩ := hw
  refine hx_rci hI (vx_runV (As := [.int x1]) (b := a1) (rest := [.int (0 : Int32), va_rf x2]) hE.1 (snd_X1_factLine l hl0 G _ mc2 ms2 h a1 x1 _ _ hw) (cwV 1 hts (lw_V q1743 q1744 q1745 q97 q1746) rfl rfl rfl (by decide +kernel) ⟨Nat.le_of_ble_eq_true rfl, Nat.le_of_ble_eq_true rfl⟩) (hv_preV hE hI (ci := 1) rfl hre) rfl rfl hl.1 rfl (lv_room (by cases x2 <;> exact Nat.le_of_ble_eq_true rfl)) dX0_factLine_4 ⟨hc, hs⟩) ?_ (fun r3 h4 H locs hw hI => ?_)
  · intro E q5 h6 H locs hw hI hT
    obtain ⟨rfl, hw⟩ := hw
    refine hx_catch hE hT [] ⟨0, 9, 12, 32⟩ [] ht (fun _ hz => absurd hz List.not_mem_nil) rfl (by decide) (hts _ q1337) ((hE.2.2.2.2.1.C 21 rfl).use rfl) ?_
    refine lv_astore_n (lv' := [(3, .ref q5), (0, .ref a1), (1, .int x1), (2, va_rf x2)]) hx hb dX0_factLine_12 rfl hl (by decide) (by cases x2 <;> exact rfl) (fun ls hl => ?_)
    refine lv_iconst (v := 1) hx hb dX0_factLine_13 (by decide) ?_
    exact hv_iret hE hI hc hs hw dX0_factLine_14
  refine lv_i2l (v := (Int32.toInt64 r3)) hx hb dX0_factLine_7 rfl ?_
  obtain ⟨a7, hz, hwa7⟩ := hw; have hla7 := hl; subst hz; have hw := hwa7; have hl := hla7
  refine hv_wlst hE hI hw dX0_factLine_8 (fun h8 H locs hw hI => ?_)
  refine lv_goto (tgt := 15) hx hb dX0_factLine_9 (by decide) ?_
  refine lv_iconst (v := 0) hx hb dX0_factLine_15 (by decide) ?_
  exact hv_iret hE hI hc hs hw dX0_factLine_16

/-- MatchmakerRulesLaw.character(LMatchmakerRules;I[J)I -/
abbrev rm_X0_character (mc ms : Nat) : Room := { frames := 8, cells := mc, slots := ms, locals := 130 }
def wp_X0_character (G : GG) (mc : Nat) (ms : Nat) (h : HH) (x0 : Option Nat) (x1 : Int32) (x2 : Option Nat) (Q : Int32 → HH → Prop) : Prop := w_nn x0 (fun a1 => (∃ mc2 ms2, 0 + mc2 ≤ mc ∧ 0 + ms2 ≤ ms ∧ w_is h a1 1 (wp_X1_character G mc2 ms2 h a1 x1 (fun r3 h4 => w_nn x2 (fun a7 => w_lst G h4 a7 (0 : Int32) (Int32.toInt64 r3) (fun h8 => Q (0 : Int32) h8))) (fun E q5 h6 => (E = "java/lang/IndexOutOfBoundsException" ∧ Q (1 : Int32) h6)))))
set_option maxHeartbeats 4000000 in
theorem snd_X0_character (l : Launch) (hl0 : l.stackTraces = false) (G : GG) (sz : Nat) (mc : Nat) (ms : Nat) (h : HH) (x0 : Option Nat) (x1 : Int32) (x2 : Option Nat) (Q : Int32 → HH → Prop) (hw : wp_X0_character G mc ms h x0 x1 x2 Q) : Met l yX0_character (wsW_ yX0_character cX0_character 4 (some FieldType.int) [(0, 9, 12, 57)]) (rm_X0_character mc ms) (hv_Pc G h sz [va_rf x0, .int x1, va_rf x2]) (hv_Qi G h sz Q) mc ms (hv_A h sz) := by
  refine va_MetW (cc := cX0_character) (maxL := 4) (ret := (some FieldType.int)) (hh := [(0, 9, 12, 57)]) (by decide) rfl ?_
  intro p e s m args below meth c s₁ B hml hv
  have ht : c.exceptionTable.toList = tableOf [(0, 9, 12, 57)] := vx_table (x := yX0_character) B (atoms_spec (ws := (wsW_ yX0_character cX0_character 4 (some FieldType.int) [(0, 9, 12, 57)])) B.pre _ List.mem_cons_self)
  obtain ⟨rfl, rfl, hE, hI⟩ := hv_openW B hml hv
  have hE : hv_E p s m ([va_rf x0, .int x1, va_rf x2] : List Value).toArray meth c cX0_character 4 (some FieldType.int) RX0 G h := hE
  obtain ⟨⟨hx, hb, hml, hown, hts⟩, hr, hlocks, hXX⟩ := id hE
  have hl := lv_entry ([va_rf x0, .int x1, va_rf x2] : List Value) (n := 4) (by cases x0 <;> cases x2 <;> exact Nat.le_of_ble_eq_true rfl)
  rw [lg_entry_eq]
  generalize (lg_sl ([va_rf x0, .int x1, va_rf x2] : List Value) ++ List.replicate (4 - (lg_sl ([va_rf x0, .int x1, va_rf x2] : List Value)).length) Slot.unset).toArray = ls at hl ⊢
  have hl : lv_has ls 4 [(0, va_rf x0), (1, .int x1), (2, va_rf x2)] := (by cases x0 <;> cases x2 <;> exact hl)
  have hc : 0 ≤ mc := Nat.zero_le _
  have hs : 0 ≤ ms := Nat.zero_le _
  unfold wp_X0_character at hw
  refine lv_aload_nq hx hb dX0_character_0 rfl (lv_at hl 2 rfl) ?_
  refine lv_iconst (v := 0) hx hb dX0_character_1 (by decide) ?_
  refine lv_aload_nq hx hb dX0_character_2 rfl (lv_at hl 0 rfl) ?_
  refine lv_iload_n hx hb dX0_character_3 rfl (lv_at hl 1 rfl) ?_
  obtain ⟨a1, hz, hwa1⟩ := hw; have hla1 := hl; subst hz; have hw := hwa1; have hl := hla1
  obtain ⟨mc2, ms2, hc, hs, hw⟩ := hw
  obtain ⟨⟨fs, hre⟩, hw⟩ := hw
  refine hx_rci hI (vx_runV (As := [.int x1]) (b := a1) (rest := [.int (0 : Int32), va_rf x2]) hE.1 (snd_X1_character l hl0 G _ mc2 ms2 h a1 x1 _ _ hw) (cwV 1 hts (lw_V q1765 q1766 q1767 q97 q1768) rfl rfl rfl (by decide +kernel) ⟨Nat.le_of_ble_eq_true rfl, Nat.le_of_ble_eq_true rfl⟩) (hv_preV hE hI (ci := 1) rfl hre) rfl rfl hl.1 rfl (lv_room (by cases x2 <;> exact Nat.le_of_ble_eq_true rfl)) dX0_character_4 ⟨hc, hs⟩) ?_ (fun r3 h4 H locs hw hI => ?_)
  · intro E q5 h6 H locs hw hI hT
    obtain ⟨rfl, hw⟩ := hw
    refine hx_catch hE hT [] ⟨0, 9, 12, 57⟩ [] ht (fun _ hz => absurd hz List.not_mem_nil) rfl (by decide) (hts _ q1442) ((hE.2.2.2.2.1.C 33 rfl).use rfl) ?_
    refine lv_astore_n (lv' := [(3, .ref q5), (0, .ref a1), (1, .int x1), (2, va_rf x2)]) hx hb dX0_character_12 rfl hl (by decide) (by cases x2 <;> exact rfl) (fun ls hl => ?_)
    refine lv_iconst (v := 1) hx hb dX0_character_13 (by decide) ?_
    exact hv_iret hE hI hc hs hw dX0_character_14
  refine lv_i2l (v := (Int32.toInt64 r3)) hx hb dX0_character_7 rfl ?_
  obtain ⟨a7, hz, hwa7⟩ := hw; have hla7 := hl; subst hz; have hw := hwa7; have hl := hla7
  refine hv_wlst hE hI hw dX0_character_8 (fun h8 H locs hw hI => ?_)
  refine lv_goto (tgt := 15) hx hb dX0_character_9 (by decide) ?_
  refine lv_iconst (v := 0) hx hb dX0_character_15 (by decide) ?_
  exact hv_iret hE hI hc hs hw dX0_character_16

/-- MatchmakerRulesLaw.refusal(LMatchmakerRules;Z[J)I -/
abbrev rm_X0_refusal (mc ms : Nat) : Room := { frames := 8, cells := mc, slots := ms, locals := 130 }
def wp_X0_refusal (G : GG) (mc : Nat) (ms : Nat) (h : HH) (x0 : Option Nat) (x1 : Int32) (x2 : Option Nat) (Q : Int32 → HH → Prop) : Prop := w_nn x0 (fun a1 => (∃ mc2 ms2, 0 + mc2 ≤ mc ∧ 0 + ms2 ≤ ms ∧ w_is h a1 1 (wp_X1_refusal G mc2 ms2 h a1 x1 (fun r3 h4 => w_nn x2 (fun a7 => w_lst G h4 a7 (0 : Int32) (Int32.toInt64 r3) (fun h8 => Q (0 : Int32) h8))) (fun E q5 h6 => (E = "java/lang/IllegalStateException" ∧ Q (1 : Int32) h6)))))
set_option maxHeartbeats 4000000 in
theorem snd_X0_refusal (l : Launch) (hl0 : l.stackTraces = false) (G : GG) (sz : Nat) (mc : Nat) (ms : Nat) (h : HH) (x0 : Option Nat) (x1 : Int32) (x2 : Option Nat) (Q : Int32 → HH → Prop) (hw : wp_X0_refusal G mc ms h x0 x1 x2 Q) : Met l yX0_refusal (wsW_ yX0_refusal cX0_refusal 4 (some FieldType.int) [(0, 9, 12, 89)]) (rm_X0_refusal mc ms) (hv_Pc G h sz [va_rf x0, .int x1, va_rf x2]) (hv_Qi G h sz Q) mc ms (hv_A h sz) := by
  refine va_MetW (cc := cX0_refusal) (maxL := 4) (ret := (some FieldType.int)) (hh := [(0, 9, 12, 89)]) (by decide) rfl ?_
  intro p e s m args below meth c s₁ B hml hv
  have ht : c.exceptionTable.toList = tableOf [(0, 9, 12, 89)] := vx_table (x := yX0_refusal) B (atoms_spec (ws := (wsW_ yX0_refusal cX0_refusal 4 (some FieldType.int) [(0, 9, 12, 89)])) B.pre _ List.mem_cons_self)
  obtain ⟨rfl, rfl, hE, hI⟩ := hv_openW B hml hv
  have hE : hv_E p s m ([va_rf x0, .int x1, va_rf x2] : List Value).toArray meth c cX0_refusal 4 (some FieldType.int) RX0 G h := hE
  obtain ⟨⟨hx, hb, hml, hown, hts⟩, hr, hlocks, hXX⟩ := id hE
  have hl := lv_entry ([va_rf x0, .int x1, va_rf x2] : List Value) (n := 4) (by cases x0 <;> cases x2 <;> exact Nat.le_of_ble_eq_true rfl)
  rw [lg_entry_eq]
  generalize (lg_sl ([va_rf x0, .int x1, va_rf x2] : List Value) ++ List.replicate (4 - (lg_sl ([va_rf x0, .int x1, va_rf x2] : List Value)).length) Slot.unset).toArray = ls at hl ⊢
  have hl : lv_has ls 4 [(0, va_rf x0), (1, .int x1), (2, va_rf x2)] := (by cases x0 <;> cases x2 <;> exact hl)
  have hc : 0 ≤ mc := Nat.zero_le _
  have hs : 0 ≤ ms := Nat.zero_le _
  unfold wp_X0_refusal at hw
  refine lv_aload_nq hx hb dX0_refusal_0 rfl (lv_at hl 2 rfl) ?_
  refine lv_iconst (v := 0) hx hb dX0_refusal_1 (by decide) ?_
  refine lv_aload_nq hx hb dX0_refusal_2 rfl (lv_at hl 0 rfl) ?_
  refine lv_iload_n hx hb dX0_refusal_3 rfl (lv_at hl 1 rfl) ?_
  obtain ⟨a1, hz, hwa1⟩ := hw; have hla1 := hl; subst hz; have hw := hwa1; have hl := hla1
  obtain ⟨mc2, ms2, hc, hs, hw⟩ := hw
  obtain ⟨⟨fs, hre⟩, hw⟩ := hw
  refine hx_rci hI (vx_runV (As := [.int x1]) (b := a1) (rest := [.int (0 : Int32), va_rf x2]) hE.1 (snd_X1_refusal l hl0 G _ mc2 ms2 h a1 x1 _ _ hw) (cwV 1 hts (lw_V q1775 q1776 q1777 q97 q1778) rfl rfl rfl (by decide +kernel) ⟨Nat.le_of_ble_eq_true rfl, Nat.le_of_ble_eq_true rfl⟩) (hv_preV hE hI (ci := 1) rfl hre) rfl rfl hl.1 rfl (lv_room (by cases x2 <;> exact Nat.le_of_ble_eq_true rfl)) dX0_refusal_4 ⟨hc, hs⟩) ?_ (fun r3 h4 H locs hw hI => ?_)
  · intro E q5 h6 H locs hw hI hT
    obtain ⟨rfl, hw⟩ := hw
    refine hx_catch hE hT [] ⟨0, 9, 12, 89⟩ [] ht (fun _ hz => absurd hz List.not_mem_nil) rfl (by decide) (hts _ q1774) ((hE.2.2.2.2.1.C 28 rfl).use rfl) ?_
    refine lv_astore_n (lv' := [(3, .ref q5), (0, .ref a1), (1, .int x1), (2, va_rf x2)]) hx hb dX0_refusal_12 rfl hl (by decide) (by cases x2 <;> exact rfl) (fun ls hl => ?_)
    refine lv_iconst (v := 1) hx hb dX0_refusal_13 (by decide) ?_
    exact hv_iret hE hI hc hs hw dX0_refusal_14
  refine lv_i2l (v := (Int32.toInt64 r3)) hx hb dX0_refusal_7 rfl ?_
  obtain ⟨a7, hz, hwa7⟩ := hw; have hla7 := hl; subst hz; have hw := hwa7; have hl := hla7
  refine hv_wlst hE hI hw dX0_refusal_8 (fun h8 H locs hw hI => ?_)
  refine lv_goto (tgt := 15) hx hb dX0_refusal_9 (by decide) ?_
  refine lv_iconst (v := 0) hx hb dX0_refusal_15 (by decide) ?_
  exact hv_iret hE hI hc hs hw dX0_refusal_16
