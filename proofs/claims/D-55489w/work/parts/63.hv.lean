/-! walks over a world (by gen/hvrun.py) -/
set_option maxRecDepth 100000
/-- MatchmakerRulesLaw.account(LMatchmakerRules;I[J)I -/
abbrev rm_X0_account (mc ms : Nat) : Room := { frames := 9, cells := mc, slots := ms, locals := 204 }
def wp_X0_account (G : GG) (mc : Nat) (ms : Nat) (h : HH) (x0 : Option Nat) (x1 : Int32) (x2 : Option Nat) (Q : Int32 → HH → Prop) : Prop := w_nn x0 (fun a1 => (∃ mc2 ms2, 0 + mc2 ≤ mc ∧ 0 + ms2 ≤ ms ∧ w_is h a1 1 (wp_X1_account G mc2 ms2 h a1 x1 (fun r3 h4 => w_nn x2 (fun a7 => w_lst G h4 a7 (0 : Int32) (Int32.toInt64 r3) (fun h8 => Q (0 : Int32) h8))) (fun E q5 h6 => (E = "java/lang/IllegalArgumentException" ∧ Q (1 : Int32) h6)))))
set_option maxHeartbeats 4000000 in
theorem snd_X0_account (l : Launch) (hl0 : l.stackTraces = false) (G : GG) (sz : Nat) (mc : Nat) (ms : Nat) (h : HH) (x0 : Option Nat) (x1 : Int32) (x2 : Option Nat) (Q : Int32 → HH → Prop) (hw : wp_X0_account G mc ms h x0 x1 x2 Q) : Met l yX0_account (wsW_ yX0_account cX0_account 4 (some FieldType.int) [(0, 9, 12, 13)]) (rm_X0_account mc ms) (hv_Pc G h sz [va_rf x0, .int x1, va_rf x2]) (hv_Qi G h sz Q) mc ms (hv_A h sz) := by
  refine va_MetW (cc := cX0_account) (maxL := 4) (ret := (some FieldType.int)) (hh := [(0, 9, 12, 13)]) (by decide) rfl ?_
  intro p e s m args below meth c s₁ B hml hv
  have ht : c.exceptionTable.toList = tableOf [(0, 9, 12, 13)] := vx_table (x := yX0_account) B (atoms_spec (ws := (wsW_ yX0_account cX0_account 4 (some FieldType.int) [(0, 9, 12, 13)])) B.pre _ List.mem_cons_self)
  obtain ⟨rfl, rfl, hE, hI⟩ := hv_openW B hml hv
  have hE : hv_E p s m ([va_rf x0, .int x1, va_rf x2] : List Value).toArray meth c cX0_account 4 (some FieldType.int) RX0 G h := hE
  obtain ⟨⟨hx, hb, hml, hown, hts⟩, hr, hlocks, hXX⟩ := id hE
  have hl := lv_entry ([va_rf x0, .int x1, va_rf x2] : List Value) (n := 4) (by cases x0 <;> cases x2 <;> exact Nat.le_of_ble_eq_true rfl)
  rw [lg_entry_eq]
  generalize (lg_sl ([va_rf x0, .int x1, va_rf x2] : List Value) ++ List.replicate (4 - (lg_sl ([va_rf x0, .int x1, va_rf x2] : List Value)).length) Slot.unset).toArray = ls at hl ⊢
  have hl : lv_has ls 4 [(0, va_rf x0), (1, .int x1), (2, va_rf x2)] := (by cases x0 <;> cases x2 <;> exact hl)
  have hc : 0 ≤ mc := Nat.zero_le _
  have hs : 0 ≤ ms := Nat.zero_le _
  unfold wp_X0_account at hw
  refine lv_aload_nq hx hb dX0_account_0 rfl (lv_at hl 2 rfl) ?_
  refine lv_iconst (v := 0) hx hb dX0_account_1 (by decide) ?_
  refine lv_aload_nq hx hb dX0_account_2 rfl (lv_at hl 0 rfl) ?_
  refine lv_iload_n hx hb dX0_account_3 rfl (lv_at hl 1 rfl) ?_
  obtain ⟨a1, hz, hwa1⟩ := hw; have hla1 := hl; subst hz; have hw := hwa1; have hl := hla1
  obtain ⟨mc2, ms2, hc, hs, hw⟩ := hw
  obtain ⟨⟨fs, hre⟩, hw⟩ := hw
  refine hx_rci hI (vx_runV (As := [.int x1]) (b := a1) (rest := [.int (0 : Int32), va_rf x2]) hE.1 (snd_X1_account l hl0 G _ mc2 ms2 h a1 x1 _ _ hw) (cwV 1 hts (lw_V q1787 q1788 q1789 q97 q1790) rfl rfl rfl (by decide +kernel) ⟨Nat.le_of_ble_eq_true rfl, Nat.le_of_ble_eq_true rfl⟩) (hv_preV hE hI (ci := 1) rfl hre) rfl rfl hl.1 rfl (lv_room (by cases x2 <;> exact Nat.le_of_ble_eq_true rfl)) dX0_account_4 ⟨hc, hs⟩) ?_ (fun r3 h4 H locs hw hI => ?_)
  · intro E q5 h6 H locs hw hI hT
    obtain ⟨rfl, hw⟩ := hw
    refine hx_catch hE hT [] ⟨0, 9, 12, 13⟩ [] ht (fun _ hz => absurd hz List.not_mem_nil) rfl (by decide) (hts _ q652) ((hE.2.2.2.2.1.C 17 rfl).use rfl) ?_
    refine lv_astore_n (lv' := [(3, .ref q5), (0, .ref a1), (1, .int x1), (2, va_rf x2)]) hx hb dX0_account_12 rfl hl (by decide) (by cases x2 <;> exact rfl) (fun ls hl => ?_)
    refine lv_iconst (v := 1) hx hb dX0_account_13 (by decide) ?_
    exact hv_iret hE hI hc hs hw dX0_account_14
  refine lv_i2l (v := (Int32.toInt64 r3)) hx hb dX0_account_7 rfl ?_
  obtain ⟨a7, hz, hwa7⟩ := hw; have hla7 := hl; subst hz; have hw := hwa7; have hl := hla7
  refine hv_wlst hE hI hw dX0_account_8 (fun h8 H locs hw hI => ?_)
  refine lv_goto (tgt := 15) hx hb dX0_account_9 (by decide) ?_
  refine lv_iconst (v := 0) hx hb dX0_account_15 (by decide) ?_
  exact hv_iret hE hI hc hs hw dX0_account_16

/-- MatchmakerRulesLaw.meanTrust(LMatchmakerRules;[D)I -/
abbrev rm_X0_meanTrust (mc ms : Nat) : Room := { frames := 8, cells := mc, slots := ms, locals := 133 }
def wp_X0_meanTrust (G : GG) (mc : Nat) (ms : Nat) (h : HH) (x0 : Option Nat) (x1 : Option Nat) (Q : Int32 → HH → Prop) : Prop := w_nn x0 (fun a1 => (∃ mc2 ms2, 0 + mc2 ≤ mc ∧ 0 + ms2 ≤ ms ∧ w_is h a1 1 (wp_X1_meanTrust G mc2 ms2 h a1 (fun r3 h4 => w_nn x1 (fun a7 => w_dst G h4 a7 (0 : Int32) r3 (fun h8 => Q (0 : Int32) h8))) (fun E q5 h6 => (E = "java/lang/ArithmeticException" ∧ Q (1 : Int32) h6)))))
set_option maxHeartbeats 4000000 in
theorem snd_X0_meanTrust (l : Launch) (hl0 : l.stackTraces = false) (G : GG) (sz : Nat) (mc : Nat) (ms : Nat) (h : HH) (x0 : Option Nat) (x1 : Option Nat) (Q : Int32 → HH → Prop) (hw : wp_X0_meanTrust G mc ms h x0 x1 Q) : Met l yX0_meanTrust (wsW_ yX0_meanTrust cX0_meanTrust 3 (some FieldType.int) [(0, 7, 10, 98)]) (rm_X0_meanTrust mc ms) (hv_Pc G h sz [va_rf x0, va_rf x1]) (hv_Qi G h sz Q) mc ms (hv_A h sz) := by
  refine va_MetW (cc := cX0_meanTrust) (maxL := 3) (ret := (some FieldType.int)) (hh := [(0, 7, 10, 98)]) (by decide) rfl ?_
  intro p e s m args below meth c s₁ B hml hv
  have ht : c.exceptionTable.toList = tableOf [(0, 7, 10, 98)] := vx_table (x := yX0_meanTrust) B (atoms_spec (ws := (wsW_ yX0_meanTrust cX0_meanTrust 3 (some FieldType.int) [(0, 7, 10, 98)])) B.pre _ List.mem_cons_self)
  obtain ⟨rfl, rfl, hE, hI⟩ := hv_openW B hml hv
  have hE : hv_E p s m ([va_rf x0, va_rf x1] : List Value).toArray meth c cX0_meanTrust 3 (some FieldType.int) RX0 G h := hE
  obtain ⟨⟨hx, hb, hml, hown, hts⟩, hr, hlocks, hXX⟩ := id hE
  have hl := lv_entry ([va_rf x0, va_rf x1] : List Value) (n := 3) (by cases x0 <;> cases x1 <;> exact Nat.le_of_ble_eq_true rfl)
  rw [lg_entry_eq]
  generalize (lg_sl ([va_rf x0, va_rf x1] : List Value) ++ List.replicate (3 - (lg_sl ([va_rf x0, va_rf x1] : List Value)).length) Slot.unset).toArray = ls at hl ⊢
  have hl : lv_has ls 3 [(0, va_rf x0), (1, va_rf x1)] := (by cases x0 <;> cases x1 <;> exact hl)
  have hc : 0 ≤ mc := Nat.zero_le _
  have hs : 0 ≤ ms := Nat.zero_le _
  unfold wp_X0_meanTrust at hw
  refine lv_aload_nq hx hb dX0_meanTrust_0 rfl (lv_at hl 1 rfl) ?_
  refine lv_iconst (v := 0) hx hb dX0_meanTrust_1 (by decide) ?_
  refine lv_aload_nq hx hb dX0_meanTrust_2 rfl (lv_at hl 0 rfl) ?_
  obtain ⟨a1, hz, hwa1⟩ := hw; have hla1 := hl; subst hz; have hw := hwa1; have hl := hla1
  obtain ⟨mc2, ms2, hc, hs, hw⟩ := hw
  obtain ⟨⟨fs, hre⟩, hw⟩ := hw
  refine hx_rcd hI (vx_runV (As := []) (b := a1) (rest := [.int (0 : Int32), va_rf x1]) hE.1 (snd_X1_meanTrust l hl0 G _ mc2 ms2 h a1 _ _ hw) (cwV 0 hts (lw_V q1818 q1819 q1820 q97 q1821) rfl rfl rfl (by decide +kernel) ⟨Nat.le_of_ble_eq_true rfl, Nat.le_of_ble_eq_true rfl⟩) (hv_preV hE hI (ci := 1) rfl hre) rfl rfl hl.1 rfl (lv_room (by cases x1 <;> exact Nat.le_of_ble_eq_true rfl)) dX0_meanTrust_3 ⟨hc, hs⟩) ?_ (fun r3 h4 H locs hw hI => ?_)
  · intro E q5 h6 H locs hw hI hT
    obtain ⟨rfl, hw⟩ := hw
    refine hx_catch hE hT [] ⟨0, 7, 10, 98⟩ [] ht (fun _ hz => absurd hz List.not_mem_nil) rfl (by decide) (hts _ q1804) ((hE.2.2.2.2.1.C 38 rfl).use rfl) ?_
    refine lv_astore_n (lv' := [(2, .ref q5), (0, .ref a1), (1, va_rf x1)]) hx hb dX0_meanTrust_10 rfl hl (by decide) (by cases x1 <;> exact rfl) (fun ls hl => ?_)
    refine lv_iconst (v := 1) hx hb dX0_meanTrust_11 (by decide) ?_
    exact hv_iret hE hI hc hs hw dX0_meanTrust_12
  obtain ⟨a7, hz, hwa7⟩ := hw; have hla7 := hl; subst hz; have hw := hwa7; have hl := hla7
  refine hv_wdst hE hI hw dX0_meanTrust_6 (fun h8 H locs hw hI => ?_)
  refine lv_goto (tgt := 13) hx hb dX0_meanTrust_7 (by decide) ?_
  refine lv_iconst (v := 0) hx hb dX0_meanTrust_13 (by decide) ?_
  exact hv_iret hE hI hc hs hw dX0_meanTrust_14

/-- MatchmakerRulesLaw.store(LMatchmakerRules;IZ[J)I -/
abbrev rm_X0_store (mc ms : Nat) : Room := { frames := 9, cells := mc, slots := ms, locals := 154 }
def wp_X0_store (G : GG) (mc : Nat) (ms : Nat) (h : HH) (x0 : Option Nat) (x1 : Int32) (x2 : Int32) (x3 : Option Nat) (Q : Int32 → HH → Prop) : Prop := w_nn x0 (fun a1 => (∃ mc2 ms2, 0 + mc2 ≤ mc ∧ 0 + ms2 ≤ ms ∧ w_is h a1 1 (wp_X1_store G mc2 ms2 h a1 x1 x2 (fun r3 h4 => w_nn x3 (fun a7 => w_lst G h4 a7 (0 : Int32) (Int32.toInt64 r3) (fun h8 => Q (0 : Int32) h8))) (fun E q5 h6 => (E = "java/lang/IndexOutOfBoundsException" ∧ Q (1 : Int32) h6)))))
set_option maxHeartbeats 4000000 in
theorem snd_X0_store (l : Launch) (hl0 : l.stackTraces = false) (G : GG) (sz : Nat) (mc : Nat) (ms : Nat) (h : HH) (x0 : Option Nat) (x1 : Int32) (x2 : Int32) (x3 : Option Nat) (Q : Int32 → HH → Prop) (hw : wp_X0_store G mc ms h x0 x1 x2 x3 Q) : Met l yX0_store (wsW_ yX0_store cX0_store 5 (some FieldType.int) [(0, 10, 13, 57)]) (rm_X0_store mc ms) (hv_Pc G h sz [va_rf x0, .int x1, .int x2, va_rf x3]) (hv_Qi G h sz Q) mc ms (hv_A h sz) := by
  refine va_MetW (cc := cX0_store) (maxL := 5) (ret := (some FieldType.int)) (hh := [(0, 10, 13, 57)]) (by decide) rfl ?_
  intro p e s m args below meth c s₁ B hml hv
  have ht : c.exceptionTable.toList = tableOf [(0, 10, 13, 57)] := vx_table (x := yX0_store) B (atoms_spec (ws := (wsW_ yX0_store cX0_store 5 (some FieldType.int) [(0, 10, 13, 57)])) B.pre _ List.mem_cons_self)
  obtain ⟨rfl, rfl, hE, hI⟩ := hv_openW B hml hv
  have hE : hv_E p s m ([va_rf x0, .int x1, .int x2, va_rf x3] : List Value).toArray meth c cX0_store 5 (some FieldType.int) RX0 G h := hE
  obtain ⟨⟨hx, hb, hml, hown, hts⟩, hr, hlocks, hXX⟩ := id hE
  have hl := lv_entry ([va_rf x0, .int x1, .int x2, va_rf x3] : List Value) (n := 5) (by cases x0 <;> cases x3 <;> exact Nat.le_of_ble_eq_true rfl)
  rw [lg_entry_eq]
  generalize (lg_sl ([va_rf x0, .int x1, .int x2, va_rf x3] : List Value) ++ List.replicate (5 - (lg_sl ([va_rf x0, .int x1, .int x2, va_rf x3] : List Value)).length) Slot.unset).toArray = ls at hl ⊢
  have hl : lv_has ls 5 [(0, va_rf x0), (1, .int x1), (2, .int x2), (3, va_rf x3)] := (by cases x0 <;> cases x3 <;> exact hl)
  have hc : 0 ≤ mc := Nat.zero_le _
  have hs : 0 ≤ ms := Nat.zero_le _
  unfold wp_X0_store at hw
  refine lv_aload_nq hx hb dX0_store_0 rfl (lv_at hl 3 rfl) ?_
  refine lv_iconst (v := 0) hx hb dX0_store_1 (by decide) ?_
  refine lv_aload_nq hx hb dX0_store_2 rfl (lv_at hl 0 rfl) ?_
  refine lv_iload_n hx hb dX0_store_3 rfl (lv_at hl 1 rfl) ?_
  refine lv_iload_n hx hb dX0_store_4 rfl (lv_at hl 2 rfl) ?_
  obtain ⟨a1, hz, hwa1⟩ := hw; have hla1 := hl; subst hz; have hw := hwa1; have hl := hla1
  obtain ⟨mc2, ms2, hc, hs, hw⟩ := hw
  obtain ⟨⟨fs, hre⟩, hw⟩ := hw
  refine hx_rci hI (vx_runV (As := [.int x1, .int x2]) (b := a1) (rest := [.int (0 : Int32), va_rf x3]) hE.1 (snd_X1_store l hl0 G _ mc2 ms2 h a1 x1 x2 _ _ hw) (cwV 2 hts (lw_V q1837 q1838 q1839 q97 q1840) rfl rfl rfl (by decide +kernel) ⟨Nat.le_of_ble_eq_true rfl, Nat.le_of_ble_eq_true rfl⟩) (hv_preV hE hI (ci := 1) rfl hre) rfl rfl hl.1 rfl (lv_room (by cases x3 <;> exact Nat.le_of_ble_eq_true rfl)) dX0_store_5 ⟨hc, hs⟩) ?_ (fun r3 h4 H locs hw hI => ?_)
  · intro E q5 h6 H locs hw hI hT
    obtain ⟨rfl, hw⟩ := hw
    refine hx_catch hE hT [] ⟨0, 10, 13, 57⟩ [] ht (fun _ hz => absurd hz List.not_mem_nil) rfl (by decide) (hts _ q1442) ((hE.2.2.2.2.1.C 33 rfl).use rfl) ?_
    refine lv_astore (lv' := [(4, .ref q5), (0, .ref a1), (1, .int x1), (2, .int x2), (3, va_rf x3)]) hx hb dX0_store_13 hl (by decide) (by cases x3 <;> exact rfl) (fun ls hl => ?_)
    refine lv_iconst (v := 1) hx hb dX0_store_15 (by decide) ?_
    exact hv_iret hE hI hc hs hw dX0_store_16
  refine lv_i2l (v := (Int32.toInt64 r3)) hx hb dX0_store_8 rfl ?_
  obtain ⟨a7, hz, hwa7⟩ := hw; have hla7 := hl; subst hz; have hw := hwa7; have hl := hla7
  refine hv_wlst hE hI hw dX0_store_9 (fun h8 H locs hw hI => ?_)
  refine lv_goto (tgt := 17) hx hb dX0_store_10 (by decide) ?_
  refine lv_iconst (v := 0) hx hb dX0_store_17 (by decide) ?_
  exact hv_iret hE hI hc hs hw dX0_store_18

/-- MatchmakerRulesLaw.copyRow(LMatchmakerRules;II[J)I -/
abbrev rm_X0_copyRow (mc ms : Nat) : Room := { frames := 9, cells := mc, slots := ms, locals := 155 }
def wp_X0_copyRow (G : GG) (mc : Nat) (ms : Nat) (h : HH) (x0 : Option Nat) (x1 : Int32) (x2 : Int32) (x3 : Option Nat) (Q : Int32 → HH → Prop) : Prop := w_nn x0 (fun a1 => (∃ mc2 ms2, 0 + mc2 ≤ mc ∧ 0 + ms2 ≤ ms ∧ w_is h a1 1 (wp_X1_copyRow G mc2 ms2 h a1 x1 x2 (fun r3 h4 => w_nn x3 (fun a7 => w_lst G h4 a7 (0 : Int32) (Int32.toInt64 r3) (fun h8 => Q (0 : Int32) h8))) (fun E q5 h6 => ((E = "java/lang/IndexOutOfBoundsException" ∧ Q (1 : Int32) h6) ∨ (E = "java/util/NoSuchElementException" ∧ Q (2 : Int32) h6))))))
set_option maxHeartbeats 4000000 in
theorem snd_X0_copyRow (l : Launch) (hl0 : l.stackTraces = false) (G : GG) (sz : Nat) (mc : Nat) (ms : Nat) (h : HH) (x0 : Option Nat) (x1 : Int32) (x2 : Int32) (x3 : Option Nat) (Q : Int32 → HH → Prop) (hw : wp_X0_copyRow G mc ms h x0 x1 x2 x3 Q) : Met l yX0_copyRow (wsW_ yX0_copyRow cX0_copyRow 5 (some FieldType.int) [(0, 10, 13, 57), (0, 10, 17, 32), (0, 10, 21, 15), (0, 10, 25, 13)]) (rm_X0_copyRow mc ms) (hv_Pc G h sz [va_rf x0, .int x1, .int x2, va_rf x3]) (hv_Qi G h sz Q) mc ms (hv_A h sz) := by
  refine va_MetW (cc := cX0_copyRow) (maxL := 5) (ret := (some FieldType.int)) (hh := [(0, 10, 13, 57), (0, 10, 17, 32), (0, 10, 21, 15), (0, 10, 25, 13)]) (by decide) rfl ?_
  intro p e s m args below meth c s₁ B hml hv
  have ht : c.exceptionTable.toList = tableOf [(0, 10, 13, 57), (0, 10, 17, 32), (0, 10, 21, 15), (0, 10, 25, 13)] := vx_table (x := yX0_copyRow) B (atoms_spec (ws := (wsW_ yX0_copyRow cX0_copyRow 5 (some FieldType.int) [(0, 10, 13, 57), (0, 10, 17, 32), (0, 10, 21, 15), (0, 10, 25, 13)])) B.pre _ List.mem_cons_self)
  obtain ⟨rfl, rfl, hE, hI⟩ := hv_openW B hml hv
  have hE : hv_E p s m ([va_rf x0, .int x1, .int x2, va_rf x3] : List Value).toArray meth c cX0_copyRow 5 (some FieldType.int) RX0 G h := hE
  obtain ⟨⟨hx, hb, hml, hown, hts⟩, hr, hlocks, hXX⟩ := id hE
  have hl := lv_entry ([va_rf x0, .int x1, .int x2, va_rf x3] : List Value) (n := 5) (by cases x0 <;> cases x3 <;> exact Nat.le_of_ble_eq_true rfl)
  rw [lg_entry_eq]
  generalize (lg_sl ([va_rf x0, .int x1, .int x2, va_rf x3] : List Value) ++ List.replicate (5 - (lg_sl ([va_rf x0, .int x1, .int x2, va_rf x3] : List Value)).length) Slot.unset).toArray = ls at hl ⊢
  have hl : lv_has ls 5 [(0, va_rf x0), (1, .int x1), (2, .int x2), (3, va_rf x3)] := (by cases x0 <;> cases x3 <;> exact hl)
  have hc : 0 ≤ mc := Nat.zero_le _
  have hs : 0 ≤ ms := Nat.zero_le _
  unfold wp_X0_copyRow at hw
  refine lv_aload_nq hx hb dX0_copyRow_0 rfl (lv_at hl 3 rfl) ?_
  refine lv_iconst (v := 0) hx hb dX0_copyRow_1 (by decide) ?_
  refine lv_aload_nq hx hb dX0_copyRow_2 rfl (lv_at hl 0 rfl) ?_
  refine lv_iload_n hx hb dX0_copyRow_3 rfl (lv_at hl 1 rfl) ?_
  refine lv_iload_n hx hb dX0_copyRow_4 rfl (lv_at hl 2 rfl) ?_
  obtain ⟨a1, hz, hwa1⟩ := hw; have hla1 := hl; subst hz; have hw := hwa1; have hl := hla1
  obtain ⟨mc2, ms2, hc, hs, hw⟩ := hw
  obtain ⟨⟨fs, hre⟩, hw⟩ := hw
  refine hx_rci hI (vx_runVX (As := [.int x1, .int x2]) (b := a1) (rest := [.int (0 : Int32), va_rf x3]) hE.1 (snd_X1_copyRow l hl0 G _ mc2 ms2 h a1 x1 x2 _ _ hw) (vx_cwVW 2 hts (lw_VW q1848 q1849 q1850 q97 q1851) rfl rfl rfl (by decide +kernel) ⟨Nat.le_of_ble_eq_true rfl, Nat.le_of_ble_eq_true rfl⟩) (hv_preV hE hI (ci := 1) rfl hre) rfl rfl hl.1 rfl (lv_room (by cases x3 <;> exact Nat.le_of_ble_eq_true rfl)) dX0_copyRow_5 ⟨hc, hs⟩) ?_ (fun r3 h4 H locs hw hI => ?_)
  · intro E q5 h6 H locs hw hI hT
    rcases hw with ⟨rfl, hw⟩ | hw
    · refine hx_catch hE hT [] ⟨0, 10, 13, 57⟩ [⟨0, 10, 17, 32⟩, ⟨0, 10, 21, 15⟩, ⟨0, 10, 25, 13⟩] ht (fun _ hz => absurd hz List.not_mem_nil) rfl (by decide) (hts _ q1442) ((hE.2.2.2.2.1.C 33 rfl).use rfl) ?_
      refine lv_astore (lv' := [(4, .ref q5), (0, .ref a1), (1, .int x1), (2, .int x2), (3, va_rf x3)]) hx hb dX0_copyRow_13 hl (by decide) (by cases x3 <;> exact rfl) (fun ls hl => ?_)
      refine lv_iconst (v := 1) hx hb dX0_copyRow_15 (by decide) ?_
      exact hv_iret hE hI hc hs hw dX0_copyRow_16
    obtain ⟨rfl, hw⟩ := hw
    refine hx_catch hE hT [⟨0, 10, 13, 57⟩] ⟨0, 10, 17, 32⟩ [⟨0, 10, 21, 15⟩, ⟨0, 10, 25, 13⟩] ht (List.forall_mem_cons.mpr ⟨(Or.inr ⟨by decide, "java/lang/IndexOutOfBoundsException", hts _ q1442, hE.2.2.2.2.1.N 79 rfl⟩), (fun _ hz => absurd hz List.not_mem_nil)⟩) rfl (by decide) (hts _ q1337) ((hE.2.2.2.2.1.C 21 rfl).use rfl) ?_
    refine lv_astore (lv' := [(4, .ref q5), (0, .ref a1), (1, .int x1), (2, .int x2), (3, va_rf x3)]) hx hb dX0_copyRow_17 hl (by decide) (by cases x3 <;> exact rfl) (fun ls hl => ?_)
    refine lv_iconst (v := 2) hx hb dX0_copyRow_19 (by decide) ?_
    exact hv_iret hE hI hc hs hw dX0_copyRow_20
  refine lv_i2l (v := (Int32.toInt64 r3)) hx hb dX0_copyRow_8 rfl ?_
  obtain ⟨a7, hz, hwa7⟩ := hw; have hla7 := hl; subst hz; have hw := hwa7; have hl := hla7
  refine hv_wlst hE hI hw dX0_copyRow_9 (fun h8 H locs hw hI => ?_)
  refine lv_goto (tgt := 29) hx hb dX0_copyRow_10 (by decide) ?_
  refine lv_iconst (v := 0) hx hb dX0_copyRow_29 (by decide) ?_
  exact hv_iret hE hI hc hs hw dX0_copyRow_30

/-- MatchmakerRulesLaw.element(LMatchmakerRules;II[J)I -/
abbrev rm_X0_element (mc ms : Nat) : Room := { frames := 9, cells := mc, slots := ms, locals := 151 }
def wp_X0_element (G : GG) (mc : Nat) (ms : Nat) (h : HH) (x0 : Option Nat) (x1 : Int32) (x2 : Int32) (x3 : Option Nat) (Q : Int32 → HH → Prop) : Prop := w_nn x0 (fun a1 => (∃ mc2 ms2, 0 + mc2 ≤ mc ∧ 0 + ms2 ≤ ms ∧ w_is h a1 1 (wp_X1_element G mc2 ms2 h a1 x1 x2 (fun r3 h4 => w_nn x3 (fun a7 => w_lst G h4 a7 (0 : Int32) (Int32.toInt64 r3) (fun h8 => Q (0 : Int32) h8))) (fun E q5 h6 => ((E = "java/lang/IndexOutOfBoundsException" ∧ Q (1 : Int32) h6) ∨ (E = "java/util/NoSuchElementException" ∧ Q (2 : Int32) h6))))))
set_option maxHeartbeats 4000000 in
theorem snd_X0_element (l : Launch) (hl0 : l.stackTraces = false) (G : GG) (sz : Nat) (mc : Nat) (ms : Nat) (h : HH) (x0 : Option Nat) (x1 : Int32) (x2 : Int32) (x3 : Option Nat) (Q : Int32 → HH → Prop) (hw : wp_X0_element G mc ms h x0 x1 x2 x3 Q) : Met l yX0_element (wsW_ yX0_element cX0_element 5 (some FieldType.int) [(0, 10, 13, 57), (0, 10, 17, 32)]) (rm_X0_element mc ms) (hv_Pc G h sz [va_rf x0, .int x1, .int x2, va_rf x3]) (hv_Qi G h sz Q) mc ms (hv_A h sz) := by
  refine va_MetW (cc := cX0_element) (maxL := 5) (ret := (some FieldType.int)) (hh := [(0, 10, 13, 57), (0, 10, 17, 32)]) (by decide) rfl ?_
  intro p e s m args below meth c s₁ B hml hv
  have ht : c.exceptionTable.toList = tableOf [(0, 10, 13, 57), (0, 10, 17, 32)] := vx_table (x := yX0_element) B (atoms_spec (ws := (wsW_ yX0_element cX0_element 5 (some FieldType.int) [(0, 10, 13, 57), (0, 10, 17, 32)])) B.pre _ List.mem_cons_self)
  obtain ⟨rfl, rfl, hE, hI⟩ := hv_openW B hml hv
  have hE : hv_E p s m ([va_rf x0, .int x1, .int x2, va_rf x3] : List Value).toArray meth c cX0_element 5 (some FieldType.int) RX0 G h := hE
  obtain ⟨⟨hx, hb, hml, hown, hts⟩, hr, hlocks, hXX⟩ := id hE
  have hl := lv_entry ([va_rf x0, .int x1, .int x2, va_rf x3] : List Value) (n := 5) (by cases x0 <;> cases x3 <;> exact Nat.le_of_ble_eq_true rfl)
  rw [lg_entry_eq]
  generalize (lg_sl ([va_rf x0, .int x1, .int x2, va_rf x3] : List Value) ++ List.replicate (5 - (lg_sl ([va_rf x0, .int x1, .int x2, va_rf x3] : List Value)).length) Slot.unset).toArray = ls at hl ⊢
  have hl : lv_has ls 5 [(0, va_rf x0), (1, .int x1), (2, .int x2), (3, va_rf x3)] := (by cases x0 <;> cases x3 <;> exact hl)
  have hc : 0 ≤ mc := Nat.zero_le _
  have hs : 0 ≤ ms := Nat.zero_le _
  unfold wp_X0_element at hw
  refine lv_aload_nq hx hb dX0_element_0 rfl (lv_at hl 3 rfl) ?_
  refine lv_iconst (v := 0) hx hb dX0_element_1 (by decide) ?_
  refine lv_aload_nq hx hb dX0_element_2 rfl (lv_at hl 0 rfl) ?_
  refine lv_iload_n hx hb dX0_element_3 rfl (lv_at hl 1 rfl) ?_
  refine lv_iload_n hx hb dX0_element_4 rfl (lv_at hl 2 rfl) ?_
  obtain ⟨a1, hz, hwa1⟩ := hw; have hla1 := hl; subst hz; have hw := hwa1; have hl := hla1
  obtain ⟨mc2, ms2, hc, hs, hw⟩ := hw
  obtain ⟨⟨fs, hre⟩, hw⟩ := hw
  refine hx_rci hI (vx_runV (As := [.int x1, .int x2]) (b := a1) (rest := [.int (0 : Int32), va_rf x3]) hE.1 (snd_X1_element l hl0 G _ mc2 ms2 h a1 x1 x2 _ _ hw) (cwV 2 hts (lw_V q1883 q1884 q1885 q97 q1886) rfl rfl rfl (by decide +kernel) ⟨Nat.le_of_ble_eq_true rfl, Nat.le_of_ble_eq_true rfl⟩) (hv_preV hE hI (ci := 1) rfl hre) rfl rfl hl.1 rfl (lv_room (by cases x3 <;> exact Nat.le_of_ble_eq_true rfl)) dX0_element_5 ⟨hc, hs⟩) ?_ (fun r3 h4 H locs hw hI => ?_)
  · intro E q5 h6 H locs hw hI hT
    rcases hw with ⟨rfl, hw⟩ | hw
    · refine hx_catch hE hT [] ⟨0, 10, 13, 57⟩ [⟨0, 10, 17, 32⟩] ht (fun _ hz => absurd hz List.not_mem_nil) rfl (by decide) (hts _ q1442) ((hE.2.2.2.2.1.C 33 rfl).use rfl) ?_
      refine lv_astore (lv' := [(4, .ref q5), (0, .ref a1), (1, .int x1), (2, .int x2), (3, va_rf x3)]) hx hb dX0_element_13 hl (by decide) (by cases x3 <;> exact rfl) (fun ls hl => ?_)
      refine lv_iconst (v := 1) hx hb dX0_element_15 (by decide) ?_
      exact hv_iret hE hI hc hs hw dX0_element_16
    obtain ⟨rfl, hw⟩ := hw
    refine hx_catch hE hT [⟨0, 10, 13, 57⟩] ⟨0, 10, 17, 32⟩ [] ht (List.forall_mem_cons.mpr ⟨(Or.inr ⟨by decide, "java/lang/IndexOutOfBoundsException", hts _ q1442, hE.2.2.2.2.1.N 79 rfl⟩), (fun _ hz => absurd hz List.not_mem_nil)⟩) rfl (by decide) (hts _ q1337) ((hE.2.2.2.2.1.C 21 rfl).use rfl) ?_
    refine lv_astore (lv' := [(4, .ref q5), (0, .ref a1), (1, .int x1), (2, .int x2), (3, va_rf x3)]) hx hb dX0_element_17 hl (by decide) (by cases x3 <;> exact rfl) (fun ls hl => ?_)
    refine lv_iconst (v := 2) hx hb dX0_element_19 (by decide) ?_
    exact hv_iret hE hI hc hs hw dX0_element_20
  refine lv_i2l (v := (Int32.toInt64 r3)) hx hb dX0_element_8 rfl ?_
  obtain ⟨a7, hz, hwa7⟩ := hw; have hla7 := hl; subst hz; have hw := hwa7; have hl := hla7
  refine hv_wlst hE hI hw dX0_element_9 (fun h8 H locs hw hI => ?_)
  refine lv_goto (tgt := 21) hx hb dX0_element_10 (by decide) ?_
  refine lv_iconst (v := 0) hx hb dX0_element_21 (by decide) ?_
  exact hv_iret hE hI hc hs hw dX0_element_22

/-- MatchmakerRulesLaw.append(LMatchmakerRules;I[J)I -/
abbrev rm_X0_append (mc ms : Nat) : Room := { frames := 8, cells := mc, slots := ms, locals := 174 }
def wp_X0_append (G : GG) (mc : Nat) (ms : Nat) (h : HH) (x0 : Option Nat) (x1 : Int32) (x2 : Option Nat) (Q : Int32 → HH → Prop) : Prop := w_nn x0 (fun a1 => (∃ mc2 ms2, 0 + mc2 ≤ mc ∧ 0 + ms2 ≤ ms ∧ w_is h a1 1 (wp_X1_append G mc2 ms2 h a1 x1 (fun r3 h4 => w_nn x2 (fun a7 => w_lst G h4 a7 (0 : Int32) (Int32.toInt64 r3) (fun h8 => Q (0 : Int32) h8))) (fun E q5 h6 => ((E = "java/lang/IllegalArgumentException" ∧ Q (1 : Int32) h6) ∨ (E = "java/lang/IllegalStateException" ∧ Q (2 : Int32) h6))))))
set_option maxHeartbeats 4000000 in
theorem snd_X0_append (l : Launch) (hl0 : l.stackTraces = false) (G : GG) (sz : Nat) (mc : Nat) (ms : Nat) (h : HH) (x0 : Option Nat) (x1 : Int32) (x2 : Option Nat) (Q : Int32 → HH → Prop) (hw : wp_X0_append G mc ms h x0 x1 x2 Q) : Met l yX0_append (wsW_ yX0_append cX0_append 4 (some FieldType.int) [(0, 9, 12, 13), (0, 9, 15, 89)]) (rm_X0_append mc ms) (hv_Pc G h sz [va_rf x0, .int x1, va_rf x2]) (hv_Qi G h sz Q) mc ms (hv_A h sz) := by
  refine va_MetW (cc := cX0_append) (maxL := 4) (ret := (some FieldType.int)) (hh := [(0, 9, 12, 13), (0, 9, 15, 89)]) (by decide) rfl ?_
  intro p e s m args below meth c s₁ B hml hv
  have ht : c.exceptionTable.toList = tableOf [(0, 9, 12, 13), (0, 9, 15, 89)] := vx_table (x := yX0_append) B (atoms_spec (ws := (wsW_ yX0_append cX0_append 4 (some FieldType.int) [(0, 9, 12, 13), (0, 9, 15, 89)])) B.pre _ List.mem_cons_self)
  obtain ⟨rfl, rfl, hE, hI⟩ := hv_openW B hml hv
  have hE : hv_E p s m ([va_rf x0, .int x1, va_rf x2] : List Value).toArray meth c cX0_append 4 (some FieldType.int) RX0 G h := hE
  obtain ⟨⟨hx, hb, hml, hown, hts⟩, hr, hlocks, hXX⟩ := id hE
  have hl := lv_entry ([va_rf x0, .int x1, va_rf x2] : List Value) (n := 4) (by cases x0 <;> cases x2 <;> exact Nat.le_of_ble_eq_true rfl)
  rw [lg_entry_eq]
  generalize (lg_sl ([va_rf x0, .int x1, va_rf x2] : List Value) ++ List.replicate (4 - (lg_sl ([va_rf x0, .int x1, va_rf x2] : List Value)).length) Slot.unset).toArray = ls at hl ⊢
  have hl : lv_has ls 4 [(0, va_rf x0), (1, .int x1), (2, va_rf x2)] := (by cases x0 <;> cases x2 <;> exact hl)
  have hc : 0 ≤ mc := Nat.zero_le _
  have hs : 0 ≤ ms := Nat.zero_le _
  unfold wp_X0_append at hw
  refine lv_aload_nq hx hb dX0_append_0 rfl (lv_at hl 2 rfl) ?_
  refine lv_iconst (v := 0) hx hb dX0_append_1 (by decide) ?_
  refine lv_aload_nq hx hb dX0_append_2 rfl (lv_at hl 0 rfl) ?_
  refine lv_iload_n hx hb dX0_append_3 rfl (lv_at hl 1 rfl) ?_
  obtain ⟨a1, hz, hwa1⟩ := hw; have hla1 := hl; subst hz; have hw := hwa1; have hl := hla1
  obtain ⟨mc2, ms2, hc, hs, hw⟩ := hw
  obtain ⟨⟨fs, hre⟩, hw⟩ := hw
  refine hx_rci hI (vx_runV (As := [.int x1]) (b := a1) (rest := [.int (0 : Int32), va_rf x2]) hE.1 (snd_X1_append l hl0 G _ mc2 ms2 h a1 x1 _ _ hw) (cwV 1 hts (lw_V q1893 q1894 q1895 q97 q1896) rfl rfl rfl (by decide +kernel) ⟨Nat.le_of_ble_eq_true rfl, Nat.le_of_ble_eq_true rfl⟩) (hv_preV hE hI (ci := 1) rfl hre) rfl rfl hl.1 rfl (lv_room (by cases x2 <;> exact Nat.le_of_ble_eq_true rfl)) dX0_append_4 ⟨hc, hs⟩) ?_ (fun r3 h4 H locs hw hI => ?_)
  · intro E q5 h6 H locs hw hI hT
    rcases hw with ⟨rfl, hw⟩ | hw
    · refine hx_catch hE hT [] ⟨0, 9, 12, 13⟩ [⟨0, 9, 15, 89⟩] ht (fun _ hz => absurd hz List.not_mem_nil) rfl (by decide) (hts _ q652) ((hE.2.2.2.2.1.C 17 rfl).use rfl) ?_
      refine lv_astore_n (lv' := [(3, .ref q5), (0, .ref a1), (1, .int x1), (2, va_rf x2)]) hx hb dX0_append_12 rfl hl (by decide) (by cases x2 <;> exact rfl) (fun ls hl => ?_)
      refine lv_iconst (v := 1) hx hb dX0_append_13 (by decide) ?_
      exact hv_iret hE hI hc hs hw dX0_append_14
    obtain ⟨rfl, hw⟩ := hw
    refine hx_catch hE hT [⟨0, 9, 12, 13⟩] ⟨0, 9, 15, 89⟩ [] ht (List.forall_mem_cons.mpr ⟨(Or.inr ⟨by decide, "java/lang/IllegalArgumentException", hts _ q652, hE.2.2.2.2.1.N 53 rfl⟩), (fun _ hz => absurd hz List.not_mem_nil)⟩) rfl (by decide) (hts _ q1774) ((hE.2.2.2.2.1.C 28 rfl).use rfl) ?_
    refine lv_astore_n (lv' := [(3, .ref q5), (0, .ref a1), (1, .int x1), (2, va_rf x2)]) hx hb dX0_append_15 rfl hl (by decide) (by cases x2 <;> exact rfl) (fun ls hl => ?_)
    refine lv_iconst (v := 2) hx hb dX0_append_16 (by decide) ?_
    exact hv_iret hE hI hc hs hw dX0_append_17
  refine lv_i2l (v := (Int32.toInt64 r3)) hx hb dX0_append_7 rfl ?_
  obtain ⟨a7, hz, hwa7⟩ := hw; have hla7 := hl; subst hz; have hw := hwa7; have hl := hla7
  refine hv_wlst hE hI hw dX0_append_8 (fun h8 H locs hw hI => ?_)
  refine lv_goto (tgt := 18) hx hb dX0_append_9 (by decide) ?_
  refine lv_iconst (v := 0) hx hb dX0_append_18 (by decide) ?_
  exact hv_iret hE hI hc hs hw dX0_append_19

/-- MatchmakerRulesLaw.read(LMatchmakerRules;[J)I -/
abbrev rm_X0_read (mc ms : Nat) : Room := { frames := 15, cells := mc, slots := ms, locals := 3197 }
def wp_X0_read (G : GG) (mc : Nat) (ms : Nat) (h : HH) (x0 : Option Nat) (x1 : Option Nat) (Q : Int32 → HH → Prop) : Prop := w_nn x0 (fun a1 => (∃ mc2 ms2, 0 + mc2 ≤ mc ∧ 0 + ms2 ≤ ms ∧ w_is h a1 1 (wp_X1_read G mc2 ms2 h a1 (fun r3 h4 => w_nn x1 (fun a7 => w_lst G h4 a7 (0 : Int32) (Int32.toInt64 r3) (fun h8 => Q (0 : Int32) h8))) (fun E q5 h6 => ((E = "java/lang/IllegalArgumentException" ∧ Q (1 : Int32) h6) ∨ (E = "java/lang/UnsupportedOperationException" ∧ Q (2 : Int32) h6))))))
set_option maxHeartbeats 4000000 in
theorem snd_X0_read (l : Launch) (hl0 : l.stackTraces = false) (G : GG) (sz : Nat) (mc : Nat) (ms : Nat) (h : HH) (x0 : Option Nat) (x1 : Option Nat) (Q : Int32 → HH → Prop) (hw : wp_X0_read G mc ms h x0 x1 Q) : Met l yX0_read (wsW_ yX0_read cX0_read 3 (some FieldType.int) [(0, 8, 11, 13), (0, 8, 14, 15)]) (rm_X0_read mc ms) (hv_Pc G h sz [va_rf x0, va_rf x1]) (hv_Qi G h sz Q) mc ms (hv_A h sz) := by
  refine va_MetW (cc := cX0_read) (maxL := 3) (ret := (some FieldType.int)) (hh := [(0, 8, 11, 13), (0, 8, 14, 15)]) (by decide) rfl ?_
  intro p e s m args below meth c s₁ B hml hv
  have ht : c.exceptionTable.toList = tableOf [(0, 8, 11, 13), (0, 8, 14, 15)] := vx_table (x := yX0_read) B (atoms_spec (ws := (wsW_ yX0_read cX0_read 3 (some FieldType.int) [(0, 8, 11, 13), (0, 8, 14, 15)])) B.pre _ List.mem_cons_self)
  obtain ⟨rfl, rfl, hE, hI⟩ := hv_openW B hml hv
  have hE : hv_E p s m ([va_rf x0, va_rf x1] : List Value).toArray meth c cX0_read 3 (some FieldType.int) RX0 G h := hE
  obtain ⟨⟨hx, hb, hml, hown, hts⟩, hr, hlocks, hXX⟩ := id hE
  have hl := lv_entry ([va_rf x0, va_rf x1] : List Value) (n := 3) (by cases x0 <;> cases x1 <;> exact Nat.le_of_ble_eq_true rfl)
  rw [lg_entry_eq]
  generalize (lg_sl ([va_rf x0, va_rf x1] : List Value) ++ List.replicate (3 - (lg_sl ([va_rf x0, va_rf x1] : List Value)).length) Slot.unset).toArray = ls at hl ⊢
  have hl : lv_has ls 3 [(0, va_rf x0), (1, va_rf x1)] := (by cases x0 <;> cases x1 <;> exact hl)
  have hc : 0 ≤ mc := Nat.zero_le _
  have hs : 0 ≤ ms := Nat.zero_le _
  unfold wp_X0_read at hw
  refine lv_aload_nq hx hb dX0_read_0 rfl (lv_at hl 1 rfl) ?_
  refine lv_iconst (v := 0) hx hb dX0_read_1 (by decide) ?_
  refine lv_aload_nq hx hb dX0_read_2 rfl (lv_at hl 0 rfl) ?_
  obtain ⟨a1, hz, hwa1⟩ := hw; have hla1 := hl; subst hz; have hw := hwa1; have hl := hla1
  obtain ⟨mc2, ms2, hc, hs, hw⟩ := hw
  obtain ⟨⟨fs, hre⟩, hw⟩ := hw
  refine hx_rci hI (vx_runVX (As := []) (b := a1) (rest := [.int (0 : Int32), va_rf x1]) hE.1 (snd_X1_read l hl0 G _ mc2 ms2 h a1 _ _ hw) (vx_cwVW 0 hts (lw_VW q1904 q1905 q1906 q97 q1907) rfl rfl rfl (by decide +kernel) ⟨Nat.le_of_ble_eq_true rfl, Nat.le_of_ble_eq_true rfl⟩) (hv_preV hE hI (ci := 1) rfl hre) rfl rfl hl.1 rfl (lv_room (by cases x1 <;> exact Nat.le_of_ble_eq_true rfl)) dX0_read_3 ⟨hc, hs⟩) ?_ (fun r3 h4 H locs hw hI => ?_)
  · intro E q5 h6 H locs hw hI hT
    rcases hw with ⟨rfl, hw⟩ | hw
    · refine hx_catch hE hT [] ⟨0, 8, 11, 13⟩ [⟨0, 8, 14, 15⟩] ht (fun _ hz => absurd hz List.not_mem_nil) rfl (by decide) (hts _ q652) ((hE.2.2.2.2.1.C 17 rfl).use rfl) ?_
      refine lv_astore_n (lv' := [(2, .ref q5), (0, .ref a1), (1, va_rf x1)]) hx hb dX0_read_11 rfl hl (by decide) (by cases x1 <;> exact rfl) (fun ls hl => ?_)
      refine lv_iconst (v := 1) hx hb dX0_read_12 (by decide) ?_
      exact hv_iret hE hI hc hs hw dX0_read_13
    obtain ⟨rfl, hw⟩ := hw
    refine hx_catch hE hT [⟨0, 8, 11, 13⟩] ⟨0, 8, 14, 15⟩ [] ht (List.forall_mem_cons.mpr ⟨(Or.inr ⟨by decide, "java/lang/IllegalArgumentException", hts _ q652, hE.2.2.2.2.1.N 69 rfl⟩), (fun _ hz => absurd hz List.not_mem_nil)⟩) rfl (by decide) (hts _ q653) ((hE.2.2.2.2.1.C 26 rfl).use rfl) ?_
    refine lv_astore_n (lv' := [(2, .ref q5), (0, .ref a1), (1, va_rf x1)]) hx hb dX0_read_14 rfl hl (by decide) (by cases x1 <;> exact rfl) (fun ls hl => ?_)
    refine lv_iconst (v := 2) hx hb dX0_read_15 (by decide) ?_
    exact hv_iret hE hI hc hs hw dX0_read_16
  refine lv_i2l (v := (Int32.toInt64 r3)) hx hb dX0_read_6 rfl ?_
  obtain ⟨a7, hz, hwa7⟩ := hw; have hla7 := hl; subst hz; have hw := hwa7; have hl := hla7
  refine hv_wlst hE hI hw dX0_read_7 (fun h8 H locs hw hI => ?_)
  refine lv_goto (tgt := 17) hx hb dX0_read_8 (by decide) ?_
  refine lv_iconst (v := 0) hx hb dX0_read_17 (by decide) ?_
  exact hv_iret hE hI hc hs hw dX0_read_18

/-- MatchmakerRulesLaw.errorPosition(LMatchmakerRules;[J)I -/
abbrev rm_X0_errorPosition (mc ms : Nat) : Room := { frames := 8, cells := mc, slots := ms, locals := 129 }
def wp_X0_errorPosition (G : GG) (mc : Nat) (ms : Nat) (h : HH) (x0 : Option Nat) (x1 : Option Nat) (Q : Int32 → HH → Prop) : Prop := w_nn x0 (fun a1 => (∃ mc2 ms2, 0 + mc2 ≤ mc ∧ 0 + ms2 ≤ ms ∧ w_is h a1 1 (wp_X1_errorPosition G mc2 ms2 h a1 (fun r3 h4 => w_nn x1 (fun a7 => w_lst G h4 a7 (0 : Int32) (Int32.toInt64 r3) (fun h8 => Q (0 : Int32) h8))) (fun E q5 h6 => (E = "java/util/NoSuchElementException" ∧ Q (1 : Int32) h6)))))
set_option maxHeartbeats 4000000 in
theorem snd_X0_errorPosition (l : Launch) (hl0 : l.stackTraces = false) (G : GG) (sz : Nat) (mc : Nat) (ms : Nat) (h : HH) (x0 : Option Nat) (x1 : Option Nat) (Q : Int32 → HH → Prop) (hw : wp_X0_errorPosition G mc ms h x0 x1 Q) : Met l yX0_errorPosition (wsW_ yX0_errorPosition cX0_errorPosition 3 (some FieldType.int) [(0, 8, 11, 32)]) (rm_X0_errorPosition mc ms) (hv_Pc G h sz [va_rf x0, va_rf x1]) (hv_Qi G h sz Q) mc ms (hv_A h sz) := by
  refine va_MetW (cc := cX0_errorPosition) (maxL := 3) (ret := (some FieldType.int)) (hh := [(0, 8, 11, 32)]) (by decide) rfl ?_
  intro p e s m args below meth c s₁ B hml hv
  have ht : c.exceptionTable.toList = tableOf [(0, 8, 11, 32)] := vx_table (x := yX0_errorPosition) B (atoms_spec (ws := (wsW_ yX0_errorPosition cX0_errorPosition 3 (some FieldType.int) [(0, 8, 11, 32)])) B.pre _ List.mem_cons_self)
  obtain ⟨rfl, rfl, hE, hI⟩ := hv_openW B hml hv
  have hE : hv_E p s m ([va_rf x0, va_rf x1] : List Value).toArray meth c cX0_errorPosition 3 (some FieldType.int) RX0 G h := hE
  obtain ⟨⟨hx, hb, hml, hown, hts⟩, hr, hlocks, hXX⟩ := id hE
  have hl := lv_entry ([va_rf x0, va_rf x1] : List Value) (n := 3) (by cases x0 <;> cases x1 <;> exact Nat.le_of_ble_eq_true rfl)
  rw [lg_entry_eq]
  generalize (lg_sl ([va_rf x0, va_rf x1] : List Value) ++ List.replicate (3 - (lg_sl ([va_rf x0, va_rf x1] : List Value)).length) Slot.unset).toArray = ls at hl ⊢
  have hl : lv_has ls 3 [(0, va_rf x0), (1, va_rf x1)] := (by cases x0 <;> cases x1 <;> exact hl)
  have hc : 0 ≤ mc := Nat.zero_le _
  have hs : 0 ≤ ms := Nat.zero_le _
  unfold wp_X0_errorPosition at hw
  refine lv_aload_nq hx hb dX0_errorPosition_0 rfl (lv_at hl 1 rfl) ?_
  refine lv_iconst (v := 0) hx hb dX0_errorPosition_1 (by decide) ?_
  refine lv_aload_nq hx hb dX0_errorPosition_2 rfl (lv_at hl 0 rfl) ?_
  obtain ⟨a1, hz, hwa1⟩ := hw; have hla1 := hl; subst hz; have hw := hwa1; have hl := hla1
  obtain ⟨mc2, ms2, hc, hs, hw⟩ := hw
  obtain ⟨⟨fs, hre⟩, hw⟩ := hw
  refine hx_rci hI (vx_runV (As := []) (b := a1) (rest := [.int (0 : Int32), va_rf x1]) hE.1 (snd_X1_errorPosition l hl0 G _ mc2 ms2 h a1 _ _ hw) (cwV 0 hts (lw_V q1937 q1938 q1939 q97 q1940) rfl rfl rfl (by decide +kernel) ⟨Nat.le_of_ble_eq_true rfl, Nat.le_of_ble_eq_true rfl⟩) (hv_preV hE hI (ci := 1) rfl hre) rfl rfl hl.1 rfl (lv_room (by cases x1 <;> exact Nat.le_of_ble_eq_true rfl)) dX0_errorPosition_3 ⟨hc, hs⟩) ?_ (fun r3 h4 H locs hw hI => ?_)
  · intro E q5 h6 H locs hw hI hT
    obtain ⟨rfl, hw⟩ := hw
    refine hx_catch hE hT [] ⟨0, 8, 11, 32⟩ [] ht (fun _ hz => absurd hz List.not_mem_nil) rfl (by decide) (hts _ q1337) ((hE.2.2.2.2.1.C 21 rfl).use rfl) ?_
    refine lv_astore_n (lv' := [(2, .ref q5), (0, .ref a1), (1, va_rf x1)]) hx hb dX0_errorPosition_11 rfl hl (by decide) (by cases x1 <;> exact rfl) (fun ls hl => ?_)
    refine lv_iconst (v := 1) hx hb dX0_errorPosition_12 (by decide) ?_
    exact hv_iret hE hI hc hs hw dX0_errorPosition_13
  refine lv_i2l (v := (Int32.toInt64 r3)) hx hb dX0_errorPosition_6 rfl ?_
  obtain ⟨a7, hz, hwa7⟩ := hw; have hla7 := hl; subst hz; have hw := hwa7; have hl := hla7
  refine hv_wlst hE hI hw dX0_errorPosition_7 (fun h8 H locs hw hI => ?_)
  refine lv_goto (tgt := 14) hx hb dX0_errorPosition_8 (by decide) ?_
  refine lv_iconst (v := 0) hx hb dX0_errorPosition_14 (by decide) ?_
  exact hv_iret hE hI hc hs hw dX0_errorPosition_15

/-- MatchmakerRulesLaw.refusedItem(LMatchmakerRules;[J)I -/
abbrev rm_X0_refusedItem (mc ms : Nat) : Room := { frames := 8, cells := mc, slots := ms, locals := 129 }
def wp_X0_refusedItem (G : GG) (mc : Nat) (ms : Nat) (h : HH) (x0 : Option Nat) (x1 : Option Nat) (Q : Int32 → HH → Prop) : Prop := w_nn x0 (fun a1 => (∃ mc2 ms2, 0 + mc2 ≤ mc ∧ 0 + ms2 ≤ ms ∧ w_is h a1 1 (wp_X1_refusedItem G mc2 ms2 h a1 (fun r3 h4 => w_nn x1 (fun a7 => w_lst G h4 a7 (0 : Int32) (Int32.toInt64 r3) (fun h8 => Q (0 : Int32) h8))) (fun E q5 h6 => (E = "java/util/NoSuchElementException" ∧ Q (1 : Int32) h6)))))
set_option maxHeartbeats 4000000 in
theorem snd_X0_refusedItem (l : Launch) (hl0 : l.stackTraces = false) (G : GG) (sz : Nat) (mc : Nat) (ms : Nat) (h : HH) (x0 : Option Nat) (x1 : Option Nat) (Q : Int32 → HH → Prop) (hw : wp_X0_refusedItem G mc ms h x0 x1 Q) : Met l yX0_refusedItem (wsW_ yX0_refusedItem cX0_refusedItem 3 (some FieldType.int) [(0, 8, 11, 32)]) (rm_X0_refusedItem mc ms) (hv_Pc G h sz [va_rf x0, va_rf x1]) (hv_Qi G h sz Q) mc ms (hv_A h sz) := by
  refine va_MetW (cc := cX0_refusedItem) (maxL := 3) (ret := (some FieldType.int)) (hh := [(0, 8, 11, 32)]) (by decide) rfl ?_
  intro p e s m args below meth c s₁ B hml hv
  have ht : c.exceptionTable.toList = tableOf [(0, 8, 11, 32)] := vx_table (x := yX0_refusedItem) B (atoms_spec (ws := (wsW_ yX0_refusedItem cX0_refusedItem 3 (some FieldType.int) [(0, 8, 11, 32)])) B.pre _ List.mem_cons_self)
  obtain ⟨rfl, rfl, hE, hI⟩ := hv_openW B hml hv
  have hE : hv_E p s m ([va_rf x0, va_rf x1] : List Value).toArray meth c cX0_refusedItem 3 (some FieldType.int) RX0 G h := hE
  obtain ⟨⟨hx, hb, hml, hown, hts⟩, hr, hlocks, hXX⟩ := id hE
  have hl := lv_entry ([va_rf x0, va_rf x1] : List Value) (n := 3) (by cases x0 <;> cases x1 <;> exact Nat.le_of_ble_eq_true rfl)
  rw [lg_entry_eq]
  generalize (lg_sl ([va_rf x0, va_rf x1] : List Value) ++ List.replicate (3 - (lg_sl ([va_rf x0, va_rf x1] : List Value)).length) Slot.unset).toArray = ls at hl ⊢
  have hl : lv_has ls 3 [(0, va_rf x0), (1, va_rf x1)] := (by cases x0 <;> cases x1 <;> exact hl)
  have hc : 0 ≤ mc := Nat.zero_le _
  have hs : 0 ≤ ms := Nat.zero_le _
  unfold wp_X0_refusedItem at hw
  refine lv_aload_nq hx hb dX0_refusedItem_0 rfl (lv_at hl 1 rfl) ?_
  refine lv_iconst (v := 0) hx hb dX0_refusedItem_1 (by decide) ?_
  refine lv_aload_nq hx hb dX0_refusedItem_2 rfl (lv_at hl 0 rfl) ?_
  obtain ⟨a1, hz, hwa1⟩ := hw; have hla1 := hl; subst hz; have hw := hwa1; have hl := hla1
  obtain ⟨mc2, ms2, hc, hs, hw⟩ := hw
  obtain ⟨⟨fs, hre⟩, hw⟩ := hw
  refine hx_rci hI (vx_runV (As := []) (b := a1) (rest := [.int (0 : Int32), va_rf x1]) hE.1 (snd_X1_refusedItem l hl0 G _ mc2 ms2 h a1 _ _ hw) (cwV 0 hts (lw_V q1944 q1945 q1946 q97 q1947) rfl rfl rfl (by decide +kernel) ⟨Nat.le_of_ble_eq_true rfl, Nat.le_of_ble_eq_true rfl⟩) (hv_preV hE hI (ci := 1) rfl hre) rfl rfl hl.1 rfl (lv_room (by cases x1 <;> exact Nat.le_of_ble_eq_true rfl)) dX0_refusedItem_3 ⟨hc, hs⟩) ?_ (fun r3 h4 H locs hw hI => ?_)
  · intro E q5 h6 H locs hw hI hT
    obtain ⟨rfl, hw⟩ := hw
    refine hx_catch hE hT [] ⟨0, 8, 11, 32⟩ [] ht (fun _ hz => absurd hz List.not_mem_nil) rfl (by decide) (hts _ q1337) ((hE.2.2.2.2.1.C 21 rfl).use rfl) ?_
    refine lv_astore_n (lv' := [(2, .ref q5), (0, .ref a1), (1, va_rf x1)]) hx hb dX0_refusedItem_11 rfl hl (by decide) (by cases x1 <;> exact rfl) (fun ls hl => ?_)
    refine lv_iconst (v := 1) hx hb dX0_refusedItem_12 (by decide) ?_
    exact hv_iret hE hI hc hs hw dX0_refusedItem_13
  refine lv_i2l (v := (Int32.toInt64 r3)) hx hb dX0_refusedItem_6 rfl ?_
  obtain ⟨a7, hz, hwa7⟩ := hw; have hla7 := hl; subst hz; have hw := hwa7; have hl := hla7
  refine hv_wlst hE hI hw dX0_refusedItem_7 (fun h8 H locs hw hI => ?_)
  refine lv_goto (tgt := 14) hx hb dX0_refusedItem_8 (by decide) ?_
  refine lv_iconst (v := 0) hx hb dX0_refusedItem_14 (by decide) ?_
  exact hv_iret hE hI hc hs hw dX0_refusedItem_15

/-- MatchmakerRulesLaw.undo(LMatchmakerRules;[J)I -/
abbrev rm_X0_undo (mc ms : Nat) : Room := { frames := 8, cells := mc, slots := ms, locals := 129 }
def wp_X0_undo (G : GG) (mc : Nat) (ms : Nat) (h : HH) (x0 : Option Nat) (x1 : Option Nat) (Q : Int32 → HH → Prop) : Prop := w_nn x0 (fun a1 => (∃ mc2 ms2, 0 + mc2 ≤ mc ∧ 0 + ms2 ≤ ms ∧ w_is h a1 1 (wp_X1_undo G mc2 ms2 h a1 (fun r3 h4 => w_nn x1 (fun a7 => w_lst G h4 a7 (0 : Int32) (Int32.toInt64 r3) (fun h8 => Q (0 : Int32) h8))) (fun E q5 h6 => (E = "java/lang/IllegalStateException" ∧ Q (1 : Int32) h6)))))
set_option maxHeartbeats 4000000 in
theorem snd_X0_undo (l : Launch) (hl0 : l.stackTraces = false) (G : GG) (sz : Nat) (mc : Nat) (ms : Nat) (h : HH) (x0 : Option Nat) (x1 : Option Nat) (Q : Int32 → HH → Prop) (hw : wp_X0_undo G mc ms h x0 x1 Q) : Met l yX0_undo (wsW_ yX0_undo cX0_undo 3 (some FieldType.int) [(0, 8, 11, 89)]) (rm_X0_undo mc ms) (hv_Pc G h sz [va_rf x0, va_rf x1]) (hv_Qi G h sz Q) mc ms (hv_A h sz) := by
  refine va_MetW (cc := cX0_undo) (maxL := 3) (ret := (some FieldType.int)) (hh := [(0, 8, 11, 89)]) (by decide) rfl ?_
  intro p e s m args below meth c s₁ B hml hv
  have ht : c.exceptionTable.toList = tableOf [(0, 8, 11, 89)] := vx_table (x := yX0_undo) B (atoms_spec (ws := (wsW_ yX0_undo cX0_undo 3 (some FieldType.int) [(0, 8, 11, 89)])) B.pre _ List.mem_cons_self)
  obtain ⟨rfl, rfl, hE, hI⟩ := hv_openW B hml hv
  have hE : hv_E p s m ([va_rf x0, va_rf x1] : List Value).toArray meth c cX0_undo 3 (some FieldType.int) RX0 G h := hE
  obtain ⟨⟨hx, hb, hml, hown, hts⟩, hr, hlocks, hXX⟩ := id hE
  have hl := lv_entry ([va_rf x0, va_rf x1] : List Value) (n := 3) (by cases x0 <;> cases x1 <;> exact Nat.le_of_ble_eq_true rfl)
  rw [lg_entry_eq]
  generalize (lg_sl ([va_rf x0, va_rf x1] : List Value) ++ List.replicate (3 - (lg_sl ([va_rf x0, va_rf x1] : List Value)).length) Slot.unset).toArray = ls at hl ⊢
  have hl : lv_has ls 3 [(0, va_rf x0), (1, va_rf x1)] := (by cases x0 <;> cases x1 <;> exact hl)
  have hc : 0 ≤ mc := Nat.zero_le _
  have hs : 0 ≤ ms := Nat.zero_le _
  unfold wp_X0_undo at hw
  refine lv_aload_nq hx hb dX0_undo_0 rfl (lv_at hl 1 rfl) ?_
  refine lv_iconst (v := 0) hx hb dX0_undo_1 (by decide) ?_
  refine lv_aload_nq hx hb dX0_undo_2 rfl (lv_at hl 0 rfl) ?_
  obtain ⟨a1, hz, hwa1⟩ := hw; have hla1 := hl; subst hz; have hw := hwa1; have hl := hla1
  obtain ⟨mc2, ms2, hc, hs, hw⟩ := hw
  obtain ⟨⟨fs, hre⟩, hw⟩ := hw
  refine hx_rci hI (vx_runV (As := []) (b := a1) (rest := [.int (0 : Int32), va_rf x1]) hE.1 (snd_X1_undo l hl0 G _ mc2 ms2 h a1 _ _ hw) (cwV 0 hts (lw_V q1951 q1952 q1953 q97 q1954) rfl rfl rfl (by decide +kernel) ⟨Nat.le_of_ble_eq_true rfl, Nat.le_of_ble_eq_true rfl⟩) (hv_preV hE hI (ci := 1) rfl hre) rfl rfl hl.1 rfl (lv_room (by cases x1 <;> exact Nat.le_of_ble_eq_true rfl)) dX0_undo_3 ⟨hc, hs⟩) ?_ (fun r3 h4 H locs hw hI => ?_)
  · intro E q5 h6 H locs hw hI hT
    obtain ⟨rfl, hw⟩ := hw
    refine hx_catch hE hT [] ⟨0, 8, 11, 89⟩ [] ht (fun _ hz => absurd hz List.not_mem_nil) rfl (by decide) (hts _ q1774) ((hE.2.2.2.2.1.C 28 rfl).use rfl) ?_
    refine lv_astore_n (lv' := [(2, .ref q5), (0, .ref a1), (1, va_rf x1)]) hx hb dX0_undo_11 rfl hl (by decide) (by cases x1 <;> exact rfl) (fun ls hl => ?_)
    refine lv_iconst (v := 1) hx hb dX0_undo_12 (by decide) ?_
    exact hv_iret hE hI hc hs hw dX0_undo_13
  refine lv_i2l (v := (Int32.toInt64 r3)) hx hb dX0_undo_6 rfl ?_
  obtain ⟨a7, hz, hwa7⟩ := hw; have hla7 := hl; subst hz; have hw := hwa7; have hl := hla7
  refine hv_wlst hE hI hw dX0_undo_7 (fun h8 H locs hw hI => ?_)
  refine lv_goto (tgt := 14) hx hb dX0_undo_8 (by decide) ?_
  refine lv_iconst (v := 0) hx hb dX0_undo_14 (by decide) ?_
  exact hv_iret hE hI hc hs hw dX0_undo_15

/-- MatchmakerRulesLaw.restore(LMatchmakerRules;[J)I -/
abbrev rm_X0_restore (mc ms : Nat) : Room := { frames := 8, cells := mc, slots := ms, locals := 129 }
def wp_X0_restore (G : GG) (mc : Nat) (ms : Nat) (h : HH) (x0 : Option Nat) (x1 : Option Nat) (Q : Int32 → HH → Prop) : Prop := w_nn x0 (fun a1 => (∃ mc2 ms2, 0 + mc2 ≤ mc ∧ 0 + ms2 ≤ ms ∧ w_is h a1 1 (wp_X1_restore G mc2 ms2 h a1 (fun r3 h4 => w_nn x1 (fun a7 => w_lst G h4 a7 (0 : Int32) (Int32.toInt64 r3) (fun h8 => Q (0 : Int32) h8))) (fun E q5 h6 => (E = "java/lang/IllegalStateException" ∧ Q (1 : Int32) h6)))))
set_option maxHeartbeats 4000000 in
theorem snd_X0_restore (l : Launch) (hl0 : l.stackTraces = false) (G : GG) (sz : Nat) (mc : Nat) (ms : Nat) (h : HH) (x0 : Option Nat) (x1 : Option Nat) (Q : Int32 → HH → Prop) (hw : wp_X0_restore G mc ms h x0 x1 Q) : Met l yX0_restore (wsW_ yX0_restore cX0_restore 3 (some FieldType.int) [(0, 8, 11, 89)]) (rm_X0_restore mc ms) (hv_Pc G h sz [va_rf x0, va_rf x1]) (hv_Qi G h sz Q) mc ms (hv_A h sz) := by
  refine va_MetW (cc := cX0_restore) (maxL := 3) (ret := (some FieldType.int)) (hh := [(0, 8, 11, 89)]) (by decide) rfl ?_
  intro p e s m args below meth c s₁ B hml hv
  have ht : c.exceptionTable.toList = tableOf [(0, 8, 11, 89)] := vx_table (x := yX0_restore) B (atoms_spec (ws := (wsW_ yX0_restore cX0_restore 3 (some FieldType.int) [(0, 8, 11, 89)])) B.pre _ List.mem_cons_self)
  obtain ⟨rfl, rfl, hE, hI⟩ := hv_openW B hml hv
  have hE : hv_E p s m ([va_rf x0, va_rf x1] : List Value).toArray meth c cX0_restore 3 (some FieldType.int) RX0 G h := hE
  obtain ⟨⟨hx, hb, hml, hown, hts⟩, hr, hlocks, hXX⟩ := id hE
  have hl := lv_entry ([va_rf x0, va_rf x1] : List Value) (n := 3) (by cases x0 <;> cases x1 <;> exact Nat.le_of_ble_eq_true rfl)
  rw [lg_entry_eq]
  generalize (lg_sl ([va_rf x0, va_rf x1] : List Value) ++ List.replicate (3 - (lg_sl ([va_rf x0, va_rf x1] : List Value)).length) Slot.unset).toArray = ls at hl ⊢
  have hl : lv_has ls 3 [(0, va_rf x0), (1, va_rf x1)] := (by cases x0 <;> cases x1 <;> exact hl)
  have hc : 0 ≤ mc := Nat.zero_le _
  have hs : 0 ≤ ms := Nat.zero_le _
  unfold wp_X0_restore at hw
  refine lv_aload_nq hx hb dX0_restore_0 rfl (lv_at hl 1 rfl) ?_
  refine lv_iconst (v := 0) hx hb dX0_restore_1 (by decide) ?_
  refine lv_aload_nq hx hb dX0_restore_2 rfl (lv_at hl 0 rfl) ?_
  obtain ⟨a1, hz, hwa1⟩ := hw; have hla1 := hl; subst hz; have hw := hwa1; have hl := hla1
  obtain ⟨mc2, ms2, hc, hs, hw⟩ := hw
  obtain ⟨⟨fs, hre⟩, hw⟩ := hw
  refine hx_rci hI (vx_runV (As := []) (b := a1) (rest := [.int (0 : Int32), va_rf x1]) hE.1 (snd_X1_restore l hl0 G _ mc2 ms2 h a1 _ _ hw) (cwV 0 hts (lw_V q1973 q1974 q1975 q97 q1976) rfl rfl rfl (by decide +kernel) ⟨Nat.le_of_ble_eq_true rfl, Nat.le_of_ble_eq_true rfl⟩) (hv_preV hE hI (ci := 1) rfl hre) rfl rfl hl.1 rfl (lv_room (by cases x1 <;> exact Nat.le_of_ble_eq_true rfl)) dX0_restore_3 ⟨hc, hs⟩) ?_ (fun r3 h4 H locs hw hI => ?_)
  · intro E q5 h6 H locs hw hI hT
    obtain ⟨rfl, hw⟩ := hw
    refine hx_catch hE hT [] ⟨0, 8, 11, 89⟩ [] ht (fun _ hz => absurd hz List.not_mem_nil) rfl (by decide) (hts _ q1774) ((hE.2.2.2.2.1.C 28 rfl).use rfl) ?_
    refine lv_astore_n (lv' := [(2, .ref q5), (0, .ref a1), (1, va_rf x1)]) hx hb dX0_restore_11 rfl hl (by decide) (by cases x1 <;> exact rfl) (fun ls hl => ?_)
    refine lv_iconst (v := 1) hx hb dX0_restore_12 (by decide) ?_
    exact hv_iret hE hI hc hs hw dX0_restore_13
  refine lv_i2l (v := (Int32.toInt64 r3)) hx hb dX0_restore_6 rfl ?_
  obtain ⟨a7, hz, hwa7⟩ := hw; have hla7 := hl; subst hz; have hw := hwa7; have hl := hla7
  refine hv_wlst hE hI hw dX0_restore_7 (fun h8 H locs hw hI => ?_)
  refine lv_goto (tgt := 14) hx hb dX0_restore_8 (by decide) ?_
  refine lv_iconst (v := 0) hx hb dX0_restore_14 (by decide) ?_
  exact hv_iret hE hI hc hs hw dX0_restore_15

/-- MatchmakerRulesModel.<init>()V -/
abbrev rm_X4_init (mc ms : Nat) : Room := { frames := 1, cells := mc, slots := ms, locals := 32 }
def wp_X4_init (G : GG) (mc : Nat) (ms : Nat) (h : HH) (a0 : Nat) (Q : HH → Prop) : Prop := (0 + 1 ≤ mc ∧ 0 + 13675 ≤ ms ∧ w_new h (.inl (G.2.1 0, 13675, .inl (fun _ => 0))) (fun a1 h2 => w_put h2 a0 0 1 (.ref a1) (fun h3 => ((0 + 1) + 1 ≤ mc ∧ (0 + 13675) + 13675 ≤ ms ∧ w_new h3 (.inl (G.2.1 0, 13675, .inl (fun _ => 0))) (fun a4 h5 => w_put h5 a0 0 2 (.ref a4) (fun h6 => (((0 + 1) + 1) + 1 ≤ mc ∧ ((0 + 13675) + 13675) + 13675 ≤ ms ∧ w_new h6 (.inl (G.2.1 0, 13675, .inl (fun _ => 0))) (fun a7 h8 => w_put h8 a0 0 3 (.ref a7) (fun h9 => ((((0 + 1) + 1) + 1) + 1 ≤ mc ∧ (((0 + 13675) + 13675) + 13675) + 13675 ≤ ms ∧ w_new h9 (.inl (G.2.1 0, 13675, .inl (fun _ => 0))) (fun a10 h11 => w_put h11 a0 0 4 (.ref a10) (fun h12 => (((((0 + 1) + 1) + 1) + 1) + 1 ≤ mc ∧ ((((0 + 13675) + 13675) + 13675) + 13675) + 109400 ≤ ms ∧ w_new h12 (.inl (G.2.1 0, 109400, .inl (fun _ => 0))) (fun a13 h14 => w_put h14 a0 0 5 (.ref a13) (fun h15 => ((((((0 + 1) + 1) + 1) + 1) + 1) + 1 ≤ mc ∧ (((((0 + 13675) + 13675) + 13675) + 13675) + 109400) + 60 ≤ ms ∧ w_new h15 (.inl (G.2.1 0, 60, .inl (fun _ => 0))) (fun a16 h17 => w_put h17 a0 0 8 (.ref a16) (fun h18 => (((((((0 + 1) + 1) + 1) + 1) + 1) + 1) + 1 ≤ mc ∧ ((((((0 + 13675) + 13675) + 13675) + 13675) + 109400) + 60) + 240 ≤ ms ∧ w_new h18 (.inl (G.2.1 0, 240, .inl (fun _ => 0))) (fun a19 h20 => w_put h20 a0 0 9 (.ref a19) (fun h21 => ((((((((0 + 1) + 1) + 1) + 1) + 1) + 1) + 1) + 1 ≤ mc ∧ (((((((0 + 13675) + 13675) + 13675) + 13675) + 109400) + 60) + 240) + 60000 ≤ ms ∧ w_new h21 (.inl (G.2.1 0, 60000, .inl (fun _ => 0))) (fun a22 h23 => w_put h23 a0 0 10 (.ref a22) (fun h24 => (((((((((0 + 1) + 1) + 1) + 1) + 1) + 1) + 1) + 1) + 1 ≤ mc ∧ ((((((((0 + 13675) + 13675) + 13675) + 13675) + 109400) + 60) + 240) + 60000) + 3 ≤ ms ∧ w_new h24 (.inl (G.2.1 0, 3, .inl (fun _ => 0))) (fun a25 h26 => w_put h26 a0 0 11 (.ref a25) (fun h27 => ((((((((((0 + 1) + 1) + 1) + 1) + 1) + 1) + 1) + 1) + 1) + 1 ≤ mc ∧ (((((((((0 + 13675) + 13675) + 13675) + 13675) + 109400) + 60) + 240) + 60000) + 3) + 11 ≤ ms ∧ w_new h27 (.inl (G.2.1 0, 11, .inl (fun _ => 0))) (fun a28 h29 => w_put h29 a0 0 12 (.ref a28) (fun h30 => (((((((((((0 + 1) + 1) + 1) + 1) + 1) + 1) + 1) + 1) + 1) + 1) + 1 ≤ mc ∧ ((((((((((0 + 13675) + 13675) + 13675) + 13675) + 109400) + 60) + 240) + 60000) + 3) + 11) + 3360 ≤ ms ∧ w_new h30 (.inl (G.2.1 3, 3360, .inl (fun _ => 0))) (fun a31 h32 => w_put h32 a0 0 13 (.ref a31) (fun h33 => ((((((((((((0 + 1) + 1) + 1) + 1) + 1) + 1) + 1) + 1) + 1) + 1) + 1) + 1 ≤ mc ∧ (((((((((((0 + 13675) + 13675) + 13675) + 13675) + 109400) + 60) + 240) + 60000) + 3) + 11) + 3360) + 20 ≤ ms ∧ w_new h33 (.inl (G.2.1 3, 20, .inl (fun _ => 0))) (fun a34 h35 => w_put h35 a0 0 14 (.ref a34) (fun h36 => (((((((((((((0 + 1) + 1) + 1) + 1) + 1) + 1) + 1) + 1) + 1) + 1) + 1) + 1) + 1 ≤ mc ∧ ((((((((((((0 + 13675) + 13675) + 13675) + 13675) + 109400) + 60) + 240) + 60000) + 3) + 11) + 3360) + 20) + 3360 ≤ ms ∧ w_new h36 (.inl (G.2.1 0, 3360, .inl (fun _ => 0))) (fun a37 h38 => w_put h38 a0 0 15 (.ref a37) (fun h39 => ((((((((((((((0 + 1) + 1) + 1) + 1) + 1) + 1) + 1) + 1) + 1) + 1) + 1) + 1) + 1) + 1 ≤ mc ∧ (((((((((((((0 + 13675) + 13675) + 13675) + 13675) + 109400) + 60) + 240) + 60000) + 3) + 11) + 3360) + 20) + 3360) + 3360 ≤ ms ∧ w_new h39 (.inl (G.2.1 0, 3360, .inl (fun _ => 0))) (fun a40 h41 => w_put h41 a0 0 16 (.ref a40) (fun h42 => (((((((((((((((0 + 1) + 1) + 1) + 1) + 1) + 1) + 1) + 1) + 1) + 1) + 1) + 1) + 1) + 1) + 1 ≤ mc ∧ ((((((((((((((0 + 13675) + 13675) + 13675) + 13675) + 109400) + 60) + 240) + 60000) + 3) + 11) + 3360) + 20) + 3360) + 3360) + 3360 ≤ ms ∧ w_new h42 (.inl (G.2.1 0, 3360, .inl (fun _ => 0))) (fun a43 h44 => w_put h44 a0 0 17 (.ref a43) (fun h45 => ((((((((((((((((0 + 1) + 1) + 1) + 1) + 1) + 1) + 1) + 1) + 1) + 1) + 1) + 1) + 1) + 1) + 1) + 1 ≤ mc ∧ (((((((((((((((0 + 13675) + 13675) + 13675) + 13675) + 109400) + 60) + 240) + 60000) + 3) + 11) + 3360) + 20) + 3360) + 3360) + 3360) + 20 ≤ ms ∧ w_new h45 (.inl (G.2.1 0, 20, .inl (fun _ => 0))) (fun a46 h47 => w_put h47 a0 0 18 (.ref a46) (fun h48 => (((((((((((((((((0 + 1) + 1) + 1) + 1) + 1) + 1) + 1) + 1) + 1) + 1) + 1) + 1) + 1) + 1) + 1) + 1) + 1 ≤ mc ∧ ((((((((((((((((0 + 13675) + 13675) + 13675) + 13675) + 109400) + 60) + 240) + 60000) + 3) + 11) + 3360) + 20) + 3360) + 3360) + 3360) + 20) + 40 ≤ ms ∧ w_new h48 (.inl (G.2.1 0, 40, .inl (fun _ => 0))) (fun a49 h50 => w_put h50 a0 0 19 (.ref a49) (fun h51 => ((((((((((((((((((0 + 1) + 1) + 1) + 1) + 1) + 1) + 1) + 1) + 1) + 1) + 1) + 1) + 1) + 1) + 1) + 1) + 1) + 1 ≤ mc ∧ (((((((((((((((((0 + 13675) + 13675) + 13675) + 13675) + 109400) + 60) + 240) + 60000) + 3) + 11) + 3360) + 20) + 3360) + 3360) + 3360) + 20) + 40) + 2 ≤ ms ∧ w_new h51 (.inl (G.2.1 0, 2, .inl (fun _ => 0))) (fun a52 h53 => w_put h53 a0 0 20 (.ref a52) (fun h54 => (((((((((((((((((((0 + 1) + 1) + 1) + 1) + 1) + 1) + 1) + 1) + 1) + 1) + 1) + 1) + 1) + 1) + 1) + 1) + 1) + 1) + 1 ≤ mc ∧ ((((((((((((((((((0 + 13675) + 13675) + 13675) + 13675) + 109400) + 60) + 240) + 60000) + 3) + 11) + 3360) + 20) + 3360) + 3360) + 3360) + 20) + 40) + 2) + 2 ≤ ms ∧ w_new h54 (.inl (G.2.1 0, 2, .inl (fun _ => 0))) (fun a55 h56 => w_put h56 a0 0 21 (.ref a55) (fun h57 => ((((((((((((((((((((0 + 1) + 1) + 1) + 1) + 1) + 1) + 1) + 1) + 1) + 1) + 1) + 1) + 1) + 1) + 1) + 1) + 1) + 1) + 1) + 1 ≤ mc ∧ (((((((((((((((((((0 + 13675) + 13675) + 13675) + 13675) + 109400) + 60) + 240) + 60000) + 3) + 11) + 3360) + 20) + 3360) + 3360) + 3360) + 20) + 40) + 2) + 2) + 40 ≤ ms ∧ w_new h57 (.inl (G.2.1 2, 40, .inr (.inr (.inl (fun _ => 0))))) (fun a58 h59 => w_put h59 a0 0 22 (.ref a58) (fun h60 => w_put h60 a0 0 25 (.int (-1 : Int32)) (fun h61 => w_put h61 a0 0 26 (.int (-1 : Int32)) (fun h62 => (((((((((((((((((((((0 + 1) + 1) + 1) + 1) + 1) + 1) + 1) + 1) + 1) + 1) + 1) + 1) + 1) + 1) + 1) + 1) + 1) + 1) + 1) + 1) + 1 ≤ mc ∧ ((((((((((((((((((((0 + 13675) + 13675) + 13675) + 13675) + 109400) + 60) + 240) + 60000) + 3) + 11) + 3360) + 20) + 3360) + 3360) + 3360) + 20) + 40) + 2) + 2) + 40) + 3 ≤ ms ∧ w_new h62 (.inl (G.2.1 3, 3, .inl (fun _ => 0))) (fun a63 h64 => w_put h64 a0 0 36 (.ref a63) (fun h65 => Q h65)))))))))))))))))))))))))))))))))))))))))))))))))))))))))))))))))
set_option maxHeartbeats 4000000 in
theorem snd_X4_init (l : Launch) (G : GG) (sz : Nat) (mc : Nat) (ms : Nat) (h : HH) (a0 : Nat) (Q : HH → Prop) (hw : wp_X4_init G mc ms h a0 Q) : Met l yX4_init (ws_ yX4_init cX4_init 1 (none : Option FieldType)) (rm_X4_init mc ms) (hv_Pc G h sz [.ref a0]) (hv_Qv G h sz Q) mc ms (hv_A h sz) := by
  refine Met.ofW (cc := cX4_init) (maxL := 1) (ret := (none : Option FieldType)) (by decide) rfl ?_
  intro p e s m args below meth c s₁ B hml hv
  have hin2 : meth.name = "<init>" := (name_of_methodNamed B.named B.method).1
  obtain ⟨rfl, rfl, hE, hI⟩ := hv_open B hml hv
  have hE : hv_E p s m ([.ref a0] : List Value).toArray meth c cX4_init 1 (none : Option FieldType) RX4 G h := hE
  obtain ⟨⟨hx, hb, hml, hown, hts⟩, hr, hlocks, hXX⟩ := id hE
  have hl := lv_entry ([.ref a0] : List Value) (n := 1) (Nat.le_of_ble_eq_true rfl)
  rw [lg_entry_eq]
  generalize (lg_sl ([.ref a0] : List Value) ++ List.replicate (1 - (lg_sl ([.ref a0] : List Value)).length) Slot.unset).toArray = ls at hl ⊢
  have hl : lv_has ls 1 [(0, .ref a0)] := hl
  have hc : 0 ≤ mc := Nat.zero_le _
  have hs : 0 ≤ ms := Nat.zero_le _
  unfold wp_X4_init at hw
  refine lv_aload_n hx hb dX4_init_0 rfl (lv_at hl 0 rfl) ?_
  refine hv_objI (rest := []) hE (hts _ q1982) (hts _ q146) (hts _ q147) hl.1 dX4_init_1 (Nat.le_of_ble_eq_true rfl) (Nat.le_of_ble_eq_true rfl) ?_
  refine lv_aload_n hx hb dX4_init_4 rfl (lv_at hl 0 rfl) ?_
  refine lv_sipush (v := 13675) hx hb dX4_init_5 (by decide) ?_
  obtain ⟨hc, hs, hw⟩ := hw
  refine hv_wnewa_int (N' := 13675) hE hI (hts _ q188) (by decide +kernel) (by decide +kernel) (by decide) hw hc hs dX4_init_8 (fun a1 h2 H hw hI => ?_)
  refine hv_wputF (v := .ref a1) tyX4 hE hI in_X4 tyX4_ok nmX4 (ci := 0) rfl 1 (by decide) (hts _ q1986) (fun _ hx => hx) rfl hin2 rfl (ty := (.array .int)) rfl rfl rfl hw dX4_init_10 (fun h3 H locs hw hI => ?_)
  refine lv_aload_n hx hb dX4_init_13 rfl (lv_at hl 0 rfl) ?_
  refine lv_sipush (v := 13675) hx hb dX4_init_14 (by decide) ?_
  obtain ⟨hc, hs, hw⟩ := hw
  refine hv_wnewa_int (N' := 13675) hE hI (hts _ q188) (by decide +kernel) (by decide +kernel) (by decide) hw hc hs dX4_init_17 (fun a4 h5 H hw hI => ?_)
  refine hv_wputF (v := .ref a4) tyX4 hE hI in_X4 tyX4_ok nmX4 (ci := 0) rfl 2 (by decide) (hts _ q1987) (fun _ hx => hx) rfl hin2 rfl (ty := (.array .int)) rfl rfl rfl hw dX4_init_19 (fun h6 H locs hw hI => ?_)
  refine lv_aload_n hx hb dX4_init_22 rfl (lv_at hl 0 rfl) ?_
  refine lv_sipush (v := 13675) hx hb dX4_init_23 (by decide) ?_
  obtain ⟨hc, hs, hw⟩ := hw
  refine hv_wnewa_int (N' := 13675) hE hI (hts _ q188) (by decide +kernel) (by decide +kernel) (by decide) hw hc hs dX4_init_26 (fun a7 h8 H hw hI => ?_)
  refine hv_wputF (v := .ref a7) tyX4 hE hI in_X4 tyX4_ok nmX4 (ci := 0) rfl 3 (by decide) (hts _ q1988) (fun _ hx => hx) rfl hin2 rfl (ty := (.array .int)) rfl rfl rfl hw dX4_init_28 (fun h9 H locs hw hI => ?_)
  refine lv_aload_n hx hb dX4_init_31 rfl (lv_at hl 0 rfl) ?_
  refine lv_sipush (v := 13675) hx hb dX4_init_32 (by decide) ?_
  obtain ⟨hc, hs, hw⟩ := hw
  refine hv_wnewa_int (N' := 13675) hE hI (hts _ q188) (by decide +kernel) (by decide +kernel) (by decide) hw hc hs dX4_init_35 (fun a10 h11 H hw hI => ?_)
  refine hv_wputF (v := .ref a10) tyX4 hE hI in_X4 tyX4_ok nmX4 (ci := 0) rfl 4 (by decide) (hts _ q1989) (fun _ hx => hx) rfl hin2 rfl (ty := (.array .int)) rfl rfl rfl hw dX4_init_37 (fun h12 H locs hw hI => ?_)
  refine lv_aload_n hx hb dX4_init_40 rfl (lv_at hl 0 rfl) ?_
  refine lv_ldc (v := 109400) hx hb hown (hts _ q1983) dX4_init_41 ?_
  obtain ⟨hc, hs, hw⟩ := hw
  refine hv_wnewa_int (N' := 109400) hE hI (hts _ q188) (by decide +kernel) (by decide +kernel) (by decide) hw hc hs dX4_init_43 (fun a13 h14 H hw hI => ?_)
  refine hv_wputF (v := .ref a13) tyX4 hE hI in_X4 tyX4_ok nmX4 (ci := 0) rfl 5 (by decide) (hts _ q1990) (fun _ hx => hx) rfl hin2 rfl (ty := (.array .int)) rfl rfl rfl hw dX4_init_45 (fun h15 H locs hw hI => ?_)
  refine lv_aload_n hx hb dX4_init_48 rfl (lv_at hl 0 rfl) ?_
  refine lv_bipush (v := 60) hx hb dX4_init_49 (by decide) ?_
  obtain ⟨hc, hs, hw⟩ := hw
  refine hv_wnewa_int (N' := 60) hE hI (hts _ q188) (by decide +kernel) (by decide +kernel) (by decide) hw hc hs dX4_init_51 (fun a16 h17 H hw hI => ?_)
  refine hv_wputF (v := .ref a16) tyX4 hE hI in_X4 tyX4_ok nmX4 (ci := 0) rfl 8 (by decide) (hts _ q1993) (fun _ hx => hx) rfl hin2 rfl (ty := (.array .int)) rfl rfl rfl hw dX4_init_53 (fun h18 H locs hw hI => ?_)
  refine lv_aload_n hx hb dX4_init_56 rfl (lv_at hl 0 rfl) ?_
  refine lv_sipush (v := 240) hx hb dX4_init_57 (by decide) ?_
  obtain ⟨hc, hs, hw⟩ := hw
  refine hv_wnewa_int (N' := 240) hE hI (hts _ q188) (by decide +kernel) (by decide +kernel) (by decide) hw hc hs dX4_init_60 (fun a19 h20 H hw hI => ?_)
  refine hv_wputF (v := .ref a19) tyX4 hE hI in_X4 tyX4_ok nmX4 (ci := 0) rfl 9 (by decide) (hts _ q1994) (fun _ hx => hx) rfl hin2 rfl (ty := (.array .int)) rfl rfl rfl hw dX4_init_62 (fun h21 H locs hw hI => ?_)
  refine lv_aload_n hx hb dX4_init_65 rfl (lv_at hl 0 rfl) ?_
  refine lv_ldc (v := 60000) hx hb hown (hts _ q1984) dX4_init_66 ?_
  obtain ⟨hc, hs, hw⟩ := hw
  refine hv_wnewa_int (N' := 60000) hE hI (hts _ q188) (by decide +kernel) (by decide +kernel) (by decide) hw hc hs dX4_init_68 (fun a22 h23 H hw hI => ?_)
  refine hv_wputF (v := .ref a22) tyX4 hE hI in_X4 tyX4_ok nmX4 (ci := 0) rfl 10 (by decide) (hts _ q1995) (fun _ hx => hx) rfl hin2 rfl (ty := (.array .int)) rfl rfl rfl hw dX4_init_70 (fun h24 H locs hw hI => ?_)
  refine lv_aload_n hx hb dX4_init_73 rfl (lv_at hl 0 rfl) ?_
  refine lv_iconst (v := 3) hx hb dX4_init_74 (by decide) ?_
  obtain ⟨hc, hs, hw⟩ := hw
  refine hv_wnewa_int (N' := 3) hE hI (hts _ q188) (by decide +kernel) (by decide +kernel) (by decide) hw hc hs dX4_init_75 (fun a25 h26 H hw hI => ?_)
  refine hv_wputF (v := .ref a25) tyX4 hE hI in_X4 tyX4_ok nmX4 (ci := 0) rfl 11 (by decide) (hts _ q1996) (fun _ hx => hx) rfl hin2 rfl (ty := (.array .int)) rfl rfl rfl hw dX4_init_77 (fun h27 H locs hw hI => ?_)
  refine lv_aload_n hx hb dX4_init_80 rfl (lv_at hl 0 rfl) ?_
  refine lv_bipush (v := 11) hx hb dX4_init_81 (by decide) ?_
  obtain ⟨hc, hs, hw⟩ := hw
  refine hv_wnewa_int (N' := 11) hE hI (hts _ q188) (by decide +kernel) (by decide +kernel) (by decide) hw hc hs dX4_init_83 (fun a28 h29 H hw hI => ?_)
  refine hv_wputF (v := .ref a28) tyX4 hE hI in_X4 tyX4_ok nmX4 (ci := 0) rfl 12 (by decide) (hts _ q1997) (fun _ hx => hx) rfl hin2 rfl (ty := (.array .int)) rfl rfl rfl hw dX4_init_85 (fun h30 H locs hw hI => ?_)
  refine lv_aload_n hx hb dX4_init_88 rfl (lv_at hl 0 rfl) ?_
  refine lv_sipush (v := 3360) hx hb dX4_init_89 (by decide) ?_
  obtain ⟨hc, hs, hw⟩ := hw
  refine hv_wnewa_boolean (N' := 3360) hE hI (hts _ q2097) (by decide +kernel) (by decide +kernel) (by decide) hw hc hs dX4_init_92 (fun a31 h32 H hw hI => ?_)
  refine hv_wputF (v := .ref a31) tyX4 hE hI in_X4 tyX4_ok nmX4 (ci := 0) rfl 13 (by decide) (hts _ q1998) (fun _ hx => hx) rfl hin2 rfl (ty := (.array .boolean)) rfl rfl rfl hw dX4_init_94 (fun h33 H locs hw hI => ?_)
  refine lv_aload_n hx hb dX4_init_97 rfl (lv_at hl 0 rfl) ?_
  refine lv_bipush (v := 20) hx hb dX4_init_98 (by decide) ?_
  obtain ⟨hc, hs, hw⟩ := hw
  refine hv_wnewa_boolean (N' := 20) hE hI (hts _ q2097) (by decide +kernel) (by decide +kernel) (by decide) hw hc hs dX4_init_100 (fun a34 h35 H hw hI => ?_)
  refine hv_wputF (v := .ref a34) tyX4 hE hI in_X4 tyX4_ok nmX4 (ci := 0) rfl 14 (by decide) (hts _ q1999) (fun _ hx => hx) rfl hin2 rfl (ty := (.array .boolean)) rfl rfl rfl hw dX4_init_102 (fun h36 H locs hw hI => ?_)
  refine lv_aload_n hx hb dX4_init_105 rfl (lv_at hl 0 rfl) ?_
  refine lv_sipush (v := 3360) hx hb dX4_init_106 (by decide) ?_
  obtain ⟨hc, hs, hw⟩ := hw
  refine hv_wnewa_int (N' := 3360) hE hI (hts _ q188) (by decide +kernel) (by decide +kernel) (by decide) hw hc hs dX4_init_109 (fun a37 h38 H hw hI => ?_)
  refine hv_wputF (v := .ref a37) tyX4 hE hI in_X4 tyX4_ok nmX4 (ci := 0) rfl 15 (by decide) (hts _ q2000) (fun _ hx => hx) rfl hin2 rfl (ty := (.array .int)) rfl rfl rfl hw dX4_init_111 (fun h39 H locs hw hI => ?_)
  refine lv_aload_n hx hb dX4_init_114 rfl (lv_at hl 0 rfl) ?_
  refine lv_sipush (v := 3360) hx hb dX4_init_115 (by decide) ?_
  obtain ⟨hc, hs, hw⟩ := hw
  refine hv_wnewa_int (N' := 3360) hE hI (hts _ q188) (by decide +kernel) (by decide +kernel) (by decide) hw hc hs dX4_init_118 (fun a40 h41 H hw hI => ?_)
  refine hv_wputF (v := .ref a40) tyX4 hE hI in_X4 tyX4_ok nmX4 (ci := 0) rfl 16 (by decide) (hts _ q2001) (fun _ hx => hx) rfl hin2 rfl (ty := (.array .int)) rfl rfl rfl hw dX4_init_120 (fun h42 H locs hw hI => ?_)
  refine lv_aload_n hx hb dX4_init_123 rfl (lv_at hl 0 rfl) ?_
  refine lv_sipush (v := 3360) hx hb dX4_init_124 (by decide) ?_
  obtain ⟨hc, hs, hw⟩ := hw
  refine hv_wnewa_int (N' := 3360) hE hI (hts _ q188) (by decide +kernel) (by decide +kernel) (by decide) hw hc hs dX4_init_127 (fun a43 h44 H hw hI => ?_)
  refine hv_wputF (v := .ref a43) tyX4 hE hI in_X4 tyX4_ok nmX4 (ci := 0) rfl 17 (by decide) (hts _ q2002) (fun _ hx => hx) rfl hin2 rfl (ty := (.array .int)) rfl rfl rfl hw dX4_init_129 (fun h45 H locs hw hI => ?_)
  refine lv_aload_n hx hb dX4_init_132 rfl (lv_at hl 0 rfl) ?_
  refine lv_bipush (v := 20) hx hb dX4_init_133 (by decide) ?_
  obtain ⟨hc, hs, hw⟩ := hw
  refine hv_wnewa_int (N' := 20) hE hI (hts _ q188) (by decide +kernel) (by decide +kernel) (by decide) hw hc hs dX4_init_135 (fun a46 h47 H hw hI => ?_)
  refine hv_wputF (v := .ref a46) tyX4 hE hI in_X4 tyX4_ok nmX4 (ci := 0) rfl 18 (by decide) (hts _ q2003) (fun _ hx => hx) rfl hin2 rfl (ty := (.array .int)) rfl rfl rfl hw dX4_init_137 (fun h48 H locs hw hI => ?_)
  refine lv_aload_n hx hb dX4_init_140 rfl (lv_at hl 0 rfl) ?_
  refine lv_bipush (v := 40) hx hb dX4_init_141 (by decide) ?_
  obtain ⟨hc, hs, hw⟩ := hw
  refine hv_wnewa_int (N' := 40) hE hI (hts _ q188) (by decide +kernel) (by decide +kernel) (by decide) hw hc hs dX4_init_143 (fun a49 h50 H hw hI => ?_)
  refine hv_wputF (v := .ref a49) tyX4 hE hI in_X4 tyX4_ok nmX4 (ci := 0) rfl 19 (by decide) (hts _ q2004) (fun _ hx => hx) rfl hin2 rfl (ty := (.array .int)) rfl rfl rfl hw dX4_init_145 (fun h51 H locs hw hI => ?_)
  refine lv_aload_n hx hb dX4_init_148 rfl (lv_at hl 0 rfl) ?_
  refine lv_iconst (v := 2) hx hb dX4_init_149 (by decide) ?_
  obtain ⟨hc, hs, hw⟩ := hw
  refine hv_wnewa_int (N' := 2) hE hI (hts _ q188) (by decide +kernel) (by decide +kernel) (by decide) hw hc hs dX4_init_150 (fun a52 h53 H hw hI => ?_)
  refine hv_wputF (v := .ref a52) tyX4 hE hI in_X4 tyX4_ok nmX4 (ci := 0) rfl 20 (by decide) (hts _ q2005) (fun _ hx => hx) rfl hin2 rfl (ty := (.array .int)) rfl rfl rfl hw dX4_init_152 (fun h54 H locs hw hI => ?_)
  refine lv_aload_n hx hb dX4_init_155 rfl (lv_at hl 0 rfl) ?_
  refine lv_iconst (v := 2) hx hb dX4_init_156 (by decide) ?_
  obtain ⟨hc, hs, hw⟩ := hw
  refine hv_wnewa_int (N' := 2) hE hI (hts _ q188) (by decide +kernel) (by decide +kernel) (by decide) hw hc hs dX4_init_157 (fun a55 h56 H hw hI => ?_)
  refine hv_wputF (v := .ref a55) tyX4 hE hI in_X4 tyX4_ok nmX4 (ci := 0) rfl 21 (by decide) (hts _ q2006) (fun _ hx => hx) rfl hin2 rfl (ty := (.array .int)) rfl rfl rfl hw dX4_init_159 (fun h57 H locs hw hI => ?_)
  refine lv_aload_n hx hb dX4_init_162 rfl (lv_at hl 0 rfl) ?_
  refine lv_bipush (v := 40) hx hb dX4_init_163 (by decide) ?_
  obtain ⟨hc, hs, hw⟩ := hw
  refine hv_wnewa_float (N' := 40) hE hI (hts _ q1844) (by decide +kernel) (by decide +kernel) (by decide) hw hc hs dX4_init_165 (fun a58 h59 H hw hI => ?_)
  refine hv_wputF (v := .ref a58) tyX4 hE hI in_X4 tyX4_ok nmX4 (ci := 0) rfl 22 (by decide) (hts _ q2007) (fun _ hx => hx) rfl hin2 rfl (ty := (.array .float)) rfl rfl rfl hw dX4_init_167 (fun h60 H locs hw hI => ?_)
  refine lv_aload_n hx hb dX4_init_170 rfl (lv_at hl 0 rfl) ?_
  refine lv_iconst (v := -1) hx hb dX4_init_171 (by decide) ?_
  refine hv_wput (v := .int (-1 : Int32)) tyX4 hE hI in_X4 tyX4_ok nmX4 (ci := 0) rfl 25 (by decide) (hts _ q2010) (fun _ hx => hx) rfl (ty := .int) rfl rfl rfl hw dX4_init_172 (fun h61 H locs hw hI => ?_)
  refine lv_aload_n hx hb dX4_init_175 rfl (lv_at hl 0 rfl) ?_
  refine lv_iconst (v := -1) hx hb dX4_init_176 (by decide) ?_
  refine hv_wput (v := .int (-1 : Int32)) tyX4 hE hI in_X4 tyX4_ok nmX4 (ci := 0) rfl 26 (by decide) (hts _ q2011) (fun _ hx => hx) rfl (ty := .int) rfl rfl rfl hw dX4_init_177 (fun h62 H locs hw hI => ?_)
  refine lv_aload_n hx hb dX4_init_180 rfl (lv_at hl 0 rfl) ?_
  refine lv_iconst (v := 3) hx hb dX4_init_181 (by decide) ?_
  obtain ⟨hc, hs, hw⟩ := hw
  refine hv_wnewa_boolean (N' := 3) hE hI (hts _ q2097) (by decide +kernel) (by decide +kernel) (by decide) hw hc hs dX4_init_182 (fun a63 h64 H hw hI => ?_)
  refine hv_wputF (v := .ref a63) tyX4 hE hI in_X4 tyX4_ok nmX4 (ci := 0) rfl 36 (by decide) (hts _ q2021) (fun _ hx => hx) rfl hin2 rfl (ty := (.array .boolean)) rfl rfl rfl hw dX4_init_184 (fun h65 H locs hw hI => ?_)
  exact hv_vret hE hI hc hs hw dX4_init_187
