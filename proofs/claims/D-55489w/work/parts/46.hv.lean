/-! walks over a world (by gen/hvrun.py) -/
set_option maxRecDepth 100000
/-- MatchmakerRules$Pattern.<init>(C[I)V -/
abbrev rm_X8_init (mc ms : Nat) : Room := { frames := 1, cells := mc, slots := ms, locals := 40 }
def wp_X8_init (G : GG) (mc : Nat) (ms : Nat) (h : HH) (a0 : Nat) (x1 : Int32) (x2 : Option Nat) (Q : HH → Prop) : Prop := ((narrow .char (.int x1) = .int x1 ∧ fits .char (.int x1) = true) ∧ w_put h a0 11 0 (.int x1) (fun h1 => w_nn x2 (fun a2 => w_clone G h1 a2 0 mc ms 0 0 (fun a3 h5 nn4 => w_castA G h5 a3 0 (w_put h5 a0 11 1 (.ref a3) (fun h6 => Q h6))))))
set_option maxHeartbeats 4000000 in
theorem snd_X8_init (l : Launch) (G : GG) (sz : Nat) (mc : Nat) (ms : Nat) (h : HH) (a0 : Nat) (x1 : Int32) (x2 : Option Nat) (Q : HH → Prop) (hw : wp_X8_init G mc ms h a0 x1 x2 Q) : Met l yX8_init (ws_ yX8_init cX8_init 3 (none : Option FieldType)) (rm_X8_init mc ms) (hv_Pc G h sz [.ref a0, .int x1, va_rf x2]) (hv_Qv G h sz Q) mc ms (hv_A h sz) := by
  refine Met.ofW (cc := cX8_init) (maxL := 3) (ret := (none : Option FieldType)) (by decide) rfl ?_
  intro p e s m args below meth c s₁ B hml hv
  have hin2 : meth.name = "<init>" := (name_of_methodNamed B.named B.method).1
  obtain ⟨rfl, rfl, hE, hI⟩ := hv_open B hml hv
  have hE : hv_E p s m ([.ref a0, .int x1, va_rf x2] : List Value).toArray meth c cX8_init 3 (none : Option FieldType) RX8 G h := hE
  obtain ⟨⟨hx, hb, hml, hown, hts⟩, hr, hlocks, hXX⟩ := id hE
  have hl := lv_entry ([.ref a0, .int x1, va_rf x2] : List Value) (n := 3) (by cases x2 <;> exact Nat.le_of_ble_eq_true rfl)
  rw [lg_entry_eq]
  generalize (lg_sl ([.ref a0, .int x1, va_rf x2] : List Value) ++ List.replicate (3 - (lg_sl ([.ref a0, .int x1, va_rf x2] : List Value)).length) Slot.unset).toArray = ls at hl ⊢
  have hl : lv_has ls 3 [(0, .ref a0), (1, .int x1), (2, va_rf x2)] := (by cases x2 <;> exact hl)
  have hc : 0 ≤ mc := Nat.zero_le _
  have hs : 0 ≤ ms := Nat.zero_le _
  unfold wp_X8_init at hw
  refine lv_aload_n hx hb dX8_init_0 rfl (lv_at hl 0 rfl) ?_
  refine hv_objI (rest := []) hE (hts _ q820) (hts _ q146) (hts _ q147) hl.1 dX8_init_1 (Nat.le_of_ble_eq_true rfl) (Nat.le_of_ble_eq_true rfl) ?_
  refine lv_aload_n hx hb dX8_init_4 rfl (lv_at hl 0 rfl) ?_
  refine lv_iload_n hx hb dX8_init_5 rfl (lv_at hl 1 rfl) ?_
  obtain ⟨⟨hn1, hn2⟩, hw⟩ := hw
  refine hv_wputF (v := .int x1) tyX8 hE hI in_X8 tyX8_ok nmX8 (ci := 11) rfl 0 (by decide) (hts _ q828) (fun _ hx => hx) rfl hin2 rfl (ty := .char) rfl hn1 hn2 hw dX8_init_6 (fun h1 H locs hw hI => ?_)
  refine lv_aload_n hx hb dX8_init_9 rfl (lv_at hl 0 rfl) ?_
  refine lv_aload_nq hx hb dX8_init_10 rfl (lv_at hl 2 rfl) ?_
  obtain ⟨a2, hz, hwa2⟩ := hw; have hla2 := hl; subst hz; have hw := hwa2; have hl := hla2
  refine hv_clone (rest := [.ref a0]) (ad := "[I") (t := 0) hE hI hw hl.1 (Nat.le_refl _) (Nat.le_refl _) (hts _ q821) (hts _ q822) (hts _ q823) (hts _ q824) (hts _ q825) (hE.2.2.2.2.1.C 42 rfl) (ty := .int) rfl rfl rfl (by decide +kernel) (Nat.le_of_ble_eq_true rfl) (Nat.le_of_ble_eq_true rfl) dX8_init_11 (fun a3 nn4 h5 H hw hc hs hI => ?_)
  refine hv_wcastA (t := 0) (ty := .int) hE hI (hts _ q827) rfl rfl (by decide +kernel) hw dX8_init_14 (fun hw => ?_)
  refine hv_wputF (v := .ref a3) tyX8 hE hI in_X8 tyX8_ok nmX8 (ci := 11) rfl 1 (by decide) (hts _ q830) (fun _ hx => hx) rfl hin2 rfl (ty := (.array .int)) rfl rfl rfl hw dX8_init_17 (fun h6 H locs hw hI => ?_)
  exact hv_vret hE hI hc hs hw dX8_init_20

/-- MatchmakerRules$Parser.pattern(I)LMatchmakerRules$Pattern; -/
abbrev rm_X6_pattern (mc ms : Nat) : Room := { frames := 9, cells := mc, slots := ms, locals := 186 }
def wp_X6_pattern (G : GG) (mc : Nat) (ms : Nat) (h : HH) (a0 : Nat) (x1 : Int32) (Q : Option Nat → HH → Prop) (X : String → Nat → HH → Prop) : Prop := (∃ mc1 ms1, 0 + mc1 ≤ mc ∧ 0 + ms1 ≤ ms ∧ w_is h a0 9 (wp_X6_kind G mc1 ms1 h a0 (fun r2 h3 => (∃ mc6 ms6, (0 + mc1) + mc6 ≤ mc ∧ (0 + ms1) + ms6 ≤ ms ∧ w_is h3 a0 9 (wp_X6_term G mc6 ms6 h3 a0 x1 (fun r7 h8 => (((0 + mc1) + mc6) + 1 ≤ mc ∧ ((0 + ms1) + ms6) + 2 ≤ ms ∧ w_new h8 (.inr (11, df_X8)) (fun a11 h12 => ((((0 + mc1) + mc6) + 1) + 1 ≤ mc ∧ (((0 + ms1) + ms6) + 2) + 2 ≤ ms ∧ w_new h12 (.inl (G.2.1 0, 2, .inl (fun _ => 0))) (fun a13 h14 => w_ist G h14 a13 (0 : Int32) r7 (fun h15 => (∃ mc16 ms16, ((((0 + mc1) + mc6) + 1) + 1) + mc16 ≤ mc ∧ ((((0 + ms1) + ms6) + 2) + 2) + ms16 ≤ ms ∧ w_is h15 a0 9 (wp_X6_term G mc16 ms16 h15 a0 x1 (fun r17 h18 => w_ist G h18 a13 (1 : Int32) r17 (fun h21 => (∃ mc22 ms22, (((((0 + mc1) + mc6) + 1) + 1) + mc16) + mc22 ≤ mc ∧ (((((0 + ms1) + ms6) + 2) + 2) + ms16) + ms22 ≤ ms ∧ wp_X8_init G mc22 ms22 h21 a11 r2 (some a13) (fun h23 => Q (some a11) h23)))) (fun E q19 h20 => X E q19 h20))))))))) (fun E q9 h10 => X E q9 h10)))) (fun E q4 h5 => X E q4 h5)))
set_option maxHeartbeats 4000000 in
theorem snd_X6_pattern (l : Launch) (G : GG) (sz : Nat) (mc : Nat) (ms : Nat) (h : HH) (a0 : Nat) (x1 : Int32) (Q : Option Nat → HH → Prop) (X : String → Nat → HH → Prop) (hw : wp_X6_pattern G mc ms h a0 x1 Q X) : vx_Met l yX6_pattern (ws_ yX6_pattern cX6_pattern 4 (some (FieldType.object "MatchmakerRules$Pattern"))) (rm_X6_pattern mc ms) (hv_Pc G h sz [.ref a0, .int x1]) (hv_Qq G h sz Q) (hv_XC G h sz X) mc ms (hv_A h sz) := by
  refine vx_ofW (cc := cX6_pattern) (maxL := 4) (ret := (some (FieldType.object "MatchmakerRules$Pattern"))) (by decide) rfl ?_
  intro p e s m args below meth c s₁ B hml ht hv
  obtain ⟨rfl, rfl, hE, hI⟩ := hv_open B hml hv
  have hE : hv_E p s m ([.ref a0, .int x1] : List Value).toArray meth c cX6_pattern 4 (some (FieldType.object "MatchmakerRules$Pattern")) RX6 G h := hE
  obtain ⟨⟨hx, hb, hml, hown, hts⟩, hr, hlocks, hXX⟩ := id hE
  have hl := lv_entry ([.ref a0, .int x1] : List Value) (n := 4) (Nat.le_of_ble_eq_true rfl)
  rw [lg_entry_eq]
  generalize (lg_sl ([.ref a0, .int x1] : List Value) ++ List.replicate (4 - (lg_sl ([.ref a0, .int x1] : List Value)).length) Slot.unset).toArray = ls at hl ⊢
  have hl : lv_has ls 4 [(0, .ref a0), (1, .int x1)] := hl
  have hc : 0 ≤ mc := Nat.zero_le _
  have hs : 0 ≤ ms := Nat.zero_le _
  unfold wp_X6_pattern at hw
  refine lv_aload_n hx hb dX6_pattern_0 rfl (lv_at hl 0 rfl) ?_
  obtain ⟨mc1, ms1, hc, hs, hw⟩ := hw
  obtain ⟨⟨fs, hre⟩, hw⟩ := hw
  refine hx_rci hI (vx_runV (As := []) (b := a0) (rest := []) hE.1 (snd_X6_kind l G _ mc1 ms1 h a0 _ _ hw) (cwV 0 hts (lw_V q694 q696 qs10 q110 q697) rfl rfl rfl (by decide +kernel) ⟨Nat.le_of_ble_eq_true rfl, Nat.le_of_ble_eq_true rfl⟩) (hv_preV hE hI (ci := 9) rfl hre) rfl rfl hl.1 rfl (lv_room (Nat.le_of_ble_eq_true rfl)) dX6_pattern_1 ⟨hc, hs⟩) ?_ (fun r2 h3 H locs hw hI => ?_)
  · intro E q4 h5 H locs hw hI hT
    exact hx_out hE hI hT hc hs (fun z hz => (ht z hz).elim) hw
  refine lv_istore_n (lv' := [(2, .int r2), (0, .ref a0), (1, .int x1)]) hx hb dX6_pattern_4 rfl hl (by decide) rfl (fun ls hl => ?_)
  refine lv_aload_n hx hb dX6_pattern_5 rfl (lv_at hl 1 rfl) ?_
  refine lv_iload_n hx hb dX6_pattern_6 rfl (lv_at hl 2 rfl) ?_
  obtain ⟨mc6, ms6, hc, hs, hw⟩ := hw
  obtain ⟨⟨fs, hre⟩, hw⟩ := hw
  refine hx_rci hI (vx_runV (As := [.int x1]) (b := a0) (rest := []) hE.1 (snd_X6_term l G _ mc6 ms6 h3 a0 x1 _ _ hw) (cwV 1 hts (lw_V q808 q810 qs13 q110 q811) rfl rfl rfl (by decide +kernel) ⟨Nat.le_of_ble_eq_true rfl, Nat.le_of_ble_eq_true rfl⟩) (hv_preV hE hI (ci := 9) rfl hre) rfl rfl hl.1 rfl (lv_room (Nat.le_of_ble_eq_true rfl)) dX6_pattern_7 ⟨hc, hs⟩) ?_ (fun r7 h8 H locs hw hI => ?_)
  · intro E q9 h10 H locs hw hI hT
    exact hx_out hE hI hT hc hs (fun z hz => (ht z hz).elim) hw
  refine lv_istore_n (lv' := [(3, .int r7), (2, .int r2), (0, .ref a0), (1, .int x1)]) hx hb dX6_pattern_10 rfl hl (by decide) rfl (fun ls hl => ?_)
  obtain ⟨hc, hs, hw⟩ := hw
  refine hv_wnew tyX8 hE hI in_X8 tyX8_ok (hts _ q816) (hts _ q511) (hts _ q117) (ci := 11) rfl df_X8_ok hw hc hs dX6_pattern_11 (fun a11 h12 H hw hI => ?_)
  refine lv_dup hx hb dX6_pattern_14 rfl ?_
  refine lv_iload_n hx hb dX6_pattern_15 rfl (lv_at hl 1 rfl) ?_
  refine lv_iconst (v := 2) hx hb dX6_pattern_16 (by decide) ?_
  obtain ⟨hc, hs, hw⟩ := hw
  refine hv_wnewa_int (N' := 2) hE hI (hts _ q188) (by decide +kernel) (by decide +kernel) (by decide) hw hc hs dX6_pattern_17 (fun a13 h14 H hw hI => ?_)
  refine lv_dup hx hb dX6_pattern_19 rfl ?_
  refine lv_iconst (v := 0) hx hb dX6_pattern_20 (by decide) ?_
  refine lv_iload_n hx hb dX6_pattern_21 rfl (lv_at hl 0 rfl) ?_
  refine hv_wist hE hI hw dX6_pattern_22 (fun h15 H locs hw hI => ?_)
  refine lv_dup hx hb dX6_pattern_23 rfl ?_
  refine lv_iconst (v := 1) hx hb dX6_pattern_24 (by decide) ?_
  refine lv_aload_n hx hb dX6_pattern_25 rfl (lv_at hl 2 rfl) ?_
  refine lv_iload_n hx hb dX6_pattern_26 rfl (lv_at hl 3 rfl) ?_
  obtain ⟨mc16, ms16, hc, hs, hw⟩ := hw
  obtain ⟨⟨fs, hre⟩, hw⟩ := hw
  refine hx_rci hI (vx_runV (As := [.int x1]) (b := a0) (rest := [.int (1 : Int32), .ref a13, .ref a13, .int r2, .ref a11, .ref a11]) hE.1 (snd_X6_term l G _ mc16 ms16 h15 a0 x1 _ _ hw) (cwV 1 hts (lw_V q808 q810 qs13 q110 q811) rfl rfl rfl (by decide +kernel) ⟨Nat.le_of_ble_eq_true rfl, Nat.le_of_ble_eq_true rfl⟩) (hv_preV hE hI (ci := 9) rfl hre) rfl rfl hl.1 rfl (lv_room (Nat.le_of_ble_eq_true rfl)) dX6_pattern_27 ⟨hc, hs⟩) ?_ (fun r17 h18 H locs hw hI => ?_)
  · intro E q19 h20 H locs hw hI hT
    exact hx_out hE hI hT hc hs (fun z hz => (ht z hz).elim) hw
  refine hv_wist hE hI hw dX6_pattern_30 (fun h21 H locs hw hI => ?_)
  obtain ⟨mc22, ms22, hc, hs, hw⟩ := hw
  refine hv_rcv hI (va_runI (As := [.int r2, .ref a13]) (b := a11) (rest := [.ref a11]) hE.1 (snd_X8_init l G _ mc22 ms22 h21 a11 r2 (some a13) _ hw) (cwI 2 hts (lw_meth q819) rfl rfl rfl (hts _ q117) (hts _ q817) (hts _ q818) rfl (by decide +kernel) ⟨Nat.le_of_ble_eq_true rfl, Nat.le_of_ble_eq_true rfl⟩) (hv_preS hE hI) rfl rfl hl.1 rfl (lv_room (Nat.le_of_ble_eq_true rfl)) dX6_pattern_31 ⟨hc, hs⟩) (fun h23 H locs hw hI => ?_)
  exact vx_ret (hv_qret (v := (some a11)) hE (Or.inl ⟨_, rfl⟩) hI hc hs hw dX6_pattern_34)

/-- MatchmakerRules$Parser.variables(LMatchmakerRules$Pattern;)I -/
abbrev rm_X6_variables : Room := { frames := 1, cells := 0, slots := 0, locals := 12 }
def wp_X6_variables_L13 (G : GG) (Q : Int32 → HH → Prop) : Nat → (HH) → (Int32) → (Nat) → (Int32) → (Int32) → Prop
  | 0, _, _, _, _, _ => False
  | n + 1, h, x1, x2, x3, x4 => ((x3 ≤ x4 → Q x1 h) ∧ (¬ x3 ≤ x4 → w_ild G h x2 x4 (fun r5 => ((r5 ≤ (9 : Int32) → wp_X6_variables_L13 G Q n h (x1 ||| (0 : Int32)) x2 x3 (x4 + (1 : Int32))) ∧ (¬ r5 ≤ (9 : Int32) → wp_X6_variables_L13 G Q n h (x1 ||| ((1 : Int32) <<< (((r5 - (9 : Int32)) - (1 : Int32)) &&& 31))) x2 x3 (x4 + (1 : Int32)))))))
set_option maxHeartbeats 4000000 in
theorem snd_X6_variables_L13 {p : Program} {l : Launch} {e : Env} {s : State} {m : MethodId} {args : Array Value} {below : List Frame} {meth : Method} {c : Code} {h0 : HH} (G : GG) (Q : Int32 → HH → Prop) (hE : hv_E p s m args meth c cX6_variables 6 (some FieldType.int) RX6 G h0) : ∀ (n : Nat) (h : HH) (x1 : Int32) (x2 : Nat) (x3 : Int32) (x4 : Int32), wp_X6_variables_L13 G Q n h x1 x2 x3 x4 → ∀ (H : Heap) (locs : List Loc) (ls : Array Slot), hv_I G h0 s.heap h H locs → lv_has ls 6 [(1, .int x1), (2, .ref x2), (3, .int x3), (4, .int x4)] → W p l e (headSpec (ws_ yX6_variables cX6_variables 6 (some FieldType.int)) rm_X6_variables).room s m args below meth c H locs 0 0 (MQ below (hv_Qi G h0 s.heap.size Q) args s 0 0 (hv_A h0 s.heap.size)) (F0 m 13 ls []) := by
  obtain ⟨⟨hx, hb, hml, hown, hts⟩, hr, hlocks, hXX⟩ := id hE
  intro n
  induction n with
  | zero => intro h x1 x2 x3 x4 hw; exact hw.elim
  | succ n ih =>
    intro h x1 x2 x3 x4 hw H locs ls hI hl
    unfold wp_X6_variables_L13 at hw
    refine lv_iload hx hb dX6_variables_13 (lv_at hl 3 rfl) ?_
    refine lv_iload_n hx hb dX6_variables_15 rfl (lv_at hl 2 rfl) ?_
    refine lv_icmp_ge (tgt := 54) hx hb dX6_variables_16 (by decide) (fun c_16 => ?_) (fun c_16 => ?_)
    · have hw := hw.1 c_16
      refine lv_iload_n hx hb dX6_variables_54 rfl (lv_at hl 0 rfl) ?_
      exact hv_iret hE hI (Nat.le_refl _) (Nat.le_refl _) hw dX6_variables_55
    · have hw := hw.2 c_16
      refine lv_aload_n hx hb dX6_variables_19 rfl (lv_at hl 1 rfl) ?_
      refine lv_iload hx hb dX6_variables_20 (lv_at hl 3 rfl) ?_
      refine hv_wild hE hI hw dX6_variables_22 (fun r5 hw => ?_)
      refine lv_istore (lv' := [(5, .int r5), (1, .int x1), (2, .ref x2), (3, .int x3), (4, .int x4)]) hx hb dX6_variables_23 hl (by decide) rfl (fun ls hl => ?_)
      refine lv_iload_n hx hb dX6_variables_25 rfl (lv_at hl 1 rfl) ?_
      refine lv_iload hx hb dX6_variables_26 (lv_at hl 0 rfl) ?_
      refine lv_bipush (v := 9) hx hb dX6_variables_28 (by decide) ?_
      refine lv_icmp_le (tgt := 45) hx hb dX6_variables_30 (by decide) (fun c_30 => ?_) (fun c_30 => ?_)
      · have hw := hw.1 c_30
        refine lv_iconst (v := 0) hx hb dX6_variables_45 (by decide) ?_
        refine lv_ior hx hb dX6_variables_46 ?_
        refine lv_istore_n (lv' := [(1, .int (x1 ||| (0 : Int32))), (5, .int r5), (2, .ref x2), (3, .int x3), (4, .int x4)]) hx hb dX6_variables_47 rfl hl (by decide) rfl (fun ls hl => ?_)
        refine lv_iinc (v := (x4 + (1 : Int32))) (lv' := [(4, .int (x4 + (1 : Int32))), (1, .int (x1 ||| (0 : Int32))), (5, .int r5), (2, .ref x2), (3, .int x3)]) hx hb dX6_variables_48 hl (k := 4) rfl rfl (by decide) rfl (fun ls hl => ?_)
        refine lv_goto (tgt := 13) hx hb dX6_variables_51 (by decide) ?_
        exact ih h (x1 ||| (0 : Int32)) x2 x3 (x4 + (1 : Int32)) hw _ _ _ hI (lv_sub hl [1, 3, 4, 0] rfl)
      · have hw := hw.2 c_30
        refine lv_iconst (v := 1) hx hb dX6_variables_33 (by decide) ?_
        refine lv_iload hx hb dX6_variables_34 (lv_at hl 0 rfl) ?_
        refine lv_bipush (v := 9) hx hb dX6_variables_36 (by decide) ?_
        refine lv_isub hx hb dX6_variables_38 ?_
        refine lv_iconst (v := 1) hx hb dX6_variables_39 (by decide) ?_
        refine lv_isub hx hb dX6_variables_40 ?_
        refine lv_ishl hx hb dX6_variables_41 ?_
        refine lv_goto (tgt := 46) hx hb dX6_variables_42 (by decide) ?_
        refine lv_ior hx hb dX6_variables_46 ?_
        refine lv_istore_n (lv' := [(1, .int (x1 ||| ((1 : Int32) <<< (((r5 - (9 : Int32)) - (1 : Int32)) &&& 31)))), (5, .int r5), (2, .ref x2), (3, .int x3), (4, .int x4)]) hx hb dX6_variables_47 rfl hl (by decide) rfl (fun ls hl => ?_)
        refine lv_iinc (v := (x4 + (1 : Int32))) (lv' := [(4, .int (x4 + (1 : Int32))), (1, .int (x1 ||| ((1 : Int32) <<< (((r5 - (9 : Int32)) - (1 : Int32)) &&& 31)))), (5, .int r5), (2, .ref x2), (3, .int x3)]) hx hb dX6_variables_48 hl (k := 4) rfl rfl (by decide) rfl (fun ls hl => ?_)
        refine lv_goto (tgt := 13) hx hb dX6_variables_51 (by decide) ?_
        exact ih h (x1 ||| ((1 : Int32) <<< (((r5 - (9 : Int32)) - (1 : Int32)) &&& 31))) x2 x3 (x4 + (1 : Int32)) hw _ _ _ hI (lv_sub hl [1, 3, 4, 0] rfl)
def wp_X6_variables (G : GG) (h : HH) (x0 : Option Nat) (Q : Int32 → HH → Prop) : Prop := w_nn x0 (fun a1 => w_getq h a1 11 1 (fun r2 => w_nn r2 (fun a3 => w_len G h a3 (fun r4 => (∃ n13, wp_X6_variables_L13 G Q n13 h (0 : Int32) a3 r4 (0 : Int32))))))
set_option maxHeartbeats 4000000 in
theorem snd_X6_variables (l : Launch) (G : GG) (sz : Nat) (h : HH) (x0 : Option Nat) (Q : Int32 → HH → Prop) (hw : wp_X6_variables G h x0 Q) : Met l yX6_variables (ws_ yX6_variables cX6_variables 6 (some FieldType.int)) rm_X6_variables (hv_Pc G h sz [va_rf x0]) (hv_Qi G h sz Q) 0 0 (hv_A h sz) := by
  refine Met.ofW (cc := cX6_variables) (maxL := 6) (ret := (some FieldType.int)) (by decide) rfl ?_
  intro p e s m args below meth c s₁ B hml hv
  obtain ⟨rfl, rfl, hE, hI⟩ := hv_open B hml hv
  have hE : hv_E p s m ([va_rf x0] : List Value).toArray meth c cX6_variables 6 (some FieldType.int) RX6 G h := hE
  obtain ⟨⟨hx, hb, hml, hown, hts⟩, hr, hlocks, hXX⟩ := id hE
  have hl := lv_entry ([va_rf x0] : List Value) (n := 6) (by cases x0 <;> exact Nat.le_of_ble_eq_true rfl)
  rw [lg_entry_eq]
  generalize (lg_sl ([va_rf x0] : List Value) ++ List.replicate (6 - (lg_sl ([va_rf x0] : List Value)).length) Slot.unset).toArray = ls at hl ⊢
  have hl : lv_has ls 6 [(0, va_rf x0)] := (by cases x0 <;> exact hl)
  unfold wp_X6_variables at hw
  refine lv_iconst (v := 0) hx hb dX6_variables_0 (by decide) ?_
  refine lv_istore_n (lv' := [(1, .int (0 : Int32)), (0, va_rf x0)]) hx hb dX6_variables_1 rfl hl (by decide) (by cases x0 <;> exact rfl) (fun ls hl => ?_)
  refine lv_aload_nq hx hb dX6_variables_2 rfl (lv_at hl 1 rfl) ?_
  obtain ⟨a1, hz, hwa1⟩ := hw; have hla1 := hl; subst hz; have hw := hwa1; have hl := hla1
  refine hv_wgetqN hE hI in_X8 (ci := 11) rfl 1 (by decide) (hE.2.2.2.2.1.F 46 rfl) (fun _ hx => hx) hw dX6_variables_3 (fun r2 hw => ?_)
  refine lv_astore_nq (lv' := [(2, va_rf r2), (1, .int (0 : Int32)), (0, .ref a1)]) hx hb dX6_variables_6 rfl hl (by decide) rfl (fun ls hl => ?_)
  refine lv_aload_nq hx hb dX6_variables_7 rfl (lv_at hl 0 rfl) ?_
  obtain ⟨a3, hz, hwa3⟩ := hw; have hla3 := hl; subst hz; have hw := hwa3; have hl := hla3
  refine hv_len hE hI hw dX6_variables_8 (fun r4 hw => ?_)
  refine lv_istore_n (lv' := [(3, .int r4), (2, .ref a3), (1, .int (0 : Int32)), (0, .ref a1)]) hx hb dX6_variables_9 rfl hl (by decide) rfl (fun ls hl => ?_)
  refine lv_iconst (v := 0) hx hb dX6_variables_10 (by decide) ?_
  refine lv_istore (lv' := [(4, .int (0 : Int32)), (3, .int r4), (2, .ref a3), (1, .int (0 : Int32)), (0, .ref a1)]) hx hb dX6_variables_11 hl (by decide) rfl (fun ls hl => ?_)
  obtain ⟨n13, hw⟩ := hw
  exact snd_X6_variables_L13 G Q hE n13 h (0 : Int32) a3 r4 (0 : Int32) hw _ _ _ hI (lv_sub hl [3, 2, 1, 0] rfl)

/-- MatchmakerRules$Rule.<init>(LMatchmakerRules$Pattern;LMatchmakerRules$Pattern;ZLMatchmakerRules$Pattern;I)V -/
abbrev rm_X9_init : Room := { frames := 1, cells := 0, slots := 0, locals := 32 }
def wp_X9_init (G : GG) (h : HH) (a0 : Nat) (x1 : Option Nat) (x2 : Option Nat) (x3 : Int32) (x4 : Option Nat) (x5 : Int32) (Q : HH → Prop) : Prop := w_put h a0 12 0 (va_rf x1) (fun h1 => w_put h1 a0 12 1 (va_rf x2) (fun h2 => ((narrow .boolean (.int x3) = .int x3 ∧ fits .boolean (.int x3) = true) ∧ w_put h2 a0 12 2 (.int x3) (fun h3 => w_put h3 a0 12 3 (va_rf x4) (fun h4 => w_put h4 a0 12 4 (.int x5) (fun h5 => Q h5))))))
set_option maxHeartbeats 4000000 in
theorem snd_X9_init (l : Launch) (G : GG) (sz : Nat) (h : HH) (a0 : Nat) (x1 : Option Nat) (x2 : Option Nat) (x3 : Int32) (x4 : Option Nat) (x5 : Int32) (Q : HH → Prop) (hw : wp_X9_init G h a0 x1 x2 x3 x4 x5 Q) : Met l yX9_init (ws_ yX9_init cX9_init 6 (none : Option FieldType)) rm_X9_init (hv_Pc G h sz [.ref a0, va_rf x1, va_rf x2, .int x3, va_rf x4, .int x5]) (hv_Qv G h sz Q) 0 0 (hv_A h sz) := by
  refine Met.ofW (cc := cX9_init) (maxL := 6) (ret := (none : Option FieldType)) (by decide) rfl ?_
  intro p e s m args below meth c s₁ B hml hv
  have hin2 : meth.name = "<init>" := (name_of_methodNamed B.named B.method).1
  obtain ⟨rfl, rfl, hE, hI⟩ := hv_open B hml hv
  have hE : hv_E p s m ([.ref a0, va_rf x1, va_rf x2, .int x3, va_rf x4, .int x5] : List Value).toArray meth c cX9_init 6 (none : Option FieldType) RX9 G h := hE
  obtain ⟨⟨hx, hb, hml, hown, hts⟩, hr, hlocks, hXX⟩ := id hE
  have hl := lv_entry ([.ref a0, va_rf x1, va_rf x2, .int x3, va_rf x4, .int x5] : List Value) (n := 6) (by cases x1 <;> cases x2 <;> cases x4 <;> exact Nat.le_of_ble_eq_true rfl)
  rw [lg_entry_eq]
  generalize (lg_sl ([.ref a0, va_rf x1, va_rf x2, .int x3, va_rf x4, .int x5] : List Value) ++ List.replicate (6 - (lg_sl ([.ref a0, va_rf x1, va_rf x2, .int x3, va_rf x4, .int x5] : List Value)).length) Slot.unset).toArray = ls at hl ⊢
  have hl : lv_has ls 6 [(0, .ref a0), (1, va_rf x1), (2, va_rf x2), (3, .int x3), (4, va_rf x4), (5, .int x5)] := (by cases x1 <;> cases x2 <;> cases x4 <;> exact hl)
  unfold wp_X9_init at hw
  refine lv_aload_n hx hb dX9_init_0 rfl (lv_at hl 0 rfl) ?_
  refine hv_objI (rest := []) hE (hts _ q845) (hts _ q146) (hts _ q147) hl.1 dX9_init_1 (Nat.le_of_ble_eq_true rfl) (Nat.le_of_ble_eq_true rfl) ?_
  refine lv_aload_n hx hb dX9_init_4 rfl (lv_at hl 0 rfl) ?_
  refine lv_aload_nq hx hb dX9_init_5 rfl (lv_at hl 1 rfl) ?_
  refine hv_wputF (v := va_rf x1) tyX9 hE hI in_X9 tyX9_ok nmX9 (ci := 12) rfl 0 (by decide) (hts _ q846) (fun _ hx => hx) rfl hin2 rfl (ty := (.object "MatchmakerRules$Pattern")) rfl (va_rf_nar _ _) (va_rf_fit _ _) hw dX9_init_6 (fun h1 H locs hw hI => ?_)
  refine lv_aload_n hx hb dX9_init_9 rfl (lv_at hl 0 rfl) ?_
  refine lv_aload_nq hx hb dX9_init_10 rfl (lv_at hl 2 rfl) ?_
  refine hv_wputF (v := va_rf x2) tyX9 hE hI in_X9 tyX9_ok nmX9 (ci := 12) rfl 1 (by decide) (hts _ q849) (fun _ hx => hx) rfl hin2 rfl (ty := (.object "MatchmakerRules$Pattern")) rfl (va_rf_nar _ _) (va_rf_fit _ _) hw dX9_init_11 (fun h2 H locs hw hI => ?_)
  refine lv_aload_n hx hb dX9_init_14 rfl (lv_at hl 0 rfl) ?_
  refine lv_iload_n hx hb dX9_init_15 rfl (lv_at hl 3 rfl) ?_
  obtain ⟨⟨hn1, hn2⟩, hw⟩ := hw
  refine hv_wputF (v := .int x3) tyX9 hE hI in_X9 tyX9_ok nmX9 (ci := 12) rfl 2 (by decide) (hts _ q852) (fun _ hx => hx) rfl hin2 rfl (ty := .boolean) rfl hn1 hn2 hw dX9_init_16 (fun h3 H locs hw hI => ?_)
  refine lv_aload_n hx hb dX9_init_19 rfl (lv_at hl 0 rfl) ?_
  refine lv_aloadq hx hb dX9_init_20 (lv_at hl 4 rfl) ?_
  refine hv_wputF (v := va_rf x4) tyX9 hE hI in_X9 tyX9_ok nmX9 (ci := 12) rfl 3 (by decide) (hts _ q854) (fun _ hx => hx) rfl hin2 rfl (ty := (.object "MatchmakerRules$Pattern")) rfl (va_rf_nar _ _) (va_rf_fit _ _) hw dX9_init_22 (fun h4 H locs hw hI => ?_)
  refine lv_aload_n hx hb dX9_init_25 rfl (lv_at hl 0 rfl) ?_
  refine lv_iload hx hb dX9_init_26 (lv_at hl 5 rfl) ?_
  refine hv_wputF (v := .int x5) tyX9 hE hI in_X9 tyX9_ok nmX9 (ci := 12) rfl 4 (by decide) (hts _ q856) (fun _ hx => hx) rfl hin2 rfl (ty := .int) rfl rfl rfl hw dX9_init_28 (fun h5 H locs hw hI => ?_)
  exact hv_vret hE hI (Nat.le_refl _) (Nat.le_refl _) hw dX9_init_31

/-- MatchmakerRules$Parser.rule()LMatchmakerRules$Rule; -/
abbrev rm_X6_rule (mc ms : Nat) : Room := { frames := 10, cells := mc, slots := ms, locals := 209 }
def wp_X6_rule_L78 (G : GG) (mc : Nat) (ms : Nat) (a0 : Nat) (Q : Option Nat → HH → Prop) (X : String → Nat → HH → Prop) (h : HH) (nc : Nat) (nk : Nat) (x2 : Option Nat) (x3 : Int32) (x4 : Int32) (x5 : Option Nat) : Prop := (∃ mc12 ms12, nc + mc12 ≤ mc ∧ nk + ms12 ≤ ms ∧ w_is h a0 9 (wp_X6_take G mc12 ms12 h a0 (62 : Int32) (62 : Int32) (fun r13 h14 => (∃ mc17 ms17, (nc + mc12) + mc17 ≤ mc ∧ (nk + ms12) + ms17 ≤ ms ∧ w_is h14 a0 9 (wp_X6_pattern G mc17 ms17 h14 a0 x3 (fun r18 h19 => (∃ mc22 ms22, ((nc + mc12) + mc17) + mc22 ≤ mc ∧ ((nk + ms12) + ms17) + ms22 ≤ ms ∧ w_is h19 a0 9 (wp_X6_take G mc22 ms22 h19 a0 (42 : Int32) (42 : Int32) (fun r23 h24 => ((((nc + mc12) + mc17) + mc22) + 1 ≤ mc ∧ (((nk + ms12) + ms17) + ms22) + 5 ≤ ms ∧ w_new h24 (.inr (12, df_X9)) (fun a27 h28 => (∃ mc29 ms29, ((((nc + mc12) + mc17) + mc22) + 1) + mc29 ≤ mc ∧ ((((nk + ms12) + ms17) + ms22) + 5) + ms29 ≤ ms ∧ w_is h28 a0 9 (wp_X6_digit G mc29 ms29 h28 a0 (fun r30 h31 => wp_X9_init G h31 a27 x2 x5 x4 r18 r30 (fun h34 => Q (some a27) h34)) (fun E q32 h33 => X E q32 h33)))))) (fun E q25 h26 => X E q25 h26)))) (fun E q20 h21 => X E q20 h21)))) (fun E q15 h16 => X E q15 h16)))
set_option maxHeartbeats 4000000 in
theorem snd_X6_rule_L78 {p : Program} {l : Launch} {e : Env} {s : State} {m : MethodId} {args : Array Value} {below : List Frame} {meth : Method} {c : Code} {h0 : HH} (G : GG) (mc : Nat) (ms : Nat) (a0 : Nat) (Q : Option Nat → HH → Prop) (X : String → Nat → HH → Prop) (ht : ∀ x ∈ c.exceptionTable.toList, False) (hE : hv_E p s m args meth c cX6_rule 8 (some (FieldType.object "MatchmakerRules$Rule")) RX6 G h0) : ∀ (h : HH) (nc : Nat) (nk : Nat) (x2 : Option Nat) (x3 : Int32) (x4 : Int32) (x5 : Option Nat), wp_X6_rule_L78 G mc ms a0 Q X h nc nk x2 x3 x4 x5 → nc ≤ mc → nk ≤ ms → ∀ (H : Heap) (locs : List Loc) (ls : Array Slot), hv_I G h0 s.heap h H locs → lv_has ls 8 [(0, .ref a0), (2, va_rf x2), (3, .int x3), (4, .int x4), (5, va_rf x5)] → W p l e (headSpec (ws_ yX6_rule cX6_rule 8 (some (FieldType.object "MatchmakerRules$Rule"))) (rm_X6_rule mc ms)).room s m args below meth c H locs nc nk (vx_MQ below (hv_Qq G h0 s.heap.size Q) (hv_XC G h0 s.heap.size X) args s mc ms (hv_A h0 s.heap.size)) (F0 m 78 ls []) := by
  obtain ⟨⟨hx, hb, hml, hown, hts⟩, hr, hlocks, hXX⟩ := id hE
  intro h nc nk x2 x3 x4 x5 hw hc hs H locs ls hI hl
  unfold wp_X6_rule_L78 at hw
  refine lv_aload_n hx hb dX6_rule_78 rfl (lv_at hl 0 rfl) ?_
  refine lv_bipush (v := 62) hx hb dX6_rule_79 (by decide) ?_
  refine lv_bipush (v := 62) hx hb dX6_rule_81 (by decide) ?_
  obtain ⟨mc12, ms12, hc, hs, hw⟩ := hw
  obtain ⟨⟨fs, hre⟩, hw⟩ := hw
  refine hx_rci hI (vx_runV (As := [.int (62 : Int32), .int (62 : Int32)]) (b := a0) (rest := []) hE.1 (snd_X6_take l G _ mc12 ms12 h a0 (62 : Int32) (62 : Int32) _ _ hw) (cwV 2 hts (lw_V q698 q700 qs11 q110 q701) rfl rfl rfl (by decide +kernel) ⟨Nat.le_of_ble_eq_true rfl, Nat.le_of_ble_eq_true rfl⟩) (hv_preV hE hI (ci := 9) rfl hre) rfl rfl hl.1 rfl (lv_room (Nat.le_of_ble_eq_true rfl)) dX6_rule_83 ⟨hc, hs⟩) ?_ (fun r13 h14 H locs hw hI => ?_)
  · intro E q15 h16 H locs hw hI hT
    exact hx_out hE hI hT hc hs (fun z hz => (ht z hz).elim) hw
  refine lv_istore (lv' := [(6, .int r13), (0, .ref a0), (2, va_rf x2), (3, .int x3), (4, .int x4), (5, va_rf x5)]) hx hb dX6_rule_86 hl (by decide) (by cases x5 <;> exact rfl) (fun ls hl => ?_)
  refine lv_aload_n hx hb dX6_rule_88 rfl (lv_at hl 1 rfl) ?_
  refine lv_iload_n hx hb dX6_rule_89 rfl (lv_at hl 3 rfl) ?_
  obtain ⟨mc17, ms17, hc, hs, hw⟩ := hw
  obtain ⟨⟨fs, hre⟩, hw⟩ := hw
  refine hx_rcq hI (vx_runV (As := [.int x3]) (b := a0) (rest := []) hE.1 (snd_X6_pattern l G _ mc17 ms17 h14 a0 x3 _ _ hw) (cwV 1 hts (lw_V q690 q692 qs9 q110 q693) rfl rfl rfl (by decide +kernel) ⟨Nat.le_of_ble_eq_true rfl, Nat.le_of_ble_eq_true rfl⟩) (hv_preV hE hI (ci := 9) rfl hre) rfl rfl hl.1 rfl (lv_room (Nat.le_of_ble_eq_true rfl)) dX6_rule_90 ⟨hc, hs⟩) ?_ (fun r18 h19 H locs hw hI => ?_)
  · intro E q20 h21 H locs hw hI hT
    exact hx_out hE hI hT hc hs (fun z hz => (ht z hz).elim) hw
  refine lv_astoreq (lv' := [(7, va_rf r18), (6, .int r13), (0, .ref a0), (2, va_rf x2), (3, .int x3), (4, .int x4), (5, va_rf x5)]) hx hb dX6_rule_93 hl (by decide) rfl (fun ls hl => ?_)
  refine lv_aload_n hx hb dX6_rule_95 rfl (lv_at hl 2 rfl) ?_
  refine lv_bipush (v := 42) hx hb dX6_rule_96 (by decide) ?_
  refine lv_bipush (v := 42) hx hb dX6_rule_98 (by decide) ?_
  obtain ⟨mc22, ms22, hc, hs, hw⟩ := hw
  obtain ⟨⟨fs, hre⟩, hw⟩ := hw
  refine hx_rci hI (vx_runV (As := [.int (42 : Int32), .int (42 : Int32)]) (b := a0) (rest := []) hE.1 (snd_X6_take l G _ mc22 ms22 h19 a0 (42 : Int32) (42 : Int32) _ _ hw) (cwV 2 hts (lw_V q698 q700 qs11 q110 q701) rfl rfl rfl (by decide +kernel) ⟨Nat.le_of_ble_eq_true rfl, Nat.le_of_ble_eq_true rfl⟩) (hv_preV hE hI (ci := 9) rfl hre) rfl rfl hl.1 rfl (lv_room (Nat.le_of_ble_eq_true rfl)) dX6_rule_100 ⟨hc, hs⟩) ?_ (fun r23 h24 H locs hw hI => ?_)
  · intro E q25 h26 H locs hw hI hT
    exact hx_out hE hI hT hc hs (fun z hz => (ht z hz).elim) hw
  refine lv_istore (lv' := [(6, .int r23), (7, va_rf r18), (0, .ref a0), (2, va_rf x2), (3, .int x3), (4, .int x4), (5, va_rf x5)]) hx hb dX6_rule_103 hl (by decide) (by cases x5 <;> exact rfl) (fun ls hl => ?_)
  obtain ⟨hc, hs, hw⟩ := hw
  refine hv_wnew tyX9 hE hI in_X9 tyX9_ok (hts _ q840) (hts _ q841) (hts _ q118) (ci := 12) rfl df_X9_ok hw hc hs dX6_rule_105 (fun a27 h28 H hw hI => ?_)
  refine lv_dup hx hb dX6_rule_108 rfl ?_
  refine lv_aload_nq hx hb dX6_rule_109 rfl (lv_at hl 3 rfl) ?_
  refine lv_aloadq hx hb dX6_rule_110 (lv_at hl 6 rfl) ?_
  refine lv_iload hx hb dX6_rule_112 (lv_at hl 5 rfl) ?_
  refine lv_aloadq hx hb dX6_rule_114 (lv_at hl 1 rfl) ?_
  refine lv_aload_n hx hb dX6_rule_116 rfl (lv_at hl 2 rfl) ?_
  obtain ⟨mc29, ms29, hc, hs, hw⟩ := hw
  obtain ⟨⟨fs, hre⟩, hw⟩ := hw
  refine hx_rci hI (vx_runV (As := []) (b := a0) (rest := [va_rf r18, .int x4, va_rf x5, va_rf x2, .ref a27, .ref a27]) hE.1 (snd_X6_digit l G _ mc29 ms29 h28 a0 _ _ hw) (cwV 0 hts (lw_V q812 q814 qs14 q110 q815) rfl rfl rfl (by decide +kernel) ⟨Nat.le_of_ble_eq_true rfl, Nat.le_of_ble_eq_true rfl⟩) (hv_preV hE hI (ci := 9) rfl hre) rfl rfl hl.1 rfl (lv_room (by cases x2 <;> cases x5 <;> cases r18 <;> exact Nat.le_of_ble_eq_true rfl)) dX6_rule_117 ⟨hc, hs⟩) ?_ (fun r30 h31 H locs hw hI => ?_)
  · intro E q32 h33 H locs hw hI hT
    exact hx_out hE hI hT hc hs (fun z hz => (ht z hz).elim) hw
  refine hv_rcv hI (va_runI (As := [va_rf x2, va_rf x5, .int x4, va_rf r18, .int r30]) (b := a27) (rest := [.ref a27]) hE.1 (snd_X9_init l G _ h31 a27 x2 x5 x4 r18 r30 _ hw) (cwI 5 hts (lw_meth q844) rfl rfl rfl (hts _ q118) (hts _ q842) (hts _ q843) rfl (by decide +kernel) ⟨Nat.le_of_ble_eq_true rfl, Nat.le_of_ble_eq_true rfl⟩) (hv_preS hE hI) rfl rfl hl.1 rfl (lv_room (Nat.le_of_ble_eq_true rfl)) dX6_rule_120 ⟨hc, hs⟩) (fun h34 H locs hw hI => ?_)
  exact vx_ret (hv_qret (v := (some a27)) hE (Or.inl ⟨_, rfl⟩) hI hc hs hw dX6_rule_123)
def wp_X6_rule (G : GG) (mc : Nat) (ms : Nat) (h : HH) (a0 : Nat) (Q : Option Nat → HH → Prop) (X : String → Nat → HH → Prop) : Prop := (∃ mc1 ms1, 0 + mc1 ≤ mc ∧ 0 + ms1 ≤ ms ∧ w_is h a0 9 (wp_X6_pattern G mc1 ms1 h a0 (7 : Int32) (fun r2 h3 => wp_X6_variables G h3 r2 (fun r6 h7 => w_is h7 a0 9 (wp_X6_isNext G h7 a0 (33 : Int32) (33 : Int32) (fun r8 h9 => ((r8 = 0 → w_is h9 a0 9 (wp_X6_isNext G h9 a0 (62 : Int32) (62 : Int32) (fun r10 h11 => ((¬ r10 = 0 → wp_X6_rule_L78 G mc ms a0 Q X h11 (0 + mc1) (0 + ms1) r2 r6 r8 none) ∧ (r10 = 0 → (∃ mc35 ms35, (0 + mc1) + mc35 ≤ mc ∧ (0 + ms1) + ms35 ≤ ms ∧ w_is h11 a0 9 (wp_X6_pattern G mc35 ms35 h11 a0 (7 : Int32) (fun r36 h37 => wp_X6_variables G h37 r36 (fun r40 h41 => wp_X6_rule_L78 G mc ms a0 Q X h41 ((0 + mc1) + mc35) ((0 + ms1) + ms35) r2 (r6 ||| r40) r8 r36)) (fun E q38 h39 => X E q38 h39)))))))) ∧ (¬ r8 = 0 → (∃ mc42 ms42, (0 + mc1) + mc42 ≤ mc ∧ (0 + ms1) + ms42 ≤ ms ∧ w_is h9 a0 9 (wp_X6_take G mc42 ms42 h9 a0 (33 : Int32) (33 : Int32) (fun r43 h44 => (∃ mc47 ms47, ((0 + mc1) + mc42) + mc47 ≤ mc ∧ ((0 + ms1) + ms42) + ms47 ≤ ms ∧ w_is h44 a0 9 (wp_X6_pattern G mc47 ms47 h44 a0 r6 (fun r48 h49 => wp_X6_rule_L78 G mc ms a0 Q X h49 (((0 + mc1) + mc42) + mc47) (((0 + ms1) + ms42) + ms47) r2 r6 r8 r48) (fun E q50 h51 => X E q50 h51)))) (fun E q45 h46 => X E q45 h46))))))))) (fun E q4 h5 => X E q4 h5)))
set_option maxHeartbeats 4000000 in
theorem snd_X6_rule (l : Launch) (G : GG) (sz : Nat) (mc : Nat) (ms : Nat) (h : HH) (a0 : Nat) (Q : Option Nat → HH → Prop) (X : String → Nat → HH → Prop) (hw : wp_X6_rule G mc ms h a0 Q X) : vx_Met l yX6_rule (ws_ yX6_rule cX6_rule 8 (some (FieldType.object "MatchmakerRules$Rule"))) (rm_X6_rule mc ms) (hv_Pc G h sz [.ref a0]) (hv_Qq G h sz Q) (hv_XC G h sz X) mc ms (hv_A h sz) := by
  refine vx_ofW (cc := cX6_rule) (maxL := 8) (ret := (some (FieldType.object "MatchmakerRules$Rule"))) (by decide) rfl ?_
  intro p e s m args below meth c s₁ B hml ht hv
  obtain ⟨rfl, rfl, hE, hI⟩ := hv_open B hml hv
  have hE : hv_E p s m ([.ref a0] : List Value).toArray meth c cX6_rule 8 (some (FieldType.object "MatchmakerRules$Rule")) RX6 G h := hE
  obtain ⟨⟨hx, hb, hml, hown, hts⟩, hr, hlocks, hXX⟩ := id hE
  have hl := lv_entry ([.ref a0] : List Value) (n := 8) (Nat.le_of_ble_eq_true rfl)
  rw [lg_entry_eq]
  generalize (lg_sl ([.ref a0] : List Value) ++ List.replicate (8 - (lg_sl ([.ref a0] : List Value)).length) Slot.unset).toArray = ls at hl ⊢
  have hl : lv_has ls 8 [(0, .ref a0)] := hl
  have hc : 0 ≤ mc := Nat.zero_le _
  have hs : 0 ≤ ms := Nat.zero_le _
  unfold wp_X6_rule at hw
  refine lv_bipush (v := 7) hx hb dX6_rule_0 (by decide) ?_
  refine lv_istore_n (lv' := [(1, .int (7 : Int32)), (0, .ref a0)]) hx hb dX6_rule_2 rfl hl (by decide) rfl (fun ls hl => ?_)
  refine lv_aload_n hx hb dX6_rule_3 rfl (lv_at hl 1 rfl) ?_
  refine lv_iload_n hx hb dX6_rule_4 rfl (lv_at hl 0 rfl) ?_
  obtain ⟨mc1, ms1, hc, hs, hw⟩ := hw
  obtain ⟨⟨fs, hre⟩, hw⟩ := hw
  refine hx_rcq hI (vx_runV (As := [.int (7 : Int32)]) (b := a0) (rest := []) hE.1 (snd_X6_pattern l G _ mc1 ms1 h a0 (7 : Int32) _ _ hw) (cwV 1 hts (lw_V q690 q692 qs9 q110 q693) rfl rfl rfl (by decide +kernel) ⟨Nat.le_of_ble_eq_true rfl, Nat.le_of_ble_eq_true rfl⟩) (hv_preV hE hI (ci := 9) rfl hre) rfl rfl hl.1 rfl (lv_room (Nat.le_of_ble_eq_true rfl)) dX6_rule_5 ⟨hc, hs⟩) ?_ (fun r2 h3 H locs hw hI => ?_)
  · intro E q4 h5 H locs hw hI hT
    exact hx_out hE hI hT hc hs (fun z hz => (ht z hz).elim) hw
  refine lv_astore_nq (lv' := [(2, va_rf r2), (1, .int (7 : Int32)), (0, .ref a0)]) hx hb dX6_rule_8 rfl hl (by decide) rfl (fun ls hl => ?_)
  refine lv_aload_nq hx hb dX6_rule_9 rfl (lv_at hl 0 rfl) ?_
  refine hv_rci hI (va_runS (As := [va_rf r2]) (rest := []) hE.1 (snd_X6_variables l G _ h3 r2 _ hw) (va_cwS 1 hts (lw_S q837 q838 q110 q839) rfl rfl rfl (by decide +kernel) ⟨Nat.le_of_ble_eq_true rfl, Nat.le_of_ble_eq_true rfl⟩) (hv_preS hE hI) rfl rfl hl.1 rfl (lv_room (Nat.le_of_ble_eq_true rfl)) dX6_rule_10 ⟨hc, hs⟩) (fun r6 h7 H locs hw hI => ?_)
  refine lv_istore_n (lv' := [(3, .int r6), (2, va_rf r2), (1, .int (7 : Int32)), (0, .ref a0)]) hx hb dX6_rule_13 rfl hl (by decide) (by cases r2 <;> exact rfl) (fun ls hl => ?_)
  refine lv_aload_n hx hb dX6_rule_14 rfl (lv_at hl 3 rfl) ?_
  refine lv_bipush (v := 33) hx hb dX6_rule_15 (by decide) ?_
  refine lv_bipush (v := 33) hx hb dX6_rule_17 (by decide) ?_
  obtain ⟨⟨fs, hre⟩, hw⟩ := hw
  refine hv_rci hI (va_runV (As := [.int (33 : Int32), .int (33 : Int32)]) (b := a0) (rest := []) hE.1 (snd_X6_isNext l G _ h7 a0 (33 : Int32) (33 : Int32) _ hw) (cwV 2 hts (lw_V q702 q704 qs12 q110 q705) rfl rfl rfl (by decide +kernel) ⟨Nat.le_of_ble_eq_true rfl, Nat.le_of_ble_eq_true rfl⟩) (hv_preV hE hI (ci := 9) rfl hre) rfl rfl hl.1 rfl (lv_room (Nat.le_of_ble_eq_true rfl)) dX6_rule_19 ⟨hc, hs⟩) (fun r8 h9 H locs hw hI => ?_)
  refine lv_istore (lv' := [(4, .int r8), (3, .int r6), (2, va_rf r2), (1, .int (7 : Int32)), (0, .ref a0)]) hx hb dX6_rule_22 hl (by decide) rfl (fun ls hl => ?_)
  refine lv_null hx hb dX6_rule_24 ?_
  refine lv_astoreN (lv' := [(5, .null), (4, .int r8), (3, .int r6), (2, va_rf r2), (1, .int (7 : Int32)), (0, .ref a0)]) hx hb dX6_rule_25 hl (by decide) rfl (fun ls hl => ?_)
  refine lv_iload hx hb dX6_rule_27 (lv_at hl 1 rfl) ?_
  refine lv_if_eq (tgt := 52) hx hb dX6_rule_29 (by decide) (fun c_29 => ?_) (fun c_29 => ?_)
  · have hw := hw.1 c_29
    refine lv_aload_n hx hb dX6_rule_52 rfl (lv_at hl 5 rfl) ?_
    refine lv_bipush (v := 62) hx hb dX6_rule_53 (by decide) ?_
    refine lv_bipush (v := 62) hx hb dX6_rule_55 (by decide) ?_
    obtain ⟨⟨fs, hre⟩, hw⟩ := hw
    refine hv_rci hI (va_runV (As := [.int (62 : Int32), .int (62 : Int32)]) (b := a0) (rest := []) hE.1 (snd_X6_isNext l G _ h9 a0 (62 : Int32) (62 : Int32) _ hw) (cwV 2 hts (lw_V q702 q704 qs12 q110 q705) rfl rfl rfl (by decide +kernel) ⟨Nat.le_of_ble_eq_true rfl, Nat.le_of_ble_eq_true rfl⟩) (hv_preV hE hI (ci := 9) rfl hre) rfl rfl hl.1 rfl (lv_room (Nat.le_of_ble_eq_true rfl)) dX6_rule_57 ⟨hc, hs⟩) (fun r10 h11 H locs hw hI => ?_)
    refine lv_if_ne (tgt := 78) hx hb dX6_rule_60 (by decide) (fun c_60 => ?_) (fun c_60 => ?_)
    · have hw := hw.1 c_60
      exact snd_X6_rule_L78 G mc ms a0 Q X ht hE h11 (0 + mc1) (0 + ms1) r2 r6 r8 none hw hc hs _ _ _ hI (lv_sub hl [5, 3, 2, 1, 0] rfl)
    · have hw := hw.2 c_60
      refine lv_aload_n hx hb dX6_rule_63 rfl (lv_at hl 5 rfl) ?_
      refine lv_iload_n hx hb dX6_rule_64 rfl (lv_at hl 4 rfl) ?_
      obtain ⟨mc35, ms35, hc, hs, hw⟩ := hw
      obtain ⟨⟨fs, hre⟩, hw⟩ := hw
      refine hx_rcq hI (vx_runV (As := [.int (7 : Int32)]) (b := a0) (rest := []) hE.1 (snd_X6_pattern l G _ mc35 ms35 h11 a0 (7 : Int32) _ _ hw) (cwV 1 hts (lw_V q690 q692 qs9 q110 q693) rfl rfl rfl (by decide +kernel) ⟨Nat.le_of_ble_eq_true rfl, Nat.le_of_ble_eq_true rfl⟩) (hv_preV hE hI (ci := 9) rfl hre) rfl rfl hl.1 rfl (lv_room (Nat.le_of_ble_eq_true rfl)) dX6_rule_65 ⟨hc, hs⟩) ?_ (fun r36 h37 H locs hw hI => ?_)
      · intro E q38 h39 H locs hw hI hT
        exact hx_out hE hI hT hc hs (fun z hz => (ht z hz).elim) hw
      refine lv_astoreq (lv' := [(5, va_rf r36), (4, .int r8), (3, .int r6), (2, va_rf r2), (1, .int (7 : Int32)), (0, .ref a0)]) hx hb dX6_rule_68 hl (by decide) rfl (fun ls hl => ?_)
      refine lv_iload_n hx hb dX6_rule_70 rfl (lv_at hl 2 rfl) ?_
      refine lv_aloadq hx hb dX6_rule_71 (lv_at hl 0 rfl) ?_
      refine hv_rci hI (va_runS (As := [va_rf r36]) (rest := [.int r6]) hE.1 (snd_X6_variables l G _ h37 r36 _ hw) (va_cwS 1 hts (lw_S q837 q838 q110 q839) rfl rfl rfl (by decide +kernel) ⟨Nat.le_of_ble_eq_true rfl, Nat.le_of_ble_eq_true rfl⟩) (hv_preS hE hI) rfl rfl hl.1 rfl (lv_room (Nat.le_of_ble_eq_true rfl)) dX6_rule_73 ⟨hc, hs⟩) (fun r40 h41 H locs hw hI => ?_)
      refine lv_ior hx hb dX6_rule_76 ?_
      refine lv_istore_n (lv' := [(3, .int (r6 ||| r40)), (5, va_rf r36), (4, .int r8), (2, va_rf r2), (1, .int (7 : Int32)), (0, .ref a0)]) hx hb dX6_rule_77 rfl hl (by decide) (by cases r2 <;> exact rfl) (fun ls hl => ?_)
      exact snd_X6_rule_L78 G mc ms a0 Q X ht hE h41 ((0 + mc1) + mc35) ((0 + ms1) + ms35) r2 (r6 ||| r40) r8 r36 hw hc hs _ _ _ hI (lv_sub hl [5, 3, 0, 2, 1] rfl)
  · have hw := hw.2 c_29
    refine lv_aload_n hx hb dX6_rule_32 rfl (lv_at hl 5 rfl) ?_
    refine lv_bipush (v := 33) hx hb dX6_rule_33 (by decide) ?_
    refine lv_bipush (v := 33) hx hb dX6_rule_35 (by decide) ?_
    obtain ⟨mc42, ms42, hc, hs, hw⟩ := hw
    obtain ⟨⟨fs, hre⟩, hw⟩ := hw
    refine hx_rci hI (vx_runV (As := [.int (33 : Int32), .int (33 : Int32)]) (b := a0) (rest := []) hE.1 (snd_X6_take l G _ mc42 ms42 h9 a0 (33 : Int32) (33 : Int32) _ _ hw) (cwV 2 hts (lw_V q698 q700 qs11 q110 q701) rfl rfl rfl (by decide +kernel) ⟨Nat.le_of_ble_eq_true rfl, Nat.le_of_ble_eq_true rfl⟩) (hv_preV hE hI (ci := 9) rfl hre) rfl rfl hl.1 rfl (lv_room (Nat.le_of_ble_eq_true rfl)) dX6_rule_37 ⟨hc, hs⟩) ?_ (fun r43 h44 H locs hw hI => ?_)
    · intro E q45 h46 H locs hw hI hT
      exact hx_out hE hI hT hc hs (fun z hz => (ht z hz).elim) hw
    refine lv_istore (lv' := [(6, .int r43), (5, .null), (4, .int r8), (3, .int r6), (2, va_rf r2), (1, .int (7 : Int32)), (0, .ref a0)]) hx hb dX6_rule_40 hl (by decide) rfl (fun ls hl => ?_)
    refine lv_aload_n hx hb dX6_rule_42 rfl (lv_at hl 6 rfl) ?_
    refine lv_iload_n hx hb dX6_rule_43 rfl (lv_at hl 3 rfl) ?_
    obtain ⟨mc47, ms47, hc, hs, hw⟩ := hw
    obtain ⟨⟨fs, hre⟩, hw⟩ := hw
    refine hx_rcq hI (vx_runV (As := [.int r6]) (b := a0) (rest := []) hE.1 (snd_X6_pattern l G _ mc47 ms47 h44 a0 r6 _ _ hw) (cwV 1 hts (lw_V q690 q692 qs9 q110 q693) rfl rfl rfl (by decide +kernel) ⟨Nat.le_of_ble_eq_true rfl, Nat.le_of_ble_eq_true rfl⟩) (hv_preV hE hI (ci := 9) rfl hre) rfl rfl hl.1 rfl (lv_room (Nat.le_of_ble_eq_true rfl)) dX6_rule_44 ⟨hc, hs⟩) ?_ (fun r48 h49 H locs hw hI => ?_)
    · intro E q50 h51 H locs hw hI hT
      exact hx_out hE hI hT hc hs (fun z hz => (ht z hz).elim) hw
    refine lv_astoreq (lv' := [(5, va_rf r48), (6, .int r43), (4, .int r8), (3, .int r6), (2, va_rf r2), (1, .int (7 : Int32)), (0, .ref a0)]) hx hb dX6_rule_47 hl (by decide) rfl (fun ls hl => ?_)
    refine lv_goto (tgt := 78) hx hb dX6_rule_49 (by decide) ?_
    exact snd_X6_rule_L78 G mc ms a0 Q X ht hE h49 (((0 + mc1) + mc42) + mc47) (((0 + ms1) + ms42) + ms47) r2 r6 r8 r48 hw hc hs _ _ _ hI (lv_sub hl [6, 4, 3, 2, 0] rfl)

/-- MatchmakerRules$Parser.wholeRule()LMatchmakerRules$Rule; -/
abbrev rm_X6_wholeRule (mc ms : Nat) : Room := { frames := 11, cells := mc, slots := ms, locals := 236 }
def wp_X6_wholeRule (G : GG) (mc : Nat) (ms : Nat) (h : HH) (a0 : Nat) (Q : Option Nat → HH → Prop) (X : String → Nat → HH → Prop) : Prop := (∃ mc1 ms1, 0 + mc1 ≤ mc ∧ 0 + ms1 ≤ ms ∧ w_is h a0 9 (wp_X6_rule G mc1 ms1 h a0 (fun r2 h3 => w_geti h3 a0 9 1 (fun r6 => w_getq h3 a0 9 0 (fun r7 => w_nn r7 (fun a8 => w_is h3 a8 6 (wp_J5_length G h3 a8 (fun r9 h10 => ((r9 ≤ r6 → Q r2 h10) ∧ (¬ r9 ≤ r6 → ((0 + mc1) + 1 ≤ mc ∧ (0 + ms1) + 7 ≤ ms ∧ w_new h10 (.inr (10, df_X7)) (fun a11 h12 => w_geti h12 a0 9 1 (fun r13 => wp_X7_init G h12 a11 r13 (fun h14 => w_is h14 a11 10 (X "MatchmakerRules$SyntaxException" a11 h14))))))))))))) (fun E q4 h5 => X E q4 h5)))
set_option maxHeartbeats 4000000 in
theorem snd_X6_wholeRule (l : Launch) (G : GG) (sz : Nat) (mc : Nat) (ms : Nat) (h : HH) (a0 : Nat) (Q : Option Nat → HH → Prop) (X : String → Nat → HH → Prop) (hw : wp_X6_wholeRule G mc ms h a0 Q X) : vx_Met l yX6_wholeRule (ws_ yX6_wholeRule cX6_wholeRule 2 (some (FieldType.object "MatchmakerRules$Rule"))) (rm_X6_wholeRule mc ms) (hv_Pc G h sz [.ref a0]) (hv_Qq G h sz Q) (hv_XC G h sz X) mc ms (hv_A h sz) := by
  refine vx_ofW (cc := cX6_wholeRule) (maxL := 2) (ret := (some (FieldType.object "MatchmakerRules$Rule"))) (by decide) rfl ?_
  intro p e s m args below meth c s₁ B hml ht hv
  obtain ⟨rfl, rfl, hE, hI⟩ := hv_open B hml hv
  have hE : hv_E p s m ([.ref a0] : List Value).toArray meth c cX6_wholeRule 2 (some (FieldType.object "MatchmakerRules$Rule")) RX6 G h := hE
  obtain ⟨⟨hx, hb, hml, hown, hts⟩, hr, hlocks, hXX⟩ := id hE
  have hl := lv_entry ([.ref a0] : List Value) (n := 2) (Nat.le_of_ble_eq_true rfl)
  rw [lg_entry_eq]
  generalize (lg_sl ([.ref a0] : List Value) ++ List.replicate (2 - (lg_sl ([.ref a0] : List Value)).length) Slot.unset).toArray = ls at hl ⊢
  have hl : lv_has ls 2 [(0, .ref a0)] := hl
  have hc : 0 ≤ mc := Nat.zero_le _
  have hs : 0 ≤ ms := Nat.zero_le _
  unfold wp_X6_wholeRule at hw
  refine lv_aload_n hx hb dX6_wholeRule_0 rfl (lv_at hl 0 rfl) ?_
  obtain ⟨mc1, ms1, hc, hs, hw⟩ := hw
  obtain ⟨⟨fs, hre⟩, hw⟩ := hw
  refine hx_rcq hI (vx_runV (As := []) (b := a0) (rest := []) hE.1 (snd_X6_rule l G _ mc1 ms1 h a0 _ _ hw) (cwV 0 hts (lw_V q686 q687 q688 q110 q689) rfl rfl rfl (by decide +kernel) ⟨Nat.le_of_ble_eq_true rfl, Nat.le_of_ble_eq_true rfl⟩) (hv_preV hE hI (ci := 9) rfl hre) rfl rfl hl.1 rfl (lv_room (Nat.le_of_ble_eq_true rfl)) dX6_wholeRule_1 ⟨hc, hs⟩) ?_ (fun r2 h3 H locs hw hI => ?_)
  · intro E q4 h5 H locs hw hI hT
    exact hx_out hE hI hT hc hs (fun z hz => (ht z hz).elim) hw
  refine lv_astore_nq (lv' := [(1, va_rf r2), (0, .ref a0)]) hx hb dX6_wholeRule_4 rfl hl (by decide) rfl (fun ls hl => ?_)
  refine lv_aload_n hx hb dX6_wholeRule_5 rfl (lv_at hl 1 rfl) ?_
  refine hv_wgeti hE hI in_X6 (ci := 9) rfl 1 (by decide) (hts _ q676) (fun _ hx => hx) hw dX6_wholeRule_6 (fun r6 hw => ?_)
  refine lv_aload_n hx hb dX6_wholeRule_9 rfl (lv_at hl 1 rfl) ?_
  refine hv_wgetq hE hI in_X6 (ci := 9) rfl 0 (by decide) (hts _ q675) (fun _ hx => hx) hw dX6_wholeRule_10 (fun r7 hw => ?_)
  obtain ⟨a8, hz, hwa8⟩ := hw; have hla8 := hl; subst hz; have hw := hwa8; have hl := hla8
  obtain ⟨⟨fs, hre⟩, hw⟩ := hw
  refine hv_rFi hI (va_runF (As := []) (b := a8) (rest := [.int r6]) (hXX.1.1 6 _ rfl).2 hE.1 (snd_J5_length l G _ h3 a8 _ hw) (va_cwF 0 hts (lw_F q707 q721 q723 q105 q725) rfl rfl rfl (hv_fw3 hE.2.2.2.2.1) (by decide +kernel) ⟨Nat.le_of_ble_eq_true rfl, Nat.le_of_ble_eq_true rfl⟩) (hv_preV hE hI (ci := 6) rfl hre) rfl rfl hl.1 rfl (lv_room (Nat.le_of_ble_eq_true rfl)) dX6_wholeRule_13 ⟨hc, hs⟩) (fun r9 h10 H locs hw hI => ?_)
  refine lv_icmp_ge (tgt := 33) hx hb dX6_wholeRule_18 (by decide) (fun c_18 => ?_) (fun c_18 => ?_)
  · have hw := hw.1 c_18
    refine lv_aload_nq hx hb dX6_wholeRule_33 rfl (lv_at hl 0 rfl) ?_
    exact vx_ret (hv_qret (v := r2) hE (Or.inl ⟨_, rfl⟩) hI hc hs hw dX6_wholeRule_34)
  · have hw := hw.2 c_18
    obtain ⟨hc, hs, hw⟩ := hw
    refine hv_wnew tyX7 hE hI in_X7 tyX7_ok (hts _ q784) (hts _ q785) (hts _ q116) (ci := 10) rfl df_X7_ok hw hc hs dX6_wholeRule_21 (fun a11 h12 H hw hI => ?_)
    refine lv_dup hx hb dX6_wholeRule_24 rfl ?_
    refine lv_aload_n hx hb dX6_wholeRule_25 rfl (lv_at hl 1 rfl) ?_
    refine hv_wgeti hE hI in_X6 (ci := 9) rfl 1 (by decide) (hts _ q676) (fun _ hx => hx) hw dX6_wholeRule_26 (fun r13 hw => ?_)
    refine hv_rcv hI (va_runI (As := [.int r13]) (b := a11) (rest := [.ref a11]) hE.1 (snd_X7_init l G _ h12 a11 r13 _ hw) (cwI 1 hts (lw_meth q795) rfl rfl rfl (hts _ q116) (hts _ q793) (hts _ q794) rfl (by decide +kernel) ⟨Nat.le_of_ble_eq_true rfl, Nat.le_of_ble_eq_true rfl⟩) (hv_preS hE hI) rfl rfl hl.1 rfl (lv_room (Nat.le_of_ble_eq_true rfl)) dX6_wholeRule_29 ⟨hc, hs⟩) (fun h14 H locs hw hI => ?_)
    obtain ⟨⟨fs, hre⟩, hw⟩ := hw
    exact hx_athrow (E := "MatchmakerRules$SyntaxException") hE dX6_wholeRule_32 (hx_out hE hI (hv_Tof (ci := 10) hE hI rfl hre) hc hs (fun z hz => (ht z hz).elim) hw)

theorem ha_MatchmakerRules_3_IllegalArgumentException {p : Program} {s : State} {m : MethodId} {args : Array Value} {meth : Method} {c : Code} {cc : ByteArray} {nL : Nat} {ret : Option FieldType} {own : String} {G : GG} {h0 : HH} (hE : hv_E p s m args meth c cc nL ret own G h0) : ∀ w ∈ vx_at0 "MatchmakerRules" 3 "java/lang/IllegalArgumentException" ["java/lang/RuntimeException", "java/lang/Exception"], w.before args s = true := by
  obtain ⟨⟨-, -, -, -, hts⟩, -, -, -, hX, -⟩ := hE
  have h1 : ∀ w ∈ Bundle.ownAtoms0 "MatchmakerRules" 3 "java/lang/IllegalArgumentException" ["java/lang/RuntimeException", "java/lang/Exception"], vx_no w = true → w.before args s = true := (List.forall_mem_cons.mpr ⟨(fun _ => hts _ q114), (List.forall_mem_cons.mpr ⟨(fun _ => hts _ q419), (List.forall_mem_cons.mpr ⟨(fun _ => hts _ q428), (List.forall_mem_cons.mpr ⟨(fun _ => hts _ q440), (List.forall_mem_cons.mpr ⟨(fun _ => hts _ q443), (List.forall_mem_cons.mpr ⟨(fun _ => hts _ q445), (List.forall_mem_cons.mpr ⟨(fun _ => hts _ q420), (List.forall_mem_cons.mpr ⟨(fun _ => hts _ q421), (List.forall_mem_cons.mpr ⟨(fun _ => hts _ q146), (List.forall_mem_cons.mpr ⟨(fun _ => hts _ q147), (List.forall_mem_cons.mpr ⟨(fun _ => hts _ q422), (List.forall_mem_cons.mpr ⟨(fun _ => hts _ q427), (List.forall_mem_cons.mpr ⟨(fun _ => hts _ q441), (List.forall_mem_cons.mpr ⟨(fun _ => hts _ q458), (List.forall_mem_cons.mpr ⟨(fun _ => hts _ q409), (List.forall_mem_cons.mpr ⟨(fun _ => hts _ q459), (List.forall_mem_cons.mpr ⟨(fun _ => hts _ q411), (List.forall_mem_cons.mpr ⟨(fun _ => hts _ q460), (List.forall_mem_cons.mpr ⟨(fun _ => hts _ q413), (List.forall_mem_cons.mpr ⟨(fun _ => hts _ q423), (List.forall_mem_cons.mpr ⟨(fun hz => absurd hz (by decide +kernel)), (List.forall_mem_cons.mpr ⟨(fun _ => hts _ q425), (List.forall_mem_cons.mpr ⟨(fun hz => absurd hz (by decide +kernel)), (List.forall_mem_cons.mpr ⟨(fun _ => hts _ q415), (List.forall_mem_cons.mpr ⟨(fun _ => hts _ q879), (List.forall_mem_cons.mpr ⟨(fun _ => hts _ q880), (List.forall_mem_cons.mpr ⟨(fun _ => hts _ q881), (List.forall_mem_cons.mpr ⟨(fun _ => hts _ q450), (List.forall_mem_cons.mpr ⟨(fun _ => (hX.D 4 rfl).use rfl), (List.forall_mem_cons.mpr ⟨(fun _ => hts _ q450), (List.forall_mem_cons.mpr ⟨(fun _ => hts _ q451), (List.forall_mem_cons.mpr ⟨(fun _ => hts _ q452), (List.forall_mem_cons.mpr ⟨(fun _ => hts _ q453), (List.forall_mem_cons.mpr ⟨(fun _ => (hX.D 2 rfl).use rfl), (List.forall_mem_cons.mpr ⟨(fun _ => hts _ q453), (List.forall_mem_cons.mpr ⟨(fun _ => hts _ q454), (List.forall_mem_cons.mpr ⟨(fun _ => hts _ q455), (List.forall_mem_cons.mpr ⟨(fun _ => hts _ q420), (List.forall_mem_cons.mpr ⟨(fun _ => (hX.D 0 rfl).use rfl), (List.forall_mem_cons.mpr ⟨(fun _ => hts _ q878), (List.forall_mem_cons.mpr ⟨(fun _ => hts _ q870), (List.forall_mem_cons.mpr ⟨(fun _ => (hX.C 17 rfl).use rfl), (List.forall_mem_cons.mpr ⟨(fun _ => hts _ q872), (List.forall_mem_cons.mpr ⟨(fun _ => hts _ q435), (List.forall_mem_cons.mpr ⟨(fun _ => hts _ q873), (List.forall_mem_cons.mpr ⟨(fun _ => hts _ q874), (List.forall_mem_cons.mpr ⟨(fun _ => hts _ q875), (List.forall_mem_cons.mpr ⟨(fun _ => hts _ q876), (List.forall_mem_cons.mpr ⟨(fun hz => absurd hz (by decide +kernel)), (List.forall_mem_cons.mpr ⟨(fun hz => absurd hz (by decide +kernel)), (List.forall_mem_cons.mpr ⟨(fun _ => hts _ q418), (List.forall_mem_cons.mpr ⟨(fun _ => hts _ q417), (List.forall_mem_cons.mpr ⟨(fun _ => hts _ q877), (fun _ hz => absurd hz List.not_mem_nil)⟩)⟩)⟩)⟩)⟩)⟩)⟩)⟩)⟩)⟩)⟩)⟩)⟩)⟩)⟩)⟩)⟩)⟩)⟩)⟩)⟩)⟩)⟩)⟩)⟩)⟩)⟩)⟩)⟩)⟩)⟩)⟩)⟩)⟩)⟩)⟩)⟩)⟩)⟩)⟩)⟩)⟩)⟩)⟩)⟩)⟩)⟩)⟩)⟩)⟩)⟩)⟩)⟩)
  exact fun w hw => h1 w (List.mem_filter.mp hw).1 (List.mem_filter.mp hw).2

/-- MatchmakerRules.takeRule()LMatchmakerRules$Rule; -/
abbrev rm_X1_takeRule (mc ms : Nat) : Room := { frames := 12, cells := mc, slots := ms, locals := 257 }
def wp_X1_takeRule (G : GG) (mc : Nat) (ms : Nat) (h : HH) (a0 : Nat) (Q : Option Nat → HH → Prop) (X : String → Nat → HH → Prop) : Prop := (∃ mc1 ms1, 0 + mc1 ≤ mc ∧ 0 + ms1 ≤ ms ∧ w_is h a0 1 (wp_X1_takeInput G mc1 ms1 h a0 (fun r2 h3 => w_nn r2 (fun a4 => (∃ mc5 ms5, (0 + mc1) + mc5 ≤ mc ∧ (0 + ms1) + ms5 ≤ ms ∧ w_is h3 a4 9 (wp_X6_wholeRule G mc5 ms5 h3 a4 (fun r6 h7 => Q r6 h7) (fun E q8 h9 => (E = "MatchmakerRules$SyntaxException" ∧ w_put h9 a0 1 6 (.ref q8) (fun h10 => (((0 + mc1) + mc5) + 1 ≤ mc ∧ ((0 + ms1) + ms5) + 6 ≤ ms ∧ ∀ q11, h10 q11 = none → X "java/lang/IllegalArgumentException" q11 h10))))))))))
set_option maxHeartbeats 4000000 in
theorem snd_X1_takeRule (l : Launch) (hl0 : l.stackTraces = false) (G : GG) (sz : Nat) (mc : Nat) (ms : Nat) (h : HH) (a0 : Nat) (Q : Option Nat → HH → Prop) (X : String → Nat → HH → Prop) (hw : wp_X1_takeRule G mc ms h a0 Q X) : vx_Met l yX1_takeRule (wsW_ yX1_takeRule cX1_takeRule 2 (some (FieldType.object "MatchmakerRules$Rule")) [(0, 7, 8, 141)]) (rm_X1_takeRule mc ms) (hv_Pc G h sz [.ref a0]) (hv_Qq G h sz Q) (hv_XC G h sz X) mc ms (hv_A h sz) := by
  refine vx_ofWH (cc := cX1_takeRule) (maxL := 2) (ret := (some (FieldType.object "MatchmakerRules$Rule"))) (hh := [(0, 7, 8, 141)]) (by decide) rfl ?_
  intro p e s m args below meth c s₁ B hml hv
  have ht : c.exceptionTable.toList = tableOf [(0, 7, 8, 141)] := vx_table (x := yX1_takeRule) B (atoms_spec (ws := (wsW_ yX1_takeRule cX1_takeRule 2 (some (FieldType.object "MatchmakerRules$Rule")) [(0, 7, 8, 141)])) B.pre _ List.mem_cons_self)
  obtain ⟨rfl, rfl, hE, hI⟩ := hv_openW B hml hv
  have hE : hv_E p s m ([.ref a0] : List Value).toArray meth c cX1_takeRule 2 (some (FieldType.object "MatchmakerRules$Rule")) RX1 G h := hE
  obtain ⟨⟨hx, hb, hml, hown, hts⟩, hr, hlocks, hXX⟩ := id hE
  have hl := lv_entry ([.ref a0] : List Value) (n := 2) (Nat.le_of_ble_eq_true rfl)
  rw [lg_entry_eq]
  generalize (lg_sl ([.ref a0] : List Value) ++ List.replicate (2 - (lg_sl ([.ref a0] : List Value)).length) Slot.unset).toArray = ls at hl ⊢
  have hl : lv_has ls 2 [(0, .ref a0)] := hl
  have hc : 0 ≤ mc := Nat.zero_le _
  have hs : 0 ≤ ms := Nat.zero_le _
  unfold wp_X1_takeRule at hw
  refine lv_aload_n hx hb dX1_takeRule_0 rfl (lv_at hl 0 rfl) ?_
  obtain ⟨mc1, ms1, hc, hs, hw⟩ := hw
  obtain ⟨⟨fs, hre⟩, hw⟩ := hw
  refine hv_rcq hI (va_runV (As := []) (b := a0) (rest := []) hE.1 (snd_X1_takeInput l G _ mc1 ms1 h a0 _ hw) (cwV 0 hts (lw_V q665 q667 qs8 q97 q668) rfl rfl rfl (by decide +kernel) ⟨Nat.le_of_ble_eq_true rfl, Nat.le_of_ble_eq_true rfl⟩) (hv_preV hE hI (ci := 1) rfl hre) rfl rfl hl.1 rfl (lv_room (Nat.le_of_ble_eq_true rfl)) dX1_takeRule_1 ⟨hc, hs⟩) (fun r2 h3 H locs hw hI => ?_)
  obtain ⟨a4, hz, hwa4⟩ := hw; have hla4 := hl; subst hz; have hw := hwa4; have hl := hla4
  obtain ⟨mc5, ms5, hc, hs, hw⟩ := hw
  obtain ⟨⟨fs, hre⟩, hw⟩ := hw
  refine hx_rcq hI (vx_runV (As := []) (b := a4) (rest := []) hE.1 (snd_X6_wholeRule l G _ mc5 ms5 h3 a4 _ _ hw) (cwV 0 hts (lw_V q682 q683 q684 q110 q685) rfl rfl rfl (by decide +kernel) ⟨Nat.le_of_ble_eq_true rfl, Nat.le_of_ble_eq_true rfl⟩) (hv_preV hE hI (ci := 9) rfl hre) rfl rfl hl.1 rfl (lv_room (Nat.le_of_ble_eq_true rfl)) dX1_takeRule_4 ⟨hc, hs⟩) ?_ (fun r6 h7 H locs hw hI => ?_)
  · intro E q8 h9 H locs hw hI hT
    obtain ⟨rfl, hw⟩ := hw
    refine hx_catch hE hT [] ⟨0, 7, 8, 141⟩ [] ht (fun _ hz => absurd hz List.not_mem_nil) rfl (by decide) (hts _ q664) ((hE.2.2.2.2.1.C 13 rfl).use rfl) ?_
    refine lv_astore_n (lv' := [(1, .ref q8), (0, .ref a0)]) hx hb dX1_takeRule_8 rfl hl (by decide) rfl (fun ls hl => ?_)
    refine lv_aload_n hx hb dX1_takeRule_9 rfl (lv_at hl 1 rfl) ?_
    refine lv_aload_n hx hb dX1_takeRule_10 rfl (lv_at hl 0 rfl) ?_
    refine hv_wput (v := .ref q8) tyX1 hE hI in_X1 tyX1_ok nmX1 (ci := 1) rfl 6 (by decide) (hts _ q306) (fun _ hx => hx) rfl (ty := (.object "MatchmakerRules$SyntaxException")) rfl rfl rfl hw dX1_takeRule_11 (fun h10 H locs hw hI => ?_)
    obtain ⟨hc, hs, hw⟩ := hw
    exact hx_throw0 (names := ["java/lang/RuntimeException", "java/lang/Exception"]) (rest := []) hl0 hE hI (by decide +kernel) (by decide +kernel) (hts _ q869) (hts _ q120) (ha_MatchmakerRules_3_IllegalArgumentException hE) (by decide +kernel) hl.1 dX1_takeRule_14 dX1_takeRule_17 dX1_takeRule_18 dX1_takeRule_21 (by rw [ht]; exact (List.forall_mem_cons.mpr ⟨rfl, (fun _ hz => absurd hz List.not_mem_nil)⟩)) (Nat.le_of_ble_eq_true rfl) (Nat.le_of_ble_eq_true rfl) (Nat.le_refl _) (Nat.le_refl _) hc hs hw
  exact vx_ret (hv_qret (v := r6) hE (Or.inl ⟨_, rfl⟩) hI hc hs hw dX1_takeRule_7)

/-- MatchmakerRules$Change.<init>(LMatchmakerRules$Rule;)V -/
abbrev rm_X5_init (mc ms : Nat) : Room := { frames := 1, cells := mc, slots := ms, locals := 32 }
def wp_X5_init (G : GG) (mc : Nat) (ms : Nat) (h : HH) (a0 : Nat) (x1 : Option Nat) (Q : HH → Prop) : Prop := w_put h a0 8 0 (.int (58 : Int32)) (fun h1 => (0 + 1 ≤ mc ∧ 0 + 0 ≤ ms ∧ w_new h1 (.inl (G.2.1 0, 0, .inl (fun _ => 0))) (fun a2 h3 => w_put h3 a0 8 1 (.ref a2) (fun h4 => w_put h4 a0 8 2 (va_rf x1) (fun h5 => Q h5)))))
set_option maxHeartbeats 4000000 in
theorem snd_X5_init (l : Launch) (G : GG) (sz : Nat) (mc : Nat) (ms : Nat) (h : HH) (a0 : Nat) (x1 : Option Nat) (Q : HH → Prop) (hw : wp_X5_init G mc ms h a0 x1 Q) : Met l yX5_init (ws_ yX5_init cX5_init 2 (none : Option FieldType)) (rm_X5_init mc ms) (hv_Pc G h sz [.ref a0, va_rf x1]) (hv_Qv G h sz Q) mc ms (hv_A h sz) := by
  refine Met.ofW (cc := cX5_init) (maxL := 2) (ret := (none : Option FieldType)) (by decide) rfl ?_
  intro p e s m args below meth c s₁ B hml hv
  have hin2 : meth.name = "<init>" := (name_of_methodNamed B.named B.method).1
  obtain ⟨rfl, rfl, hE, hI⟩ := hv_open B hml hv
  have hE : hv_E p s m ([.ref a0, va_rf x1] : List Value).toArray meth c cX5_init 2 (none : Option FieldType) RX5 G h := hE
  obtain ⟨⟨hx, hb, hml, hown, hts⟩, hr, hlocks, hXX⟩ := id hE
  have hl := lv_entry ([.ref a0, va_rf x1] : List Value) (n := 2) (by cases x1 <;> exact Nat.le_of_ble_eq_true rfl)
  rw [lg_entry_eq]
  generalize (lg_sl ([.ref a0, va_rf x1] : List Value) ++ List.replicate (2 - (lg_sl ([.ref a0, va_rf x1] : List Value)).length) Slot.unset).toArray = ls at hl ⊢
  have hl : lv_has ls 2 [(0, .ref a0), (1, va_rf x1)] := (by cases x1 <;> exact hl)
  have hc : 0 ≤ mc := Nat.zero_le _
  have hs : 0 ≤ ms := Nat.zero_le _
  unfold wp_X5_init at hw
  refine lv_aload_n hx hb dX5_init_0 rfl (lv_at hl 0 rfl) ?_
  refine hv_objI (rest := []) hE (hts _ q887) (hts _ q146) (hts _ q147) hl.1 dX5_init_1 (Nat.le_of_ble_eq_true rfl) (Nat.le_of_ble_eq_true rfl) ?_
  refine lv_aload_n hx hb dX5_init_4 rfl (lv_at hl 0 rfl) ?_
  refine lv_bipush (v := 58) hx hb dX5_init_5 (by decide) ?_
  refine hv_wputF (v := .int (58 : Int32)) tyX5 hE hI in_X5 tyX5_ok nmX5 (ci := 8) rfl 0 (by decide) (hts _ q888) (fun _ hx => hx) rfl hin2 rfl (ty := .char) rfl (by decide +kernel) (by decide +kernel) hw dX5_init_7 (fun h1 H locs hw hI => ?_)
  refine lv_aload_n hx hb dX5_init_10 rfl (lv_at hl 0 rfl) ?_
  refine lv_iconst (v := 0) hx hb dX5_init_11 (by decide) ?_
  obtain ⟨hc, hs, hw⟩ := hw
  refine hv_wnewa_int (N' := 0) hE hI (hts _ q188) (by decide +kernel) (by decide +kernel) (by decide) hw hc hs dX5_init_12 (fun a2 h3 H hw hI => ?_)
  refine hv_wputF (v := .ref a2) tyX5 hE hI in_X5 tyX5_ok nmX5 (ci := 8) rfl 1 (by decide) (hts _ q889) (fun _ hx => hx) rfl hin2 rfl (ty := (.array .int)) rfl rfl rfl hw dX5_init_14 (fun h4 H locs hw hI => ?_)
  refine lv_aload_n hx hb dX5_init_17 rfl (lv_at hl 0 rfl) ?_
  refine lv_aload_nq hx hb dX5_init_18 rfl (lv_at hl 1 rfl) ?_
  refine hv_wputF (v := va_rf x1) tyX5 hE hI in_X5 tyX5_ok nmX5 (ci := 8) rfl 2 (by decide) (hts _ q890) (fun _ hx => hx) rfl hin2 rfl (ty := (.object "MatchmakerRules$Rule")) rfl (va_rf_nar _ _) (va_rf_fit _ _) hw dX5_init_19 (fun h5 H locs hw hI => ?_)
  exact hv_vret hE hI hc hs hw dX5_init_22

/-- jdk/internal/util/ArraysSupport.newLength(III)I -/
abbrev rm_J17_newLength : Room := { frames := 1, cells := 0, slots := 0, locals := 32 }
def wp_J17_newLength (G : GG) (h : HH) (x0 : Int32) (x1 : Int32) (x2 : Int32) (Q : Int32 → HH → Prop) : Prop := (((x0 + (if x1 < x2 then x2 else x1)) ≤ (0 : Int32) → False) ∧ (¬ (x0 + (if x1 < x2 then x2 else x1)) ≤ (0 : Int32) → (((2147483639 : Int32) < (x0 + (if x1 < x2 then x2 else x1)) → False) ∧ (¬ (2147483639 : Int32) < (x0 + (if x1 < x2 then x2 else x1)) → Q (x0 + (if x1 < x2 then x2 else x1)) h))))
set_option maxHeartbeats 4000000 in
theorem snd_J17_newLength (l : Launch) (G : GG) (sz : Nat) (h : HH) (x0 : Int32) (x1 : Int32) (x2 : Int32) (Q : Int32 → HH → Prop) (hw : wp_J17_newLength G h x0 x1 x2 Q) : Met l yJ17_newLength (ws_ yJ17_newLength cJ17_newLength 4 (some FieldType.int)) rm_J17_newLength (hv_Pc G h sz [.int x0, .int x1, .int x2]) (hv_Qi G h sz Q) 0 0 (hv_A h sz) := by
  refine Met.ofW (cc := cJ17_newLength) (maxL := 4) (ret := (some FieldType.int)) (by decide) rfl ?_
  intro p e s m args below meth c s₁ B hml hv
  obtain ⟨rfl, rfl, hE, hI⟩ := hv_open B hml hv
  have hE : hv_E p s m ([.int x0, .int x1, .int x2] : List Value).toArray meth c cJ17_newLength 4 (some FieldType.int) RJ17 G h := hE
  obtain ⟨⟨hx, hb, hml, hown, hts⟩, hr, hlocks, hXX⟩ := id hE
  have hl := lv_entry ([.int x0, .int x1, .int x2] : List Value) (n := 4) (Nat.le_of_ble_eq_true rfl)
  rw [lg_entry_eq]
  generalize (lg_sl ([.int x0, .int x1, .int x2] : List Value) ++ List.replicate (4 - (lg_sl ([.int x0, .int x1, .int x2] : List Value)).length) Slot.unset).toArray = ls at hl ⊢
  have hl : lv_has ls 4 [(0, .int x0), (1, .int x1), (2, .int x2)] := hl
  unfold wp_J17_newLength at hw
  refine lv_iload_n hx hb dJ17_newLength_0 rfl (lv_at hl 0 rfl) ?_
  refine lv_iload_n hx hb dJ17_newLength_1 rfl (lv_at hl 1 rfl) ?_
  refine lv_iload_n hx hb dJ17_newLength_2 rfl (lv_at hl 2 rfl) ?_
  refine va_mmax (rest := [.int x0]) hx hb (hml.trans hl.1.symm) hown (hts _ q928) (hts _ q533) (hts _ q113) (hts _ q534) (Nat.le_of_ble_eq_true rfl) (Nat.le_of_ble_eq_true rfl) (Nat.le_refl _) (Nat.le_refl _) dJ17_newLength_3 ?_
  refine lv_iadd hx hb dJ17_newLength_6 ?_
  refine lv_istore_n (lv' := [(3, .int (x0 + (if x1 < x2 then x2 else x1))), (0, .int x0), (1, .int x1), (2, .int x2)]) hx hb dJ17_newLength_7 rfl hl (by decide) rfl (fun ls hl => ?_)
  refine lv_iconst (v := 0) hx hb dJ17_newLength_8 (by decide) ?_
  refine lv_iload_n hx hb dJ17_newLength_9 rfl (lv_at hl 0 rfl) ?_
  refine lv_icmp_ge (tgt := 21) hx hb dJ17_newLength_10 (by decide) (fun c_10 => ?_) (fun c_10 => ?_)
  · have hw := hw.1 c_10
    refine lv_iload_n hx hb dJ17_newLength_21 rfl (lv_at hl 1 rfl) ?_
    refine lv_iload_n hx hb dJ17_newLength_22 rfl (lv_at hl 2 rfl) ?_
    exact hw.elim
  · have hw := hw.2 c_10
    refine lv_iload_n hx hb dJ17_newLength_13 rfl (lv_at hl 0 rfl) ?_
    refine lv_ldc (v := 2147483639) hx hb hown (hts _ q929) dJ17_newLength_14 ?_
    refine lv_icmp_gt (tgt := 21) hx hb dJ17_newLength_16 (by decide) (fun c_16 => ?_) (fun c_16 => ?_)
    · have hw := hw.1 c_16
      refine lv_iload_n hx hb dJ17_newLength_21 rfl (lv_at hl 1 rfl) ?_
      refine lv_iload_n hx hb dJ17_newLength_22 rfl (lv_at hl 2 rfl) ?_
      exact hw.elim
    · have hw := hw.2 c_16
      refine lv_iload_n hx hb dJ17_newLength_19 rfl (lv_at hl 0 rfl) ?_
      exact hv_iret hE hI (Nat.le_refl _) (Nat.le_refl _) hw dJ17_newLength_20

/-- java/util/Arrays.copyOf([Ljava/lang/Object;ILjava/lang/Class;)[Ljava/lang/Object; -/
abbrev rm_J18_copyOf_2 (mc ms : Nat) : Room := { frames := 1, cells := mc, slots := ms, locals := 64 }
def wp_J18_copyOf_2_L24 (G : GG) (mc : Nat) (ms : Nat) (Q : Option Nat → HH → Prop) (h : HH) (nc : Nat) (nk : Nat) (x0 : Option Nat) (x1 : Int32) (t0 : Nat) : Prop := w_nn x0 (fun a3 => w_len G h a3 (fun r4 => w_cpq G h a3 (0 : Int32) t0 (0 : Int32) (if x1 < r4 then x1 else r4) (fun h5 => Q (some t0) h5)))
set_option maxHeartbeats 4000000 in
theorem snd_J18_copyOf_2_L24 {p : Program} {l : Launch} {e : Env} {s : State} {m : MethodId} {args : Array Value} {below : List Frame} {meth : Method} {c : Code} {h0 : HH} (G : GG) (mc : Nat) (ms : Nat) (Q : Option Nat → HH → Prop) (hE : hv_E p s m args meth c cJ18_copyOf_2 4 (some (FieldType.array (FieldType.object "java/lang/Object"))) RJ18 G h0) : ∀ (h : HH) (nc : Nat) (nk : Nat) (x0 : Option Nat) (x1 : Int32) (t0 : Nat), wp_J18_copyOf_2_L24 G mc ms Q h nc nk x0 x1 t0 → nc ≤ mc → nk ≤ ms → ∀ (H : Heap) (locs : List Loc) (ls : Array Slot), hv_I G h0 s.heap h H locs → lv_has ls 4 [(0, va_rf x0), (1, .int x1)] → W p l e (headSpec (ws_ yJ18_copyOf_2 cJ18_copyOf_2 4 (some (FieldType.array (FieldType.object "java/lang/Object")))) (rm_J18_copyOf_2 mc ms)).room s m args below meth c H locs nc nk (MQ below (hv_Qq G h0 s.heap.size Q) args s mc ms (hv_A h0 s.heap.size)) (F0 m 24 ls [.ref t0]) := by
  obtain ⟨⟨hx, hb, hml, hown, hts⟩, hr, hlocks, hXX⟩ := id hE
  intro h nc nk x0 x1 t0 hw hc hs H locs ls hI hl
  unfold wp_J18_copyOf_2_L24 at hw
  refine lv_astore_n (lv' := [(3, .ref t0), (0, va_rf x0), (1, .int x1)]) hx hb dJ18_copyOf_2_24 rfl hl (by decide) rfl (fun ls hl => ?_)
  refine lv_aload_nq hx hb dJ18_copyOf_2_25 rfl (lv_at hl 1 rfl) ?_
  refine lv_iconst (v := 0) hx hb dJ18_copyOf_2_26 (by decide) ?_
  refine lv_aload_n hx hb dJ18_copyOf_2_27 rfl (lv_at hl 0 rfl) ?_
  refine lv_iconst (v := 0) hx hb dJ18_copyOf_2_28 (by decide) ?_
  refine lv_aload_nq hx hb dJ18_copyOf_2_29 rfl (lv_at hl 1 rfl) ?_
  obtain ⟨a3, hz, hwa3⟩ := hw; have hla3 := hl; subst hz; have hw := hwa3; have hl := hla3
  refine hv_len hE hI hw dJ18_copyOf_2_30 (fun r4 hw => ?_)
  refine lv_iload_n hx hb dJ18_copyOf_2_31 rfl (lv_at hl 2 rfl) ?_
  refine va_mmin (rest := [.int (0 : Int32), .ref t0, .int (0 : Int32), .ref a3]) hx hb (hml.trans hl.1.symm) hown (hts _ q971) (hts _ q612) (hts _ q113) (hts _ q613) (Nat.le_of_ble_eq_true rfl) (Nat.le_of_ble_eq_true rfl) hc hs dJ18_copyOf_2_32 ?_
  refine hv_cpq (rest := []) hE hI hw hl.1 (hts _ q972) (hts _ q523) (hts _ q522) (hts _ q125) (Nat.le_of_ble_eq_true rfl) (Nat.le_of_ble_eq_true rfl) dJ18_copyOf_2_35 (fun h5 H locs hw hI => ?_)
  refine lv_aload_n hx hb dJ18_copyOf_2_38 rfl (lv_at hl 0 rfl) ?_
  exact hv_qret (v := (some t0)) hE (Or.inr ⟨_, rfl⟩) hI hc hs hw dJ18_copyOf_2_39
def wp_J18_copyOf_2 (G : GG) (mc : Nat) (ms : Nat) (h : HH) (x0 : Option Nat) (x1 : Int32) (x2 : Option Nat) (Q : Option Nat → HH → Prop) : Prop := ((¬ x2 = (some (G.2.2 3)) → False) ∧ (x2 = (some (G.2.2 3)) → (¬ x1 < 0 ∧ (Int32.toNatClampNeg x1) ≤ 1000000 ∧ (0 + 1 ≤ mc ∧ 0 + (Int32.toNatClampNeg x1) ≤ ms ∧ w_new h (.inl (G.2.1 6, (Int32.toNatClampNeg x1), .inr (.inr (.inr (.inr (fun _ => none)))))) (fun a1 h2 => wp_J18_copyOf_2_L24 G mc ms Q h2 (0 + 1) (0 + (Int32.toNatClampNeg x1)) x0 x1 a1)))))
set_option maxHeartbeats 4000000 in
theorem snd_J18_copyOf_2 (l : Launch) (G : GG) (sz : Nat) (mc : Nat) (ms : Nat) (h : HH) (x0 : Option Nat) (x1 : Int32) (x2 : Option Nat) (Q : Option Nat → HH → Prop) (hw : wp_J18_copyOf_2 G mc ms h x0 x1 x2 Q) : Met l yJ18_copyOf_2 (ws_ yJ18_copyOf_2 cJ18_copyOf_2 4 (some (FieldType.array (FieldType.object "java/lang/Object")))) (rm_J18_copyOf_2 mc ms) (hv_Pc G h sz [va_rf x0, .int x1, va_rf x2]) (hv_Qq G h sz Q) mc ms (hv_A h sz) := by
  refine Met.ofW (cc := cJ18_copyOf_2) (maxL := 4) (ret := (some (FieldType.array (FieldType.object "java/lang/Object")))) (by decide) rfl ?_
  intro p e s m args below meth c s₁ B hml hv
  obtain ⟨rfl, rfl, hE, hI⟩ := hv_open B hml hv
  have hE : hv_E p s m ([va_rf x0, .int x1, va_rf x2] : List Value).toArray meth c cJ18_copyOf_2 4 (some (FieldType.array (FieldType.object "java/lang/Object"))) RJ18 G h := hE
  obtain ⟨⟨hx, hb, hml, hown, hts⟩, hr, hlocks, hXX⟩ := id hE
  have hl := lv_entry ([va_rf x0, .int x1, va_rf x2] : List Value) (n := 4) (by cases x0 <;> cases x2 <;> exact Nat.le_of_ble_eq_true rfl)
  rw [lg_entry_eq]
  generalize (lg_sl ([va_rf x0, .int x1, va_rf x2] : List Value) ++ List.replicate (4 - (lg_sl ([va_rf x0, .int x1, va_rf x2] : List Value)).length) Slot.unset).toArray = ls at hl ⊢
  have hl : lv_has ls 4 [(0, va_rf x0), (1, .int x1), (2, va_rf x2)] := (by cases x0 <;> cases x2 <;> exact hl)
  have hc : 0 ≤ mc := Nat.zero_le _
  have hs : 0 ≤ ms := Nat.zero_le _
  unfold wp_J18_copyOf_2 at hw
  refine lv_aload_nq hx hb dJ18_copyOf_2_0 rfl (lv_at hl 2 rfl) ?_
  refine va_ldcM hx hb hown (hts _ q969) (hv_zH hE).2.2.2.2.2.2.2.2.2.2.1 dJ18_copyOf_2_1 ?_
  refine lv_acmp_ne (rx := x2) (ry := (some (G.2.2 3))) (tgt := 13) hx hb dJ18_copyOf_2_3 (by decide) (fun c_3 => ?_) (fun c_3 => ?_)
  · have hw := hw.1 c_3
    refine lv_aload_nq hx hb dJ18_copyOf_2_13 rfl (lv_at hl 2 rfl) ?_
    exact hw.elim
  · have hw := hw.2 c_3
    refine lv_iload_n hx hb dJ18_copyOf_2_6 rfl (lv_at hl 1 rfl) ?_
    obtain ⟨hneg, hby, hw⟩ := hw
    obtain ⟨hc, hs, hw⟩ := hw
    refine hv_wnewq (N' := (Int32.toNatClampNeg x1)) hE hI (hts _ q970) rfl hneg hby hw hc hs dJ18_copyOf_2_7 (fun a1 h2 H hw hI => ?_)
    refine lv_goto (tgt := 24) hx hb dJ18_copyOf_2_10 (by decide) ?_
    exact snd_J18_copyOf_2_L24 G mc ms Q hE h2 (0 + 1) (0 + (Int32.toNatClampNeg x1)) x0 x1 a1 hw hc hs _ _ _ hI (lv_sub hl [0, 1] rfl)
