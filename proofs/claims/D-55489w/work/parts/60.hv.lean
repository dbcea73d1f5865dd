/-! walks over a world (by gen/hvrun.py) -/
set_option maxRecDepth 100000
/-- MatchmakerRules$Parser.number()I -/
abbrev rm_X6_number (mc ms : Nat) : Room := { frames := 8, cells := mc, slots := ms, locals := 164 }
def wp_X6_number_L7 (G : GG) (mc : Nat) (ms : Nat) (a0 : Nat) (Q : Int32 → HH → Prop) (X : String → Nat → HH → Prop) : Nat → (HH) → (Nat) → (Nat) → (Int32) → (Int32) → Prop
  | 0, _, _, _, _, _ => False
  | n + 1, h, nc, nk, x1, x2 => (((3 : Int32) ≤ x2 → Q x1 h) ∧ (¬ (3 : Int32) ≤ x2 → ((x1 ≤ 0 → Q x1 h) ∧ (¬ x1 ≤ 0 → w_is h a0 9 (wp_X6_isNext G h a0 (48 : Int32) (57 : Int32) (fun r6 h7 => ((r6 = 0 → Q x1 h7) ∧ (¬ r6 = 0 → (∃ mc8 ms8, nc + mc8 ≤ mc ∧ nk + ms8 ≤ ms ∧ w_is h7 a0 9 (wp_X6_digit G mc8 ms8 h7 a0 (fun r9 h10 => wp_X6_number_L7 G mc ms a0 Q X n h10 (nc + mc8) (nk + ms8) (((10 : Int32) * x1) + r9) (x2 + (1 : Int32))) (fun E q11 h12 => X E q11 h12)))))))))))
set_option maxHeartbeats 4000000 in
theorem snd_X6_number_L7 {p : Program} {l : Launch} {e : Env} {s : State} {m : MethodId} {args : Array Value} {below : List Frame} {meth : Method} {c : Code} {h0 : HH} (G : GG) (mc : Nat) (ms : Nat) (a0 : Nat) (Q : Int32 → HH → Prop) (X : String → Nat → HH → Prop) (ht : ∀ x ∈ c.exceptionTable.toList, False) (hE : hv_E p s m args meth c cX6_number 3 (some FieldType.int) RX6 G h0) : ∀ (n : Nat) (h : HH) (nc : Nat) (nk : Nat) (x1 : Int32) (x2 : Int32), wp_X6_number_L7 G mc ms a0 Q X n h nc nk x1 x2 → nc ≤ mc → nk ≤ ms → ∀ (H : Heap) (locs : List Loc) (ls : Array Slot), hv_I G h0 s.heap h H locs → lv_has ls 3 [(0, .ref a0), (1, .int x1), (2, .int x2)] → W p l e (headSpec (ws_ yX6_number cX6_number 3 (some FieldType.int)) (rm_X6_number mc ms)).room s m args below meth c H locs nc nk (vx_MQ below (hv_Qi G h0 s.heap.size Q) (hv_XC G h0 s.heap.size X) args s mc ms (hv_A h0 s.heap.size)) (F0 m 7 ls []) := by
  obtain ⟨⟨hx, hb, hml, hown, hts⟩, hr, hlocks, hXX⟩ := id hE
  intro n
  induction n with
  | zero => intro h nc nk x1 x2 hw; exact hw.elim
  | succ n ih =>
    intro h nc nk x1 x2 hw hc hs H locs ls hI hl
    unfold wp_X6_number_L7 at hw
    refine lv_iload_n hx hb dX6_number_7 rfl (lv_at hl 2 rfl) ?_
    refine lv_iconst (v := 3) hx hb dX6_number_8 (by decide) ?_
    refine lv_icmp_ge (tgt := 43) hx hb dX6_number_9 (by decide) (fun c_9 => ?_) (fun c_9 => ?_)
    · have hw := hw.1 c_9
      refine lv_iload_n hx hb dX6_number_43 rfl (lv_at hl 1 rfl) ?_
      exact vx_ret (hv_iret hE hI hc hs hw dX6_number_44)
    · have hw := hw.2 c_9
      refine lv_iload_n hx hb dX6_number_12 rfl (lv_at hl 1 rfl) ?_
      refine lv_if_le (tgt := 43) hx hb dX6_number_13 (by decide) (fun c_13 => ?_) (fun c_13 => ?_)
      · have hw := hw.1 c_13
        refine lv_iload_n hx hb dX6_number_43 rfl (lv_at hl 1 rfl) ?_
        exact vx_ret (hv_iret hE hI hc hs hw dX6_number_44)
      · have hw := hw.2 c_13
        refine lv_aload_n hx hb dX6_number_16 rfl (lv_at hl 0 rfl) ?_
        refine lv_bipush (v := 48) hx hb dX6_number_17 (by decide) ?_
        refine lv_bipush (v := 57) hx hb dX6_number_19 (by decide) ?_
        obtain ⟨⟨fs, hre⟩, hw⟩ := hw
        refine hv_rci hI (va_runV (As := [.int (48 : Int32), .int (57 : Int32)]) (b := a0) (rest := []) hE.1 (snd_X6_isNext l G _ h a0 (48 : Int32) (57 : Int32) _ hw) (cwV 2 hts (lw_V q702 q704 qs12 q110 q705) rfl rfl rfl (by decide +kernel) ⟨Nat.le_of_ble_eq_true rfl, Nat.le_of_ble_eq_true rfl⟩) (hv_preV hE hI (ci := 9) rfl hre) rfl rfl hl.1 rfl (lv_room (Nat.le_of_ble_eq_true rfl)) dX6_number_21 ⟨hc, hs⟩) (fun r6 h7 H locs hw hI => ?_)
        refine lv_if_eq (tgt := 43) hx hb dX6_number_24 (by decide) (fun c_24 => ?_) (fun c_24 => ?_)
        · have hw := hw.1 c_24
          refine lv_iload_n hx hb dX6_number_43 rfl (lv_at hl 1 rfl) ?_
          exact vx_ret (hv_iret hE hI hc hs hw dX6_number_44)
        · have hw := hw.2 c_24
          refine lv_bipush (v := 10) hx hb dX6_number_27 (by decide) ?_
          refine lv_iload_n hx hb dX6_number_29 rfl (lv_at hl 1 rfl) ?_
          refine lv_imul hx hb dX6_number_30 ?_
          refine lv_aload_n hx hb dX6_number_31 rfl (lv_at hl 0 rfl) ?_
          obtain ⟨mc8, ms8, hc, hs, hw⟩ := hw
          obtain ⟨⟨fs, hre⟩, hw⟩ := hw
          refine hx_rci hI (vx_runV (As := []) (b := a0) (rest := [.int ((10 : Int32) * x1)]) hE.1 (snd_X6_digit l G _ mc8 ms8 h7 a0 _ _ hw) (cwV 0 hts (lw_V q812 q814 qs14 q110 q815) rfl rfl rfl (by decide +kernel) ⟨Nat.le_of_ble_eq_true rfl, Nat.le_of_ble_eq_true rfl⟩) (hv_preV hE hI (ci := 9) rfl hre) rfl rfl hl.1 rfl (lv_room (Nat.le_of_ble_eq_true rfl)) dX6_number_32 ⟨hc, hs⟩) ?_ (fun r9 h10 H locs hw hI => ?_)
          · intro E q11 h12 H locs hw hI hT
            exact hx_out hE hI hT hc hs (fun z hz => (ht z hz).elim) hw
          refine lv_iadd hx hb dX6_number_35 ?_
          refine lv_istore_n (lv' := [(1, .int (((10 : Int32) * x1) + r9)), (0, .ref a0), (2, .int x2)]) hx hb dX6_number_36 rfl hl (by decide) rfl (fun ls hl => ?_)
          refine lv_iinc (v := (x2 + (1 : Int32))) (lv' := [(2, .int (x2 + (1 : Int32))), (1, .int (((10 : Int32) * x1) + r9)), (0, .ref a0)]) hx hb dX6_number_37 hl (k := 2) rfl rfl (by decide) rfl (fun ls hl => ?_)
          refine lv_goto (tgt := 7) hx hb dX6_number_40 (by decide) ?_
          exact ih h10 (nc + mc8) (nk + ms8) (((10 : Int32) * x1) + r9) (x2 + (1 : Int32)) hw hc hs _ _ _ hI (lv_sub hl [2, 1, 0] rfl)
def wp_X6_number (G : GG) (mc : Nat) (ms : Nat) (h : HH) (a0 : Nat) (Q : Int32 → HH → Prop) (X : String → Nat → HH → Prop) : Prop := (∃ mc1 ms1, 0 + mc1 ≤ mc ∧ 0 + ms1 ≤ ms ∧ w_is h a0 9 (wp_X6_digit G mc1 ms1 h a0 (fun r2 h3 => (∃ n7, wp_X6_number_L7 G mc ms a0 Q X n7 h3 (0 + mc1) (0 + ms1) r2 (1 : Int32))) (fun E q4 h5 => X E q4 h5)))
set_option maxHeartbeats 4000000 in
theorem snd_X6_number (l : Launch) (G : GG) (sz : Nat) (mc : Nat) (ms : Nat) (h : HH) (a0 : Nat) (Q : Int32 → HH → Prop) (X : String → Nat → HH → Prop) (hw : wp_X6_number G mc ms h a0 Q X) : vx_Met l yX6_number (ws_ yX6_number cX6_number 3 (some FieldType.int)) (rm_X6_number mc ms) (hv_Pc G h sz [.ref a0]) (hv_Qi G h sz Q) (hv_XC G h sz X) mc ms (hv_A h sz) := by
  refine vx_ofW (cc := cX6_number) (maxL := 3) (ret := (some FieldType.int)) (by decide) rfl ?_
  intro p e s m args below meth c s₁ B hml ht hv
  obtain ⟨rfl, rfl, hE, hI⟩ := hv_open B hml hv
  have hE : hv_E p s m ([.ref a0] : List Value).toArray meth c cX6_number 3 (some FieldType.int) RX6 G h := hE
  obtain ⟨⟨hx, hb, hml, hown, hts⟩, hr, hlocks, hXX⟩ := id hE
  have hl := lv_entry ([.ref a0] : List Value) (n := 3) (Nat.le_of_ble_eq_true rfl)
  rw [lg_entry_eq]
  generalize (lg_sl ([.ref a0] : List Value) ++ List.replicate (3 - (lg_sl ([.ref a0] : List Value)).length) Slot.unset).toArray = ls at hl ⊢
  have hl : lv_has ls 3 [(0, .ref a0)] := hl
  have hc : 0 ≤ mc := Nat.zero_le _
  have hs : 0 ≤ ms := Nat.zero_le _
  unfold wp_X6_number at hw
  refine lv_aload_n hx hb dX6_number_0 rfl (lv_at hl 0 rfl) ?_
  obtain ⟨mc1, ms1, hc, hs, hw⟩ := hw
  obtain ⟨⟨fs, hre⟩, hw⟩ := hw
  refine hx_rci hI (vx_runV (As := []) (b := a0) (rest := []) hE.1 (snd_X6_digit l G _ mc1 ms1 h a0 _ _ hw) (cwV 0 hts (lw_V q812 q814 qs14 q110 q815) rfl rfl rfl (by decide +kernel) ⟨Nat.le_of_ble_eq_true rfl, Nat.le_of_ble_eq_true rfl⟩) (hv_preV hE hI (ci := 9) rfl hre) rfl rfl hl.1 rfl (lv_room (Nat.le_of_ble_eq_true rfl)) dX6_number_1 ⟨hc, hs⟩) ?_ (fun r2 h3 H locs hw hI => ?_)
  · intro E q4 h5 H locs hw hI hT
    exact hx_out hE hI hT hc hs (fun z hz => (ht z hz).elim) hw
  refine lv_istore_n (lv' := [(1, .int r2), (0, .ref a0)]) hx hb dX6_number_4 rfl hl (by decide) rfl (fun ls hl => ?_)
  refine lv_iconst (v := 1) hx hb dX6_number_5 (by decide) ?_
  refine lv_istore_n (lv' := [(2, .int (1 : Int32)), (1, .int r2), (0, .ref a0)]) hx hb dX6_number_6 rfl hl (by decide) rfl (fun ls hl => ?_)
  obtain ⟨n7, hw⟩ := hw
  exact snd_X6_number_L7 G mc ms a0 Q X ht hE n7 h3 (0 + mc1) (0 + ms1) r2 (1 : Int32) hw hc hs _ _ _ hI (lv_sub hl [2, 1, 0] rfl)

/-- MatchmakerRules$Parser.fact()LMatchmakerRules$Change; -/
abbrev rm_X6_fact (mc ms : Nat) : Room := { frames := 9, cells := mc, slots := ms, locals := 186 }
def wp_X6_fact (G : GG) (mc : Nat) (ms : Nat) (h : HH) (a0 : Nat) (Q : Option Nat → HH → Prop) (X : String → Nat → HH → Prop) : Prop := (∃ mc1 ms1, 0 + mc1 ≤ mc ∧ 0 + ms1 ≤ ms ∧ w_is h a0 9 (wp_X6_kind G mc1 ms1 h a0 (fun r2 h3 => (∃ mc6 ms6, (0 + mc1) + mc6 ≤ mc ∧ (0 + ms1) + ms6 ≤ ms ∧ w_is h3 a0 9 (wp_X6_digit G mc6 ms6 h3 a0 (fun r7 h8 => (∃ mc11 ms11, ((0 + mc1) + mc6) + mc11 ≤ mc ∧ ((0 + ms1) + ms6) + ms11 ≤ ms ∧ w_is h8 a0 9 (wp_X6_digit G mc11 ms11 h8 a0 (fun r12 h13 => (∃ mc16 ms16, (((0 + mc1) + mc6) + mc11) + mc16 ≤ mc ∧ (((0 + ms1) + ms6) + ms11) + ms16 ≤ ms ∧ w_is h13 a0 9 (wp_X6_take G mc16 ms16 h13 a0 (42 : Int32) (42 : Int32) (fun r17 h18 => (((((0 + mc1) + mc6) + mc11) + mc16) + 1 ≤ mc ∧ ((((0 + ms1) + ms6) + ms11) + ms16) + 3 ≤ ms ∧ w_new h18 (.inr (8, df_X5)) (fun a21 h22 => ((((((0 + mc1) + mc6) + mc11) + mc16) + 1) + 1 ≤ mc ∧ (((((0 + ms1) + ms6) + ms11) + ms16) + 3) + 4 ≤ ms ∧ w_new h22 (.inl (G.2.1 0, 4, .inl (fun _ => 0))) (fun a23 h24 => w_ist G h24 a23 (0 : Int32) r2 (fun h25 => w_ist G h25 a23 (1 : Int32) r7 (fun h26 => w_ist G h26 a23 (2 : Int32) r12 (fun h27 => (∃ mc28 ms28, ((((((0 + mc1) + mc6) + mc11) + mc16) + 1) + 1) + mc28 ≤ mc ∧ ((((((0 + ms1) + ms6) + ms11) + ms16) + 3) + 4) + ms28 ≤ ms ∧ w_is h27 a0 9 (wp_X6_number G mc28 ms28 h27 a0 (fun r29 h30 => w_ist G h30 a23 (3 : Int32) r29 (fun h33 => wp_X5_init_2 G h33 a21 (43 : Int32) (some a23) (fun h34 => Q (some a21) h34))) (fun E q31 h32 => X E q31 h32))))))))))) (fun E q19 h20 => X E q19 h20)))) (fun E q14 h15 => X E q14 h15)))) (fun E q9 h10 => X E q9 h10)))) (fun E q4 h5 => X E q4 h5)))
set_option maxHeartbeats 4000000 in
theorem snd_X6_fact (l : Launch) (G : GG) (sz : Nat) (mc : Nat) (ms : Nat) (h : HH) (a0 : Nat) (Q : Option Nat → HH → Prop) (X : String → Nat → HH → Prop) (hw : wp_X6_fact G mc ms h a0 Q X) : vx_Met l yX6_fact (ws_ yX6_fact cX6_fact 5 (some (FieldType.object "MatchmakerRules$Change"))) (rm_X6_fact mc ms) (hv_Pc G h sz [.ref a0]) (hv_Qq G h sz Q) (hv_XC G h sz X) mc ms (hv_A h sz) := by
  refine vx_ofW (cc := cX6_fact) (maxL := 5) (ret := (some (FieldType.object "MatchmakerRules$Change"))) (by decide) rfl ?_
  intro p e s m args below meth c s₁ B hml ht hv
  obtain ⟨rfl, rfl, hE, hI⟩ := hv_open B hml hv
  have hE : hv_E p s m ([.ref a0] : List Value).toArray meth c cX6_fact 5 (some (FieldType.object "MatchmakerRules$Change")) RX6 G h := hE
  obtain ⟨⟨hx, hb, hml, hown, hts⟩, hr, hlocks, hXX⟩ := id hE
  have hl := lv_entry ([.ref a0] : List Value) (n := 5) (Nat.le_of_ble_eq_true rfl)
  rw [lg_entry_eq]
  generalize (lg_sl ([.ref a0] : List Value) ++ List.replicate (5 - (lg_sl ([.ref a0] : List Value)).length) Slot.unset).toArray = ls at hl ⊢
  have hl : lv_has ls 5 [(0, .ref a0)] := hl
  have hc : 0 ≤ mc := Nat.zero_le _
  have hs : 0 ≤ ms := Nat.zero_le _
  unfold wp_X6_fact at hw
  refine lv_aload_n hx hb dX6_fact_0 rfl (lv_at hl 0 rfl) ?_
  obtain ⟨mc1, ms1, hc, hs, hw⟩ := hw
  obtain ⟨⟨fs, hre⟩, hw⟩ := hw
  refine hx_rci hI (vx_runV (As := []) (b := a0) (rest := []) hE.1 (snd_X6_kind l G _ mc1 ms1 h a0 _ _ hw) (cwV 0 hts (lw_V q694 q696 qs10 q110 q697) rfl rfl rfl (by decide +kernel) ⟨Nat.le_of_ble_eq_true rfl, Nat.le_of_ble_eq_true rfl⟩) (hv_preV hE hI (ci := 9) rfl hre) rfl rfl hl.1 rfl (lv_room (Nat.le_of_ble_eq_true rfl)) dX6_fact_1 ⟨hc, hs⟩) ?_ (fun r2 h3 H locs hw hI => ?_)
  · intro E q4 h5 H locs hw hI hT
    exact hx_out hE hI hT hc hs (fun z hz => (ht z hz).elim) hw
  refine lv_istore_n (lv' := [(1, .int r2), (0, .ref a0)]) hx hb dX6_fact_4 rfl hl (by decide) rfl (fun ls hl => ?_)
  refine lv_aload_n hx hb dX6_fact_5 rfl (lv_at hl 1 rfl) ?_
  obtain ⟨mc6, ms6, hc, hs, hw⟩ := hw
  obtain ⟨⟨fs, hre⟩, hw⟩ := hw
  refine hx_rci hI (vx_runV (As := []) (b := a0) (rest := []) hE.1 (snd_X6_digit l G _ mc6 ms6 h3 a0 _ _ hw) (cwV 0 hts (lw_V q812 q814 qs14 q110 q815) rfl rfl rfl (by decide +kernel) ⟨Nat.le_of_ble_eq_true rfl, Nat.le_of_ble_eq_true rfl⟩) (hv_preV hE hI (ci := 9) rfl hre) rfl rfl hl.1 rfl (lv_room (Nat.le_of_ble_eq_true rfl)) dX6_fact_6 ⟨hc, hs⟩) ?_ (fun r7 h8 H locs hw hI => ?_)
  · intro E q9 h10 H locs hw hI hT
    exact hx_out hE hI hT hc hs (fun z hz => (ht z hz).elim) hw
  refine lv_istore_n (lv' := [(2, .int r7), (1, .int r2), (0, .ref a0)]) hx hb dX6_fact_9 rfl hl (by decide) rfl (fun ls hl => ?_)
  refine lv_aload_n hx hb dX6_fact_10 rfl (lv_at hl 2 rfl) ?_
  obtain ⟨mc11, ms11, hc, hs, hw⟩ := hw
  obtain ⟨⟨fs, hre⟩, hw⟩ := hw
  refine hx_rci hI (vx_runV (As := []) (b := a0) (rest := []) hE.1 (snd_X6_digit l G _ mc11 ms11 h8 a0 _ _ hw) (cwV 0 hts (lw_V q812 q814 qs14 q110 q815) rfl rfl rfl (by decide +kernel) ⟨Nat.le_of_ble_eq_true rfl, Nat.le_of_ble_eq_true rfl⟩) (hv_preV hE hI (ci := 9) rfl hre) rfl rfl hl.1 rfl (lv_room (Nat.le_of_ble_eq_true rfl)) dX6_fact_11 ⟨hc, hs⟩) ?_ (fun r12 h13 H locs hw hI => ?_)
  · intro E q14 h15 H locs hw hI hT
    exact hx_out hE hI hT hc hs (fun z hz => (ht z hz).elim) hw
  refine lv_istore_n (lv' := [(3, .int r12), (2, .int r7), (1, .int r2), (0, .ref a0)]) hx hb dX6_fact_14 rfl hl (by decide) rfl (fun ls hl => ?_)
  refine lv_aload_n hx hb dX6_fact_15 rfl (lv_at hl 3 rfl) ?_
  refine lv_bipush (v := 42) hx hb dX6_fact_16 (by decide) ?_
  refine lv_bipush (v := 42) hx hb dX6_fact_18 (by decide) ?_
  obtain ⟨mc16, ms16, hc, hs, hw⟩ := hw
  obtain ⟨⟨fs, hre⟩, hw⟩ := hw
  refine hx_rci hI (vx_runV (As := [.int (42 : Int32), .int (42 : Int32)]) (b := a0) (rest := []) hE.1 (snd_X6_take l G _ mc16 ms16 h13 a0 (42 : Int32) (42 : Int32) _ _ hw) (cwV 2 hts (lw_V q698 q700 qs11 q110 q701) rfl rfl rfl (by decide +kernel) ⟨Nat.le_of_ble_eq_true rfl, Nat.le_of_ble_eq_true rfl⟩) (hv_preV hE hI (ci := 9) rfl hre) rfl rfl hl.1 rfl (lv_room (Nat.le_of_ble_eq_true rfl)) dX6_fact_20 ⟨hc, hs⟩) ?_ (fun r17 h18 H locs hw hI => ?_)
  · intro E q19 h20 H locs hw hI hT
    exact hx_out hE hI hT hc hs (fun z hz => (ht z hz).elim) hw
  refine lv_istore (lv' := [(4, .int r17), (3, .int r12), (2, .int r7), (1, .int r2), (0, .ref a0)]) hx hb dX6_fact_23 hl (by decide) rfl (fun ls hl => ?_)
  obtain ⟨hc, hs, hw⟩ := hw
  refine hv_wnew tyX5 hE hI in_X5 tyX5_ok (hts _ q1926) (hts _ q659) (hts _ q109) (ci := 8) rfl df_X5_ok hw hc hs dX6_fact_25 (fun a21 h22 H hw hI => ?_)
  refine lv_dup hx hb dX6_fact_28 rfl ?_
  refine lv_bipush (v := 43) hx hb dX6_fact_29 (by decide) ?_
  refine lv_iconst (v := 4) hx hb dX6_fact_31 (by decide) ?_
  obtain ⟨hc, hs, hw⟩ := hw
  refine hv_wnewa_int (N' := 4) hE hI (hts _ q188) (by decide +kernel) (by decide +kernel) (by decide) hw hc hs dX6_fact_32 (fun a23 h24 H hw hI => ?_)
  refine lv_dup hx hb dX6_fact_34 rfl ?_
  refine lv_iconst (v := 0) hx hb dX6_fact_35 (by decide) ?_
  refine lv_iload_n hx hb dX6_fact_36 rfl (lv_at hl 3 rfl) ?_
  refine hv_wist hE hI hw dX6_fact_37 (fun h25 H locs hw hI => ?_)
  refine lv_dup hx hb dX6_fact_38 rfl ?_
  refine lv_iconst (v := 1) hx hb dX6_fact_39 (by decide) ?_
  refine lv_iload_n hx hb dX6_fact_40 rfl (lv_at hl 2 rfl) ?_
  refine hv_wist hE hI hw dX6_fact_41 (fun h26 H locs hw hI => ?_)
  refine lv_dup hx hb dX6_fact_42 rfl ?_
  refine lv_iconst (v := 2) hx hb dX6_fact_43 (by decide) ?_
  refine lv_iload_n hx hb dX6_fact_44 rfl (lv_at hl 1 rfl) ?_
  refine hv_wist hE hI hw dX6_fact_45 (fun h27 H locs hw hI => ?_)
  refine lv_dup hx hb dX6_fact_46 rfl ?_
  refine lv_iconst (v := 3) hx hb dX6_fact_47 (by decide) ?_
  refine lv_aload_n hx hb dX6_fact_48 rfl (lv_at hl 4 rfl) ?_
  obtain ⟨mc28, ms28, hc, hs, hw⟩ := hw
  obtain ⟨⟨fs, hre⟩, hw⟩ := hw
  refine hx_rci hI (vx_runV (As := []) (b := a0) (rest := [.int (3 : Int32), .ref a23, .ref a23, .int (43 : Int32), .ref a21, .ref a21]) hE.1 (snd_X6_number l G _ mc28 ms28 h27 a0 _ _ hw) (cwV 0 hts (lw_V q1927 q1929 qs33 q110 q1930) rfl rfl rfl (by decide +kernel) ⟨Nat.le_of_ble_eq_true rfl, Nat.le_of_ble_eq_true rfl⟩) (hv_preV hE hI (ci := 9) rfl hre) rfl rfl hl.1 rfl (lv_room (Nat.le_of_ble_eq_true rfl)) dX6_fact_49 ⟨hc, hs⟩) ?_ (fun r29 h30 H locs hw hI => ?_)
  · intro E q31 h32 H locs hw hI hT
    exact hx_out hE hI hT hc hs (fun z hz => (ht z hz).elim) hw
  refine hv_wist hE hI hw dX6_fact_52 (fun h33 H locs hw hI => ?_)
  refine hv_rcv hI (va_runI (As := [.int (43 : Int32), .ref a23]) (b := a21) (rest := [.ref a21]) hE.1 (snd_X5_init_2 l G _ h33 a21 (43 : Int32) (some a23) _ hw) (cwI 2 hts (lw_meth q1319) rfl rfl rfl (hts _ q109) (hts _ q1931) (hts _ q1318) rfl (by decide +kernel) ⟨Nat.le_of_ble_eq_true rfl, Nat.le_of_ble_eq_true rfl⟩) (hv_preS hE hI) rfl rfl hl.1 rfl (lv_room (Nat.le_of_ble_eq_true rfl)) dX6_fact_53 ⟨hc, hs⟩) (fun h34 H locs hw hI => ?_)
  exact vx_ret (hv_qret (v := (some a21)) hE (Or.inl ⟨_, rfl⟩) hI hc hs hw dX6_fact_56)

/-- MatchmakerRules$Parser.item()LMatchmakerRules$Change; -/
abbrev rm_X6_item (mc ms : Nat) : Room := { frames := 11, cells := mc, slots := ms, locals := 236 }
def wp_X6_item (G : GG) (mc : Nat) (ms : Nat) (h : HH) (a0 : Nat) (Q : Option Nat → HH → Prop) (X : String → Nat → HH → Prop) : Prop := w_geti h a0 9 1 (fun r1 => (∃ mc2 ms2, 0 + mc2 ≤ mc ∧ 0 + ms2 ≤ ms ∧ w_is h a0 9 (wp_X6_take G mc2 ms2 h a0 (0 : Int32) (127 : Int32) (fun r3 h4 => (((((Int32.toUInt32 r3) % 65536).toInt32) = (43 : Int32) → (∃ mc7 ms7, (0 + mc2) + mc7 ≤ mc ∧ (0 + ms2) + ms7 ≤ ms ∧ w_is h4 a0 9 (wp_X6_fact G mc7 ms7 h4 a0 (fun r8 h9 => Q r8 h9) (fun E q10 h11 => X E q10 h11)))) ∧ (¬ (((Int32.toUInt32 r3) % 65536).toInt32) = (43 : Int32) → (((((Int32.toUInt32 r3) % 65536).toInt32) = (45 : Int32) → ((0 + mc2) + 1 ≤ mc ∧ (0 + ms2) + 3 ≤ ms ∧ w_new h4 (.inr (8, df_X5)) (fun a12 h13 => (((0 + mc2) + 1) + 1 ≤ mc ∧ ((0 + ms2) + 3) + 1 ≤ ms ∧ w_new h13 (.inl (G.2.1 0, 1, .inl (fun _ => 0))) (fun a14 h15 => (∃ mc16 ms16, (((0 + mc2) + 1) + 1) + mc16 ≤ mc ∧ (((0 + ms2) + 3) + 1) + ms16 ≤ ms ∧ w_is h15 a0 9 (wp_X6_number G mc16 ms16 h15 a0 (fun r17 h18 => w_ist G h18 a14 (0 : Int32) r17 (fun h21 => wp_X5_init_2 G h21 a12 (((Int32.toUInt32 r3) % 65536).toInt32) (some a14) (fun h22 => Q (some a12) h22))) (fun E q19 h20 => X E q19 h20)))))))) ∧ (¬ (((Int32.toUInt32 r3) % 65536).toInt32) = (45 : Int32) → (((((Int32.toUInt32 r3) % 65536).toInt32) = (58 : Int32) → ((0 + mc2) + 1 ≤ mc ∧ (0 + ms2) + 3 ≤ ms ∧ w_new h4 (.inr (8, df_X5)) (fun a23 h24 => (∃ mc25 ms25, ((0 + mc2) + 1) + mc25 ≤ mc ∧ ((0 + ms2) + 3) + ms25 ≤ ms ∧ w_is h24 a0 9 (wp_X6_rule G mc25 ms25 h24 a0 (fun r26 h27 => (∃ mc30 ms30, (((0 + mc2) + 1) + mc25) + mc30 ≤ mc ∧ (((0 + ms2) + 3) + ms25) + ms30 ≤ ms ∧ wp_X5_init G mc30 ms30 h27 a23 r26 (fun h31 => Q (some a23) h31))) (fun E q28 h29 => X E q28 h29)))))) ∧ (¬ (((Int32.toUInt32 r3) % 65536).toInt32) = (58 : Int32) → (((((Int32.toUInt32 r3) % 65536).toInt32) = (102 : Int32) → ((0 + mc2) + 1 ≤ mc ∧ (0 + ms2) + 3 ≤ ms ∧ w_new h4 (.inr (8, df_X5)) (fun a32 h33 => (((0 + mc2) + 1) + 1 ≤ mc ∧ ((0 + ms2) + 3) + 1 ≤ ms ∧ w_new h33 (.inl (G.2.1 0, 1, .inl (fun _ => 0))) (fun a34 h35 => (∃ mc36 ms36, (((0 + mc2) + 1) + 1) + mc36 ≤ mc ∧ (((0 + ms2) + 3) + 1) + ms36 ≤ ms ∧ w_is h35 a0 9 (wp_X6_number G mc36 ms36 h35 a0 (fun r37 h38 => w_ist G h38 a34 (0 : Int32) r37 (fun h41 => wp_X5_init_2 G h41 a32 (((Int32.toUInt32 r3) % 65536).toInt32) (some a34) (fun h42 => Q (some a32) h42))) (fun E q39 h40 => X E q39 h40)))))))) ∧ (¬ (((Int32.toUInt32 r3) % 65536).toInt32) = (102 : Int32) → (((((Int32.toUInt32 r3) % 65536).toInt32) = (120 : Int32) → ((0 + mc2) + 1 ≤ mc ∧ (0 + ms2) + 3 ≤ ms ∧ w_new h4 (.inr (8, df_X5)) (fun a43 h44 => (((0 + mc2) + 1) + 1 ≤ mc ∧ ((0 + ms2) + 3) + 1 ≤ ms ∧ w_new h44 (.inl (G.2.1 0, 1, .inl (fun _ => 0))) (fun a45 h46 => (∃ mc47 ms47, (((0 + mc2) + 1) + 1) + mc47 ≤ mc ∧ (((0 + ms2) + 3) + 1) + ms47 ≤ ms ∧ w_is h46 a0 9 (wp_X6_digit G mc47 ms47 h46 a0 (fun r48 h49 => w_ist G h49 a45 (0 : Int32) r48 (fun h52 => wp_X5_init_2 G h52 a43 (((Int32.toUInt32 r3) % 65536).toInt32) (some a45) (fun h53 => Q (some a43) h53))) (fun E q50 h51 => X E q50 h51)))))))) ∧ (¬ (((Int32.toUInt32 r3) % 65536).toInt32) = (120 : Int32) → ((0 + mc2) + 1 ≤ mc ∧ (0 + ms2) + 7 ≤ ms ∧ w_new h4 (.inr (10, df_X7)) (fun a54 h55 => wp_X7_init G h55 a54 r1 (fun h56 => w_is h56 a54 10 (X "MatchmakerRules$SyntaxException" a54 h56))))))))))))))) (fun E q5 h6 => X E q5 h6))))
set_option maxHeartbeats 4000000 in
theorem snd_X6_item (l : Launch) (G : GG) (sz : Nat) (mc : Nat) (ms : Nat) (h : HH) (a0 : Nat) (Q : Option Nat → HH → Prop) (X : String → Nat → HH → Prop) (hw : wp_X6_item G mc ms h a0 Q X) : vx_Met l yX6_item (ws_ yX6_item cX6_item 3 (some (FieldType.object "MatchmakerRules$Change"))) (rm_X6_item mc ms) (hv_Pc G h sz [.ref a0]) (hv_Qq G h sz Q) (hv_XC G h sz X) mc ms (hv_A h sz) := by
  refine vx_ofW (cc := cX6_item) (maxL := 3) (ret := (some (FieldType.object "MatchmakerRules$Change"))) (by decide) rfl ?_
  intro p e s m args below meth c s₁ B hml ht hv
  obtain ⟨rfl, rfl, hE, hI⟩ := hv_open B hml hv
  have hE : hv_E p s m ([.ref a0] : List Value).toArray meth c cX6_item 3 (some (FieldType.object "MatchmakerRules$Change")) RX6 G h := hE
  obtain ⟨⟨hx, hb, hml, hown, hts⟩, hr, hlocks, hXX⟩ := id hE
  have hl := lv_entry ([.ref a0] : List Value) (n := 3) (Nat.le_of_ble_eq_true rfl)
  rw [lg_entry_eq]
  generalize (lg_sl ([.ref a0] : List Value) ++ List.replicate (3 - (lg_sl ([.ref a0] : List Value)).length) Slot.unset).toArray = ls at hl ⊢
  have hl : lv_has ls 3 [(0, .ref a0)] := hl
  have hc : 0 ≤ mc := Nat.zero_le _
  have hs : 0 ≤ ms := Nat.zero_le _
  unfold wp_X6_item at hw
  refine lv_aload_n hx hb dX6_item_0 rfl (lv_at hl 0 rfl) ?_
  refine hv_wgeti hE hI in_X6 (ci := 9) rfl 1 (by decide) (hts _ q676) (fun _ hx => hx) hw dX6_item_1 (fun r1 hw => ?_)
  refine lv_istore_n (lv' := [(1, .int r1), (0, .ref a0)]) hx hb dX6_item_4 rfl hl (by decide) rfl (fun ls hl => ?_)
  refine lv_aload_n hx hb dX6_item_5 rfl (lv_at hl 1 rfl) ?_
  refine lv_iconst (v := 0) hx hb dX6_item_6 (by decide) ?_
  refine lv_bipush (v := 127) hx hb dX6_item_7 (by decide) ?_
  obtain ⟨mc2, ms2, hc, hs, hw⟩ := hw
  obtain ⟨⟨fs, hre⟩, hw⟩ := hw
  refine hx_rci hI (vx_runV (As := [.int (0 : Int32), .int (127 : Int32)]) (b := a0) (rest := []) hE.1 (snd_X6_take l G _ mc2 ms2 h a0 (0 : Int32) (127 : Int32) _ _ hw) (cwV 2 hts (lw_V q698 q700 qs11 q110 q701) rfl rfl rfl (by decide +kernel) ⟨Nat.le_of_ble_eq_true rfl, Nat.le_of_ble_eq_true rfl⟩) (hv_preV hE hI (ci := 9) rfl hre) rfl rfl hl.1 rfl (lv_room (Nat.le_of_ble_eq_true rfl)) dX6_item_9 ⟨hc, hs⟩) ?_ (fun r3 h4 H locs hw hI => ?_)
  · intro E q5 h6 H locs hw hI hT
    exact hx_out hE hI hT hc hs (fun z hz => (ht z hz).elim) hw
  refine lv_i2c (v := ((Int32.toUInt32 r3) % 65536).toInt32) hx hb dX6_item_12 rfl ?_
  refine lv_istore_n (lv' := [(2, .int (((Int32.toUInt32 r3) % 65536).toInt32)), (1, .int r1), (0, .ref a0)]) hx hb dX6_item_13 rfl hl (by decide) rfl (fun ls hl => ?_)
  refine lv_iload_n hx hb dX6_item_14 rfl (lv_at hl 0 rfl) ?_
  by_cases s15_43 : (((Int32.toUInt32 r3) % 65536).toInt32) = (43 : Int32)
  · have hw := hw.1 s15_43
    refine lv_lookup (tgt := 64) (off := 49) hx hb dX6_item_15 (by decide) (by rw [s15_43]; decide) (by decide) ?_
    refine lv_aload_n hx hb dX6_item_64 rfl (lv_at hl 2 rfl) ?_
    obtain ⟨mc7, ms7, hc, hs, hw⟩ := hw
    obtain ⟨⟨fs, hre⟩, hw⟩ := hw
    refine hx_rcq hI (vx_runV (As := []) (b := a0) (rest := []) hE.1 (snd_X6_fact l G _ mc7 ms7 h4 a0 _ _ hw) (cwV 0 hts (lw_V q1922 q1924 qs32 q110 q1925) rfl rfl rfl (by decide +kernel) ⟨Nat.le_of_ble_eq_true rfl, Nat.le_of_ble_eq_true rfl⟩) (hv_preV hE hI (ci := 9) rfl hre) rfl rfl hl.1 rfl (lv_room (Nat.le_of_ble_eq_true rfl)) dX6_item_65 ⟨hc, hs⟩) ?_ (fun r8 h9 H locs hw hI => ?_)
    · intro E q10 h11 H locs hw hI hT
      exact hx_out hE hI hT hc hs (fun z hz => (ht z hz).elim) hw
    exact vx_ret (hv_qret (v := r8) hE (Or.inl ⟨_, rfl⟩) hI hc hs hw dX6_item_68)
  · have hw := hw.2 s15_43
    by_cases s15_45 : (((Int32.toUInt32 r3) % 65536).toInt32) = (45 : Int32)
    · have hw := hw.1 s15_45
      refine lv_lookup (tgt := 69) (off := 54) hx hb dX6_item_15 (by decide) (by rw [s15_45]; decide) (by decide) ?_
      obtain ⟨hc, hs, hw⟩ := hw
      refine hv_wnew tyX5 hE hI in_X5 tyX5_ok (hts _ q1926) (hts _ q659) (hts _ q109) (ci := 8) rfl df_X5_ok hw hc hs dX6_item_69 (fun a12 h13 H hw hI => ?_)
      refine lv_dup hx hb dX6_item_72 rfl ?_
      refine lv_iload_n hx hb dX6_item_73 rfl (lv_at hl 0 rfl) ?_
      refine lv_iconst (v := 1) hx hb dX6_item_74 (by decide) ?_
      obtain ⟨hc, hs, hw⟩ := hw
      refine hv_wnewa_int (N' := 1) hE hI (hts _ q188) (by decide +kernel) (by decide +kernel) (by decide) hw hc hs dX6_item_75 (fun a14 h15 H hw hI => ?_)
      refine lv_dup hx hb dX6_item_77 rfl ?_
      refine lv_iconst (v := 0) hx hb dX6_item_78 (by decide) ?_
      refine lv_aload_n hx hb dX6_item_79 rfl (lv_at hl 2 rfl) ?_
      obtain ⟨mc16, ms16, hc, hs, hw⟩ := hw
      obtain ⟨⟨fs, hre⟩, hw⟩ := hw
      refine hx_rci hI (vx_runV (As := []) (b := a0) (rest := [.int (0 : Int32), .ref a14, .ref a14, .int (((Int32.toUInt32 r3) % 65536).toInt32), .ref a12, .ref a12]) hE.1 (snd_X6_number l G _ mc16 ms16 h15 a0 _ _ hw) (cwV 0 hts (lw_V q1927 q1929 qs33 q110 q1930) rfl rfl rfl (by decide +kernel) ⟨Nat.le_of_ble_eq_true rfl, Nat.le_of_ble_eq_true rfl⟩) (hv_preV hE hI (ci := 9) rfl hre) rfl rfl hl.1 rfl (lv_room (Nat.le_of_ble_eq_true rfl)) dX6_item_80 ⟨hc, hs⟩) ?_ (fun r17 h18 H locs hw hI => ?_)
      · intro E q19 h20 H locs hw hI hT
        exact hx_out hE hI hT hc hs (fun z hz => (ht z hz).elim) hw
      refine hv_wist hE hI hw dX6_item_83 (fun h21 H locs hw hI => ?_)
      refine hv_rcv hI (va_runI (As := [.int (((Int32.toUInt32 r3) % 65536).toInt32), .ref a14]) (b := a12) (rest := [.ref a12]) hE.1 (snd_X5_init_2 l G _ h21 a12 (((Int32.toUInt32 r3) % 65536).toInt32) (some a14) _ hw) (cwI 2 hts (lw_meth q1319) rfl rfl rfl (hts _ q109) (hts _ q1931) (hts _ q1318) rfl (by decide +kernel) ⟨Nat.le_of_ble_eq_true rfl, Nat.le_of_ble_eq_true rfl⟩) (hv_preS hE hI) rfl rfl hl.1 rfl (lv_room (Nat.le_of_ble_eq_true rfl)) dX6_item_84 ⟨hc, hs⟩) (fun h22 H locs hw hI => ?_)
      exact vx_ret (hv_qret (v := (some a12)) hE (Or.inl ⟨_, rfl⟩) hI hc hs hw dX6_item_87)
    · have hw := hw.2 s15_45
      by_cases s15_58 : (((Int32.toUInt32 r3) % 65536).toInt32) = (58 : Int32)
      · have hw := hw.1 s15_58
        refine lv_lookup (tgt := 107) (off := 92) hx hb dX6_item_15 (by decide) (by rw [s15_58]; decide) (by decide) ?_
        obtain ⟨hc, hs, hw⟩ := hw
        refine hv_wnew tyX5 hE hI in_X5 tyX5_ok (hts _ q1926) (hts _ q659) (hts _ q109) (ci := 8) rfl df_X5_ok hw hc hs dX6_item_107 (fun a23 h24 H hw hI => ?_)
        refine lv_dup hx hb dX6_item_110 rfl ?_
        refine lv_aload_n hx hb dX6_item_111 rfl (lv_at hl 2 rfl) ?_
        obtain ⟨mc25, ms25, hc, hs, hw⟩ := hw
        obtain ⟨⟨fs, hre⟩, hw⟩ := hw
        refine hx_rcq hI (vx_runV (As := []) (b := a0) (rest := [.ref a23, .ref a23]) hE.1 (snd_X6_rule l G _ mc25 ms25 h24 a0 _ _ hw) (cwV 0 hts (lw_V q686 q687 q688 q110 q689) rfl rfl rfl (by decide +kernel) ⟨Nat.le_of_ble_eq_true rfl, Nat.le_of_ble_eq_true rfl⟩) (hv_preV hE hI (ci := 9) rfl hre) rfl rfl hl.1 rfl (lv_room (Nat.le_of_ble_eq_true rfl)) dX6_item_112 ⟨hc, hs⟩) ?_ (fun r26 h27 H locs hw hI => ?_)
        · intro E q28 h29 H locs hw hI hT
          exact hx_out hE hI hT hc hs (fun z hz => (ht z hz).elim) hw
        obtain ⟨mc30, ms30, hc, hs, hw⟩ := hw
        refine hv_rcv hI (va_runI (As := [va_rf r26]) (b := a23) (rest := [.ref a23]) hE.1 (snd_X5_init l G _ mc30 ms30 h27 a23 r26 _ hw) (cwI 1 hts (lw_meth q886) rfl rfl rfl (hts _ q109) (hts _ q1932) (hts _ q885) rfl (by decide +kernel) ⟨Nat.le_of_ble_eq_true rfl, Nat.le_of_ble_eq_true rfl⟩) (hv_preS hE hI) rfl rfl hl.1 rfl (lv_room (Nat.le_of_ble_eq_true rfl)) dX6_item_115 ⟨hc, hs⟩) (fun h31 H locs hw hI => ?_)
        exact vx_ret (hv_qret (v := (some a23)) hE (Or.inl ⟨_, rfl⟩) hI hc hs hw dX6_item_118)
      · have hw := hw.2 s15_58
        by_cases s15_102 : (((Int32.toUInt32 r3) % 65536).toInt32) = (102 : Int32)
        · have hw := hw.1 s15_102
          refine lv_lookup (tgt := 69) (off := 54) hx hb dX6_item_15 (by decide) (by rw [s15_102]; decide) (by decide) ?_
          obtain ⟨hc, hs, hw⟩ := hw
          refine hv_wnew tyX5 hE hI in_X5 tyX5_ok (hts _ q1926) (hts _ q659) (hts _ q109) (ci := 8) rfl df_X5_ok hw hc hs dX6_item_69 (fun a32 h33 H hw hI => ?_)
          refine lv_dup hx hb dX6_item_72 rfl ?_
          refine lv_iload_n hx hb dX6_item_73 rfl (lv_at hl 0 rfl) ?_
          refine lv_iconst (v := 1) hx hb dX6_item_74 (by decide) ?_
          obtain ⟨hc, hs, hw⟩ := hw
          refine hv_wnewa_int (N' := 1) hE hI (hts _ q188) (by decide +kernel) (by decide +kernel) (by decide) hw hc hs dX6_item_75 (fun a34 h35 H hw hI => ?_)
          refine lv_dup hx hb dX6_item_77 rfl ?_
          refine lv_iconst (v := 0) hx hb dX6_item_78 (by decide) ?_
          refine lv_aload_n hx hb dX6_item_79 rfl (lv_at hl 2 rfl) ?_
          obtain ⟨mc36, ms36, hc, hs, hw⟩ := hw
          obtain ⟨⟨fs, hre⟩, hw⟩ := hw
          refine hx_rci hI (vx_runV (As := []) (b := a0) (rest := [.int (0 : Int32), .ref a34, .ref a34, .int (((Int32.toUInt32 r3) % 65536).toInt32), .ref a32, .ref a32]) hE.1 (snd_X6_number l G _ mc36 ms36 h35 a0 _ _ hw) (cwV 0 hts (lw_V q1927 q1929 qs33 q110 q1930) rfl rfl rfl (by decide +kernel) ⟨Nat.le_of_ble_eq_true rfl, Nat.le_of_ble_eq_true rfl⟩) (hv_preV hE hI (ci := 9) rfl hre) rfl rfl hl.1 rfl (lv_room (Nat.le_of_ble_eq_true rfl)) dX6_item_80 ⟨hc, hs⟩) ?_ (fun r37 h38 H locs hw hI => ?_)
          · intro E q39 h40 H locs hw hI hT
            exact hx_out hE hI hT hc hs (fun z hz => (ht z hz).elim) hw
          refine hv_wist hE hI hw dX6_item_83 (fun h41 H locs hw hI => ?_)
          refine hv_rcv hI (va_runI (As := [.int (((Int32.toUInt32 r3) % 65536).toInt32), .ref a34]) (b := a32) (rest := [.ref a32]) hE.1 (snd_X5_init_2 l G _ h41 a32 (((Int32.toUInt32 r3) % 65536).toInt32) (some a34) _ hw) (cwI 2 hts (lw_meth q1319) rfl rfl rfl (hts _ q109) (hts _ q1931) (hts _ q1318) rfl (by decide +kernel) ⟨Nat.le_of_ble_eq_true rfl, Nat.le_of_ble_eq_true rfl⟩) (hv_preS hE hI) rfl rfl hl.1 rfl (lv_room (Nat.le_of_ble_eq_true rfl)) dX6_item_84 ⟨hc, hs⟩) (fun h42 H locs hw hI => ?_)
          exact vx_ret (hv_qret (v := (some a32)) hE (Or.inl ⟨_, rfl⟩) hI hc hs hw dX6_item_87)
        · have hw := hw.2 s15_102
          by_cases s15_120 : (((Int32.toUInt32 r3) % 65536).toInt32) = (120 : Int32)
          · have hw := hw.1 s15_120
            refine lv_lookup (tgt := 88) (off := 73) hx hb dX6_item_15 (by decide) (by rw [s15_120]; decide) (by decide) ?_
            obtain ⟨hc, hs, hw⟩ := hw
            refine hv_wnew tyX5 hE hI in_X5 tyX5_ok (hts _ q1926) (hts _ q659) (hts _ q109) (ci := 8) rfl df_X5_ok hw hc hs dX6_item_88 (fun a43 h44 H hw hI => ?_)
            refine lv_dup hx hb dX6_item_91 rfl ?_
            refine lv_iload_n hx hb dX6_item_92 rfl (lv_at hl 0 rfl) ?_
            refine lv_iconst (v := 1) hx hb dX6_item_93 (by decide) ?_
            obtain ⟨hc, hs, hw⟩ := hw
            refine hv_wnewa_int (N' := 1) hE hI (hts _ q188) (by decide +kernel) (by decide +kernel) (by decide) hw hc hs dX6_item_94 (fun a45 h46 H hw hI => ?_)
            refine lv_dup hx hb dX6_item_96 rfl ?_
            refine lv_iconst (v := 0) hx hb dX6_item_97 (by decide) ?_
            refine lv_aload_n hx hb dX6_item_98 rfl (lv_at hl 2 rfl) ?_
            obtain ⟨mc47, ms47, hc, hs, hw⟩ := hw
            obtain ⟨⟨fs, hre⟩, hw⟩ := hw
            refine hx_rci hI (vx_runV (As := []) (b := a0) (rest := [.int (0 : Int32), .ref a45, .ref a45, .int (((Int32.toUInt32 r3) % 65536).toInt32), .ref a43, .ref a43]) hE.1 (snd_X6_digit l G _ mc47 ms47 h46 a0 _ _ hw) (cwV 0 hts (lw_V q812 q814 qs14 q110 q815) rfl rfl rfl (by decide +kernel) ⟨Nat.le_of_ble_eq_true rfl, Nat.le_of_ble_eq_true rfl⟩) (hv_preV hE hI (ci := 9) rfl hre) rfl rfl hl.1 rfl (lv_room (Nat.le_of_ble_eq_true rfl)) dX6_item_99 ⟨hc, hs⟩) ?_ (fun r48 h49 H locs hw hI => ?_)
            · intro E q50 h51 H locs hw hI hT
              exact hx_out hE hI hT hc hs (fun z hz => (ht z hz).elim) hw
            refine hv_wist hE hI hw dX6_item_102 (fun h52 H locs hw hI => ?_)
            refine hv_rcv hI (va_runI (As := [.int (((Int32.toUInt32 r3) % 65536).toInt32), .ref a45]) (b := a43) (rest := [.ref a43]) hE.1 (snd_X5_init_2 l G _ h52 a43 (((Int32.toUInt32 r3) % 65536).toInt32) (some a45) _ hw) (cwI 2 hts (lw_meth q1319) rfl rfl rfl (hts _ q109) (hts _ q1931) (hts _ q1318) rfl (by decide +kernel) ⟨Nat.le_of_ble_eq_true rfl, Nat.le_of_ble_eq_true rfl⟩) (hv_preS hE hI) rfl rfl hl.1 rfl (lv_room (Nat.le_of_ble_eq_true rfl)) dX6_item_103 ⟨hc, hs⟩) (fun h53 H locs hw hI => ?_)
            exact vx_ret (hv_qret (v := (some a43)) hE (Or.inl ⟨_, rfl⟩) hI hc hs hw dX6_item_106)
          · have hw := hw.2 s15_120
            refine lv_lookup (tgt := 119) (off := 104) hx hb dX6_item_15 (by decide) (by refine (lv_osw s15_43 (by decide)).trans ?_; refine (lv_osw s15_45 (by decide)).trans ?_; refine (lv_osw s15_58 (by decide)).trans ?_; refine (lv_osw s15_102 (by decide)).trans ?_; refine (lv_osw s15_120 (by decide)).trans ?_; rfl) (by decide) ?_
            obtain ⟨hc, hs, hw⟩ := hw
            refine hv_wnew tyX7 hE hI in_X7 tyX7_ok (hts _ q784) (hts _ q785) (hts _ q116) (ci := 10) rfl df_X7_ok hw hc hs dX6_item_119 (fun a54 h55 H hw hI => ?_)
            refine lv_dup hx hb dX6_item_122 rfl ?_
            refine lv_iload_n hx hb dX6_item_123 rfl (lv_at hl 1 rfl) ?_
            refine hv_rcv hI (va_runI (As := [.int r1]) (b := a54) (rest := [.ref a54]) hE.1 (snd_X7_init l G _ h55 a54 r1 _ hw) (cwI 1 hts (lw_meth q795) rfl rfl rfl (hts _ q116) (hts _ q793) (hts _ q794) rfl (by decide +kernel) ⟨Nat.le_of_ble_eq_true rfl, Nat.le_of_ble_eq_true rfl⟩) (hv_preS hE hI) rfl rfl hl.1 rfl (lv_room (Nat.le_of_ble_eq_true rfl)) dX6_item_124 ⟨hc, hs⟩) (fun h56 H locs hw hI => ?_)
            obtain ⟨⟨fs, hre⟩, hw⟩ := hw
            exact hx_athrow (E := "MatchmakerRules$SyntaxException") hE dX6_item_127 (hx_out hE hI (hv_Tof (ci := 10) hE hI rfl hre) hc hs (fun z hz => (ht z hz).elim) hw)

/-- MatchmakerRules$Parser.items()Ljava/util/ArrayList; -/
abbrev rm_X6_items (mc ms : Nat) : Room := { frames := 12, cells := mc, slots := ms, locals := 258 }
def wp_X6_items_L17 (G : GG) (mc : Nat) (ms : Nat) (a0 : Nat) (Q : Option Nat → HH → Prop) (X : String → Nat → HH → Prop) : Nat → (HH) → (Nat) → (Nat) → (Nat) → Prop
  | 0, _, _, _, _ => False
  | n + 1, h, nc, nk, x1 => w_geti h a0 9 1 (fun r12 => w_getq h a0 9 0 (fun r13 => w_nn r13 (fun a14 => w_is h a14 6 (wp_J5_length G h a14 (fun r15 h16 => ((r15 ≤ r12 → Q (some x1) h16) ∧ (¬ r15 ≤ r12 → (∃ mc17 ms17, nc + mc17 ≤ mc ∧ nk + ms17 ≤ ms ∧ w_is h16 a0 9 (wp_X6_take G mc17 ms17 h16 a0 (59 : Int32) (59 : Int32) (fun r18 h19 => (∃ mc22 ms22, (nc + mc17) + mc22 ≤ mc ∧ (nk + ms17) + ms22 ≤ ms ∧ w_is h19 a0 9 (wp_X6_item G mc22 ms22 h19 a0 (fun r23 h24 => (∃ mc27 ms27, ((nc + mc17) + mc22) + mc27 ≤ mc ∧ ((nk + ms17) + ms22) + ms27 ≤ ms ∧ w_is h24 x1 4 (wp_J2_add G mc27 ms27 h24 x1 r23 (fun r28 h29 => wp_X6_items_L17 G mc ms a0 Q X n h29 (((nc + mc17) + mc22) + mc27) (((nk + ms17) + ms22) + ms27) x1)))) (fun E q25 h26 => X E q25 h26)))) (fun E q20 h21 => X E q20 h21))))))))))
set_option maxHeartbeats 4000000 in
theorem snd_X6_items_L17 {p : Program} {l : Launch} {e : Env} {s : State} {m : MethodId} {args : Array Value} {below : List Frame} {meth : Method} {c : Code} {h0 : HH} (G : GG) (mc : Nat) (ms : Nat) (a0 : Nat) (Q : Option Nat → HH → Prop) (X : String → Nat → HH → Prop) (ht : ∀ x ∈ c.exceptionTable.toList, False) (hE : hv_E p s m args meth c cX6_items 4 (some (FieldType.object "java/util/ArrayList")) RX6 G h0) : ∀ (n : Nat) (h : HH) (nc : Nat) (nk : Nat) (x1 : Nat), wp_X6_items_L17 G mc ms a0 Q X n h nc nk x1 → nc ≤ mc → nk ≤ ms → ∀ (H : Heap) (locs : List Loc) (ls : Array Slot), hv_I G h0 s.heap h H locs → lv_has ls 4 [(0, .ref a0), (1, .ref x1)] → W p l e (headSpec (ws_ yX6_items cX6_items 4 (some (FieldType.object "java/util/ArrayList"))) (rm_X6_items mc ms)).room s m args below meth c H locs nc nk (vx_MQ below (hv_Qq G h0 s.heap.size Q) (hv_XC G h0 s.heap.size X) args s mc ms (hv_A h0 s.heap.size)) (F0 m 17 ls []) := by
  obtain ⟨⟨hx, hb, hml, hown, hts⟩, hr, hlocks, hXX⟩ := id hE
  intro n
  induction n with
  | zero => intro h nc nk x1 hw; exact hw.elim
  | succ n ih =>
    intro h nc nk x1 hw hc hs H locs ls hI hl
    unfold wp_X6_items_L17 at hw
    refine lv_aload_n hx hb dX6_items_17 rfl (lv_at hl 0 rfl) ?_
    refine hv_wgeti hE hI in_X6 (ci := 9) rfl 1 (by decide) (hts _ q676) (fun _ hx => hx) hw dX6_items_18 (fun r12 hw => ?_)
    refine lv_aload_n hx hb dX6_items_21 rfl (lv_at hl 0 rfl) ?_
    refine hv_wgetq hE hI in_X6 (ci := 9) rfl 0 (by decide) (hts _ q675) (fun _ hx => hx) hw dX6_items_22 (fun r13 hw => ?_)
    obtain ⟨a14, hz, hwa14⟩ := hw; have hla14 := hl; subst hz; have hw := hwa14; have hl := hla14
    obtain ⟨⟨fs, hre⟩, hw⟩ := hw
    refine hv_rFi hI (va_runF (As := []) (b := a14) (rest := [.int r12]) (hXX.1.1 6 _ rfl).2 hE.1 (snd_J5_length l G _ h a14 _ hw) (va_cwF 0 hts (lw_F q707 q721 q723 q105 q725) rfl rfl rfl (hv_fw3 hE.2.2.2.2.1) (by decide +kernel) ⟨Nat.le_of_ble_eq_true rfl, Nat.le_of_ble_eq_true rfl⟩) (hv_preV hE hI (ci := 6) rfl hre) rfl rfl hl.1 rfl (lv_room (Nat.le_of_ble_eq_true rfl)) dX6_items_25 ⟨hc, hs⟩) (fun r15 h16 H locs hw hI => ?_)
    refine lv_icmp_ge (tgt := 54) hx hb dX6_items_30 (by decide) (fun c_30 => ?_) (fun c_30 => ?_)
    · have hw := hw.1 c_30
      refine lv_aload_n hx hb dX6_items_54 rfl (lv_at hl 1 rfl) ?_
      exact vx_ret (hv_qret (v := (some x1)) hE (Or.inl ⟨_, rfl⟩) hI hc hs hw dX6_items_55)
    · have hw := hw.2 c_30
      refine lv_aload_n hx hb dX6_items_33 rfl (lv_at hl 0 rfl) ?_
      refine lv_bipush (v := 59) hx hb dX6_items_34 (by decide) ?_
      refine lv_bipush (v := 59) hx hb dX6_items_36 (by decide) ?_
      obtain ⟨mc17, ms17, hc, hs, hw⟩ := hw
      obtain ⟨⟨fs, hre⟩, hw⟩ := hw
      refine hx_rci hI (vx_runV (As := [.int (59 : Int32), .int (59 : Int32)]) (b := a0) (rest := []) hE.1 (snd_X6_take l G _ mc17 ms17 h16 a0 (59 : Int32) (59 : Int32) _ _ hw) (cwV 2 hts (lw_V q698 q700 qs11 q110 q701) rfl rfl rfl (by decide +kernel) ⟨Nat.le_of_ble_eq_true rfl, Nat.le_of_ble_eq_true rfl⟩) (hv_preV hE hI (ci := 9) rfl hre) rfl rfl hl.1 rfl (lv_room (Nat.le_of_ble_eq_true rfl)) dX6_items_38 ⟨hc, hs⟩) ?_ (fun r18 h19 H locs hw hI => ?_)
      · intro E q20 h21 H locs hw hI hT
        exact hx_out hE hI hT hc hs (fun z hz => (ht z hz).elim) hw
      refine lv_istore_n (lv' := [(3, .int r18), (0, .ref a0), (1, .ref x1)]) hx hb dX6_items_41 rfl hl (by decide) rfl (fun ls hl => ?_)
      refine lv_aload_n hx hb dX6_items_42 rfl (lv_at hl 2 rfl) ?_
      refine lv_aload_n hx hb dX6_items_43 rfl (lv_at hl 1 rfl) ?_
      obtain ⟨mc22, ms22, hc, hs, hw⟩ := hw
      obtain ⟨⟨fs, hre⟩, hw⟩ := hw
      refine hx_rcq hI (vx_runV (As := []) (b := a0) (rest := [.ref x1]) hE.1 (snd_X6_item l G _ mc22 ms22 h19 a0 _ _ hw) (cwV 0 hts (lw_V q1918 q1920 qs31 q110 q1921) rfl rfl rfl (by decide +kernel) ⟨Nat.le_of_ble_eq_true rfl, Nat.le_of_ble_eq_true rfl⟩) (hv_preV hE hI (ci := 9) rfl hre) rfl rfl hl.1 rfl (lv_room (Nat.le_of_ble_eq_true rfl)) dX6_items_44 ⟨hc, hs⟩) ?_ (fun r23 h24 H locs hw hI => ?_)
      · intro E q25 h26 H locs hw hI hT
        exact hx_out hE hI hT hc hs (fun z hz => (ht z hz).elim) hw
      obtain ⟨mc27, ms27, hc, hs, hw⟩ := hw
      obtain ⟨⟨fs, hre⟩, hw⟩ := hw
      refine hv_rci hI (va_runV (As := [va_rf r23]) (b := x1) (rest := []) hE.1 (snd_J2_add l G _ mc27 ms27 h24 x1 r23 _ hw) (cwV 1 hts (lw_V q1933 q910 q911 q102 q912) rfl rfl rfl (by decide +kernel) ⟨Nat.le_of_ble_eq_true rfl, Nat.le_of_ble_eq_true rfl⟩) (hv_preV hE hI (ci := 4) rfl hre) rfl rfl hl.1 rfl (lv_room (Nat.le_of_ble_eq_true rfl)) dX6_items_47 ⟨hc, hs⟩) (fun r28 h29 H locs hw hI => ?_)
      refine lv_istore_n (lv' := [(2, .int r28), (3, .int r18), (0, .ref a0), (1, .ref x1)]) hx hb dX6_items_50 rfl hl (by decide) rfl (fun ls hl => ?_)
      refine lv_goto (tgt := 17) hx hb dX6_items_51 (by decide) ?_
      exact ih h29 (((nc + mc17) + mc22) + mc27) (((nk + ms17) + ms22) + ms27) x1 hw hc hs _ _ _ hI (lv_sub hl [2, 3] rfl)
def wp_X6_items (G : GG) (mc : Nat) (ms : Nat) (h : HH) (a0 : Nat) (Q : Option Nat → HH → Prop) (X : String → Nat → HH → Prop) : Prop := (0 + 1 ≤ mc ∧ 0 + 3 ≤ ms ∧ w_new h (.inr (4, df_J2)) (fun a1 h2 => wp_J2_init G h2 a1 (fun h3 => (∃ mc4 ms4, (0 + 1) + mc4 ≤ mc ∧ (0 + 3) + ms4 ≤ ms ∧ w_is h3 a0 9 (wp_X6_item G mc4 ms4 h3 a0 (fun r5 h6 => (∃ mc9 ms9, ((0 + 1) + mc4) + mc9 ≤ mc ∧ ((0 + 3) + ms4) + ms9 ≤ ms ∧ w_is h6 a1 4 (wp_J2_add G mc9 ms9 h6 a1 r5 (fun r10 h11 => (∃ n17, wp_X6_items_L17 G mc ms a0 Q X n17 h11 (((0 + 1) + mc4) + mc9) (((0 + 3) + ms4) + ms9) a1))))) (fun E q7 h8 => X E q7 h8))))))
set_option maxHeartbeats 4000000 in
theorem snd_X6_items (l : Launch) (G : GG) (sz : Nat) (mc : Nat) (ms : Nat) (h : HH) (a0 : Nat) (Q : Option Nat → HH → Prop) (X : String → Nat → HH → Prop) (hw : wp_X6_items G mc ms h a0 Q X) : vx_Met l yX6_items (ws_ yX6_items cX6_items 4 (some (FieldType.object "java/util/ArrayList"))) (rm_X6_items mc ms) (hv_Pc G h sz [.ref a0]) (hv_Qq G h sz Q) (hv_XC G h sz X) mc ms (hv_A h sz) := by
  refine vx_ofW (cc := cX6_items) (maxL := 4) (ret := (some (FieldType.object "java/util/ArrayList"))) (by decide) rfl ?_
  intro p e s m args below meth c s₁ B hml ht hv
  obtain ⟨rfl, rfl, hE, hI⟩ := hv_open B hml hv
  have hE : hv_E p s m ([.ref a0] : List Value).toArray meth c cX6_items 4 (some (FieldType.object "java/util/ArrayList")) RX6 G h := hE
  obtain ⟨⟨hx, hb, hml, hown, hts⟩, hr, hlocks, hXX⟩ := id hE
  have hl := lv_entry ([.ref a0] : List Value) (n := 4) (Nat.le_of_ble_eq_true rfl)
  rw [lg_entry_eq]
  generalize (lg_sl ([.ref a0] : List Value) ++ List.replicate (4 - (lg_sl ([.ref a0] : List Value)).length) Slot.unset).toArray = ls at hl ⊢
  have hl : lv_has ls 4 [(0, .ref a0)] := hl
  have hc : 0 ≤ mc := Nat.zero_le _
  have hs : 0 ≤ ms := Nat.zero_le _
  unfold wp_X6_items at hw
  obtain ⟨hc, hs, hw⟩ := hw
  refine hv_wnew tyJ2 hE hI in_J2 tyJ2_ok (hts _ q1916) (hts _ q190) (hts _ q102) (ci := 4) rfl df_J2_ok hw hc hs dX6_items_0 (fun a1 h2 H hw hI => ?_)
  refine lv_dup hx hb dX6_items_3 rfl ?_
  refine hv_rcv hI (va_runI (As := []) (b := a1) (rest := [.ref a1]) hE.1 (snd_J2_init l G _ h2 a1 _ hw) (cwI 0 hts (lw_meth q193) rfl rfl rfl (hts _ q102) (hts _ q1917) (hts _ q192) rfl (by decide +kernel) ⟨Nat.le_of_ble_eq_true rfl, Nat.le_of_ble_eq_true rfl⟩) (hv_preS hE hI) rfl rfl hl.1 rfl (lv_room (Nat.le_of_ble_eq_true rfl)) dX6_items_4 ⟨hc, hs⟩) (fun h3 H locs hw hI => ?_)
  refine lv_astore_n (lv' := [(1, .ref a1), (0, .ref a0)]) hx hb dX6_items_7 rfl hl (by decide) rfl (fun ls hl => ?_)
  refine lv_aload_n hx hb dX6_items_8 rfl (lv_at hl 0 rfl) ?_
  refine lv_aload_n hx hb dX6_items_9 rfl (lv_at hl 1 rfl) ?_
  obtain ⟨mc4, ms4, hc, hs, hw⟩ := hw
  obtain ⟨⟨fs, hre⟩, hw⟩ := hw
  refine hx_rcq hI (vx_runV (As := []) (b := a0) (rest := [.ref a1]) hE.1 (snd_X6_item l G _ mc4 ms4 h3 a0 _ _ hw) (cwV 0 hts (lw_V q1918 q1920 qs31 q110 q1921) rfl rfl rfl (by decide +kernel) ⟨Nat.le_of_ble_eq_true rfl, Nat.le_of_ble_eq_true rfl⟩) (hv_preV hE hI (ci := 9) rfl hre) rfl rfl hl.1 rfl (lv_room (Nat.le_of_ble_eq_true rfl)) dX6_items_10 ⟨hc, hs⟩) ?_ (fun r5 h6 H locs hw hI => ?_)
  · intro E q7 h8 H locs hw hI hT
    exact hx_out hE hI hT hc hs (fun z hz => (ht z hz).elim) hw
  obtain ⟨mc9, ms9, hc, hs, hw⟩ := hw
  obtain ⟨⟨fs, hre⟩, hw⟩ := hw
  refine hv_rci hI (va_runV (As := [va_rf r5]) (b := a1) (rest := []) hE.1 (snd_J2_add l G _ mc9 ms9 h6 a1 r5 _ hw) (cwV 1 hts (lw_V q1933 q910 q911 q102 q912) rfl rfl rfl (by decide +kernel) ⟨Nat.le_of_ble_eq_true rfl, Nat.le_of_ble_eq_true rfl⟩) (hv_preV hE hI (ci := 4) rfl hre) rfl rfl hl.1 rfl (lv_room (Nat.le_of_ble_eq_true rfl)) dX6_items_13 ⟨hc, hs⟩) (fun r10 h11 H locs hw hI => ?_)
  refine lv_istore_n (lv' := [(2, .int r10), (1, .ref a1), (0, .ref a0)]) hx hb dX6_items_16 rfl hl (by decide) rfl (fun ls hl => ?_)
  obtain ⟨n17, hw⟩ := hw
  exact snd_X6_items_L17 G mc ms a0 Q X ht hE n17 h11 (((0 + 1) + mc4) + mc9) (((0 + 3) + ms4) + ms9) a1 hw hc hs _ _ _ hI (lv_sub hl [2, 1] rfl)

/-- MatchmakerRules.takeItems()Ljava/util/ArrayList; -/
abbrev rm_X1_takeItems (mc ms : Nat) : Room := { frames := 13, cells := mc, slots := ms, locals := 281 }
def wp_X1_takeItems (G : GG) (mc : Nat) (ms : Nat) (h : HH) (a0 : Nat) (Q : Option Nat → HH → Prop) (X : String → Nat → HH → Prop) : Prop := (∃ mc1 ms1, 0 + mc1 ≤ mc ∧ 0 + ms1 ≤ ms ∧ w_is h a0 1 (wp_X1_takeInput G mc1 ms1 h a0 (fun r2 h3 => w_nn r2 (fun a4 => (∃ mc5 ms5, (0 + mc1) + mc5 ≤ mc ∧ (0 + ms1) + ms5 ≤ ms ∧ w_is h3 a4 9 (wp_X6_items G mc5 ms5 h3 a4 (fun r6 h7 => Q r6 h7) (fun E q8 h9 => (E = "MatchmakerRules$SyntaxException" ∧ w_put h9 a0 1 6 (.ref q8) (fun h10 => (((0 + mc1) + mc5) + 1 ≤ mc ∧ ((0 + ms1) + ms5) + 6 ≤ ms ∧ ∀ q11, h10 q11 = none → X "java/lang/IllegalArgumentException" q11 h10))))))))))
set_option maxHeartbeats 4000000 in
theorem snd_X1_takeItems (l : Launch) (hl0 : l.stackTraces = false) (G : GG) (sz : Nat) (mc : Nat) (ms : Nat) (h : HH) (a0 : Nat) (Q : Option Nat → HH → Prop) (X : String → Nat → HH → Prop) (hw : wp_X1_takeItems G mc ms h a0 Q X) : vx_Met l yX1_takeItems (wsW_ yX1_takeItems cX1_takeItems 2 (some (FieldType.object "java/util/ArrayList")) [(0, 7, 8, 141)]) (rm_X1_takeItems mc ms) (hv_Pc G h sz [.ref a0]) (hv_Qq G h sz Q) (hv_XC G h sz X) mc ms (hv_A h sz) := by
  refine vx_ofWH (cc := cX1_takeItems) (maxL := 2) (ret := (some (FieldType.object "java/util/ArrayList"))) (hh := [(0, 7, 8, 141)]) (by decide) rfl ?_
  intro p e s m args below meth c s₁ B hml hv
  have ht : c.exceptionTable.toList = tableOf [(0, 7, 8, 141)] := vx_table (x := yX1_takeItems) B (atoms_spec (ws := (wsW_ yX1_takeItems cX1_takeItems 2 (some (FieldType.object "java/util/ArrayList")) [(0, 7, 8, 141)])) B.pre _ List.mem_cons_self)
  obtain ⟨rfl, rfl, hE, hI⟩ := hv_openW B hml hv
  have hE : hv_E p s m ([.ref a0] : List Value).toArray meth c cX1_takeItems 2 (some (FieldType.object "java/util/ArrayList")) RX1 G h := hE
  obtain ⟨⟨hx, hb, hml, hown, hts⟩, hr, hlocks, hXX⟩ := id hE
  have hl := lv_entry ([.ref a0] : List Value) (n := 2) (Nat.le_of_ble_eq_true rfl)
  rw [lg_entry_eq]
  generalize (lg_sl ([.ref a0] : List Value) ++ List.replicate (2 - (lg_sl ([.ref a0] : List Value)).length) Slot.unset).toArray = ls at hl ⊢
  have hl : lv_has ls 2 [(0, .ref a0)] := hl
  have hc : 0 ≤ mc := Nat.zero_le _
  have hs : 0 ≤ ms := Nat.zero_le _
  unfold wp_X1_takeItems at hw
  refine lv_aload_n hx hb dX1_takeItems_0 rfl (lv_at hl 0 rfl) ?_
  obtain ⟨mc1, ms1, hc, hs, hw⟩ := hw
  obtain ⟨⟨fs, hre⟩, hw⟩ := hw
  refine hv_rcq hI (va_runV (As := []) (b := a0) (rest := []) hE.1 (snd_X1_takeInput l G _ mc1 ms1 h a0 _ hw) (cwV 0 hts (lw_V q665 q667 qs8 q97 q668) rfl rfl rfl (by decide +kernel) ⟨Nat.le_of_ble_eq_true rfl, Nat.le_of_ble_eq_true rfl⟩) (hv_preV hE hI (ci := 1) rfl hre) rfl rfl hl.1 rfl (lv_room (Nat.le_of_ble_eq_true rfl)) dX1_takeItems_1 ⟨hc, hs⟩) (fun r2 h3 H locs hw hI => ?_)
  obtain ⟨a4, hz, hwa4⟩ := hw; have hla4 := hl; subst hz; have hw := hwa4; have hl := hla4
  obtain ⟨mc5, ms5, hc, hs, hw⟩ := hw
  obtain ⟨⟨fs, hre⟩, hw⟩ := hw
  refine hx_rcq hI (vx_runV (As := []) (b := a4) (rest := []) hE.1 (snd_X6_items l G _ mc5 ms5 h3 a4 _ _ hw) (cwV 0 hts (lw_V q1912 q1913 q1914 q110 q1915) rfl rfl rfl (by decide +kernel) ⟨Nat.le_of_ble_eq_true rfl, Nat.le_of_ble_eq_true rfl⟩) (hv_preV hE hI (ci := 9) rfl hre) rfl rfl hl.1 rfl (lv_room (Nat.le_of_ble_eq_true rfl)) dX1_takeItems_4 ⟨hc, hs⟩) ?_ (fun r6 h7 H locs hw hI => ?_)
  · intro E q8 h9 H locs hw hI hT
    obtain ⟨rfl, hw⟩ := hw
    refine hx_catch hE hT [] ⟨0, 7, 8, 141⟩ [] ht (fun _ hz => absurd hz List.not_mem_nil) rfl (by decide) (hts _ q664) ((hE.2.2.2.2.1.C 13 rfl).use rfl) ?_
    refine lv_astore_n (lv' := [(1, .ref q8), (0, .ref a0)]) hx hb dX1_takeItems_8 rfl hl (by decide) rfl (fun ls hl => ?_)
    refine lv_aload_n hx hb dX1_takeItems_9 rfl (lv_at hl 1 rfl) ?_
    refine lv_aload_n hx hb dX1_takeItems_10 rfl (lv_at hl 0 rfl) ?_
    refine hv_wput (v := .ref q8) tyX1 hE hI in_X1 tyX1_ok nmX1 (ci := 1) rfl 6 (by decide) (hts _ q306) (fun _ hx => hx) rfl (ty := (.object "MatchmakerRules$SyntaxException")) rfl rfl rfl hw dX1_takeItems_11 (fun h10 H locs hw hI => ?_)
    obtain ⟨hc, hs, hw⟩ := hw
    exact hx_throw0 (names := ["java/lang/RuntimeException", "java/lang/Exception"]) (rest := []) hl0 hE hI (by decide +kernel) (by decide +kernel) (hts _ q869) (hts _ q120) (ha_MatchmakerRules_3_IllegalArgumentException hE) (by decide +kernel) hl.1 dX1_takeItems_14 dX1_takeItems_17 dX1_takeItems_18 dX1_takeItems_21 (by rw [ht]; exact (List.forall_mem_cons.mpr ⟨rfl, (fun _ hz => absurd hz List.not_mem_nil)⟩)) (Nat.le_of_ble_eq_true rfl) (Nat.le_of_ble_eq_true rfl) (Nat.le_refl _) (Nat.le_refl _) hc hs hw
  exact vx_ret (hv_qret (v := r6) hE (Or.inl ⟨_, rfl⟩) hI hc hs hw dX1_takeItems_7)

/-- MatchmakerRules.read()I -/
abbrev rm_X1_read (mc ms : Nat) : Room := { frames := 14, cells := mc, slots := ms, locals := 3171 }
def wp_X1_read_L21 (G : GG) (mc : Nat) (ms : Nat) (a0 : Nat) (Q : Int32 → HH → Prop) (X : String → Nat → HH → Prop) : Nat → (HH) → (Nat) → (Nat) → (Option Nat) → (Int32) → (Option Nat) → Prop
  | 0, _, _, _, _, _, _ => False
  | n + 1, h, nc, nk, x2, x3, x4 => w_nn x4 (fun a15 => w_is h a15 13 (wp_J15_hasNext G h a15 (fun r16 h17 => ((r16 = 0 → (∃ mc18 ms18, nc + mc18 ≤ mc ∧ nk + ms18 ≤ ms ∧ w_is h17 a0 1 (wp_X1_become G mc18 ms18 h17 a0 x2 (fun h19 => Q x3 h19)))) ∧ (¬ r16 = 0 → w_is h17 a15 13 (wp_J15_next G h17 a15 (fun r20 h21 => w_nn r20 (fun a22 => w_cast h21 a22 8 ((∃ mc23 ms23, nc + mc23 ≤ mc ∧ nk + ms23 ≤ ms ∧ w_is h21 a22 8 (wp_X5_make G mc23 ms23 h21 a22 x2 (fun r24 h25 => wp_X1_read_L21 G mc ms a0 Q X n h25 (nc + mc23) (nk + ms23) x2 (x3 + (1 : Int32)) (some a15)) (fun E q26 h27 => ((E = "MatchmakerRules$Refused" ∧ w_put h27 a0 1 7 (.int x3) (fun h28 => w_put h28 a0 1 8 (.ref q26) (fun h29 => ((nc + mc23) + 1 ≤ mc ∧ (nk + ms23) + 6 ≤ ms ∧ ∀ q30, h29 q30 = none → X "java/lang/UnsupportedOperationException" q30 h29)))) ∨ (E = "java/lang/IllegalArgumentException" ∧ w_put h27 a0 1 7 (.int x3) (fun h31 => ((nc + mc23) + 1 ≤ mc ∧ (nk + ms23) + 6 ≤ ms ∧ ∀ q32, h31 q32 = none → X "java/lang/UnsupportedOperationException" q32 h31))))))))))))))))
set_option maxHeartbeats 4000000 in
theorem snd_X1_read_L21 {p : Program} {l : Launch} {e : Env} {s : State} {m : MethodId} {args : Array Value} {below : List Frame} {meth : Method} {c : Code} {h0 : HH} (G : GG) (mc : Nat) (ms : Nat) (a0 : Nat) (Q : Int32 → HH → Prop) (X : String → Nat → HH → Prop) (hl0 : l.stackTraces = false) (ht : c.exceptionTable.toList = tableOf [(15, 57, 60, 107), (15, 57, 81, 1)]) (hE : hv_E p s m args meth c cX1_read 7 (some FieldType.int) RX1 G h0) : ∀ (n : Nat) (h : HH) (nc : Nat) (nk : Nat) (x2 : Option Nat) (x3 : Int32) (x4 : Option Nat), wp_X1_read_L21 G mc ms a0 Q X n h nc nk x2 x3 x4 → nc ≤ mc → nk ≤ ms → ∀ (H : Heap) (locs : List Loc) (ls : Array Slot), hv_I G h0 s.heap h H locs → lv_has ls 7 [(0, .ref a0), (2, va_rf x2), (3, .int x3), (4, va_rf x4)] → W p l e (headSpec (wsW_ yX1_read cX1_read 7 (some FieldType.int) [(15, 57, 60, 107), (15, 57, 81, 1)]) (rm_X1_read mc ms)).room s m args below meth c H locs nc nk (vx_MQ below (hv_Qi G h0 s.heap.size Q) (hv_XC G h0 s.heap.size X) args s mc ms (hv_A h0 s.heap.size)) (F0 m 21 ls []) := by
  obtain ⟨⟨hx, hb, hml, hown, hts⟩, hr, hlocks, hXX⟩ := id hE
  intro n
  induction n with
  | zero => intro h nc nk x2 x3 x4 hw; exact hw.elim
  | succ n ih =>
    intro h nc nk x2 x3 x4 hw hc hs H locs ls hI hl
    unfold wp_X1_read_L21 at hw
    refine lv_aloadq hx hb dX1_read_21 (lv_at hl 3 rfl) ?_
    obtain ⟨a15, hz, hwa15⟩ := hw; have hla15 := hl; subst hz; have hw := hwa15; have hl := hla15
    obtain ⟨⟨fs, hre⟩, hw⟩ := hw
    refine hv_rFi hI (va_runF (As := []) (b := a15) (rest := []) (hXX.1.1 13 _ rfl).2 hE.1 (snd_J15_hasNext l G _ h a15 _ hw) (va_cwF 0 hts (lw_F q637 q379 q381 q121 q383) rfl rfl rfl (hv_fw0 hE.2.2.2.2.1) (by decide +kernel) ⟨Nat.le_of_ble_eq_true rfl, Nat.le_of_ble_eq_true rfl⟩) (hv_preV hE hI (ci := 13) rfl hre) rfl rfl hl.1 rfl (lv_room (Nat.le_of_ble_eq_true rfl)) dX1_read_23 ⟨hc, hs⟩) (fun r16 h17 H locs hw hI => ?_)
    refine lv_if_eq (tgt := 57) hx hb dX1_read_28 (by decide) (fun c_28 => ?_) (fun c_28 => ?_)
    · have hw := hw.1 c_28
      refine lv_goto (tgt := 96) hx hb dX1_read_57 (by decide) ?_
      refine lv_aload_n hx hb dX1_read_96 rfl (lv_at hl 0 rfl) ?_
      refine lv_aload_nq hx hb dX1_read_97 rfl (lv_at hl 1 rfl) ?_
      obtain ⟨mc18, ms18, hc, hs, hw⟩ := hw
      obtain ⟨⟨fs, hre⟩, hw⟩ := hw
      refine hv_rcv hI (va_runV (As := [va_rf x2]) (b := a0) (rest := []) hE.1 (snd_X1_become l G _ mc18 ms18 h17 a0 x2 _ hw) (cwV 1 hts (lw_V q1253 q1255 qs25 q97 q1256) rfl rfl rfl (by decide +kernel) ⟨Nat.le_of_ble_eq_true rfl, Nat.le_of_ble_eq_true rfl⟩) (hv_preV hE hI (ci := 1) rfl hre) rfl rfl hl.1 rfl (lv_room (Nat.le_of_ble_eq_true rfl)) dX1_read_98 ⟨hc, hs⟩) (fun h19 H locs hw hI => ?_)
      refine lv_iload_n hx hb dX1_read_101 rfl (lv_at hl 2 rfl) ?_
      exact vx_ret (hv_iret hE hI hc hs hw dX1_read_102)
    · have hw := hw.2 c_28
      refine lv_aload hx hb dX1_read_31 (lv_at hl 3 rfl) ?_
      obtain ⟨⟨fs, hre⟩, hw⟩ := hw
      refine hv_rFq hI (va_runF (As := []) (b := a15) (rest := []) (hXX.1.1 13 _ rfl).2 hE.1 (snd_J15_next l G _ h17 a15 _ hw) (va_cwF 0 hts (lw_F q639 q388 q390 q121 q392) rfl rfl rfl (hv_fw1 hE.2.2.2.2.1) (by decide +kernel) ⟨Nat.le_of_ble_eq_true rfl, Nat.le_of_ble_eq_true rfl⟩) (hv_preV hE hI (ci := 13) rfl hre) rfl rfl hl.1 rfl (lv_room (Nat.le_of_ble_eq_true rfl)) dX1_read_33 ⟨hc, hs⟩) (fun r20 h21 H locs hw hI => ?_)
      obtain ⟨a22, hz, hwa22⟩ := hw; have hla22 := hl; subst hz; have hw := hwa22; have hl := hla22
      refine hv_wcast (ci := 8) hE hI (hts _ q658) rfl hw dX1_read_38 (fun hw => ?_)
      refine lv_astore (lv' := [(5, .ref a22), (0, .ref a0), (2, va_rf x2), (3, .int x3), (4, .ref a15)]) hx hb dX1_read_41 hl (by decide) rfl (fun ls hl => ?_)
      refine lv_aload hx hb dX1_read_43 (lv_at hl 0 rfl) ?_
      refine lv_aload_nq hx hb dX1_read_45 rfl (lv_at hl 2 rfl) ?_
      obtain ⟨mc23, ms23, hc, hs, hw⟩ := hw
      obtain ⟨⟨fs, hre⟩, hw⟩ := hw
      refine hx_rci hI (vx_runV (As := [va_rf x2]) (b := a22) (rest := []) hE.1 (snd_X5_make l hl0 G _ mc23 ms23 h21 a22 x2 _ _ hw) (cwV 1 hts (lw_V q1043 q1044 q1045 q109 q1046) rfl rfl rfl (by decide +kernel) ⟨Nat.le_of_ble_eq_true rfl, Nat.le_of_ble_eq_true rfl⟩) (hv_preV hE hI (ci := 8) rfl hre) rfl rfl hl.1 rfl (lv_room (Nat.le_of_ble_eq_true rfl)) dX1_read_46 ⟨hc, hs⟩) ?_ (fun r24 h25 H locs hw hI => ?_)
      · intro E q26 h27 H locs hw hI hT
        rcases hw with ⟨rfl, hw⟩ | hw
        · refine hx_catch hE hT [] ⟨15, 57, 60, 107⟩ [⟨15, 57, 81, 1⟩] ht (fun _ hz => absurd hz List.not_mem_nil) rfl (by decide) (hts _ q902) ((hE.2.2.2.2.1.C 24 rfl).use rfl) ?_
          refine lv_astore (lv' := [(4, .ref q26), (5, .ref a22), (0, .ref a0), (2, va_rf x2), (3, .int x3)]) hx hb dX1_read_60 hl (by decide) rfl (fun ls hl => ?_)
          refine lv_aload_n hx hb dX1_read_62 rfl (lv_at hl 2 rfl) ?_
          refine lv_iload_n hx hb dX1_read_63 rfl (lv_at hl 4 rfl) ?_
          refine hv_wput (v := .int x3) tyX1 hE hI in_X1 tyX1_ok nmX1 (ci := 1) rfl 7 (by decide) (hts _ q307) (fun _ hx => hx) rfl (ty := .int) rfl rfl rfl hw dX1_read_64 (fun h28 H locs hw hI => ?_)
          refine lv_aload_n hx hb dX1_read_67 rfl (lv_at hl 2 rfl) ?_
          refine lv_aload hx hb dX1_read_68 (lv_at hl 0 rfl) ?_
          refine hv_wput (v := .ref q26) tyX1 hE hI in_X1 tyX1_ok nmX1 (ci := 1) rfl 8 (by decide) (hts _ q308) (fun _ hx => hx) rfl (ty := (.object "MatchmakerRules$Refused")) rfl rfl rfl hw dX1_read_70 (fun h29 H locs hw hI => ?_)
          obtain ⟨hc, hs, hw⟩ := hw
          exact hx_throw0 (names := ["java/lang/RuntimeException", "java/lang/Exception"]) (rest := []) hl0 hE hI (by decide +kernel) (by decide +kernel) (hts _ q1238) (hts _ q129) (ha_MatchmakerRules_115_UnsupportedOperationException hE) (by decide +kernel) hl.1 dX1_read_73 dX1_read_76 dX1_read_77 dX1_read_80 (by rw [ht]; exact (List.forall_mem_cons.mpr ⟨rfl, (List.forall_mem_cons.mpr ⟨rfl, (fun _ hz => absurd hz List.not_mem_nil)⟩)⟩)) (Nat.le_of_ble_eq_true rfl) (Nat.le_of_ble_eq_true rfl) (Nat.le_refl _) (Nat.le_refl _) hc hs hw
        obtain ⟨rfl, hw⟩ := hw
        refine hx_catch hE hT [⟨15, 57, 60, 107⟩] ⟨15, 57, 81, 1⟩ [] ht (List.forall_mem_cons.mpr ⟨(Or.inr ⟨by decide, "MatchmakerRules$Refused", hts _ q902, hE.2.2.2.2.1.N 41 rfl⟩), (fun _ hz => absurd hz List.not_mem_nil)⟩) rfl (by decide) (hts _ q869) ((hE.2.2.2.2.1.C 17 rfl).use rfl) ?_
        refine lv_astore (lv' := [(4, .ref q26), (5, .ref a22), (0, .ref a0), (2, va_rf x2), (3, .int x3)]) hx hb dX1_read_81 hl (by decide) rfl (fun ls hl => ?_)
        refine lv_aload_n hx hb dX1_read_83 rfl (lv_at hl 2 rfl) ?_
        refine lv_iload_n hx hb dX1_read_84 rfl (lv_at hl 4 rfl) ?_
        refine hv_wput (v := .int x3) tyX1 hE hI in_X1 tyX1_ok nmX1 (ci := 1) rfl 7 (by decide) (hts _ q307) (fun _ hx => hx) rfl (ty := .int) rfl rfl rfl hw dX1_read_85 (fun h31 H locs hw hI => ?_)
        obtain ⟨hc, hs, hw⟩ := hw
        exact hx_throw0 (names := ["java/lang/RuntimeException", "java/lang/Exception"]) (rest := []) hl0 hE hI (by decide +kernel) (by decide +kernel) (hts _ q1238) (hts _ q129) (ha_MatchmakerRules_115_UnsupportedOperationException hE) (by decide +kernel) hl.1 dX1_read_88 dX1_read_91 dX1_read_92 dX1_read_95 (by rw [ht]; exact (List.forall_mem_cons.mpr ⟨rfl, (List.forall_mem_cons.mpr ⟨rfl, (fun _ hz => absurd hz List.not_mem_nil)⟩)⟩)) (Nat.le_of_ble_eq_true rfl) (Nat.le_of_ble_eq_true rfl) (Nat.le_refl _) (Nat.le_refl _) hc hs hw
      refine lv_istore (lv' := [(6, .int r24), (5, .ref a22), (0, .ref a0), (2, va_rf x2), (3, .int x3), (4, .ref a15)]) hx hb dX1_read_49 hl (by decide) rfl (fun ls hl => ?_)
      refine lv_iinc (v := (x3 + (1 : Int32))) (lv' := [(3, .int (x3 + (1 : Int32))), (6, .int r24), (5, .ref a22), (0, .ref a0), (2, va_rf x2), (4, .ref a15)]) hx hb dX1_read_51 hl (k := 4) rfl rfl (by decide) (by cases x2 <;> exact rfl) (fun ls hl => ?_)
      refine lv_goto (tgt := 21) hx hb dX1_read_54 (by decide) ?_
      exact ih h25 (nc + mc23) (nk + ms23) x2 (x3 + (1 : Int32)) (some a15) hw hc hs _ _ _ hI (lv_sub hl [3, 4, 0, 5] rfl)
def wp_X1_read (G : GG) (mc : Nat) (ms : Nat) (h : HH) (a0 : Nat) (Q : Int32 → HH → Prop) (X : String → Nat → HH → Prop) : Prop := (∃ mc1 ms1, 0 + mc1 ≤ mc ∧ 0 + ms1 ≤ ms ∧ w_is h a0 1 (wp_X1_takeItems G mc1 ms1 h a0 (fun r2 h3 => w_getq h3 a0 1 0 (fun r6 => w_nn r6 (fun a7 => (∃ mc8 ms8, (0 + mc1) + mc8 ≤ mc ∧ (0 + ms1) + ms8 ≤ ms ∧ w_is h3 a7 2 (wp_X2_copy G mc8 ms8 h3 a7 (fun r9 h10 => w_nn r2 (fun a11 => (∃ mc12 ms12, ((0 + mc1) + mc8) + mc12 ≤ mc ∧ ((0 + ms1) + ms8) + ms12 ≤ ms ∧ w_is h10 a11 4 (wp_J2_iterator G mc12 ms12 h10 a11 (fun r13 h14 => (∃ n21, wp_X1_read_L21 G mc ms a0 Q X n21 h14 (((0 + mc1) + mc8) + mc12) (((0 + ms1) + ms8) + ms12) r9 (0 : Int32) r13))))))))))) (fun E q4 h5 => X E q4 h5)))
set_option maxHeartbeats 4000000 in
theorem snd_X1_read (l : Launch) (hl0 : l.stackTraces = false) (G : GG) (sz : Nat) (mc : Nat) (ms : Nat) (h : HH) (a0 : Nat) (Q : Int32 → HH → Prop) (X : String → Nat → HH → Prop) (hw : wp_X1_read G mc ms h a0 Q X) : vx_Met l yX1_read (wsW_ yX1_read cX1_read 7 (some FieldType.int) [(15, 57, 60, 107), (15, 57, 81, 1)]) (rm_X1_read mc ms) (hv_Pc G h sz [.ref a0]) (hv_Qi G h sz Q) (hv_XC G h sz X) mc ms (hv_A h sz) := by
  refine vx_ofWH (cc := cX1_read) (maxL := 7) (ret := (some FieldType.int)) (hh := [(15, 57, 60, 107), (15, 57, 81, 1)]) (by decide) rfl ?_
  intro p e s m args below meth c s₁ B hml hv
  have ht : c.exceptionTable.toList = tableOf [(15, 57, 60, 107), (15, 57, 81, 1)] := vx_table (x := yX1_read) B (atoms_spec (ws := (wsW_ yX1_read cX1_read 7 (some FieldType.int) [(15, 57, 60, 107), (15, 57, 81, 1)])) B.pre _ List.mem_cons_self)
  obtain ⟨rfl, rfl, hE, hI⟩ := hv_openW B hml hv
  have hE : hv_E p s m ([.ref a0] : List Value).toArray meth c cX1_read 7 (some FieldType.int) RX1 G h := hE
  obtain ⟨⟨hx, hb, hml, hown, hts⟩, hr, hlocks, hXX⟩ := id hE
  have hl := lv_entry ([.ref a0] : List Value) (n := 7) (Nat.le_of_ble_eq_true rfl)
  rw [lg_entry_eq]
  generalize (lg_sl ([.ref a0] : List Value) ++ List.replicate (7 - (lg_sl ([.ref a0] : List Value)).length) Slot.unset).toArray = ls at hl ⊢
  have hl : lv_has ls 7 [(0, .ref a0)] := hl
  have hc : 0 ≤ mc := Nat.zero_le _
  have hs : 0 ≤ ms := Nat.zero_le _
  unfold wp_X1_read at hw
  refine lv_aload_n hx hb dX1_read_0 rfl (lv_at hl 0 rfl) ?_
  obtain ⟨mc1, ms1, hc, hs, hw⟩ := hw
  obtain ⟨⟨fs, hre⟩, hw⟩ := hw
  refine hx_rcq hI (vx_runVX (As := []) (b := a0) (rest := []) hE.1 (snd_X1_takeItems l hl0 G _ mc1 ms1 h a0 _ _ hw) (vx_cwVW 0 hts (lw_VW q1908 q1910 qs30 q97 q1911) rfl rfl rfl (by decide +kernel) ⟨Nat.le_of_ble_eq_true rfl, Nat.le_of_ble_eq_true rfl⟩) (hv_preV hE hI (ci := 1) rfl hre) rfl rfl hl.1 rfl (lv_room (Nat.le_of_ble_eq_true rfl)) dX1_read_1 ⟨hc, hs⟩) ?_ (fun r2 h3 H locs hw hI => ?_)
  · intro E q4 h5 H locs hw hI hT
    exact hx_out hE hI hT hc hs (by rw [ht]; exact (List.forall_mem_cons.mpr ⟨rfl, (List.forall_mem_cons.mpr ⟨rfl, (fun _ hz => absurd hz List.not_mem_nil)⟩)⟩)) hw
  refine lv_astore_nq (lv' := [(1, va_rf r2), (0, .ref a0)]) hx hb dX1_read_4 rfl hl (by decide) rfl (fun ls hl => ?_)
  refine lv_aload_n hx hb dX1_read_5 rfl (lv_at hl 1 rfl) ?_
  refine hv_wgetq hE hI in_X1 (ci := 1) rfl 0 (by decide) (hts _ q300) (fun _ hx => hx) hw dX1_read_6 (fun r6 hw => ?_)
  obtain ⟨a7, hz, hwa7⟩ := hw; have hla7 := hl; subst hz; have hw := hwa7; have hl := hla7
  obtain ⟨mc8, ms8, hc, hs, hw⟩ := hw
  obtain ⟨⟨fs, hre⟩, hw⟩ := hw
  refine hv_rcq hI (va_runV (As := []) (b := a7) (rest := []) hE.1 (snd_X2_copy l G _ mc8 ms8 h3 a7 _ hw) (cwV 0 hts (lw_V q903 q904 q905 q98 q906) rfl rfl rfl (by decide +kernel) ⟨Nat.le_of_ble_eq_true rfl, Nat.le_of_ble_eq_true rfl⟩) (hv_preV hE hI (ci := 2) rfl hre) rfl rfl hl.1 rfl (lv_room (Nat.le_of_ble_eq_true rfl)) dX1_read_9 ⟨hc, hs⟩) (fun r9 h10 H locs hw hI => ?_)
  refine lv_astore_nq (lv' := [(2, va_rf r9), (1, va_rf r2), (0, .ref a0)]) hx hb dX1_read_12 rfl hl (by decide) (by cases r2 <;> exact rfl) (fun ls hl => ?_)
  refine lv_iconst (v := 0) hx hb dX1_read_13 (by decide) ?_
  refine lv_istore_n (lv' := [(3, .int (0 : Int32)), (2, va_rf r9), (1, va_rf r2), (0, .ref a0)]) hx hb dX1_read_14 rfl hl (by decide) (by cases r9 <;> exact rfl) (fun ls hl => ?_)
  refine lv_aload_nq hx hb dX1_read_15 rfl (lv_at hl 2 rfl) ?_
  obtain ⟨a11, hz, hwa11⟩ := hw; have hla11 := hl; subst hz; have hw := hwa11; have hl := hla11
  obtain ⟨mc12, ms12, hc, hs, hw⟩ := hw
  obtain ⟨⟨fs, hre⟩, hw⟩ := hw
  refine hv_rcq hI (va_runV (As := []) (b := a11) (rest := []) hE.1 (snd_J2_iterator l G _ mc12 ms12 h10 a11 _ hw) (cwV 0 hts (lw_V q635 q352 q353 q102 q354) rfl rfl rfl (by decide +kernel) ⟨Nat.le_of_ble_eq_true rfl, Nat.le_of_ble_eq_true rfl⟩) (hv_preV hE hI (ci := 4) rfl hre) rfl rfl hl.1 rfl (lv_room (Nat.le_of_ble_eq_true rfl)) dX1_read_16 ⟨hc, hs⟩) (fun r13 h14 H locs hw hI => ?_)
  refine lv_astoreq (lv' := [(4, va_rf r13), (3, .int (0 : Int32)), (2, va_rf r9), (1, .ref a11), (0, .ref a0)]) hx hb dX1_read_19 hl (by decide) rfl (fun ls hl => ?_)
  obtain ⟨n21, hw⟩ := hw
  exact snd_X1_read_L21 G mc ms a0 Q X hl0 ht hE n21 h14 (((0 + mc1) + mc8) + mc12) (((0 + ms1) + ms8) + ms12) r9 (0 : Int32) r13 hw hc hs _ _ _ hI (lv_sub hl [4, 2, 1, 0] rfl)
