/-! the reference's methods, walked (by gen/model.py) -/
set_option maxRecDepth 100000
/-- MatchmakerRulesModel.factOf(II)I -/
abbrev rm_X4_factOf : Room := { frames := 4, cells := 0, slots := 0, locals := 81 }
def wp_X4_factOf (F : Nat → Int32) (A : Nat → Nat → Int32) (L : Nat → UInt32) (x1 : Int32) (x2 : Int32) (Q : Int32 → (Nat → Int32) → (Nat → Nat → Int32) → (Nat → UInt32) → Prop) : Prop := wp_X4_slotOf (upd F 0 (0 : Int32)) A L x1 (fun r1 F1 A1 L1 => ((¬ r1 = (-1 : Int32) → ((x2 = (0 : Int32) → (vp_in ((115 : Int32) + r1) 13675 ∧ Q (A1 1 (Int32.toNatClampNeg ((115 : Int32) + r1))) F1 A1 L1)) ∧ (¬ x2 = (0 : Int32) → ((x2 = (1 : Int32) → (vp_in ((135 : Int32) + r1) 13675 ∧ Q (A1 1 (Int32.toNatClampNeg ((135 : Int32) + r1))) F1 A1 L1)) ∧ (¬ x2 = (1 : Int32) → ((x2 = (2 : Int32) → (vp_in ((155 : Int32) + r1) 13675 ∧ Q (A1 1 (Int32.toNatClampNeg ((155 : Int32) + r1))) F1 A1 L1)) ∧ (¬ x2 = (2 : Int32) → ((x2 = (3 : Int32) → (vp_in ((175 : Int32) + r1) 13675 ∧ Q (A1 1 (Int32.toNatClampNeg ((175 : Int32) + r1))) F1 A1 L1)) ∧ (¬ x2 = (3 : Int32) → ((x2 = (4 : Int32) → wp_X4_reasons F1 A1 L1 x1 (fun r2 F2 A2 L2 => Q r2 F2 A2 L2)) ∧ (¬ x2 = (4 : Int32) → ((x2 = (5 : Int32) → (vp_in ((215 : Int32) + r1) 13675 ∧ Q (A1 1 (Int32.toNatClampNeg ((215 : Int32) + r1))) F1 A1 L1)) ∧ (¬ x2 = (5 : Int32) → ((x2 = (6 : Int32) → wp_X4_users F1 A1 L1 x1 (fun r3 F3 A3 L3 => Q r3 F3 A3 L3)) ∧ (¬ x2 = (6 : Int32) → ((x2 = (7 : Int32) → wp_X4_measures F1 A1 L1 (fun F4 A4 L4 => (vp_in r1 20 ∧ Q (A4 18 (Int32.toNatClampNeg r1)) F4 A4 L4))) ∧ (¬ x2 = (7 : Int32) → wp_X4_fails F1 A1 L1 (2 : Int32) (fun r5 F5 A5 L5 => Q r5 F5 A5 L5)))))))))))))))))) ∧ (r1 = (-1 : Int32) → wp_X4_fails F1 A1 L1 (1 : Int32) (fun r6 F6 A6 L6 => Q r6 F6 A6 L6))))
set_option maxHeartbeats 4000000 in
theorem snd_X4_factOf (l : Launch) (G : GG) (sz : Nat) (h : HH) (ad : Nat → Nat) (F : Nat → Int32) (A : Nat → Nat → Int32) (L : Nat → UInt32) (x1 : Int32) (x2 : Int32) (Q : Int32 → (Nat → Int32) → (Nat → Nat → Int32) → (Nat → UInt32) → Prop) (hS : ml_S G h ad F A L) (hw : wp_X4_factOf F A L x1 x2 Q) : Met l yX4_factOf (ws_ yX4_factOf cX4_factOf 4 (some FieldType.int)) rm_X4_factOf (hv_Pc G h sz [.ref (ad 0), .int x1, .int x2]) (hv_Qi G h sz (fun r => ml_Q G h ad (Q r))) 0 0 (hv_A h sz) := by
  refine Met.ofW (cc := cX4_factOf) (maxL := 4) (ret := (some FieldType.int)) (by decide) rfl ?_
  intro p e s m args below meth c s₁ B hml hv
  obtain ⟨rfl, rfl, hE, hI⟩ := hv_open B hml hv
  have hE : hv_E p s m ([.ref (ad 0), .int x1, .int x2] : List Value).toArray meth c cX4_factOf 4 (some FieldType.int) RX4 G h := hE
  have hI := ml_I.start hI hS
  obtain ⟨⟨hx, hb, hml, hown, hts⟩, hr, hlocks, -⟩ := id hE
  have hl := lv_entry ([.ref (ad 0), .int x1, .int x2] : List Value) (n := 4) (Nat.le_of_ble_eq_true rfl)
  rw [lg_entry_eq]
  generalize (lg_sl ([.ref (ad 0), .int x1, .int x2] : List Value) ++ List.replicate (4 - (lg_sl ([.ref (ad 0), .int x1, .int x2] : List Value)).length) Slot.unset).toArray = ls at hl ⊢
  have hl : lv_has ls 4 [(0, .ref (ad 0)), (1, .int x1), (2, .int x2)] := hl
  unfold wp_X4_factOf at hw
  refine lv_aload_n hx hb dX4_factOf_0 rfl (lv_at hl 0 rfl) ?_
  refine lv_iconst (v := 0) hx hb dX4_factOf_1 (by decide) ?_
  refine ml_put hE hI 0 (by decide) q1985 rfl rfl (ty := .int) rfl rfl rfl (fun _ => rfl) dX4_factOf_2 (fun H locs hI => ?_)
  refine lv_aload_n hx hb dX4_factOf_5 rfl (lv_at hl 0 rfl) ?_
  refine lv_iload_n hx hb dX4_factOf_6 rfl (lv_at hl 1 rfl) ?_
  refine ml_calli (As := [.int x1]) (rest := []) (cells := 0) (slots := 0) hE hI (fun h hS => snd_X4_slotOf l G _ h ad (upd F 0 (0 : Int32)) A L x1 _ hS hw) (cwV 1 hts (lw_V q2198 q2200 qs54 q108 q2201) rfl rfl rfl (by decide +kernel) ⟨Nat.le_of_ble_eq_true rfl, Nat.le_of_ble_eq_true rfl⟩) rfl hl.1 (Nat.le_of_ble_eq_true rfl) dX4_factOf_7 ⟨Nat.le_of_ble_eq_true rfl, Nat.le_of_ble_eq_true rfl⟩ (fun r1 F1 A1 L1 H locs hw hI => ?_)
  refine lv_istore_n (lv' := [(3, .int r1), (0, .ref (ad 0)), (1, .int x1), (2, .int x2)]) hx hb dX4_factOf_10 rfl hl (by decide) rfl (fun ls hl => ?_)
  refine lv_iload_n hx hb dX4_factOf_11 rfl (lv_at hl 0 rfl) ?_
  refine lv_iconst (v := -1) hx hb dX4_factOf_12 (by decide) ?_
  refine lv_icmp_ne (tgt := 22) hx hb dX4_factOf_13 (by decide) (fun c_13 => ?_) (fun c_13 => ?_)
  · have hw := hw.1 c_13
    refine lv_iload_n hx hb dX4_factOf_22 rfl (lv_at hl 3 rfl) ?_
    by_cases s23_0 : x2 = (0 : Int32)
    · have hw := hw.1 s23_0
      refine lv_tableIn (tgt := 68) (off := 45) hx hb dX4_factOf_23 (by rw [s23_0]; decide) (by rw [s23_0]; decide) (by rw [s23_0]; decide) (by decide) ?_
      refine lv_aload_n hx hb dX4_factOf_68 rfl (lv_at hl 1 rfl) ?_
      refine ml_get hE hI 1 (by decide) q1986 rfl rfl dX4_factOf_69 ?_
      refine lv_bipush (v := 115) hx hb dX4_factOf_72 (by decide) ?_
      refine lv_iload_n hx hb dX4_factOf_74 rfl (lv_at hl 0 rfl) ?_
      refine lv_iadd hx hb dX4_factOf_75 ?_
      obtain ⟨hin, hw⟩ := hw
      refine ml_iald hE hI 1 rfl rfl rfl hin dX4_factOf_76 ?_
      exact ml_iret hE hI hw dX4_factOf_77
    · have hw := hw.2 s23_0
      by_cases s23_1 : x2 = (1 : Int32)
      · have hw := hw.1 s23_1
        refine lv_tableIn (tgt := 78) (off := 55) hx hb dX4_factOf_23 (by rw [s23_1]; decide) (by rw [s23_1]; decide) (by rw [s23_1]; decide) (by decide) ?_
        refine lv_aload_n hx hb dX4_factOf_78 rfl (lv_at hl 1 rfl) ?_
        refine ml_get hE hI 1 (by decide) q1986 rfl rfl dX4_factOf_79 ?_
        refine lv_sipush (v := 135) hx hb dX4_factOf_82 (by decide) ?_
        refine lv_iload_n hx hb dX4_factOf_85 rfl (lv_at hl 0 rfl) ?_
        refine lv_iadd hx hb dX4_factOf_86 ?_
        obtain ⟨hin, hw⟩ := hw
        refine ml_iald hE hI 1 rfl rfl rfl hin dX4_factOf_87 ?_
        exact ml_iret hE hI hw dX4_factOf_88
      · have hw := hw.2 s23_1
        by_cases s23_2 : x2 = (2 : Int32)
        · have hw := hw.1 s23_2
          refine lv_tableIn (tgt := 89) (off := 66) hx hb dX4_factOf_23 (by rw [s23_2]; decide) (by rw [s23_2]; decide) (by rw [s23_2]; decide) (by decide) ?_
          refine lv_aload_n hx hb dX4_factOf_89 rfl (lv_at hl 1 rfl) ?_
          refine ml_get hE hI 1 (by decide) q1986 rfl rfl dX4_factOf_90 ?_
          refine lv_sipush (v := 155) hx hb dX4_factOf_93 (by decide) ?_
          refine lv_iload_n hx hb dX4_factOf_96 rfl (lv_at hl 0 rfl) ?_
          refine lv_iadd hx hb dX4_factOf_97 ?_
          obtain ⟨hin, hw⟩ := hw
          refine ml_iald hE hI 1 rfl rfl rfl hin dX4_factOf_98 ?_
          exact ml_iret hE hI hw dX4_factOf_99
        · have hw := hw.2 s23_2
          by_cases s23_3 : x2 = (3 : Int32)
          · have hw := hw.1 s23_3
            refine lv_tableIn (tgt := 100) (off := 77) hx hb dX4_factOf_23 (by rw [s23_3]; decide) (by rw [s23_3]; decide) (by rw [s23_3]; decide) (by decide) ?_
            refine lv_aload_n hx hb dX4_factOf_100 rfl (lv_at hl 1 rfl) ?_
            refine ml_get hE hI 1 (by decide) q1986 rfl rfl dX4_factOf_101 ?_
            refine lv_sipush (v := 175) hx hb dX4_factOf_104 (by decide) ?_
            refine lv_iload_n hx hb dX4_factOf_107 rfl (lv_at hl 0 rfl) ?_
            refine lv_iadd hx hb dX4_factOf_108 ?_
            obtain ⟨hin, hw⟩ := hw
            refine ml_iald hE hI 1 rfl rfl rfl hin dX4_factOf_109 ?_
            exact ml_iret hE hI hw dX4_factOf_110
          · have hw := hw.2 s23_3
            by_cases s23_4 : x2 = (4 : Int32)
            · have hw := hw.1 s23_4
              refine lv_tableIn (tgt := 111) (off := 88) hx hb dX4_factOf_23 (by rw [s23_4]; decide) (by rw [s23_4]; decide) (by rw [s23_4]; decide) (by decide) ?_
              refine lv_aload_n hx hb dX4_factOf_111 rfl (lv_at hl 1 rfl) ?_
              refine lv_iload_n hx hb dX4_factOf_112 rfl (lv_at hl 2 rfl) ?_
              refine ml_calli (As := [.int x1]) (rest := []) (cells := 0) (slots := 0) hE hI (fun h hS => snd_X4_reasons l G _ h ad F1 A1 L1 x1 _ hS hw) (cwV 1 hts (lw_V q2240 q2242 qs62 q108 q2243) rfl rfl rfl (by decide +kernel) ⟨Nat.le_of_ble_eq_true rfl, Nat.le_of_ble_eq_true rfl⟩) rfl hl.1 (Nat.le_of_ble_eq_true rfl) dX4_factOf_113 ⟨Nat.le_of_ble_eq_true rfl, Nat.le_of_ble_eq_true rfl⟩ (fun r2 F2 A2 L2 H locs hw hI => ?_)
              exact ml_iret hE hI hw dX4_factOf_116
            · have hw := hw.2 s23_4
              by_cases s23_5 : x2 = (5 : Int32)
              · have hw := hw.1 s23_5
                refine lv_tableIn (tgt := 117) (off := 94) hx hb dX4_factOf_23 (by rw [s23_5]; decide) (by rw [s23_5]; decide) (by rw [s23_5]; decide) (by decide) ?_
                refine lv_aload_n hx hb dX4_factOf_117 rfl (lv_at hl 1 rfl) ?_
                refine ml_get hE hI 1 (by decide) q1986 rfl rfl dX4_factOf_118 ?_
                refine lv_sipush (v := 215) hx hb dX4_factOf_121 (by decide) ?_
                refine lv_iload_n hx hb dX4_factOf_124 rfl (lv_at hl 0 rfl) ?_
                refine lv_iadd hx hb dX4_factOf_125 ?_
                obtain ⟨hin, hw⟩ := hw
                refine ml_iald hE hI 1 rfl rfl rfl hin dX4_factOf_126 ?_
                exact ml_iret hE hI hw dX4_factOf_127
              · have hw := hw.2 s23_5
                by_cases s23_6 : x2 = (6 : Int32)
                · have hw := hw.1 s23_6
                  refine lv_tableIn (tgt := 128) (off := 105) hx hb dX4_factOf_23 (by rw [s23_6]; decide) (by rw [s23_6]; decide) (by rw [s23_6]; decide) (by decide) ?_
                  refine lv_aload_n hx hb dX4_factOf_128 rfl (lv_at hl 1 rfl) ?_
                  refine lv_iload_n hx hb dX4_factOf_129 rfl (lv_at hl 2 rfl) ?_
                  refine ml_calli (As := [.int x1]) (rest := []) (cells := 0) (slots := 0) hE hI (fun h hS => snd_X4_users l G _ h ad F1 A1 L1 x1 _ hS hw) (cwV 1 hts (lw_V q2260 q2262 qs64 q108 q2263) rfl rfl rfl (by decide +kernel) ⟨Nat.le_of_ble_eq_true rfl, Nat.le_of_ble_eq_true rfl⟩) rfl hl.1 (Nat.le_of_ble_eq_true rfl) dX4_factOf_130 ⟨Nat.le_of_ble_eq_true rfl, Nat.le_of_ble_eq_true rfl⟩ (fun r3 F3 A3 L3 H locs hw hI => ?_)
                  exact ml_iret hE hI hw dX4_factOf_133
                · have hw := hw.2 s23_6
                  by_cases s23_7 : x2 = (7 : Int32)
                  · have hw := hw.1 s23_7
                    refine lv_tableIn (tgt := 134) (off := 111) hx hb dX4_factOf_23 (by rw [s23_7]; decide) (by rw [s23_7]; decide) (by rw [s23_7]; decide) (by decide) ?_
                    refine lv_aload_n hx hb dX4_factOf_134 rfl (lv_at hl 1 rfl) ?_
                    refine ml_callv (As := []) (rest := []) (cells := 0) (slots := 0) hE hI (fun h hS => snd_X4_measures l G _ h ad F1 A1 L1 _ hS hw) (cwV 0 hts (lw_V q2264 q2266 qs65 q108 q2267) rfl rfl rfl (by decide +kernel) ⟨Nat.le_of_ble_eq_true rfl, Nat.le_of_ble_eq_true rfl⟩) rfl hl.1 (Nat.le_of_ble_eq_true rfl) dX4_factOf_135 ⟨Nat.le_of_ble_eq_true rfl, Nat.le_of_ble_eq_true rfl⟩ (fun F4 A4 L4 H locs hw hI => ?_)
                    refine lv_aload_n hx hb dX4_factOf_138 rfl (lv_at hl 1 rfl) ?_
                    refine ml_get hE hI 18 (by decide) q2003 rfl rfl dX4_factOf_139 ?_
                    refine lv_iload_n hx hb dX4_factOf_142 rfl (lv_at hl 0 rfl) ?_
                    obtain ⟨hin, hw⟩ := hw
                    refine ml_iald hE hI 18 rfl rfl rfl hin dX4_factOf_143 ?_
                    exact ml_iret hE hI hw dX4_factOf_144
                  · have hw := hw.2 s23_7
                    have ts23_0 := lv_neT s23_0 (show ((0 : Int32)).toInt = 0 by decide)
                    have ts23_1 := lv_neT s23_1 (show ((1 : Int32)).toInt = 1 by decide)
                    have ts23_2 := lv_neT s23_2 (show ((2 : Int32)).toInt = 2 by decide)
                    have ts23_3 := lv_neT s23_3 (show ((3 : Int32)).toInt = 3 by decide)
                    have ts23_4 := lv_neT s23_4 (show ((4 : Int32)).toInt = 4 by decide)
                    have ts23_5 := lv_neT s23_5 (show ((5 : Int32)).toInt = 5 by decide)
                    have ts23_6 := lv_neT s23_6 (show ((6 : Int32)).toInt = 6 by decide)
                    have ts23_7 := lv_neT s23_7 (show ((7 : Int32)).toInt = 7 by decide)
                    refine lv_tableOut (tgt := 145) hx hb dX4_factOf_23 (by omega) (by decide) ?_
                    refine lv_aload_n hx hb dX4_factOf_145 rfl (lv_at hl 1 rfl) ?_
                    refine lv_iconst (v := 2) hx hb dX4_factOf_146 (by decide) ?_
                    refine ml_calli (As := [.int (2 : Int32)]) (rest := []) (cells := 0) (slots := 0) hE hI (fun h hS => snd_X4_fails l G _ h ad F1 A1 L1 (2 : Int32) _ hS hw) (cwV 1 hts (lw_V q2149 q2151 qs43 q108 q2152) rfl rfl rfl (by decide +kernel) ⟨Nat.le_of_ble_eq_true rfl, Nat.le_of_ble_eq_true rfl⟩) rfl hl.1 (Nat.le_of_ble_eq_true rfl) dX4_factOf_147 ⟨Nat.le_of_ble_eq_true rfl, Nat.le_of_ble_eq_true rfl⟩ (fun r5 F5 A5 L5 H locs hw hI => ?_)
                    exact ml_iret hE hI hw dX4_factOf_150
  · have hw := hw.2 c_13
    refine lv_aload_n hx hb dX4_factOf_16 rfl (lv_at hl 1 rfl) ?_
    refine lv_iconst (v := 1) hx hb dX4_factOf_17 (by decide) ?_
    refine ml_calli (As := [.int (1 : Int32)]) (rest := []) (cells := 0) (slots := 0) hE hI (fun h hS => snd_X4_fails l G _ h ad F1 A1 L1 (1 : Int32) _ hS hw) (cwV 1 hts (lw_V q2149 q2151 qs43 q108 q2152) rfl rfl rfl (by decide +kernel) ⟨Nat.le_of_ble_eq_true rfl, Nat.le_of_ble_eq_true rfl⟩) rfl hl.1 (Nat.le_of_ble_eq_true rfl) dX4_factOf_18 ⟨Nat.le_of_ble_eq_true rfl, Nat.le_of_ble_eq_true rfl⟩ (fun r6 F6 A6 L6 H locs hw hI => ?_)
    exact ml_iret hE hI hw dX4_factOf_21

/-- MatchmakerRulesModel.trustIn(I)F -/
abbrev rm_X4_trustIn : Room := { frames := 1, cells := 0, slots := 0, locals := 24 }
def wp_X4_trustIn (F : Nat → Int32) (A : Nat → Nat → Int32) (L : Nat → UInt32) (x1 : Int32) (Q : UInt32 → (Nat → Int32) → (Nat → Nat → Int32) → (Nat → UInt32) → Prop) : Prop := (vp_in ((195 : Int32) + x1) 13675 ∧ (vn_sni2f (A 1 (Int32.toNatClampNeg ((195 : Int32) + x1))) = false ∧ Q (Int32.toUInt32 (A 1 (Int32.toNatClampNeg ((195 : Int32) + x1)))) F A L))
set_option maxHeartbeats 4000000 in
theorem snd_X4_trustIn (l : Launch) (G : GG) (sz : Nat) (h : HH) (ad : Nat → Nat) (F : Nat → Int32) (A : Nat → Nat → Int32) (L : Nat → UInt32) (x1 : Int32) (Q : UInt32 → (Nat → Int32) → (Nat → Nat → Int32) → (Nat → UInt32) → Prop) (hS : ml_S G h ad F A L) (hw : wp_X4_trustIn F A L x1 Q) : Met l yX4_trustIn (ws_ yX4_trustIn cX4_trustIn 2 (some FieldType.float)) rm_X4_trustIn (hv_Pc G h sz [.ref (ad 0), .int x1]) (hv_Qf G h sz (fun r => ml_Q G h ad (Q r))) 0 0 (hv_A h sz) := by
  refine Met.ofW (cc := cX4_trustIn) (maxL := 2) (ret := (some FieldType.float)) (by decide) rfl ?_
  intro p e s m args below meth c s₁ B hml hv
  obtain ⟨rfl, rfl, hE, hI⟩ := hv_open B hml hv
  have hE : hv_E p s m ([.ref (ad 0), .int x1] : List Value).toArray meth c cX4_trustIn 2 (some FieldType.float) RX4 G h := hE
  have hI := ml_I.start hI hS
  obtain ⟨⟨hx, hb, hml, hown, hts⟩, hr, hlocks, -⟩ := id hE
  have hl := lv_entry ([.ref (ad 0), .int x1] : List Value) (n := 2) (Nat.le_of_ble_eq_true rfl)
  rw [lg_entry_eq]
  generalize (lg_sl ([.ref (ad 0), .int x1] : List Value) ++ List.replicate (2 - (lg_sl ([.ref (ad 0), .int x1] : List Value)).length) Slot.unset).toArray = ls at hl ⊢
  have hl : lv_has ls 2 [(0, .ref (ad 0)), (1, .int x1)] := hl
  unfold wp_X4_trustIn at hw
  refine lv_aload_n hx hb dX4_trustIn_0 rfl (lv_at hl 0 rfl) ?_
  refine ml_get hE hI 1 (by decide) q1986 rfl rfl dX4_trustIn_1 ?_
  refine lv_sipush (v := 195) hx hb dX4_trustIn_4 (by decide) ?_
  refine lv_iload_n hx hb dX4_trustIn_7 rfl (lv_at hl 1 rfl) ?_
  refine lv_iadd hx hb dX4_trustIn_8 ?_
  obtain ⟨hin, hw⟩ := hw
  refine ml_iald hE hI 1 rfl rfl rfl hin dX4_trustIn_9 ?_
  obtain ⟨hne, hw⟩ := hw
  refine vn_i2f hx hb (hml.trans hl.1.symm) hown (hts _ q2281) (hts _ q2283) (hts _ q2282) (hts _ q134) hne (Nat.le_of_ble_eq_true rfl) (Nat.le_of_ble_eq_true rfl) dX4_trustIn_10 ?_
  exact ml_fret hE hI hw dX4_trustIn_13

/-- MatchmakerRulesModel.trust(I)F -/
abbrev rm_X4_trust : Room := { frames := 2, cells := 0, slots := 0, locals := 45 }
def wp_X4_trust_L17 (Q : UInt32 → (Nat → Int32) → (Nat → Nat → Int32) → (Nat → UInt32) → Prop) (F : Nat → Int32) (A : Nat → Nat → Int32) (L : Nat → UInt32) (x2 : Int32) (t1 : Int32) : Prop := ((((upd F 0 t1) 0) ≤ 0 → wp_X4_trustIn (upd F 0 t1) A L x2 (fun r2 F2 A2 L2 => Q r2 F2 A2 L2)) ∧ (¬ ((upd F 0 t1) 0) ≤ 0 → Q FP.fconst0 (upd F 0 t1) A L))
set_option maxHeartbeats 4000000 in
theorem snd_X4_trust_L17 {p : Program} {l : Launch} {e : Env} {s : State} {m : MethodId} {args : Array Value} {below : List Frame} {meth : Method} {c : Code} {G : GG} {h0 : HH} {ad : Nat → Nat} (hE : hv_E p s m args meth c cX4_trust 3 (some FieldType.float) RX4 G h0) (Q : UInt32 → (Nat → Int32) → (Nat → Nat → Int32) → (Nat → UInt32) → Prop) : ∀ (F : Nat → Int32) (A : Nat → Nat → Int32) (L : Nat → UInt32) (x2 : Int32) (t1 : Int32), wp_X4_trust_L17 Q F A L x2 t1 → ∀ (H : Heap) (locs : List Loc) (ls : Array Slot), ml_I G h0 s.heap ad F A L H locs → lv_has ls 3 [(0, .ref (ad 0)), (2, .int x2)] → W p l e (headSpec (ws_ yX4_trust cX4_trust 3 (some FieldType.float)) rm_X4_trust).room s m args below meth c H locs 0 0 (MQ below (hv_Qf G h0 s.heap.size (fun r => ml_Q G h0 ad (Q r))) args s 0 0 (hv_A h0 s.heap.size)) (F0 m 17 ls [.int t1, .ref (ad 0)]) := by
  obtain ⟨⟨hx, hb, hml, hown, hts⟩, hr, hlocks, -⟩ := id hE
  intro F A L x2 t1 hw H locs ls hI hl
  unfold wp_X4_trust_L17 at hw
  refine ml_put hE hI 0 (by decide) q1985 rfl rfl (ty := .int) rfl rfl rfl (fun _ => rfl) dX4_trust_17 (fun H locs hI => ?_)
  refine lv_aload_n hx hb dX4_trust_20 rfl (lv_at hl 0 rfl) ?_
  refine ml_get hE hI 0 (by decide) q1985 rfl rfl dX4_trust_21 ?_
  refine lv_if_le (tgt := 31) hx hb dX4_trust_24 (by decide) (fun c_24 => ?_) (fun c_24 => ?_)
  · have hw := hw.1 c_24
    refine lv_aload_n hx hb dX4_trust_31 rfl (lv_at hl 0 rfl) ?_
    refine lv_iload_n hx hb dX4_trust_32 rfl (lv_at hl 1 rfl) ?_
    refine ml_callf (As := [.int x2]) (rest := []) (cells := 0) (slots := 0) hE hI (fun h hS => snd_X4_trustIn l G _ h ad (upd F 0 t1) A L x2 _ hS hw) (cwV 1 hts (lw_V q2277 q2279 qs67 q108 q2280) rfl rfl rfl (by decide +kernel) ⟨Nat.le_of_ble_eq_true rfl, Nat.le_of_ble_eq_true rfl⟩) rfl hl.1 (Nat.le_of_ble_eq_true rfl) dX4_trust_33 ⟨Nat.le_of_ble_eq_true rfl, Nat.le_of_ble_eq_true rfl⟩ (fun r2 F2 A2 L2 H locs hw hI => ?_)
    exact ml_fret hE hI hw dX4_trust_36
  · have hw := hw.2 c_24
    refine lv_fconst0 hx hb dX4_trust_27 ?_
    refine lv_goto (tgt := 36) hx hb dX4_trust_28 (by decide) ?_
    exact ml_fret hE hI hw dX4_trust_36
def wp_X4_trust (F : Nat → Int32) (A : Nat → Nat → Int32) (L : Nat → UInt32) (x1 : Int32) (Q : UInt32 → (Nat → Int32) → (Nat → Nat → Int32) → (Nat → UInt32) → Prop) : Prop := wp_X4_slotOf F A L x1 (fun r1 F1 A1 L1 => ((¬ r1 = (-1 : Int32) → wp_X4_trust_L17 Q F1 A1 L1 r1 (0 : Int32)) ∧ (r1 = (-1 : Int32) → wp_X4_trust_L17 Q F1 A1 L1 r1 (1 : Int32))))
set_option maxHeartbeats 4000000 in
theorem snd_X4_trust (l : Launch) (G : GG) (sz : Nat) (h : HH) (ad : Nat → Nat) (F : Nat → Int32) (A : Nat → Nat → Int32) (L : Nat → UInt32) (x1 : Int32) (Q : UInt32 → (Nat → Int32) → (Nat → Nat → Int32) → (Nat → UInt32) → Prop) (hS : ml_S G h ad F A L) (hw : wp_X4_trust F A L x1 Q) : Met l yX4_trust (ws_ yX4_trust cX4_trust 3 (some FieldType.float)) rm_X4_trust (hv_Pc G h sz [.ref (ad 0), .int x1]) (hv_Qf G h sz (fun r => ml_Q G h ad (Q r))) 0 0 (hv_A h sz) := by
  refine Met.ofW (cc := cX4_trust) (maxL := 3) (ret := (some FieldType.float)) (by decide) rfl ?_
  intro p e s m args below meth c s₁ B hml hv
  obtain ⟨rfl, rfl, hE, hI⟩ := hv_open B hml hv
  have hE : hv_E p s m ([.ref (ad 0), .int x1] : List Value).toArray meth c cX4_trust 3 (some FieldType.float) RX4 G h := hE
  have hI := ml_I.start hI hS
  obtain ⟨⟨hx, hb, hml, hown, hts⟩, hr, hlocks, -⟩ := id hE
  have hl := lv_entry ([.ref (ad 0), .int x1] : List Value) (n := 3) (Nat.le_of_ble_eq_true rfl)
  rw [lg_entry_eq]
  generalize (lg_sl ([.ref (ad 0), .int x1] : List Value) ++ List.replicate (3 - (lg_sl ([.ref (ad 0), .int x1] : List Value)).length) Slot.unset).toArray = ls at hl ⊢
  have hl : lv_has ls 3 [(0, .ref (ad 0)), (1, .int x1)] := hl
  unfold wp_X4_trust at hw
  refine lv_aload_n hx hb dX4_trust_0 rfl (lv_at hl 0 rfl) ?_
  refine lv_iload_n hx hb dX4_trust_1 rfl (lv_at hl 1 rfl) ?_
  refine ml_calli (As := [.int x1]) (rest := []) (cells := 0) (slots := 0) hE hI (fun h hS => snd_X4_slotOf l G _ h ad F A L x1 _ hS hw) (cwV 1 hts (lw_V q2198 q2200 qs54 q108 q2201) rfl rfl rfl (by decide +kernel) ⟨Nat.le_of_ble_eq_true rfl, Nat.le_of_ble_eq_true rfl⟩) rfl hl.1 (Nat.le_of_ble_eq_true rfl) dX4_trust_2 ⟨Nat.le_of_ble_eq_true rfl, Nat.le_of_ble_eq_true rfl⟩ (fun r1 F1 A1 L1 H locs hw hI => ?_)
  refine lv_istore_n (lv' := [(2, .int r1), (0, .ref (ad 0)), (1, .int x1)]) hx hb dX4_trust_5 rfl hl (by decide) rfl (fun ls hl => ?_)
  refine lv_aload_n hx hb dX4_trust_6 rfl (lv_at hl 1 rfl) ?_
  refine lv_iload_n hx hb dX4_trust_7 rfl (lv_at hl 0 rfl) ?_
  refine lv_iconst (v := -1) hx hb dX4_trust_8 (by decide) ?_
  refine lv_icmp_ne (tgt := 16) hx hb dX4_trust_9 (by decide) (fun c_9 => ?_) (fun c_9 => ?_)
  · have hw := hw.1 c_9
    refine lv_iconst (v := 0) hx hb dX4_trust_16 (by decide) ?_
    exact snd_X4_trust_L17 hE Q F1 A1 L1 r1 (0 : Int32) hw _ _ _ hI (lv_sub hl [1, 0] rfl)
  · have hw := hw.2 c_9
    refine lv_iconst (v := 1) hx hb dX4_trust_12 (by decide) ?_
    refine lv_goto (tgt := 17) hx hb dX4_trust_13 (by decide) ?_
    exact snd_X4_trust_L17 hE Q F1 A1 L1 r1 (1 : Int32) hw _ _ _ hI (lv_sub hl [1, 0] rfl)

/-- MatchmakerRulesModel.trustBits(I)I -/
abbrev rm_X4_trustBits : Room := { frames := 2, cells := 0, slots := 0, locals := 34 }
def wp_X4_trustBits (F : Nat → Int32) (A : Nat → Nat → Int32) (L : Nat → UInt32) (x1 : Int32) (Q : Int32 → (Nat → Int32) → (Nat → Nat → Int32) → (Nat → UInt32) → Prop) : Prop := wp_X4_slotOf (upd F 0 (0 : Int32)) A L x1 (fun r1 F1 A1 L1 => ((¬ r1 = (-1 : Int32) → (vp_in ((195 : Int32) + r1) 13675 ∧ Q (A1 1 (Int32.toNatClampNeg ((195 : Int32) + r1))) F1 A1 L1)) ∧ (r1 = (-1 : Int32) → wp_X4_fails F1 A1 L1 (1 : Int32) (fun r2 F2 A2 L2 => Q r2 F2 A2 L2))))
set_option maxHeartbeats 4000000 in
theorem snd_X4_trustBits (l : Launch) (G : GG) (sz : Nat) (h : HH) (ad : Nat → Nat) (F : Nat → Int32) (A : Nat → Nat → Int32) (L : Nat → UInt32) (x1 : Int32) (Q : Int32 → (Nat → Int32) → (Nat → Nat → Int32) → (Nat → UInt32) → Prop) (hS : ml_S G h ad F A L) (hw : wp_X4_trustBits F A L x1 Q) : Met l yX4_trustBits (ws_ yX4_trustBits cX4_trustBits 3 (some FieldType.int)) rm_X4_trustBits (hv_Pc G h sz [.ref (ad 0), .int x1]) (hv_Qi G h sz (fun r => ml_Q G h ad (Q r))) 0 0 (hv_A h sz) := by
  refine Met.ofW (cc := cX4_trustBits) (maxL := 3) (ret := (some FieldType.int)) (by decide) rfl ?_
  intro p e s m args below meth c s₁ B hml hv
  obtain ⟨rfl, rfl, hE, hI⟩ := hv_open B hml hv
  have hE : hv_E p s m ([.ref (ad 0), .int x1] : List Value).toArray meth c cX4_trustBits 3 (some FieldType.int) RX4 G h := hE
  have hI := ml_I.start hI hS
  obtain ⟨⟨hx, hb, hml, hown, hts⟩, hr, hlocks, -⟩ := id hE
  have hl := lv_entry ([.ref (ad 0), .int x1] : List Value) (n := 3) (Nat.le_of_ble_eq_true rfl)
  rw [lg_entry_eq]
  generalize (lg_sl ([.ref (ad 0), .int x1] : List Value) ++ List.replicate (3 - (lg_sl ([.ref (ad 0), .int x1] : List Value)).length) Slot.unset).toArray = ls at hl ⊢
  have hl : lv_has ls 3 [(0, .ref (ad 0)), (1, .int x1)] := hl
  unfold wp_X4_trustBits at hw
  refine lv_aload_n hx hb dX4_trustBits_0 rfl (lv_at hl 0 rfl) ?_
  refine lv_iconst (v := 0) hx hb dX4_trustBits_1 (by decide) ?_
  refine ml_put hE hI 0 (by decide) q1985 rfl rfl (ty := .int) rfl rfl rfl (fun _ => rfl) dX4_trustBits_2 (fun H locs hI => ?_)
  refine lv_aload_n hx hb dX4_trustBits_5 rfl (lv_at hl 0 rfl) ?_
  refine lv_iload_n hx hb dX4_trustBits_6 rfl (lv_at hl 1 rfl) ?_
  refine ml_calli (As := [.int x1]) (rest := []) (cells := 0) (slots := 0) hE hI (fun h hS => snd_X4_slotOf l G _ h ad (upd F 0 (0 : Int32)) A L x1 _ hS hw) (cwV 1 hts (lw_V q2198 q2200 qs54 q108 q2201) rfl rfl rfl (by decide +kernel) ⟨Nat.le_of_ble_eq_true rfl, Nat.le_of_ble_eq_true rfl⟩) rfl hl.1 (Nat.le_of_ble_eq_true rfl) dX4_trustBits_7 ⟨Nat.le_of_ble_eq_true rfl, Nat.le_of_ble_eq_true rfl⟩ (fun r1 F1 A1 L1 H locs hw hI => ?_)
  refine lv_istore_n (lv' := [(2, .int r1), (0, .ref (ad 0)), (1, .int x1)]) hx hb dX4_trustBits_10 rfl hl (by decide) rfl (fun ls hl => ?_)
  refine lv_iload_n hx hb dX4_trustBits_11 rfl (lv_at hl 0 rfl) ?_
  refine lv_iconst (v := -1) hx hb dX4_trustBits_12 (by decide) ?_
  refine lv_icmp_ne (tgt := 24) hx hb dX4_trustBits_13 (by decide) (fun c_13 => ?_) (fun c_13 => ?_)
  · have hw := hw.1 c_13
    refine lv_aload_n hx hb dX4_trustBits_24 rfl (lv_at hl 1 rfl) ?_
    refine ml_get hE hI 1 (by decide) q1986 rfl rfl dX4_trustBits_25 ?_
    refine lv_sipush (v := 195) hx hb dX4_trustBits_28 (by decide) ?_
    refine lv_iload_n hx hb dX4_trustBits_31 rfl (lv_at hl 0 rfl) ?_
    refine lv_iadd hx hb dX4_trustBits_32 ?_
    obtain ⟨hin, hw⟩ := hw
    refine ml_iald hE hI 1 rfl rfl rfl hin dX4_trustBits_33 ?_
    exact ml_iret hE hI hw dX4_trustBits_34
  · have hw := hw.2 c_13
    refine lv_aload_n hx hb dX4_trustBits_16 rfl (lv_at hl 1 rfl) ?_
    refine lv_iconst (v := 1) hx hb dX4_trustBits_17 (by decide) ?_
    refine ml_calli (As := [.int (1 : Int32)]) (rest := []) (cells := 0) (slots := 0) hE hI (fun h hS => snd_X4_fails l G _ h ad F1 A1 L1 (1 : Int32) _ hS hw) (cwV 1 hts (lw_V q2149 q2151 qs43 q108 q2152) rfl rfl rfl (by decide +kernel) ⟨Nat.le_of_ble_eq_true rfl, Nat.le_of_ble_eq_true rfl⟩) rfl hl.1 (Nat.le_of_ble_eq_true rfl) dX4_trustBits_18 ⟨Nat.le_of_ble_eq_true rfl, Nat.le_of_ble_eq_true rfl⟩ (fun r2 F2 A2 L2 H locs hw hI => ?_)
    refine lv_goto (tgt := 34) hx hb dX4_trustBits_21 (by decide) ?_
    exact ml_iret hE hI hw dX4_trustBits_34

/-- MatchmakerRulesModel.trusted(I)I -/
abbrev rm_X4_trusted : Room := { frames := 2, cells := 0, slots := 0, locals := 45 }
def wp_X4_trusted_L22 (Q : Int32 → (Nat → Int32) → (Nat → Nat → Int32) → (Nat → UInt32) → Prop) (k7 : (Nat → Int32) → (Nat → Nat → Int32) → (Nat → UInt32) → (Int32) → (Int32) → Prop) : Nat → (Nat → Int32) → (Nat → Nat → Int32) → (Nat → UInt32) → (Int32) → (Int32) → (Int32) → (Int32) → Prop
  | 0, _, _, _, _, _, _, _ => False
  | n + 1, F, A, L, x1, x2, x3, x4 => (((A 1 1) ≤ x4 → ((¬ x3 = x1 → k7 F A L x1 (x2 + (1 : Int32))) ∧ (x3 = x1 → (vp_in ((95 : Int32) + x2) 13675 ∧ Q (A 1 (Int32.toNatClampNeg ((95 : Int32) + x2))) F A L)))) ∧ (¬ (A 1 1) ≤ x4 → wp_X4_trustIn F A L x4 (fun r2 F2 A2 L2 => wp_X4_trustIn F2 A2 L2 x2 (fun r3 F3 A3 L3 => ((0 < (Op.cmpValue (FP.fcmp r2 r3) .l) → wp_X4_trusted_L22 Q k7 n F3 A3 L3 x1 x2 (x3 + (1 : Int32)) (x4 + (1 : Int32))) ∧ (¬ 0 < (Op.cmpValue (FP.fcmp r2 r3) .l) → wp_X4_trustIn F3 A3 L3 x4 (fun r4 F4 A4 L4 => wp_X4_trustIn F4 A4 L4 x2 (fun r5 F5 A5 L5 => ((¬ (Op.cmpValue (FP.fcmp r4 r5) .l) = 0 → wp_X4_trusted_L22 Q k7 n F5 A5 L5 x1 x2 (x3 + (0 : Int32)) (x4 + (1 : Int32))) ∧ ((Op.cmpValue (FP.fcmp r4 r5) .l) = 0 → ((x2 ≤ x4 → wp_X4_trusted_L22 Q k7 n F5 A5 L5 x1 x2 (x3 + (0 : Int32)) (x4 + (1 : Int32))) ∧ (¬ x2 ≤ x4 → wp_X4_trusted_L22 Q k7 n F5 A5 L5 x1 x2 (x3 + (1 : Int32)) (x4 + (1 : Int32))))))))))))))
set_option maxHeartbeats 4000000 in
theorem snd_X4_trusted_L22 {p : Program} {l : Launch} {e : Env} {s : State} {m : MethodId} {args : Array Value} {below : List Frame} {meth : Method} {c : Code} {G : GG} {h0 : HH} {ad : Nat → Nat} (hE : hv_E p s m args meth c cX4_trusted 5 (some FieldType.int) RX4 G h0) (Q : Int32 → (Nat → Int32) → (Nat → Nat → Int32) → (Nat → UInt32) → Prop) (k7 : (Nat → Int32) → (Nat → Nat → Int32) → (Nat → UInt32) → (Int32) → (Int32) → Prop) (hk7 : ∀ (F : Nat → Int32) (A : Nat → Nat → Int32) (L : Nat → UInt32) (x1 : Int32) (x2 : Int32) (H : Heap) (locs : List Loc) (ls : Array Slot), ml_I G h0 s.heap ad F A L H locs → lv_has ls 5 [(0, .ref (ad 0)), (1, .int x1), (2, .int x2)] → k7 F A L x1 x2 → W p l e (headSpec (ws_ yX4_trusted cX4_trusted 5 (some FieldType.int)) rm_X4_trusted).room s m args below meth c H locs 0 0 (MQ below (hv_Qi G h0 s.heap.size (fun r => ml_Q G h0 ad (Q r))) args s 0 0 (hv_A h0 s.heap.size)) (F0 m 7 ls [])) : ∀ (n : Nat) (F : Nat → Int32) (A : Nat → Nat → Int32) (L : Nat → UInt32) (x1 : Int32) (x2 : Int32) (x3 : Int32) (x4 : Int32), wp_X4_trusted_L22 Q k7 n F A L x1 x2 x3 x4 → ∀ (H : Heap) (locs : List Loc) (ls : Array Slot), ml_I G h0 s.heap ad F A L H locs → lv_has ls 5 [(0, .ref (ad 0)), (1, .int x1), (2, .int x2), (3, .int x3), (4, .int x4)] → W p l e (headSpec (ws_ yX4_trusted cX4_trusted 5 (some FieldType.int)) rm_X4_trusted).room s m args below meth c H locs 0 0 (MQ below (hv_Qi G h0 s.heap.size (fun r => ml_Q G h0 ad (Q r))) args s 0 0 (hv_A h0 s.heap.size)) (F0 m 22 ls []) := by
  obtain ⟨⟨hx, hb, hml, hown, hts⟩, hr, hlocks, -⟩ := id hE
  intro n
  induction n with
  | zero => intro F A L x1 x2 x3 x4 hw; exact hw.elim
  | succ n ih =>
    intro F A L x1 x2 x3 x4 hw H locs ls hI hl
    unfold wp_X4_trusted_L22 at hw
    refine lv_iload hx hb dX4_trusted_22 (lv_at hl 4 rfl) ?_
    refine lv_aload_n hx hb dX4_trusted_24 rfl (lv_at hl 0 rfl) ?_
    refine ml_get hE hI 1 (by decide) q1986 rfl rfl dX4_trusted_25 ?_
    refine lv_iconst (v := 1) hx hb dX4_trusted_28 (by decide) ?_
    have hin : vp_in (1 : Int32) 13675 := by unfold vp_in; decide +kernel
    refine ml_iald hE hI 1 rfl rfl (show Int32.toNatClampNeg (1 : Int32) = 1 from by decide +kernel) hin dX4_trusted_29 ?_
    refine lv_icmp_ge (tgt := 83) hx hb dX4_trusted_30 (by decide) (fun c_30 => ?_) (fun c_30 => ?_)
    · have hw := hw.1 c_30
      refine lv_iload_n hx hb dX4_trusted_83 rfl (lv_at hl 3 rfl) ?_
      refine lv_iload_n hx hb dX4_trusted_84 rfl (lv_at hl 1 rfl) ?_
      refine lv_icmp_ne (tgt := 98) hx hb dX4_trusted_85 (by decide) (fun c_85 => ?_) (fun c_85 => ?_)
      · have hw := hw.1 c_85
        refine lv_iinc (v := (x2 + (1 : Int32))) (lv' := [(2, .int (x2 + (1 : Int32))), (0, .ref (ad 0)), (1, .int x1), (3, .int x3), (4, .int x4)]) hx hb dX4_trusted_98 hl (k := 2) rfl rfl (by decide) rfl (fun ls hl => ?_)
        refine lv_goto (tgt := 7) hx hb dX4_trusted_101 (by decide) ?_
        exact hk7 F A L x1 (x2 + (1 : Int32)) _ _ _ hI (lv_sub hl [1, 2, 0] rfl) hw
      · have hw := hw.2 c_85
        refine lv_aload_n hx hb dX4_trusted_88 rfl (lv_at hl 0 rfl) ?_
        refine ml_get hE hI 1 (by decide) q1986 rfl rfl dX4_trusted_89 ?_
        refine lv_bipush (v := 95) hx hb dX4_trusted_92 (by decide) ?_
        refine lv_iload_n hx hb dX4_trusted_94 rfl (lv_at hl 2 rfl) ?_
        refine lv_iadd hx hb dX4_trusted_95 ?_
        obtain ⟨hin, hw⟩ := hw
        refine ml_iald hE hI 1 rfl rfl rfl hin dX4_trusted_96 ?_
        exact ml_iret hE hI hw dX4_trusted_97
    · have hw := hw.2 c_30
      refine lv_iload_n hx hb dX4_trusted_33 rfl (lv_at hl 3 rfl) ?_
      refine lv_aload_n hx hb dX4_trusted_34 rfl (lv_at hl 0 rfl) ?_
      refine lv_iload hx hb dX4_trusted_35 (lv_at hl 4 rfl) ?_
      refine ml_callf (As := [.int x4]) (rest := [.int x3]) (cells := 0) (slots := 0) hE hI (fun h hS => snd_X4_trustIn l G _ h ad F A L x4 _ hS hw) (cwV 1 hts (lw_V q2277 q2279 qs67 q108 q2280) rfl rfl rfl (by decide +kernel) ⟨Nat.le_of_ble_eq_true rfl, Nat.le_of_ble_eq_true rfl⟩) rfl hl.1 (Nat.le_of_ble_eq_true rfl) dX4_trusted_37 ⟨Nat.le_of_ble_eq_true rfl, Nat.le_of_ble_eq_true rfl⟩ (fun r2 F2 A2 L2 H locs hw hI => ?_)
      refine lv_aload_n hx hb dX4_trusted_40 rfl (lv_at hl 0 rfl) ?_
      refine lv_iload_n hx hb dX4_trusted_41 rfl (lv_at hl 2 rfl) ?_
      refine ml_callf (As := [.int x2]) (rest := [.float r2, .int x3]) (cells := 0) (slots := 0) hE hI (fun h hS => snd_X4_trustIn l G _ h ad F2 A2 L2 x2 _ hS hw) (cwV 1 hts (lw_V q2277 q2279 qs67 q108 q2280) rfl rfl rfl (by decide +kernel) ⟨Nat.le_of_ble_eq_true rfl, Nat.le_of_ble_eq_true rfl⟩) rfl hl.1 (Nat.le_of_ble_eq_true rfl) dX4_trusted_42 ⟨Nat.le_of_ble_eq_true rfl, Nat.le_of_ble_eq_true rfl⟩ (fun r3 F3 A3 L3 H locs hw hI => ?_)
      refine lv_fcmp hx hb dX4_trusted_45 ?_
      refine lv_if_gt (tgt := 70) hx hb dX4_trusted_46 (by decide) (fun c_46 => ?_) (fun c_46 => ?_)
      · have hw := hw.1 c_46
        refine lv_iconst (v := 1) hx hb dX4_trusted_70 (by decide) ?_
        refine lv_goto (tgt := 75) hx hb dX4_trusted_71 (by decide) ?_
        refine lv_iadd hx hb dX4_trusted_75 ?_
        refine lv_istore_n (lv' := [(3, .int (x3 + (1 : Int32))), (0, .ref (ad 0)), (1, .int x1), (2, .int x2), (4, .int x4)]) hx hb dX4_trusted_76 rfl hl (by decide) rfl (fun ls hl => ?_)
        refine lv_iinc (v := (x4 + (1 : Int32))) (lv' := [(4, .int (x4 + (1 : Int32))), (3, .int (x3 + (1 : Int32))), (0, .ref (ad 0)), (1, .int x1), (2, .int x2)]) hx hb dX4_trusted_77 hl (k := 4) rfl rfl (by decide) rfl (fun ls hl => ?_)
        refine lv_goto (tgt := 22) hx hb dX4_trusted_80 (by decide) ?_
        exact ih F3 A3 L3 x1 x2 (x3 + (1 : Int32)) (x4 + (1 : Int32)) hw _ _ _ hI (lv_sub hl [2, 3, 4, 1, 0] rfl)
      · have hw := hw.2 c_46
        refine lv_aload_n hx hb dX4_trusted_49 rfl (lv_at hl 0 rfl) ?_
        refine lv_iload hx hb dX4_trusted_50 (lv_at hl 4 rfl) ?_
        refine ml_callf (As := [.int x4]) (rest := [.int x3]) (cells := 0) (slots := 0) hE hI (fun h hS => snd_X4_trustIn l G _ h ad F3 A3 L3 x4 _ hS hw) (cwV 1 hts (lw_V q2277 q2279 qs67 q108 q2280) rfl rfl rfl (by decide +kernel) ⟨Nat.le_of_ble_eq_true rfl, Nat.le_of_ble_eq_true rfl⟩) rfl hl.1 (Nat.le_of_ble_eq_true rfl) dX4_trusted_52 ⟨Nat.le_of_ble_eq_true rfl, Nat.le_of_ble_eq_true rfl⟩ (fun r4 F4 A4 L4 H locs hw hI => ?_)
        refine lv_aload_n hx hb dX4_trusted_55 rfl (lv_at hl 0 rfl) ?_
        refine lv_iload_n hx hb dX4_trusted_56 rfl (lv_at hl 2 rfl) ?_
        refine ml_callf (As := [.int x2]) (rest := [.float r4, .int x3]) (cells := 0) (slots := 0) hE hI (fun h hS => snd_X4_trustIn l G _ h ad F4 A4 L4 x2 _ hS hw) (cwV 1 hts (lw_V q2277 q2279 qs67 q108 q2280) rfl rfl rfl (by decide +kernel) ⟨Nat.le_of_ble_eq_true rfl, Nat.le_of_ble_eq_true rfl⟩) rfl hl.1 (Nat.le_of_ble_eq_true rfl) dX4_trusted_57 ⟨Nat.le_of_ble_eq_true rfl, Nat.le_of_ble_eq_true rfl⟩ (fun r5 F5 A5 L5 H locs hw hI => ?_)
        refine lv_fcmp hx hb dX4_trusted_60 ?_
        refine lv_if_ne (tgt := 74) hx hb dX4_trusted_61 (by decide) (fun c_61 => ?_) (fun c_61 => ?_)
        · have hw := hw.1 c_61
          refine lv_iconst (v := 0) hx hb dX4_trusted_74 (by decide) ?_
          refine lv_iadd hx hb dX4_trusted_75 ?_
          refine lv_istore_n (lv' := [(3, .int (x3 + (0 : Int32))), (0, .ref (ad 0)), (1, .int x1), (2, .int x2), (4, .int x4)]) hx hb dX4_trusted_76 rfl hl (by decide) rfl (fun ls hl => ?_)
          refine lv_iinc (v := (x4 + (1 : Int32))) (lv' := [(4, .int (x4 + (1 : Int32))), (3, .int (x3 + (0 : Int32))), (0, .ref (ad 0)), (1, .int x1), (2, .int x2)]) hx hb dX4_trusted_77 hl (k := 4) rfl rfl (by decide) rfl (fun ls hl => ?_)
          refine lv_goto (tgt := 22) hx hb dX4_trusted_80 (by decide) ?_
          exact ih F5 A5 L5 x1 x2 (x3 + (0 : Int32)) (x4 + (1 : Int32)) hw _ _ _ hI (lv_sub hl [2, 3, 4, 1, 0] rfl)
        · have hw := hw.2 c_61
          refine lv_iload hx hb dX4_trusted_64 (lv_at hl 4 rfl) ?_
          refine lv_iload_n hx hb dX4_trusted_66 rfl (lv_at hl 2 rfl) ?_
          refine lv_icmp_ge (tgt := 74) hx hb dX4_trusted_67 (by decide) (fun c_67 => ?_) (fun c_67 => ?_)
          · have hw := hw.1 c_67
            refine lv_iconst (v := 0) hx hb dX4_trusted_74 (by decide) ?_
            refine lv_iadd hx hb dX4_trusted_75 ?_
            refine lv_istore_n (lv' := [(3, .int (x3 + (0 : Int32))), (0, .ref (ad 0)), (1, .int x1), (2, .int x2), (4, .int x4)]) hx hb dX4_trusted_76 rfl hl (by decide) rfl (fun ls hl => ?_)
            refine lv_iinc (v := (x4 + (1 : Int32))) (lv' := [(4, .int (x4 + (1 : Int32))), (3, .int (x3 + (0 : Int32))), (0, .ref (ad 0)), (1, .int x1), (2, .int x2)]) hx hb dX4_trusted_77 hl (k := 4) rfl rfl (by decide) rfl (fun ls hl => ?_)
            refine lv_goto (tgt := 22) hx hb dX4_trusted_80 (by decide) ?_
            exact ih F5 A5 L5 x1 x2 (x3 + (0 : Int32)) (x4 + (1 : Int32)) hw _ _ _ hI (lv_sub hl [2, 3, 4, 1, 0] rfl)
          · have hw := hw.2 c_67
            refine lv_iconst (v := 1) hx hb dX4_trusted_70 (by decide) ?_
            refine lv_goto (tgt := 75) hx hb dX4_trusted_71 (by decide) ?_
            refine lv_iadd hx hb dX4_trusted_75 ?_
            refine lv_istore_n (lv' := [(3, .int (x3 + (1 : Int32))), (0, .ref (ad 0)), (1, .int x1), (2, .int x2), (4, .int x4)]) hx hb dX4_trusted_76 rfl hl (by decide) rfl (fun ls hl => ?_)
            refine lv_iinc (v := (x4 + (1 : Int32))) (lv' := [(4, .int (x4 + (1 : Int32))), (3, .int (x3 + (1 : Int32))), (0, .ref (ad 0)), (1, .int x1), (2, .int x2)]) hx hb dX4_trusted_77 hl (k := 4) rfl rfl (by decide) rfl (fun ls hl => ?_)
            refine lv_goto (tgt := 22) hx hb dX4_trusted_80 (by decide) ?_
            exact ih F5 A5 L5 x1 x2 (x3 + (1 : Int32)) (x4 + (1 : Int32)) hw _ _ _ hI (lv_sub hl [2, 3, 4, 1, 0] rfl)
def wp_X4_trusted_L7 (Q : Int32 → (Nat → Int32) → (Nat → Nat → Int32) → (Nat → UInt32) → Prop) : Nat → (Nat → Int32) → (Nat → Nat → Int32) → (Nat → UInt32) → (Int32) → (Int32) → Prop
  | 0, _, _, _, _, _ => False
  | n + 1, F, A, L, x1, x2 => (((A 1 1) ≤ x2 → wp_X4_fails F A L (1 : Int32) (fun r1 F1 A1 L1 => Q r1 F1 A1 L1)) ∧ (¬ (A 1 1) ≤ x2 → (∃ n22, wp_X4_trusted_L22 Q (fun F A L x1 x2 => wp_X4_trusted_L7 Q n F A L x1 x2) n22 F A L x1 x2 (0 : Int32) (0 : Int32))))
set_option maxHeartbeats 4000000 in
theorem snd_X4_trusted_L7 {p : Program} {l : Launch} {e : Env} {s : State} {m : MethodId} {args : Array Value} {below : List Frame} {meth : Method} {c : Code} {G : GG} {h0 : HH} {ad : Nat → Nat} (hE : hv_E p s m args meth c cX4_trusted 5 (some FieldType.int) RX4 G h0) (Q : Int32 → (Nat → Int32) → (Nat → Nat → Int32) → (Nat → UInt32) → Prop) : ∀ (n : Nat) (F : Nat → Int32) (A : Nat → Nat → Int32) (L : Nat → UInt32) (x1 : Int32) (x2 : Int32), wp_X4_trusted_L7 Q n F A L x1 x2 → ∀ (H : Heap) (locs : List Loc) (ls : Array Slot), ml_I G h0 s.heap ad F A L H locs → lv_has ls 5 [(0, .ref (ad 0)), (1, .int x1), (2, .int x2)] → W p l e (headSpec (ws_ yX4_trusted cX4_trusted 5 (some FieldType.int)) rm_X4_trusted).room s m args below meth c H locs 0 0 (MQ below (hv_Qi G h0 s.heap.size (fun r => ml_Q G h0 ad (Q r))) args s 0 0 (hv_A h0 s.heap.size)) (F0 m 7 ls []) := by
  obtain ⟨⟨hx, hb, hml, hown, hts⟩, hr, hlocks, -⟩ := id hE
  intro n
  induction n with
  | zero => intro F A L x1 x2 hw; exact hw.elim
  | succ n ih =>
    intro F A L x1 x2 hw H locs ls hI hl
    unfold wp_X4_trusted_L7 at hw
    refine lv_iload_n hx hb dX4_trusted_7 rfl (lv_at hl 2 rfl) ?_
    refine lv_aload_n hx hb dX4_trusted_8 rfl (lv_at hl 0 rfl) ?_
    refine ml_get hE hI 1 (by decide) q1986 rfl rfl dX4_trusted_9 ?_
    refine lv_iconst (v := 1) hx hb dX4_trusted_12 (by decide) ?_
    have hin : vp_in (1 : Int32) 13675 := by unfold vp_in; decide +kernel
    refine ml_iald hE hI 1 rfl rfl (show Int32.toNatClampNeg (1 : Int32) = 1 from by decide +kernel) hin dX4_trusted_13 ?_
    refine lv_icmp_ge (tgt := 104) hx hb dX4_trusted_14 (by decide) (fun c_14 => ?_) (fun c_14 => ?_)
    · have hw := hw.1 c_14
      refine lv_aload_n hx hb dX4_trusted_104 rfl (lv_at hl 0 rfl) ?_
      refine lv_iconst (v := 1) hx hb dX4_trusted_105 (by decide) ?_
      refine ml_calli (As := [.int (1 : Int32)]) (rest := []) (cells := 0) (slots := 0) hE hI (fun h hS => snd_X4_fails l G _ h ad F A L (1 : Int32) _ hS hw) (cwV 1 hts (lw_V q2149 q2151 qs43 q108 q2152) rfl rfl rfl (by decide +kernel) ⟨Nat.le_of_ble_eq_true rfl, Nat.le_of_ble_eq_true rfl⟩) rfl hl.1 (Nat.le_of_ble_eq_true rfl) dX4_trusted_106 ⟨Nat.le_of_ble_eq_true rfl, Nat.le_of_ble_eq_true rfl⟩ (fun r1 F1 A1 L1 H locs hw hI => ?_)
      exact ml_iret hE hI hw dX4_trusted_109
    · have hw := hw.2 c_14
      refine lv_iconst (v := 0) hx hb dX4_trusted_17 (by decide) ?_
      refine lv_istore_n (lv' := [(3, .int (0 : Int32)), (0, .ref (ad 0)), (1, .int x1), (2, .int x2)]) hx hb dX4_trusted_18 rfl hl (by decide) rfl (fun ls hl => ?_)
      refine lv_iconst (v := 0) hx hb dX4_trusted_19 (by decide) ?_
      refine lv_istore (lv' := [(4, .int (0 : Int32)), (3, .int (0 : Int32)), (0, .ref (ad 0)), (1, .int x1), (2, .int x2)]) hx hb dX4_trusted_20 hl (by decide) rfl (fun ls hl => ?_)
      obtain ⟨n22, hw⟩ := hw
      exact snd_X4_trusted_L22 hE Q (fun F A L x1 x2 => wp_X4_trusted_L7 Q n F A L x1 x2) (fun F A L x1 x2 H locs ls hI hl hw => ih F A L x1 x2 hw H locs ls hI hl) n22 F A L x1 x2 (0 : Int32) (0 : Int32) hw _ _ _ hI (lv_sub hl [2, 3, 4, 1, 0] rfl)
def wp_X4_trusted (F : Nat → Int32) (A : Nat → Nat → Int32) (L : Nat → UInt32) (x1 : Int32) (Q : Int32 → (Nat → Int32) → (Nat → Nat → Int32) → (Nat → UInt32) → Prop) : Prop := (∃ n7, wp_X4_trusted_L7 Q n7 (upd F 0 (0 : Int32)) A L x1 (0 : Int32))
set_option maxHeartbeats 4000000 in
theorem snd_X4_trusted (l : Launch) (G : GG) (sz : Nat) (h : HH) (ad : Nat → Nat) (F : Nat → Int32) (A : Nat → Nat → Int32) (L : Nat → UInt32) (x1 : Int32) (Q : Int32 → (Nat → Int32) → (Nat → Nat → Int32) → (Nat → UInt32) → Prop) (hS : ml_S G h ad F A L) (hw : wp_X4_trusted F A L x1 Q) : Met l yX4_trusted (ws_ yX4_trusted cX4_trusted 5 (some FieldType.int)) rm_X4_trusted (hv_Pc G h sz [.ref (ad 0), .int x1]) (hv_Qi G h sz (fun r => ml_Q G h ad (Q r))) 0 0 (hv_A h sz) := by
  refine Met.ofW (cc := cX4_trusted) (maxL := 5) (ret := (some FieldType.int)) (by decide) rfl ?_
  intro p e s m args below meth c s₁ B hml hv
  obtain ⟨rfl, rfl, hE, hI⟩ := hv_open B hml hv
  have hE : hv_E p s m ([.ref (ad 0), .int x1] : List Value).toArray meth c cX4_trusted 5 (some FieldType.int) RX4 G h := hE
  have hI := ml_I.start hI hS
  obtain ⟨⟨hx, hb, hml, hown, hts⟩, hr, hlocks, -⟩ := id hE
  have hl := lv_entry ([.ref (ad 0), .int x1] : List Value) (n := 5) (Nat.le_of_ble_eq_true rfl)
  rw [lg_entry_eq]
  generalize (lg_sl ([.ref (ad 0), .int x1] : List Value) ++ List.replicate (5 - (lg_sl ([.ref (ad 0), .int x1] : List Value)).length) Slot.unset).toArray = ls at hl ⊢
  have hl : lv_has ls 5 [(0, .ref (ad 0)), (1, .int x1)] := hl
  unfold wp_X4_trusted at hw
  refine lv_aload_n hx hb dX4_trusted_0 rfl (lv_at hl 0 rfl) ?_
  refine lv_iconst (v := 0) hx hb dX4_trusted_1 (by decide) ?_
  refine ml_put hE hI 0 (by decide) q1985 rfl rfl (ty := .int) rfl rfl rfl (fun _ => rfl) dX4_trusted_2 (fun H locs hI => ?_)
  refine lv_iconst (v := 0) hx hb dX4_trusted_5 (by decide) ?_
  refine lv_istore_n (lv' := [(2, .int (0 : Int32)), (0, .ref (ad 0)), (1, .int x1)]) hx hb dX4_trusted_6 rfl hl (by decide) rfl (fun ls hl => ?_)
  obtain ⟨n7, hw⟩ := hw
  exact snd_X4_trusted_L7 hE Q n7 (upd F 0 (0 : Int32)) A L x1 (0 : Int32) hw _ _ _ hI (lv_sub hl [1, 2, 0] rfl)

/-- MatchmakerRulesModel.mark(III)I -/
abbrev rm_X4_mark : Room := { frames := 1, cells := 0, slots := 0, locals := 12 }
def wp_X4_mark (x0 : Int32) (x1 : Int32) (x2 : Int32) (Q : Int32 → Prop) : Prop := Q (((((420 : Int32) * x0) + ((21 : Int32) * x1)) + x2) + (1 : Int32))
set_option maxHeartbeats 4000000 in
theorem snd_X4_mark (l : Launch) (G : GG) (sz : Nat) (h : HH) (x0 : Int32) (x1 : Int32) (x2 : Int32) (Q : Int32 → Prop) (hw : wp_X4_mark x0 x1 x2 Q) : Met l yX4_mark (ws_ yX4_mark cX4_mark 3 (some FieldType.int)) rm_X4_mark (hv_Pc G h sz [.int x0, .int x1, .int x2]) (hv_Qi G h sz (fun r h' => h' = h ∧ Q r)) 0 0 (hv_A h sz) := by
  refine Met.ofW (cc := cX4_mark) (maxL := 3) (ret := (some FieldType.int)) (by decide) rfl ?_
  intro p e s m args below meth c s₁ B hml hv
  obtain ⟨rfl, rfl, hE, hI⟩ := hv_open B hml hv
  have hE : hv_E p s m ([.int x0, .int x1, .int x2] : List Value).toArray meth c cX4_mark 3 (some FieldType.int) RX4 G h := hE
  obtain ⟨⟨hx, hb, hml, hown, hts⟩, hr, hlocks, -⟩ := id hE
  have hl := lv_entry ([.int x0, .int x1, .int x2] : List Value) (n := 3) (Nat.le_of_ble_eq_true rfl)
  rw [lg_entry_eq]
  generalize (lg_sl ([.int x0, .int x1, .int x2] : List Value) ++ List.replicate (3 - (lg_sl ([.int x0, .int x1, .int x2] : List Value)).length) Slot.unset).toArray = ls at hl ⊢
  have hl : lv_has ls 3 [(0, .int x0), (1, .int x1), (2, .int x2)] := hl
  unfold wp_X4_mark at hw
  refine lv_sipush (v := 420) hx hb dX4_mark_0 (by decide) ?_
  refine lv_iload_n hx hb dX4_mark_3 rfl (lv_at hl 0 rfl) ?_
  refine lv_imul hx hb dX4_mark_4 ?_
  refine lv_bipush (v := 21) hx hb dX4_mark_5 (by decide) ?_
  refine lv_iload_n hx hb dX4_mark_7 rfl (lv_at hl 1 rfl) ?_
  refine lv_imul hx hb dX4_mark_8 ?_
  refine lv_iadd hx hb dX4_mark_9 ?_
  refine lv_iload_n hx hb dX4_mark_10 rfl (lv_at hl 2 rfl) ?_
  refine lv_iadd hx hb dX4_mark_11 ?_
  refine lv_iconst (v := 1) hx hb dX4_mark_12 (by decide) ?_
  refine lv_iadd hx hb dX4_mark_13 ?_
  exact hv_iret hE hI (Nat.le_refl _) (Nat.le_refl _) ⟨rfl, hw⟩ dX4_mark_14

/-- MatchmakerRulesModel.marksFired()V -/
abbrev rm_X4_marksFired : Room := { frames := 2, cells := 0, slots := 0, locals := 34 }
def wp_X4_marksFired_L24 (Q : (Nat → Int32) → (Nat → Nat → Int32) → (Nat → UInt32) → Prop) : Nat → (Nat → Int32) → (Nat → Nat → Int32) → (Nat → UInt32) → (Int32) → Prop
  | 0, _, _, _, _ => False
  | n + 1, F, A, L, x1 => (((A 1 6) ≤ x1 → Q F A L) ∧ (¬ (A 1 6) ≤ x1 → wp_X4_firing F A L x1 (0 : Int32) (fun r1 F1 A1 L1 => wp_X4_firing F1 A1 L1 x1 (1 : Int32) (fun r2 F2 A2 L2 => wp_X4_slotOf F2 A2 L2 r2 (fun r3 F3 A3 L3 => wp_X4_firing F3 A3 L3 x1 (2 : Int32) (fun r4 F4 A4 L4 => ((¬ r4 = (-1 : Int32) → wp_X4_firing F4 A4 L4 x1 (2 : Int32) (fun r5 F5 A5 L5 => wp_X4_slotOf F5 A5 L5 r5 (fun r6 F6 A6 L6 => wp_X4_mark r1 r3 r6 (fun r7 => (vp_in r7 3360 ∧ wp_X4_marksFired_L24 Q n F6 (ml_up A6 13 (Int32.toNatClampNeg r7) (vp_nar .boolean (1 : Int32))) L6 (x1 + (1 : Int32))))))) ∧ (r4 = (-1 : Int32) → wp_X4_mark r1 r3 (-1 : Int32) (fun r8 => (vp_in r8 3360 ∧ wp_X4_marksFired_L24 Q n F4 (ml_up A4 13 (Int32.toNatClampNeg r8) (vp_nar .boolean (1 : Int32))) L4 (x1 + (1 : Int32))))))))))))
set_option maxHeartbeats 4000000 in
theorem snd_X4_marksFired_L24 {p : Program} {l : Launch} {e : Env} {s : State} {m : MethodId} {args : Array Value} {below : List Frame} {meth : Method} {c : Code} {G : GG} {h0 : HH} {ad : Nat → Nat} (hE : hv_E p s m args meth c cX4_marksFired 2 (none : Option FieldType) RX4 G h0) (Q : (Nat → Int32) → (Nat → Nat → Int32) → (Nat → UInt32) → Prop) : ∀ (n : Nat) (F : Nat → Int32) (A : Nat → Nat → Int32) (L : Nat → UInt32) (x1 : Int32), wp_X4_marksFired_L24 Q n F A L x1 → ∀ (H : Heap) (locs : List Loc) (ls : Array Slot), ml_I G h0 s.heap ad F A L H locs → lv_has ls 2 [(0, .ref (ad 0)), (1, .int x1)] → W p l e (headSpec (ws_ yX4_marksFired cX4_marksFired 2 (none : Option FieldType)) rm_X4_marksFired).room s m args below meth c H locs 0 0 (MQ below (hv_Qv G h0 s.heap.size (ml_Q G h0 ad Q)) args s 0 0 (hv_A h0 s.heap.size)) (F0 m 24 ls []) := by
  obtain ⟨⟨hx, hb, hml, hown, hts⟩, hr, hlocks, -⟩ := id hE
  intro n
  induction n with
  | zero => intro F A L x1 hw; exact hw.elim
  | succ n ih =>
    intro F A L x1 hw H locs ls hI hl
    unfold wp_X4_marksFired_L24 at hw
    refine lv_iload_n hx hb dX4_marksFired_24 rfl (lv_at hl 1 rfl) ?_
    refine lv_aload_n hx hb dX4_marksFired_25 rfl (lv_at hl 0 rfl) ?_
    refine ml_get hE hI 1 (by decide) q1986 rfl rfl dX4_marksFired_26 ?_
    refine lv_bipush (v := 6) hx hb dX4_marksFired_29 (by decide) ?_
    have hin : vp_in (6 : Int32) 13675 := by unfold vp_in; decide +kernel
    refine ml_iald hE hI 1 rfl rfl (show Int32.toNatClampNeg (6 : Int32) = 6 from by decide +kernel) hin dX4_marksFired_31 ?_
    refine lv_icmp_ge (tgt := 90) hx hb dX4_marksFired_32 (by decide) (fun c_32 => ?_) (fun c_32 => ?_)
    · have hw := hw.1 c_32
      exact ml_vret hE hI hw dX4_marksFired_90
    · have hw := hw.2 c_32
      refine lv_aload_n hx hb dX4_marksFired_35 rfl (lv_at hl 0 rfl) ?_
      refine ml_get hE hI 13 (by decide) q1998 rfl rfl dX4_marksFired_36 ?_
      refine lv_aload_n hx hb dX4_marksFired_39 rfl (lv_at hl 0 rfl) ?_
      refine lv_iload_n hx hb dX4_marksFired_40 rfl (lv_at hl 1 rfl) ?_
      refine lv_iconst (v := 0) hx hb dX4_marksFired_41 (by decide) ?_
      refine ml_calli (As := [.int x1, .int (0 : Int32)]) (rest := [.ref (ad 13)]) (cells := 0) (slots := 0) hE hI (fun h hS => snd_X4_firing l G _ h ad F A L x1 (0 : Int32) _ hS hw) (cwV 2 hts (lw_V q2182 q2184 qs50 q108 q2185) rfl rfl rfl (by decide +kernel) ⟨Nat.le_of_ble_eq_true rfl, Nat.le_of_ble_eq_true rfl⟩) rfl hl.1 (Nat.le_of_ble_eq_true rfl) dX4_marksFired_42 ⟨Nat.le_of_ble_eq_true rfl, Nat.le_of_ble_eq_true rfl⟩ (fun r1 F1 A1 L1 H locs hw hI => ?_)
      refine lv_aload_n hx hb dX4_marksFired_45 rfl (lv_at hl 0 rfl) ?_
      refine lv_aload_n hx hb dX4_marksFired_46 rfl (lv_at hl 0 rfl) ?_
      refine lv_iload_n hx hb dX4_marksFired_47 rfl (lv_at hl 1 rfl) ?_
      refine lv_iconst (v := 1) hx hb dX4_marksFired_48 (by decide) ?_
      refine ml_calli (As := [.int x1, .int (1 : Int32)]) (rest := [.ref (ad 0), .int r1, .ref (ad 13)]) (cells := 0) (slots := 0) hE hI (fun h hS => snd_X4_firing l G _ h ad F1 A1 L1 x1 (1 : Int32) _ hS hw) (cwV 2 hts (lw_V q2182 q2184 qs50 q108 q2185) rfl rfl rfl (by decide +kernel) ⟨Nat.le_of_ble_eq_true rfl, Nat.le_of_ble_eq_true rfl⟩) rfl hl.1 (Nat.le_of_ble_eq_true rfl) dX4_marksFired_49 ⟨Nat.le_of_ble_eq_true rfl, Nat.le_of_ble_eq_true rfl⟩ (fun r2 F2 A2 L2 H locs hw hI => ?_)
      refine ml_calli (As := [.int r2]) (rest := [.int r1, .ref (ad 13)]) (cells := 0) (slots := 0) hE hI (fun h hS => snd_X4_slotOf l G _ h ad F2 A2 L2 r2 _ hS hw) (cwV 1 hts (lw_V q2198 q2200 qs54 q108 q2201) rfl rfl rfl (by decide +kernel) ⟨Nat.le_of_ble_eq_true rfl, Nat.le_of_ble_eq_true rfl⟩) rfl hl.1 (Nat.le_of_ble_eq_true rfl) dX4_marksFired_52 ⟨Nat.le_of_ble_eq_true rfl, Nat.le_of_ble_eq_true rfl⟩ (fun r3 F3 A3 L3 H locs hw hI => ?_)
      refine lv_aload_n hx hb dX4_marksFired_55 rfl (lv_at hl 0 rfl) ?_
      refine lv_iload_n hx hb dX4_marksFired_56 rfl (lv_at hl 1 rfl) ?_
      refine lv_iconst (v := 2) hx hb dX4_marksFired_57 (by decide) ?_
      refine ml_calli (As := [.int x1, .int (2 : Int32)]) (rest := [.int r3, .int r1, .ref (ad 13)]) (cells := 0) (slots := 0) hE hI (fun h hS => snd_X4_firing l G _ h ad F3 A3 L3 x1 (2 : Int32) _ hS hw) (cwV 2 hts (lw_V q2182 q2184 qs50 q108 q2185) rfl rfl rfl (by decide +kernel) ⟨Nat.le_of_ble_eq_true rfl, Nat.le_of_ble_eq_true rfl⟩) rfl hl.1 (Nat.le_of_ble_eq_true rfl) dX4_marksFired_58 ⟨Nat.le_of_ble_eq_true rfl, Nat.le_of_ble_eq_true rfl⟩ (fun r4 F4 A4 L4 H locs hw hI => ?_)
      refine lv_iconst (v := -1) hx hb dX4_marksFired_61 (by decide) ?_
      refine lv_icmp_ne (tgt := 69) hx hb dX4_marksFired_62 (by decide) (fun c_62 => ?_) (fun c_62 => ?_)
      · have hw := hw.1 c_62
        refine lv_aload_n hx hb dX4_marksFired_69 rfl (lv_at hl 0 rfl) ?_
        refine lv_aload_n hx hb dX4_marksFired_70 rfl (lv_at hl 0 rfl) ?_
        refine lv_iload_n hx hb dX4_marksFired_71 rfl (lv_at hl 1 rfl) ?_
        refine lv_iconst (v := 2) hx hb dX4_marksFired_72 (by decide) ?_
        refine ml_calli (As := [.int x1, .int (2 : Int32)]) (rest := [.ref (ad 0), .int r3, .int r1, .ref (ad 13)]) (cells := 0) (slots := 0) hE hI (fun h hS => snd_X4_firing l G _ h ad F4 A4 L4 x1 (2 : Int32) _ hS hw) (cwV 2 hts (lw_V q2182 q2184 qs50 q108 q2185) rfl rfl rfl (by decide +kernel) ⟨Nat.le_of_ble_eq_true rfl, Nat.le_of_ble_eq_true rfl⟩) rfl hl.1 (Nat.le_of_ble_eq_true rfl) dX4_marksFired_73 ⟨Nat.le_of_ble_eq_true rfl, Nat.le_of_ble_eq_true rfl⟩ (fun r5 F5 A5 L5 H locs hw hI => ?_)
        refine ml_calli (As := [.int r5]) (rest := [.int r3, .int r1, .ref (ad 13)]) (cells := 0) (slots := 0) hE hI (fun h hS => snd_X4_slotOf l G _ h ad F5 A5 L5 r5 _ hS hw) (cwV 1 hts (lw_V q2198 q2200 qs54 q108 q2201) rfl rfl rfl (by decide +kernel) ⟨Nat.le_of_ble_eq_true rfl, Nat.le_of_ble_eq_true rfl⟩) rfl hl.1 (Nat.le_of_ble_eq_true rfl) dX4_marksFired_76 ⟨Nat.le_of_ble_eq_true rfl, Nat.le_of_ble_eq_true rfl⟩ (fun r6 F6 A6 L6 H locs hw hI => ?_)
        refine ml_calls (As := [.int r1, .int r3, .int r6]) (rest := [.ref (ad 13)]) (cells := 0) (slots := 0) hE hI (fun h => snd_X4_mark l G _ h r1 r3 r6 _ hw) (va_cwS 3 hts (lw_S q2304 q2305 q108 q2306) rfl rfl rfl (by decide +kernel) ⟨Nat.le_of_ble_eq_true rfl, Nat.le_of_ble_eq_true rfl⟩) rfl hl.1 (Nat.le_of_ble_eq_true rfl) dX4_marksFired_79 ⟨Nat.le_of_ble_eq_true rfl, Nat.le_of_ble_eq_true rfl⟩ (fun r7 H locs hw hI => ?_)
        refine lv_iconst (v := 1) hx hb dX4_marksFired_82 (by decide) ?_
        obtain ⟨hin, hw⟩ := hw
        refine ml_zast hE hI 13 rfl rfl rfl hin dX4_marksFired_83 (fun H locs hI => ?_)
        refine lv_iinc (v := (x1 + (1 : Int32))) (lv' := [(1, .int (x1 + (1 : Int32))), (0, .ref (ad 0))]) hx hb dX4_marksFired_84 hl (k := 1) rfl rfl (by decide) rfl (fun ls hl => ?_)
        refine lv_goto (tgt := 24) hx hb dX4_marksFired_87 (by decide) ?_
        exact ih F6 (ml_up A6 13 (Int32.toNatClampNeg r7) (vp_nar .boolean (1 : Int32))) L6 (x1 + (1 : Int32)) hw _ _ _ hI (lv_sub hl [1, 0] rfl)
      · have hw := hw.2 c_62
        refine lv_iconst (v := -1) hx hb dX4_marksFired_65 (by decide) ?_
        refine lv_goto (tgt := 79) hx hb dX4_marksFired_66 (by decide) ?_
        refine ml_calls (As := [.int r1, .int r3, .int (-1 : Int32)]) (rest := [.ref (ad 13)]) (cells := 0) (slots := 0) hE hI (fun h => snd_X4_mark l G _ h r1 r3 (-1 : Int32) _ hw) (va_cwS 3 hts (lw_S q2304 q2305 q108 q2306) rfl rfl rfl (by decide +kernel) ⟨Nat.le_of_ble_eq_true rfl, Nat.le_of_ble_eq_true rfl⟩) rfl hl.1 (Nat.le_of_ble_eq_true rfl) dX4_marksFired_79 ⟨Nat.le_of_ble_eq_true rfl, Nat.le_of_ble_eq_true rfl⟩ (fun r8 H locs hw hI => ?_)
        refine lv_iconst (v := 1) hx hb dX4_marksFired_82 (by decide) ?_
        obtain ⟨hin, hw⟩ := hw
        refine ml_zast hE hI 13 rfl rfl rfl hin dX4_marksFired_83 (fun H locs hI => ?_)
        refine lv_iinc (v := (x1 + (1 : Int32))) (lv' := [(1, .int (x1 + (1 : Int32))), (0, .ref (ad 0))]) hx hb dX4_marksFired_84 hl (k := 1) rfl rfl (by decide) rfl (fun ls hl => ?_)
        refine lv_goto (tgt := 24) hx hb dX4_marksFired_87 (by decide) ?_
        exact ih F4 (ml_up A4 13 (Int32.toNatClampNeg r8) (vp_nar .boolean (1 : Int32))) L4 (x1 + (1 : Int32)) hw _ _ _ hI (lv_sub hl [1, 0] rfl)
def wp_X4_marksFired_L2 (Q : (Nat → Int32) → (Nat → Nat → Int32) → (Nat → UInt32) → Prop) : Nat → (Nat → Int32) → (Nat → Nat → Int32) → (Nat → UInt32) → (Int32) → Prop
  | 0, _, _, _, _ => False
  | n + 1, F, A, L, x1 => (((3360 : Int32) ≤ x1 → (∃ n24, wp_X4_marksFired_L24 Q n24 F A L (0 : Int32))) ∧ (¬ (3360 : Int32) ≤ x1 → (vp_in x1 3360 ∧ wp_X4_marksFired_L2 Q n F (ml_up A 13 (Int32.toNatClampNeg x1) (vp_nar .boolean (0 : Int32))) L (x1 + (1 : Int32)))))
set_option maxHeartbeats 4000000 in
theorem snd_X4_marksFired_L2 {p : Program} {l : Launch} {e : Env} {s : State} {m : MethodId} {args : Array Value} {below : List Frame} {meth : Method} {c : Code} {G : GG} {h0 : HH} {ad : Nat → Nat} (hE : hv_E p s m args meth c cX4_marksFired 2 (none : Option FieldType) RX4 G h0) (Q : (Nat → Int32) → (Nat → Nat → Int32) → (Nat → UInt32) → Prop) : ∀ (n : Nat) (F : Nat → Int32) (A : Nat → Nat → Int32) (L : Nat → UInt32) (x1 : Int32), wp_X4_marksFired_L2 Q n F A L x1 → ∀ (H : Heap) (locs : List Loc) (ls : Array Slot), ml_I G h0 s.heap ad F A L H locs → lv_has ls 2 [(0, .ref (ad 0)), (1, .int x1)] → W p l e (headSpec (ws_ yX4_marksFired cX4_marksFired 2 (none : Option FieldType)) rm_X4_marksFired).room s m args below meth c H locs 0 0 (MQ below (hv_Qv G h0 s.heap.size (ml_Q G h0 ad Q)) args s 0 0 (hv_A h0 s.heap.size)) (F0 m 2 ls []) := by
  obtain ⟨⟨hx, hb, hml, hown, hts⟩, hr, hlocks, -⟩ := id hE
  intro n
  induction n with
  | zero => intro F A L x1 hw; exact hw.elim
  | succ n ih =>
    intro F A L x1 hw H locs ls hI hl
    unfold wp_X4_marksFired_L2 at hw
    refine lv_iload_n hx hb dX4_marksFired_2 rfl (lv_at hl 1 rfl) ?_
    refine lv_sipush (v := 3360) hx hb dX4_marksFired_3 (by decide) ?_
    refine lv_icmp_ge (tgt := 22) hx hb dX4_marksFired_6 (by decide) (fun c_6 => ?_) (fun c_6 => ?_)
    · have hw := hw.1 c_6
      refine lv_iconst (v := 0) hx hb dX4_marksFired_22 (by decide) ?_
      refine lv_istore_n (lv' := [(1, .int (0 : Int32)), (0, .ref (ad 0))]) hx hb dX4_marksFired_23 rfl hl (by decide) rfl (fun ls hl => ?_)
      obtain ⟨n24, hw⟩ := hw
      exact snd_X4_marksFired_L24 hE Q n24 F A L (0 : Int32) hw _ _ _ hI (lv_sub hl [1, 0] rfl)
    · have hw := hw.2 c_6
      refine lv_aload_n hx hb dX4_marksFired_9 rfl (lv_at hl 0 rfl) ?_
      refine ml_get hE hI 13 (by decide) q1998 rfl rfl dX4_marksFired_10 ?_
      refine lv_iload_n hx hb dX4_marksFired_13 rfl (lv_at hl 1 rfl) ?_
      refine lv_iconst (v := 0) hx hb dX4_marksFired_14 (by decide) ?_
      obtain ⟨hin, hw⟩ := hw
      refine ml_zast hE hI 13 rfl rfl rfl hin dX4_marksFired_15 (fun H locs hI => ?_)
      refine lv_iinc (v := (x1 + (1 : Int32))) (lv' := [(1, .int (x1 + (1 : Int32))), (0, .ref (ad 0))]) hx hb dX4_marksFired_16 hl (k := 1) rfl rfl (by decide) rfl (fun ls hl => ?_)
      refine lv_goto (tgt := 2) hx hb dX4_marksFired_19 (by decide) ?_
      exact ih F (ml_up A 13 (Int32.toNatClampNeg x1) (vp_nar .boolean (0 : Int32))) L (x1 + (1 : Int32)) hw _ _ _ hI (lv_sub hl [1, 0] rfl)
def wp_X4_marksFired (F : Nat → Int32) (A : Nat → Nat → Int32) (L : Nat → UInt32) (Q : (Nat → Int32) → (Nat → Nat → Int32) → (Nat → UInt32) → Prop) : Prop := (∃ n2, wp_X4_marksFired_L2 Q n2 F A L (0 : Int32))
set_option maxHeartbeats 4000000 in
theorem snd_X4_marksFired (l : Launch) (G : GG) (sz : Nat) (h : HH) (ad : Nat → Nat) (F : Nat → Int32) (A : Nat → Nat → Int32) (L : Nat → UInt32) (Q : (Nat → Int32) → (Nat → Nat → Int32) → (Nat → UInt32) → Prop) (hS : ml_S G h ad F A L) (hw : wp_X4_marksFired F A L Q) : Met l yX4_marksFired (ws_ yX4_marksFired cX4_marksFired 2 (none : Option FieldType)) rm_X4_marksFired (hv_Pc G h sz [.ref (ad 0)]) (hv_Qv G h sz (ml_Q G h ad Q)) 0 0 (hv_A h sz) := by
  refine Met.ofW (cc := cX4_marksFired) (maxL := 2) (ret := (none : Option FieldType)) (by decide) rfl ?_
  intro p e s m args below meth c s₁ B hml hv
  obtain ⟨rfl, rfl, hE, hI⟩ := hv_open B hml hv
  have hE : hv_E p s m ([.ref (ad 0)] : List Value).toArray meth c cX4_marksFired 2 (none : Option FieldType) RX4 G h := hE
  have hI := ml_I.start hI hS
  obtain ⟨⟨hx, hb, hml, hown, hts⟩, hr, hlocks, -⟩ := id hE
  have hl := lv_entry ([.ref (ad 0)] : List Value) (n := 2) (Nat.le_of_ble_eq_true rfl)
  rw [lg_entry_eq]
  generalize (lg_sl ([.ref (ad 0)] : List Value) ++ List.replicate (2 - (lg_sl ([.ref (ad 0)] : List Value)).length) Slot.unset).toArray = ls at hl ⊢
  have hl : lv_has ls 2 [(0, .ref (ad 0))] := hl
  unfold wp_X4_marksFired at hw
  refine lv_iconst (v := 0) hx hb dX4_marksFired_0 (by decide) ?_
  refine lv_istore_n (lv' := [(1, .int (0 : Int32)), (0, .ref (ad 0))]) hx hb dX4_marksFired_1 rfl hl (by decide) rfl (fun ls hl => ?_)
  obtain ⟨n2, hw⟩ := hw
  exact snd_X4_marksFired_L2 hE Q n2 F A L (0 : Int32) hw _ _ _ hI (lv_sub hl [1, 0] rfl)

/-- MatchmakerRulesModel.unbinds()V -/
abbrev rm_X4_unbinds : Room := { frames := 1, cells := 0, slots := 0, locals := 12 }
def wp_X4_unbinds (F : Nat → Int32) (A : Nat → Nat → Int32) (L : Nat → UInt32) (Q : (Nat → Int32) → (Nat → Nat → Int32) → (Nat → UInt32) → Prop) : Prop := Q F (ml_up (ml_up (ml_up A 11 0 (-1 : Int32)) 11 1 (-1 : Int32)) 11 2 (-1 : Int32)) L
set_option maxHeartbeats 4000000 in
theorem snd_X4_unbinds (l : Launch) (G : GG) (sz : Nat) (h : HH) (ad : Nat → Nat) (F : Nat → Int32) (A : Nat → Nat → Int32) (L : Nat → UInt32) (Q : (Nat → Int32) → (Nat → Nat → Int32) → (Nat → UInt32) → Prop) (hS : ml_S G h ad F A L) (hw : wp_X4_unbinds F A L Q) : Met l yX4_unbinds (ws_ yX4_unbinds cX4_unbinds 1 (none : Option FieldType)) rm_X4_unbinds (hv_Pc G h sz [.ref (ad 0)]) (hv_Qv G h sz (ml_Q G h ad Q)) 0 0 (hv_A h sz) := by
  refine Met.ofW (cc := cX4_unbinds) (maxL := 1) (ret := (none : Option FieldType)) (by decide) rfl ?_
  intro p e s m args below meth c s₁ B hml hv
  obtain ⟨rfl, rfl, hE, hI⟩ := hv_open B hml hv
  have hE : hv_E p s m ([.ref (ad 0)] : List Value).toArray meth c cX4_unbinds 1 (none : Option FieldType) RX4 G h := hE
  have hI := ml_I.start hI hS
  obtain ⟨⟨hx, hb, hml, hown, hts⟩, hr, hlocks, -⟩ := id hE
  have hl := lv_entry ([.ref (ad 0)] : List Value) (n := 1) (Nat.le_of_ble_eq_true rfl)
  rw [lg_entry_eq]
  generalize (lg_sl ([.ref (ad 0)] : List Value) ++ List.replicate (1 - (lg_sl ([.ref (ad 0)] : List Value)).length) Slot.unset).toArray = ls at hl ⊢
  have hl : lv_has ls 1 [(0, .ref (ad 0))] := hl
  unfold wp_X4_unbinds at hw
  refine lv_aload_n hx hb dX4_unbinds_0 rfl (lv_at hl 0 rfl) ?_
  refine ml_get hE hI 11 (by decide) q1996 rfl rfl dX4_unbinds_1 ?_
  refine lv_iconst (v := 0) hx hb dX4_unbinds_4 (by decide) ?_
  refine lv_iconst (v := -1) hx hb dX4_unbinds_5 (by decide) ?_
  have hin : vp_in (0 : Int32) 3 := by unfold vp_in; decide +kernel
  refine ml_iast hE hI 11 rfl rfl (show Int32.toNatClampNeg (0 : Int32) = 0 from by decide +kernel) hin dX4_unbinds_6 (fun H locs hI => ?_)
  refine lv_aload_n hx hb dX4_unbinds_7 rfl (lv_at hl 0 rfl) ?_
  refine ml_get hE hI 11 (by decide) q1996 rfl rfl dX4_unbinds_8 ?_
  refine lv_iconst (v := 1) hx hb dX4_unbinds_11 (by decide) ?_
  refine lv_iconst (v := -1) hx hb dX4_unbinds_12 (by decide) ?_
  have hin : vp_in (1 : Int32) 3 := by unfold vp_in; decide +kernel
  refine ml_iast hE hI 11 rfl rfl (show Int32.toNatClampNeg (1 : Int32) = 1 from by decide +kernel) hin dX4_unbinds_13 (fun H locs hI => ?_)
  refine lv_aload_n hx hb dX4_unbinds_14 rfl (lv_at hl 0 rfl) ?_
  refine ml_get hE hI 11 (by decide) q1996 rfl rfl dX4_unbinds_15 ?_
  refine lv_iconst (v := 2) hx hb dX4_unbinds_18 (by decide) ?_
  refine lv_iconst (v := -1) hx hb dX4_unbinds_19 (by decide) ?_
  have hin : vp_in (2 : Int32) 3 := by unfold vp_in; decide +kernel
  refine ml_iast hE hI 11 rfl rfl (show Int32.toNatClampNeg (2 : Int32) = 2 from by decide +kernel) hin dX4_unbinds_20 (fun H locs hI => ?_)
  exact ml_vret hE hI hw dX4_unbinds_21
