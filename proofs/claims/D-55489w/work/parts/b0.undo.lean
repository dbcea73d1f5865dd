set_option maxRecDepth 100000
/-! undo, snapshot, restore, clear -/
def t_bus (S : TS) (B : BK) (und : List BK) (sav : Option BK) : TS := (B, und, sav, S.2.2.2)
def t_CB (B : BK) : CC := B.2.2.2.2.2
section UNDO
variable {G : GG} {h h' : HH} {ρ ρ' : RO} {x : Nat} {S S' : TS} {dq arr ra si v N ls : Nat} {er rf : Option Nat} {fr : Nat → Option Nat}
theorem q_dq.mv {h1 : HH} {xs ys : List Nat} (q : q_dq G h1 dq arr ys) : (∃ fs, h1 dq = some (.inr (5, fs))) ∧ ∃ f, h1 arr = some (.inl (G.2.1 6, 17, .inr (.inr (.inr (.inr f))))) := by
  obtain ⟨d, f, -, -, e3, e4, -⟩ := q
  exact ⟨⟨_, e3⟩, f, e4⟩
/-- the deque and the books changed -/
theorem q_Xr.bus {B : BK} {und : List BK} {sav : Option BK} (hr : q_Xr G h ρ S dq arr ra si v N ls er rf fr) (hh : ∀ c, c ≠ dq → c ≠ arr → h' c = h c) (hd : q_dq G h' dq arr (und.map (fun B => B.2.1))) (hB : ∀ B' ∈ q_bks (t_bus S B und sav), B' ∈ q_bks S) : q_Xr G h' ρ (t_bus S B und sav) dq arr ra si v N ls er rf fr := by
  obtain ⟨⟨r2, r3, h2⟩, ⟨r4, h3, h4, h5⟩, ⟨r5, r6, h6, h7, h8⟩, h9, h10, h11, h12, h13, h14⟩ := hr
  have hs : q_sp (fun c => c = dq ∨ c = arr) h h' := fun c e hc hn => by rw [hh c (fun z => hn (Or.inl z)) (fun z => hn (Or.inr z))]; exact hc
  have n1 : ∀ {c : Nat} {j : Nat}, ρ c = (1, j) → j ≠ 1 → j ≠ 2 → ¬ (c = dq ∨ c = arr) := fun e a b z => by
    rcases z with z | z
    · rw [z, r2] at e
      exact a (congrArg Prod.snd e).symm
    · rw [z, r3] at e
      exact b (congrArg Prod.snd e).symm
  have n6 : ∀ c, q_t6 ρ c → ¬ (c = dq ∨ c = arr) := fun c hc z => by
    have := hc.2
    rcases z with z | z
    · rw [z, r2] at this
      simp only at this
      omega
    · rw [z, r3] at this
      simp only at this
      omega
  have n8 : ∀ c, (ρ c).1 = 8 → ¬ (c = dq ∨ c = arr) := fun c hc z => by
    rcases z with z | z
    · rw [z, r2] at hc
      cases hc
    · rw [z, r3] at hc
      cases hc
  have he : q_ex h ρ ρ := fun _ _ _ => rfl
  refine ⟨⟨r2, r3, hd⟩, ⟨r4, hs _ _ h3 (n1 r4 (by decide) (by decide)), h4.kp he hs n6, h5.kp he hs n6⟩, ⟨r5, r6, h6.sp hs (n1 r5 (by decide) (by decide)) (n1 r6 (by decide) (by decide)), h7, h8⟩, h9.kp he hs n6, h10.kp he hs n6, h11.kp he hs n6, h12, fun B' hB' => ?_, h14.1.kp he hs n8, fun B1 hB1 B2 hB2 => h14.2 B1 (hB B1 hB1) B2 (hB B2 hB2)⟩
  have := h13 B' (hB B' hB')
  refine ⟨this.1.own (K := 1) he (hs.mono (fun c hc => ?_)) (by have := this.2; omega) (by decide), this.2⟩
  rcases hc with rfl | rfl
  · show (ρ c).1 = 1
    rw [r2]
  · show (ρ c).1 = 1
    rw [r3]
theorem q_Xr.sz (hr : q_Xr G h ρ S dq arr ra si v N ls er rf fr) {B : BK} (hB : B ∈ q_bks S) {Q : Int32 → HH → Prop} (hQ : Q (nI (t_CB B).2.1.length) h) : w_getq h B.2.1 2 2 (fun r5 => w_nn r5 (fun a6 => w_is h a6 4 (wp_J2_size G h a6 (fun r7 h8 => Q r7 h8)))) := by
  obtain ⟨⟨r2, r3, h2⟩, ⟨r4, h3, h4, h5⟩, ⟨r5, r6, h6, h7, h8⟩, h9, h10, h11, h12, h13, h14⟩ := hr
  obtain ⟨lr, lf, g1, g3, g2, ⟨fs3, g5⟩, ⟨fs4, g4⟩⟩ := (h13 B hB).1.1.len
  refine w_geta_of g1 rfl <| w_nn_of <| w_is_of g4 <| sp_J2_size g2 ?_
  rw [List.length_map]
  exact hQ
theorem sp_X1_snapshot {Q : Int32 → HH → Prop} (hX : q_X G h ρ x S) (hQ : ∀ h', q_X G h' ρ x (t_bus S S.1 S.2.1 (some S.1)) → Q (nI (t_C S).2.1.length) h') : wp_X1_snapshot G h x Q := by
  obtain ⟨dq, arr, ra, si, v, N, ls, er, rf, fr, hx, r1, hr⟩ := hX.op
  have hr0 := hr.2.2.2.2.2
  unfold wp_X1_snapshot
  refine w_geta_of hx rfl <| w_put_of hx (Nat.le_of_ble_eq_true rfl) rfl ?_
  have hr1 := hr.xx (h' := va_up h x (some (.inr (1, (q_xf S dq ra si ls er rf).set 2 (va_rf (some S.1.2.1)))))) r1 (fun c hc => q_h_ne hc)
  have hr2 := hr1.bus (B := S.1) (und := S.2.1) (sav := some S.1) (fun c _ _ => rfl) hr1.1.2.2 (fun B' hB' => by
    simp only [q_bks, t_bus, Option.toList_some, List.mem_cons, List.mem_append, List.not_mem_nil, or_false] at hB' ⊢
    rcases hB' with z | z | z
    · exact Or.inl z
    · exact Or.inr (Or.inl z)
    · exact Or.inl z)
  refine w_geta_of q_h_same rfl <| w_nn_of <| hr2.sz (B := S.1) (List.mem_cons_self ..) ?_
  exact hQ _ (hr2.cl q_h_same r1)
def o_undo (S : TS) (k : Nat) (r : Int32) (S' : TS) : Prop := (k = 1 ∧ S.2.1 = []) ∨ ∃ und B, S.2.1 = und ++ [B] ∧ k = 0 ∧ r = nI und.length ∧ S' = t_bus S B und S.2.2.1
def o_restore (S : TS) (k : Nat) (r : Int32) (S' : TS) : Prop := (k = 1 ∧ S.2.2.1 = none) ∨ ∃ B, S.2.2.1 = some B ∧ k = 0 ∧ r = nI (t_CB B).2.1.length ∧ S' = t_bus S B [] S.2.2.1
theorem sp_X1_undo {mc ms : Nat} {Q : Int32 → HH → Prop} {X : String → Nat → HH → Prop} (hX : q_X G h ρ x S) (hm : 1 ≤ mc) (hs : 6 ≤ ms)
    (hQ : ∀ h' r S', q_X G h' ρ x S' → o_undo S 0 r S' → Q r h') (hE : ∀ q, o_undo S 1 0 S → X "java/lang/IllegalStateException" q h) : wp_X1_undo G mc ms h x Q X := by
  obtain ⟨dq, arr, ra, si, v, N, ls, er, rf, fr, hx, r1, hr⟩ := hX.op
  have hdq := hr.1.2.2
  obtain ⟨d, f, -, d8, hdo, -⟩ := id hdq
  unfold wp_X1_undo
  refine w_geta_of hx rfl <| w_nn_of <| w_is_of hdo <| sp_J3_isEmpty hdq ?_
  rcases List.eq_nil_or_concat S.2.1 with e | ⟨und, B, e⟩
  · rw [if_pos (by rw [e]; rfl)]
    refine ⟨fun _ => ?_, fun z => absurd z (by decide)⟩
    unfold wp_X1_undo_L15
    exact ⟨1, 6, by omega, by omega, sp_X1_checkState (by omega) (by omega) (fun z => absurd rfl z) (fun _ q _ => hE q (Or.inl ⟨rfl, e⟩))⟩
  · rw [if_neg (by rw [e]; simp)]
    refine ⟨fun z => absurd rfl z, fun _ => ?_⟩
    unfold wp_X1_undo_L15
    refine ⟨1, 6, by omega, by omega, sp_X1_checkState (by omega) (by omega) (fun _ => w_geta_of hx rfl <| w_nn_of <| w_is_of hdo ?_) (fun z => absurd z (by decide))⟩
    have hdq' : q_dq G h dq arr (und.map (fun B => B.2.1) ++ [B.2.1]) := by
      rw [e, List.concat_eq_append, List.map_append] at hdq
      exact hdq
    have e' : S.2.1 = und ++ [B] := by rw [e, List.concat_eq_append]
    refine sp_J3_removeLast hdq' (fun h1 hh hd1 => ?_)
    have hxd : x ≠ dq ∧ x ≠ arr := ⟨q_ro_ne r1 hr.1.1 (by decide), q_ro_ne r1 hr.1.2.1 (by decide)⟩
    have hBm : B ∈ q_bks S := by
      unfold q_bks
      rw [e']
      simp
    have hr1 := hr.bus (B := B) (und := und) (sav := S.2.2.1) hh hd1 (fun B' hB' => by
      simp only [q_bks, t_bus, List.mem_cons, List.mem_append] at hB'
      rcases hB' with z | z | z
      · rw [z]; exact hBm
      · unfold q_bks; rw [e']; simp [z]
      · unfold q_bks; simp [z])
    have hb := (hr.2.2.2.2.2.2.2.1 B hBm).1
    have hx1 : h1 x = _ := (hh x hxd.1 hxd.2).trans hx
    obtain ⟨lr, lf, g1, -⟩ := (hr1.2.2.2.2.2.2.2.1 B (List.mem_cons_self ..)).1.1.len
    refine w_nn_of <| w_cast_of g1 <| w_put_of hx1 (Nat.le_of_ble_eq_true rfl) rfl ?_
    have hr2 := hr1.xx (h' := va_up h1 x (some (.inr (1, (q_xf S dq ra si ls er rf).set 0 (.ref B.2.1))))) r1 (fun c hc => q_h_ne hc)
    obtain ⟨d2, f2, -, -, hdo2, -⟩ := id hr2.1.2.2
    refine w_geta_of q_h_same rfl <| w_nn_of <| w_is_of hdo2 <| sp_J3_size hr2.1.2.2 ?_
    rw [List.length_map]
    exact hQ _ _ _ (hr2.cl q_h_same r1) (Or.inr ⟨und, B, e', rfl, rfl, rfl⟩)
theorem sp_X1_restore {mc ms : Nat} {Q : Int32 → HH → Prop} {X : String → Nat → HH → Prop} (hX : q_X G h ρ x S) (hm : 1 ≤ mc) (hs : 6 ≤ ms)
    (hQ : ∀ h' r S', q_X G h' ρ x S' → o_restore S 0 r S' → Q r h') (hE : ∀ q, o_restore S 1 0 S → X "java/lang/IllegalStateException" q h) : wp_X1_restore G mc ms h x Q X := by
  obtain ⟨dq, arr, ra, si, v, N, ls, er, rf, fr, hx, r1, hr⟩ := hX.op
  have hdq := hr.1.2.2
  obtain ⟨d, f, -, d8, hdo, -⟩ := id hdq
  unfold wp_X1_restore
  cases e : S.2.2.1 with
  | none =>
    refine w_getr_of (v := none) hx (by unfold q_xf; rw [e]; rfl) ⟨fun _ => ?_, fun a z => by cases z⟩
    unfold wp_X1_restore_L12
    exact ⟨1, 6, by omega, by omega, sp_X1_checkState (by omega) (by omega) (fun z => absurd rfl z) (fun _ q _ => hE q (Or.inl ⟨rfl, e⟩))⟩
  | some B =>
    refine w_getr_of (v := some B.2.1) hx (by unfold q_xf; rw [e]; rfl) ⟨fun z => (by cases z), fun a z => ?_⟩
    cases z
    unfold wp_X1_restore_L12
    refine ⟨1, 6, by omega, by omega, sp_X1_checkState (by omega) (by omega) (fun _ => w_getr_of (v := some B.2.1) hx (by unfold q_xf; rw [e]; rfl) <| w_put_of hx (Nat.le_of_ble_eq_true rfl) rfl <| ?_) (fun z => absurd z (by decide))⟩
    have hr1 := hr.xx (h' := va_up h x (some (.inr (1, (q_xf S dq ra si ls er rf).set 0 (va_rf (some B.2.1)))))) r1 (fun c hc => q_h_ne hc)
    obtain ⟨d1, f1, -, -, hdo1, -⟩ := id hr1.1.2.2
    refine w_geta_of q_h_same rfl <| w_nn_of <| w_is_of hdo1 <| sp_J3_clear hr1.1.2.2 (fun h2 hh hd2 => ?_)
    have hxd : x ≠ dq ∧ x ≠ arr := ⟨q_ro_ne r1 hr.1.1 (by decide), q_ro_ne r1 hr.1.2.1 (by decide)⟩
    have hBm : B ∈ q_bks S := by unfold q_bks; rw [e]; simp
    have hr2 := hr1.bus (B := B) (und := []) (sav := S.2.2.1) hh hd2 (fun B' hB' => by
      simp only [q_bks, t_bus, e, List.nil_append, Option.toList_some, List.mem_cons, List.not_mem_nil, or_false] at hB'
      rcases hB' with z | z <;> (rw [z]; exact hBm))
    have hx2 : h2 x = _ := (hh x hxd.1 hxd.2).trans q_h_same
    refine w_geta_of (v := B.2.1) hx2 rfl <| w_nn_of <| hr2.sz (B := B) (List.mem_cons_self ..) ?_
    exact hQ _ _ _ (hr2.cl hx2 r1) (Or.inr ⟨B, e, rfl, rfl, rfl⟩)
end UNDO
