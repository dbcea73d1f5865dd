set_option maxRecDepth 100000
/-! the top level, its parts apart: to change a field -/
abbrev WT : Type := Nat × Nat × Nat × Nat × Nat × Nat × Nat × Option Nat × Option Nat × (Nat → Option Nat)
def q_Xr (G : GG) (h : HH) (ρ : RO) (S : TS) (dq arr ra si v N ls : Nat) (er rf : Option Nat) (fr : Nat → Option Nat) : Prop :=
  (ρ dq = (1, 1) ∧ ρ arr = (1, 2) ∧ q_dq G h dq arr (S.2.1.map (fun B => B.2.1))) ∧
  (ρ ra = (1, 3) ∧ h ra = some (.inl (G.2.1 6, 2, .inr (.inr (.inr (.inr fr))))) ∧ q_row G h ρ (fr 0) S.2.2.2.1.1 ∧ q_row G h ρ (fr 1) S.2.2.2.1.2) ∧
  (ρ si = (1, 4) ∧ ρ v = (1, 5) ∧ q_sb G h si v N S.2.2.2.2.1 ∧ S.2.2.2.2.1.length ≤ 60 ∧ N ≤ 140) ∧
  q_ln G h ρ ls S.2.2.2.2.2.1 ∧ q_er h ρ er S.2.2.2.2.2.2.1 ∧ q_rs h ρ rf S.2.2.2.2.2.2.2.2.1 ∧
  (∀ n, S.2.2.2.2.2.2.2.1 = some n → n < 100) ∧
  (∀ B ∈ q_bks S, q_Bk G h ρ B) ∧ q_P h ρ S.2.2.2.2.2.2.2.2.2 ∧ ∀ B ∈ q_bks S, ∀ B' ∈ q_bks S, B.1 = B'.1 → B = B'
def q_xf (S : TS) (dq ra si ls : Nat) (er rf : Option Nat) : List Value := [.ref S.1.2.1, .ref dq, va_rf (S.2.2.1.map (fun B => B.2.1)), .ref ra, .ref si, .ref ls, va_rf er, .int (nO S.2.2.2.2.2.2.2.1), va_rf rf]
section TOP2
variable {G : GG} {h h' : HH} {ρ ρ' : RO} {x : Nat} {S S' : TS} {dq arr ra si v N ls : Nat} {er rf : Option Nat} {fr : Nat → Option Nat}
theorem q_X.op (hX : q_X G h ρ x S) : ∃ dq arr ra si v N ls er rf fr, h x = some (.inr (1, q_xf S dq ra si ls er rf)) ∧ ρ x = (1, 0) ∧ q_Xr G h ρ S dq arr ra si v N ls er rf fr := by
  obtain ⟨dq, arr, ra, si, v, N, ls, er, rf, fr, h1, r1, r2, r3, r4, r5, r6, h2, h3, h4, h5, h6, h7, h8, h9, h10, h11, h12, h13, h14⟩ := hX
  exact ⟨dq, arr, ra, si, v, N, ls, er, rf, fr, h1, r1, ⟨r2, r3, h2⟩, ⟨r4, h3, h4, h5⟩, ⟨r5, r6, h6, h7, h8⟩, h9, h10, h11, h12, h13, h14⟩
theorem q_Xr.cl (hr : q_Xr G h ρ S dq arr ra si v N ls er rf fr) (h1 : h x = some (.inr (1, q_xf S dq ra si ls er rf))) (r1 : ρ x = (1, 0)) : q_X G h ρ x S := by
  obtain ⟨⟨r2, r3, h2⟩, ⟨r4, h3, h4, h5⟩, ⟨r5, r6, h6, h7, h8⟩, h9, h10, h11, h12, h13, h14⟩ := hr
  exact ⟨dq, arr, ra, si, v, N, ls, er, rf, fr, h1, r1, r2, r3, r4, r5, r6, h2, h3, h4, h5, h6, h7, h8, h9, h10, h11, h12, h13, h14⟩
/-- a frame around the parts -/
theorem q_Xr.frm {W : Nat → Prop} (hr : q_Xr G h ρ S dq arr ra si v N ls er rf fr) (he : q_ex h ρ ρ') (hs : q_sp W h h') (hW : ∀ c, W c → (ρ c).1 = 1 ∧ (ρ c).2 = 0) : q_Xr G h' ρ' S dq arr ra si v N ls er rf fr := by
  obtain ⟨⟨r2, r3, h2⟩, ⟨r4, h3, h4, h5⟩, ⟨r5, r6, h6, h7, h8⟩, h9, h10, h11, h12, h13, h14⟩ := hr
  have n1 : ∀ {c : Nat} {j : Nat}, ρ c = (1, j) → j ≠ 0 → ¬ W c := fun e hj z => by
    have := (hW _ z).2
    rw [e] at this
    exact hj this
  have n6 : ∀ c, q_t6 ρ c → ¬ W c := fun c hc z => by
    have := (hW _ z).2
    have := hc.2
    omega
  obtain ⟨d, f, e1, e2, e3, e4, e5⟩ := id h2
  obtain ⟨⟨ml, s1⟩, s2, s3, s4, fv, s5, s6⟩ := id h6
  refine ⟨⟨by rw [he _ _ e3]; exact r2, by rw [he _ _ e4]; exact r3, h2.kp hs (n1 r2 (by decide)) (n1 r3 (by decide))⟩, ⟨by rw [he _ _ h3]; exact r4, hs _ _ h3 (n1 r4 (by decide)), h4.kp he hs n6, h5.kp he hs n6⟩, ⟨by rw [he _ _ s1]; exact r5, by rw [he _ _ s5]; exact r6, h6.sp hs (n1 r5 (by decide)) (n1 r6 (by decide)), h7, h8⟩, h9.kp he hs n6, h10.kp he hs n6, h11.kp he hs n6, h12, fun B hB => ⟨(h13 B hB).1.own (K := 1) he (hs.mono (fun c hc => (hW c hc).1)) (by have := (h13 B hB).2; omega) (by decide), (h13 B hB).2⟩, h14.1.kp he hs (fun c z z2 => by have := (hW c z2).1; omega), h14.2⟩
theorem q_Xr.no (hr : q_Xr G h ρ S dq arr ra si v N ls er rf fr) (he : q_ex h ρ ρ') (hs : q_sp q_no h h') : q_Xr G h' ρ' S dq arr ra si v N ls er rf fr := hr.frm he hs (fun c z => z.elim)
theorem q_Xr.xx (hr : q_Xr G h ρ S dq arr ra si v N ls er rf fr) (r1 : ρ x = (1, 0)) (hh : ∀ c, c ≠ x → h' c = h c) : q_Xr G h' ρ S dq arr ra si v N ls er rf fr   := hr.frm (W := q_on x) (fun _ _ _ => rfl) (fun c e hc hn => by rw [hh c hn]; exact hc) (fun c hc => by rw [hc, r1]; exact ⟨rfl, rfl⟩)
def t_lin (S : TS) (cs : List Nat) : TS := (S.1, S.2.1, S.2.2.1, S.2.2.2.1, S.2.2.2.2.1, cs, S.2.2.2.2.2.2.1, S.2.2.2.2.2.2.2.1, S.2.2.2.2.2.2.2.2)
/-- a new line -/
theorem q_X.line {h1 : HH} {s1 v1 : Nat} {cs : List Nat} {Q : HH → Prop} (hX : q_X G h ρ x S) (hs : q_sp q_no h h1) (hs1 : h s1 = none) (hv1 : h v1 = none) (hso : q_so G h1 s1 v1 cs) (hQ : ∀ h' ρ', q_X G h' ρ' x (t_lin S cs) → Q h') : w_put h1 x 1 5 (.ref s1) Q := by
  obtain ⟨dq, arr, ra, si, v, N, ls, er, rf, fr, hx, r1, hr⟩ := hX.op
  have hx1 := hs x _ hx q_no.not
  have sv : s1 ≠ v1 := by
    obtain ⟨⟨x1, x2, e1⟩, -, -, f, e2, -⟩ := hso
    exact q_c_ne e1 e2 (by simp)
  have sx : x ≠ s1 := q_new_ne hs1 hx
  have vx : x ≠ v1 := q_new_ne hv1 hx
  refine w_put_of hx1 (Nat.le_of_ble_eq_true rfl) rfl ?_
  have he : q_ex h ρ (q_up (q_up ρ s1 (1, 7)) v1 (1, 8)) := fun c e hc => by rw [q_up_ne (q_new_ne hv1 hc), q_up_ne (q_new_ne hs1 hc)]
  have hr1 := hr.no he hs
  have r1' : q_up (q_up ρ s1 (1, 7)) v1 (1, 8) x = (1, 0) := by rw [q_up_ne vx, q_up_ne sx]; exact r1
  have hr2 := hr1.xx (h' := va_up h1 x (some (.inr (1, (q_xf S dq ra si ls er rf).set 5 (.ref s1))))) r1' (fun c hc => q_h_ne hc)
  obtain ⟨a1, a2, a3, a4, a5, a6, a7, a8, a9⟩ := hr2
  have t1 : q_t6 (q_up (q_up ρ s1 (1, 7)) v1 (1, 8)) s1 := by unfold q_t6; rw [q_up_ne sv, q_up_same]; exact ⟨rfl, by decide⟩
  have t2 : q_t6 (q_up (q_up ρ s1 (1, 7)) v1 (1, 8)) v1 := by unfold q_t6; rw [q_up_same]; exact ⟨rfl, by decide⟩
  have hln : q_ln G (va_up h1 x (some (.inr (1, (q_xf S dq ra si ls er rf).set 5 (.ref s1))))) (q_up (q_up ρ s1 (1, 7)) v1 (1, 8)) s1 cs := by
    obtain ⟨⟨x1, x2, e1⟩, e3, e4, f, e2, e5⟩ := hso
    exact Or.inl ⟨v1, t1, t2, ⟨x1, x2, by rw [q_h_ne (Ne.symm sx)]; exact e1⟩, e3, e4, f, by rw [q_h_ne (Ne.symm vx)]; exact e2, e5⟩
  have hr3 : q_Xr G (va_up h1 x (some (.inr (1, (q_xf S dq ra si ls er rf).set 5 (.ref s1))))) (q_up (q_up ρ s1 (1, 7)) v1 (1, 8)) (t_lin S cs) dq arr ra si v N s1 er rf fr := ⟨a1, a2, a3, hln, a5, a6, a7, a8, a9⟩
  exact hQ _ _ (hr3.cl q_h_same r1')
theorem q_X.lnx {Q : Option Nat → Prop} (hX : q_X G h ρ x S) (hQ : ∀ ls, q_ln G h ρ ls S.2.2.2.2.2.1 → Q (some ls)) : w_getq h x 1 5 Q := by
  obtain ⟨dq, arr, ra, si, v, N, ls, er, rf, fr, hx, r1, hr⟩ := hX.op
  exact w_geta_of hx rfl (hQ ls hr.2.2.2.1)
def o_line (C : CC) (v : Int32) (k : Nat) (r : Int32) (cs : List Nat) : Prop := (k = 1 ∧ ∀ i, i < C.1.length → v ≠ nI i) ∨ ∃ i x1, v = nI i ∧ C.1[i]? = some x1 ∧ k = 0 ∧ cs = s_rl x1.2 ∧ r = nI cs.length
def o_factLine (C : CC) (v : Int32) (k : Nat) (r : Int32) (cs : List Nat) : Prop := (k = 1 ∧ o_no C v) ∨ ∃ i y, o_fnd C v i y ∧ k = 0 ∧ cs = s_fl C y ∧ r = nI cs.length
theorem sp_X1_line {u : Int32} {mc ms n : Nat} {Q : Int32 → HH → Prop} {X : String → Nat → HH → Prop} (hX : q_X G h ρ x S) (hJ : c_J (t_C S) n) (hm : 40 ≤ mc) (hs : 60 ≤ ms)
    (hQ : ∀ h' ρ' r cs, q_X G h' ρ' x (t_lin S cs) → o_line (t_C S) u 0 r cs → Q r h') (hE : ∀ q, o_line (t_C S) u 1 0 [] → X "java/lang/IndexOutOfBoundsException" q h) : wp_X1_line G mc ms h x u Q X := by
  obtain ⟨-, hB, h10, -⟩ := hX.cur
  unfold wp_X1_line
  refine hX.bk <| w_nn_of ⟨1, 6, by omega, by omega, hX.isb <| sp_X2_rule hB.1 hJ.ok (by omega) (by omega) (fun i x1 e1 e2 => ?_) (fun q hno _ => hE q (Or.inl ⟨rfl, hno⟩))⟩
  have hr := (hB.1.rule e2).1
  obtain ⟨fs, ho⟩ := hr.ob
  refine w_nn_of ⟨30, 50, by omega, by omega, w_is_of ho <| sp_X9_told hr (hJ.1.2.2.1 x1 (List.mem_of_getElem? e2)) (by omega) (by omega) (fun h1 s1 v1 hs1 hv1 hs' hso => ?_)⟩
  refine hX.line hs' hs1 hv1 hso (fun h2 ρ2 hX2 => hX2.lnx (fun ls hls => w_nn_of <| w_isS_of hls.st <| sp_J6_length hls.st ?_))
  exact hQ h2 ρ2 _ _ hX2 (Or.inr ⟨i, x1, e1, e2, rfl, rfl, rfl⟩)
theorem sp_X1_factLine {u : Int32} {mc ms n : Nat} {Q : Int32 → HH → Prop} {X : String → Nat → HH → Prop} (hX : q_X G h ρ x S) (hJ : c_J (t_C S) n) (hn : n < 2800) (hm : 40 + 6 * n ≤ mc) (hs : 200 + 100 * n ≤ ms)
    (hQ : ∀ h' ρ' r cs, q_X G h' ρ' x (t_lin S cs) → o_factLine (t_C S) u 0 r cs → Q r h') (hE : ∀ h' q, q_X G h' ρ x S → o_factLine (t_C S) u 1 0 [] → X "java/util/NoSuchElementException" q h') : wp_X1_factLine G mc ms h x u Q X := by
  obtain ⟨-, hB, h10, -⟩ := hX.cur
  unfold wp_X1_factLine
  refine hX.bk <| hX.bk <| w_nn_of ⟨3, 20, by omega, by omega, hX.isb <| sp_X2_fact hB.1 (by omega) (by omega) (fun h' i y hs' hy e => ?_) (fun h' q hs' hno _ => hE h' q (hX.same hs') (Or.inl ⟨rfl, hno⟩))⟩
  have hX' := hX.same hs'
  obtain ⟨-, hB', -, -⟩ := hX'.cur
  have hR := (hJ.1.2.2.2.2.2 y (List.mem_of_getElem? hy)).1
  refine w_nn_of ⟨14 + 6 * n, 150 + 100 * n, by omega, by omega, hX'.isb <| sp_X2_told hB'.1 hJ.ok hJ.fw hJ.2.1 hy (by omega) (by omega) (by omega) (fun h1 s1 v1 hs1 hv1 hs1' hso => ?_)⟩
  refine hX'.line hs1' hs1 hv1 hso (fun h2 ρ2 hX2 => hX2.lnx (fun ls hls => w_nn_of <| w_isS_of hls.st <| sp_J6_length hls.st ?_))
  exact hQ h2 ρ2 _ _ hX2 (Or.inr ⟨i, y, ⟨hy, e⟩, rfl, rfl, rfl⟩)
end TOP2
