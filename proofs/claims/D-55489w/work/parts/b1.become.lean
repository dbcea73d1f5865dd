set_option maxRecDepth 100000
section BEC
variable {G : GG} {h h' : HH} {ρ ρ' : RO} {x : Nat} {S S' : TS} {dq arr ra si v N ls : Nat} {er rf : Option Nat} {fr : Nat → Option Nat}
theorem q_Xr.bus2 {B : BK} {und : List BK} {sav : Option BK} (hr : q_Xr G h ρ S dq arr ra si v N ls er rf fr) (hh : ∀ c, c ≠ dq → c ≠ arr → h' c = h c) (hd : q_dq G h' dq arr (und.map (fun B => B.2.1))) (hBk : q_Bk G h ρ B) (hBn : ∀ B2 ∈ q_bks S, B2.1 ≠ B.1) (hB : ∀ B' ∈ q_bks (t_bus S B und sav), B' ∈ q_bks S ∨ B' = B) : q_Xr G h' ρ (t_bus S B und sav) dq arr ra si v N ls er rf fr := by
  have h0 := hr.bus (B := S.1) (und := []) (sav := none) (h' := h') hh
  obtain ⟨⟨r2, r3, h2⟩, ⟨r4, h3, h4, h5⟩, ⟨r5, r6, h6, h7, h8⟩, h9, h10, h11, h12, h13, h14⟩ := hr
  have hs : q_sp (fun c => c = dq ∨ c = arr) h h' := fun c e hc hn => by rw [hh c (fun z => hn (Or.inl z)) (fun z => hn (Or.inr z))]; exact hc
  have n1 : ∀ {c : Nat} {j : Nat}, ρ c = (1, j) → j ≠ 1 → j ≠ 2 → ¬ (c = dq ∨ c = arr) := fun e a b z => by
    rcases z with z | z
    · rw [z, r2] at e
      exact a (congrArg Prod.snd e).symm
    · rw [z, r3] at e
      exact b (congrArg Prod.snd e).symm
  have n6 : ∀ c, q_t6 ρ c → ¬ (c = dq ∨ c = arr) := fun c hc z => by
    have := hc.2
    rcases z with z | z
    · rw [z, r2] at this
      simp only at this
      omega
    · rw [z, r3] at this
      simp only at this
      omega
  have n8 : ∀ c, (ρ c).1 = 8 → ¬ (c = dq ∨ c = arr) := fun c hc z => by
    rcases z with z | z
    · rw [z, r2] at hc
      cases hc
    · rw [z, r3] at hc
      cases hc
  have he : q_ex h ρ ρ := fun _ _ _ => rfl
  refine ⟨⟨r2, r3, hd⟩, ⟨r4, hs _ _ h3 (n1 r4 (by decide) (by decide)), h4.kp he hs n6, h5.kp he hs n6⟩, ⟨r5, r6, h6.sp hs (n1 r5 (by decide) (by decide)) (n1 r6 (by decide) (by decide)), h7, h8⟩, h9.kp he hs n6, h10.kp he hs n6, h11.kp he hs n6, h12, fun B' hB' => ?_, h14.1.kp he hs n8, fun B1 hB1 B2 hB2 e => ?_⟩
  · have : q_Bk G h ρ B' := by
      rcases hB B' hB' with z | z
      · exact h13 B' z
      · rw [z]; exact hBk
    refine ⟨this.1.own (K := 1) he (hs.mono (fun c hc => ?_)) (by have := this.2; omega) (by decide), this.2⟩
    rcases hc with rfl | rfl
    · show (ρ c).1 = 1
      rw [r2]
    · show (ρ c).1 = 1
      rw [r3]
  · rcases hB B1 hB1 with z | z
    · rcases hB B2 hB2 with z2 | z2
      · exact h14.2 B1 z B2 z2 e
      · exact absurd (e.trans (by rw [z2])) (hBn B1 z)
    · rcases hB B2 hB2 with z2 | z2
      · exact absurd (e.symm.trans (by rw [z])) (hBn B2 z2)
      · rw [z, z2]
def o_clear (S : TS) (B : BK) : TS := t_bus S B [] S.2.2.1
def c_0 : CC := ([], [], fun _ => 0)
theorem sp_X1_clear {mc ms : Nat} {Q : Int32 → HH → Prop} (hX : q_X G h ρ x S) (hm : 7 ≤ mc) (hs : 30 ≤ ms)
    (hQ : ∀ h' ρ' B, t_CB B = c_0 → q_X G h' ρ' x (o_clear S B) → Q (nI (t_C S).2.1.length) h') : wp_X1_clear G mc ms h x Q := by
  obtain ⟨ρ1, M, hX1, h10, hM, hM2, -⟩ := hX.fresh
  obtain ⟨dq, arr, ra, si, v, N, ls, er, rf, fr, hx, r1, hr⟩ := hX1.op
  unfold wp_X1_clear
  obtain ⟨lr, lf, g1, g3, g2, ⟨fs3, g5⟩, ⟨fs4, g4⟩⟩ := (hr.2.2.2.2.2.2.2.1 S.1 (List.mem_cons_self ..)).1.1.len
  refine w_geta_of hx rfl <| w_nn_of <| w_geta_of g1 rfl <| w_nn_of <| w_is_of g4 <| sp_J2_size g2 ?_
  rw [List.length_map]
  refine ⟨by omega, by omega, fun b hb => ⟨5, 20, by omega, by omega, sp_X2_init q_h_same (by omega) (by omega) (fun h2 w p t lr' lf' hw hp ht hlr hlf npt nlf hh e1 e2 e3 e4 e5 e6 => ?_)⟩⟩
  have nb : ∀ {c}, va_up h b (some (.inr (2, df_X2))) c = none → h c = none := fun {c} hc => by
    by_cases z : c = b
    · rw [z]; exact hb
    · rw [q_h_ne z] at hc; exact hc
  obtain ⟨ρ2, he, hs2, hB2, -⟩ := q_B_new (k' := M) (ρ := ρ1) (fun c e hc => hM2 c) hb (nb hw) (nb hp) (nb ht) (nb hlr) (nb hlf) npt nlf (fun c c1 c2 c3 c4 c5 c6 => by rw [hh c c1 c2 c3 c4 c5 c6, q_h_ne c1]) e1 e2 e3 e4 e5 e6
  have hr2 := hr.no he hs2
  have hx2 := hs2 x _ hx q_no.not
  have r2 : ρ2 x = (1, 0) := by rw [he _ _ hx]; exact r1
  have hr3 := hr2.xx (h' := va_up h2 x (some (.inr (1, (q_xf S dq ra si ls er rf).set 0 (.ref b))))) r2 (fun c hc => q_h_ne hc)
  have hB3 : q_B G (va_up h2 x (some (.inr (1, (q_xf S dq ra si ls er rf).set 0 (.ref b))))) ρ2 M b w p t c_0 := hB2.own (K := 1) (fun _ _ _ => rfl) (fun c e hc hn => by rw [q_h_ne (fun z => hn (by show (ρ2 c).1 = 1; rw [z, r2]))]; exact hc) (by omega) (by decide)
  obtain ⟨d1, f1, -, -, hdo1, -⟩ := id hr3.1.2.2
  refine w_put_of hx2 (Nat.le_of_ble_eq_true rfl) rfl <| w_geta_of q_h_same rfl <| w_nn_of <| w_is_of hdo1 <| sp_J3_clear hr3.1.2.2 (fun h4 hh4 hd4 => ?_)
  have hxd : x ≠ dq ∧ x ≠ arr := ⟨q_ro_ne r2 hr2.1.1 (by decide), q_ro_ne r2 hr2.1.2.1 (by decide)⟩
  have hr4 := hr3.bus2 (B := (M, b, w, p, t, c_0)) (und := []) (sav := S.2.2.1) hh4 hd4 ⟨hB3, h10⟩ hM (fun B' hB' => by
    simp only [q_bks, t_bus, List.nil_append, List.mem_cons] at hB'
    rcases hB' with z | z
    · exact Or.inr z
    · unfold q_bks; simp [z])
  exact hQ h4 ρ2 (M, b, w, p, t, c_0) rfl (hr4.cl ((hh4 x hxd.1 hxd.2).trans q_h_same) r2)
/-- the new book becomes the current one -/
def t_und (und : List BK) (B : BK) : List BK := (if und.length = 8 then und.tail else und) ++ [B]
theorem sp_X1_become {B : BK} {mc ms : Nat} {Q : HH → Prop} (hX : q_X G h ρ x S) (hBk : q_Bk G h ρ B) (hBn : ∀ B2 ∈ q_bks S, B2.1 ≠ B.1)
    (hQ : ∀ h', q_X G h' ρ x (t_bus S B (t_und S.2.1 S.1) S.2.2.1) → Q h') : wp_X1_become G mc ms h x (some B.2.1) Q := by
  obtain ⟨dq, arr, ra, si, v, N, ls, er, rf, fr, hx, r1, hr⟩ := hX.op
  have hdq := hr.1.2.2
  obtain ⟨d, f, -, d8, hdo, -⟩ := id hdq
  rw [List.length_map] at d8
  have hxd : x ≠ dq ∧ x ≠ arr := ⟨q_ro_ne r1 hr.1.1 (by decide), q_ro_ne r1 hr.1.2.1 (by decide)⟩
  have fin : ∀ {h1 : HH} {und : List BK}, (∀ c, c ≠ dq → c ≠ arr → h1 c = h c) → q_dq G h1 dq arr (und.map (fun B => B.2.1)) → und.length < 8 → (∀ B' ∈ und, B' ∈ S.2.1) → t_und S.2.1 S.1 = und ++ [S.1] → wp_X1_become_L23 G mc ms x Q h1 0 0 (some B.2.1) := by
    intro h1 und hh hd hl hsub heq
    have hx1 := (hh x hxd.1 hxd.2).trans hx
    have hr1 := hr.bus (B := S.1) (und := und) (sav := S.2.2.1) hh hd (fun B' hB' => by
      simp only [q_bks, t_bus, List.mem_cons, List.mem_append] at hB' ⊢
      rcases hB' with z | z | z
      · exact Or.inl z
      · exact Or.inr (Or.inl (hsub _ z))
      · exact Or.inr (Or.inr z))
    obtain ⟨d1, f1, -, -, hdo1, -⟩ := id hd
    obtain ⟨lr, lf, g1, -⟩ := (hr1.2.2.2.2.2.2.2.1 S.1 (List.mem_cons_self ..)).1.1.len
    unfold wp_X1_become_L23
    refine w_geta_of hx1 rfl <| w_geta_of hx1 rfl <| w_nn_of ⟨0, 0, by omega, by omega, w_is_of hdo1 <| sp_J3_addLast hd ⟨_, g1, Or.inl ⟨2, _, by decide, rfl⟩⟩ (by rw [List.length_map]; exact hl) (fun h2 hh2 hd2 => ?_)⟩
    have hx2 := (hh2 x hxd.1 hxd.2).trans hx1
    refine w_put_of hx2 (Nat.le_of_ble_eq_true rfl) rfl ?_
    have hh02 : ∀ c, c ≠ dq → c ≠ arr → h2 c = h c := fun c c1 c2 => (hh2 c c1 c2).trans (hh c c1 c2)
    have hd2' : q_dq G h2 dq arr ((t_und S.2.1 S.1).map (fun B => B.2.1)) := by
      rw [heq, List.map_append]
      exact hd2
    have hr2 := hr.bus2 (B := B) (und := t_und S.2.1 S.1) (sav := S.2.2.1) hh02 hd2' hBk hBn (fun B' hB' => by
      simp only [q_bks, t_bus, heq, List.mem_cons, List.mem_append, List.not_mem_nil, or_false] at hB' ⊢
      rcases hB' with z | (z | z) | z
      · exact Or.inr z
      · exact Or.inl (Or.inr (Or.inl (hsub _ z)))
      · exact Or.inl (Or.inl z)
      · exact Or.inl (Or.inr (Or.inr z)))
    have hr3 := hr2.xx (h' := va_up h2 x (some (.inr (1, (q_xf S dq ra si ls er rf).set 0 (va_rf (some B.2.1)))))) r1 (fun c hc => q_h_ne hc)
    exact hQ _ (hr3.cl q_h_same r1)
  unfold wp_X1_become
  refine w_geta_of hx rfl <| w_nn_of <| w_is_of hdo <| sp_J3_size hdq ?_
  rw [List.length_map]
  refine ⟨fun z => ?_, fun z => ?_⟩
  · have hne : S.2.1.length ≠ 8 := fun q => z (by rw [q]; rfl)
    exact fin (und := S.2.1) (fun c _ _ => rfl) hdq (by omega) (fun _ h => h) (by unfold t_und; rw [if_neg hne])
  · have heq : S.2.1.length = 8 := (nI_eq (a := S.2.1.length) (b := 8) (by omega) (by decide)).mp z
    cases e : S.2.1 with
    | nil => rw [e] at heq; cases heq
    | cons B0 und =>
      rw [e] at heq hdq
      refine w_geta_of hx rfl <| w_nn_of <| w_is_of hdo <| sp_J3_removeFirst (x := B0.2.1) (xs := und.map (fun B => B.2.1)) hdq (fun h1 hh hd1 => ?_)
      have hb0 := (hr.2.2.2.2.2.2.2.1 B0 (by unfold q_bks; rw [e]; simp)).1.own (K := 1) (h' := h1) (fun _ _ _ => rfl) (fun c e' hc hn => by
        rw [hh c (fun z => hn (by show (ρ c).1 = 1; rw [z, hr.1.1])) (fun z => hn (by show (ρ c).1 = 1; rw [z, hr.1.2.1]))]; exact hc) (by have := (hr.2.2.2.2.2.2.2.1 B0 (by unfold q_bks; rw [e]; simp)).2; omega) (by decide)
      obtain ⟨lr, lf, g1, -⟩ := hb0.1.len
      refine w_nn_of <| w_cast_of g1 <| fin (und := und) hh hd1 (by simp only [List.length_cons] at heq; omega) (fun B' hB' => by rw [e]; exact List.mem_cons_of_mem _ hB') ?_
      unfold t_und
      rw [e, if_pos heq]
      rfl
end BEC
