set_option maxRecDepth 100000
/-! the top level: what the object of class MatchmakerRules holds -/
/-- a book: owner, its cells, what it says -/
abbrev BK : Type := Nat × Nat × Nat × Nat × Nat × CC
abbrev RW : Type := List Int32 ⊕ List UInt32
/-- the book, the undo steps, the saved one, the rows, the input, the line, the last error's place, the last item, the last refusal; the cells of all others (role 8) -/
abbrev TS : Type := BK × List BK × Option BK × (Option RW × Option RW) × List Nat × List Nat × Option Nat × Option Nat × Option (Int32 × Int32) × HH
def q_Bk (G : GG) (h : HH) (ρ : RO) (B : BK) : Prop := q_B G h ρ B.1 B.2.1 B.2.2.1 B.2.2.2.1 B.2.2.2.2.1 B.2.2.2.2.2 ∧ 10 ≤ B.1
def q_bks (S : TS) : List BK := S.1 :: (S.2.1 ++ S.2.2.1.toList)
def q_t6 (ρ : RO) (a : Nat) : Prop := (ρ a).1 = 1 ∧ 6 ≤ (ρ a).2
def q_row (G : GG) (h : HH) (ρ : RO) (o : Option Nat) (rw : Option RW) : Prop := (o = none ∧ rw = none) ∨ ∃ a, o = some a ∧ q_t6 ρ a ∧ ((∃ l f, rw = some (.inl l) ∧ l.length ≤ 20 ∧ h a = some (.inl (G.2.1 0, l.length, .inl f)) ∧ ∀ i, i < l.length → f i = l.getD i 0) ∨ ∃ l f, rw = some (.inr l) ∧ l.length ≤ 20 ∧ h a = some (.inl (G.2.1 2, l.length, .inr (.inr (.inl f)))) ∧ ∀ i, i < l.length → f i = l.getD i 0)
def q_er (h : HH) (ρ : RO) (o : Option Nat) (p : Option Nat) : Prop := (o = none ∧ p = none) ∨ ∃ a i, o = some a ∧ p = some i ∧ i < 100 ∧ q_t6 ρ a ∧ q_sx h a i
def q_rs (h : HH) (ρ : RO) (o : Option Nat) (p : Option (Int32 × Int32)) : Prop := (o = none ∧ p = none) ∨ ∃ a r, o = some a ∧ p = some r ∧ q_t6 ρ a ∧ q_rf h a r.1 r.2
def q_ln (G : GG) (h : HH) (ρ : RO) (a : Nat) (cs : List Nat) : Prop := (∃ v, q_t6 ρ a ∧ q_t6 ρ v ∧ q_so G h a v cs) ∨ (a = G.2.2 4 ∧ cs = [])
/-- what is not the class's: cells of role 8 -/
def q_P (h : HH) (ρ : RO) (P : HH) : Prop := ∀ a e, P a = some e → h a = some e ∧ (ρ a).1 = 8
def q_X (G : GG) (h : HH) (ρ : RO) (x : Nat) (S : TS) : Prop := ∃ dq arr ra si v N ls er rf fr,
  h x = some (.inr (1, [.ref S.1.2.1, .ref dq, va_rf (S.2.2.1.map (fun B => B.2.1)), .ref ra, .ref si, .ref ls, va_rf er, .int (nO S.2.2.2.2.2.2.2.1), va_rf rf])) ∧
  ρ x = (1, 0) ∧ ρ dq = (1, 1) ∧ ρ arr = (1, 2) ∧ ρ ra = (1, 3) ∧ ρ si = (1, 4) ∧ ρ v = (1, 5) ∧
  q_dq G h dq arr (S.2.1.map (fun B => B.2.1)) ∧
  h ra = some (.inl (G.2.1 6, 2, .inr (.inr (.inr (.inr fr))))) ∧ q_row G h ρ (fr 0) S.2.2.2.1.1 ∧ q_row G h ρ (fr 1) S.2.2.2.1.2 ∧
  q_sb G h si v N S.2.2.2.2.1 ∧ S.2.2.2.2.1.length ≤ 60 ∧ N ≤ 140 ∧
  q_ln G h ρ ls S.2.2.2.2.2.1 ∧ q_er h ρ er S.2.2.2.2.2.2.1 ∧ q_rs h ρ rf S.2.2.2.2.2.2.2.2.1 ∧
  (∀ n, S.2.2.2.2.2.2.2.1 = some n → n < 100) ∧
  (∀ B ∈ q_bks S, q_Bk G h ρ B) ∧ q_P h ρ S.2.2.2.2.2.2.2.2.2 ∧ ∀ B ∈ q_bks S, ∀ B' ∈ q_bks S, B.1 = B'.1 → B = B'
section TOP
variable {G : GG} {h h' : HH} {ρ ρ' : RO} {x : Nat} {S : TS}
/-- all but the cells of role R keep: what the top level holds keeps -/
theorem q_row.kp {o : Option Nat} {rw : Option RW} {W : Nat → Prop} (q : q_row G h ρ o rw) (he : q_ex h ρ ρ') (hs : q_sp W h h') (hW : ∀ c, q_t6 ρ c → ¬ W c) : q_row G h' ρ' o rw := by
  rcases q with q | ⟨a, e, r, q⟩
  · exact Or.inl q
  · rcases q with ⟨l, f, e1, e2, e3, e4⟩ | ⟨l, f, e1, e2, e3, e4⟩
    · exact Or.inr ⟨a, e, by unfold q_t6; rw [he _ _ e3]; exact r, Or.inl ⟨l, f, e1, e2, hs _ _ e3 (hW a r), e4⟩⟩
    · exact Or.inr ⟨a, e, by unfold q_t6; rw [he _ _ e3]; exact r, Or.inr ⟨l, f, e1, e2, hs _ _ e3 (hW a r), e4⟩⟩
theorem q_er.kp {o p : Option Nat} {W : Nat → Prop} (q : q_er h ρ o p) (he : q_ex h ρ ρ') (hs : q_sp W h h') (hW : ∀ c, q_t6 ρ c → ¬ W c) : q_er h' ρ' o p := by
  rcases q with q | ⟨a, i, e1, e2, e3, e4, v0, v1, v2, v3, v4, v5, e5⟩
  · exact Or.inl q
  · exact Or.inr ⟨a, i, e1, e2, e3, by unfold q_t6; rw [he _ _ e5]; exact e4, v0, v1, v2, v3, v4, v5, hs _ _ e5 (hW a e4)⟩
theorem q_rs.kp {o : Option Nat} {p : Option (Int32 × Int32)} {W : Nat → Prop} (q : q_rs h ρ o p) (he : q_ex h ρ ρ') (hs : q_sp W h h') (hW : ∀ c, q_t6 ρ c → ¬ W c) : q_rs h' ρ' o p := by
  rcases q with q | ⟨a, i, e1, e2, e4, v0, v1, v2, v3, v4, v5, e5⟩
  · exact Or.inl q
  · exact Or.inr ⟨a, i, e1, e2, by unfold q_t6; rw [he _ _ e5]; exact e4, v0, v1, v2, v3, v4, v5, hs _ _ e5 (hW a e4)⟩
theorem q_ln.kp {a : Nat} {cs : List Nat} {W : Nat → Prop} (q : q_ln G h ρ a cs) (he : q_ex h ρ ρ') (hs : q_sp W h h') (hW : ∀ c, q_t6 ρ c → ¬ W c) : q_ln G h' ρ' a cs := by
  rcases q with ⟨v, e1, e2, ⟨x1, x2, e3⟩, e4, e5, f, e6, e7⟩ | q
  · exact Or.inl ⟨v, by unfold q_t6; rw [he _ _ e3]; exact e1, by unfold q_t6; rw [he _ _ e6]; exact e2, ⟨x1, x2, hs _ _ e3 (hW a e1)⟩, e4, e5, f, hs _ _ e6 (hW v e2), e7⟩
  · exact Or.inr q
theorem q_P.kp {P : HH} {W : Nat → Prop} (q : q_P h ρ P) (he : q_ex h ρ ρ') (hs : q_sp W h h') (hW : ∀ c, (ρ c).1 = 8 → ¬ W c) : q_P h' ρ' P := fun a e ha => ⟨hs _ _ (q a e ha).1 (hW a (q a e ha).2), by rw [he _ _ (q a e ha).1]; exact (q a e ha).2⟩
theorem q_ln.st {a : Nat} {cs : List Nat} (q : q_ln G h ρ a cs) : q_st G h a cs := by
  rcases q with ⟨v, -, -, q⟩ | q
  · exact Or.inl ⟨v, q⟩
  · exact Or.inr q
theorem q_dq.kp {a arr : Nat} {xs : List Nat} {W : Nat → Prop} (q : q_dq G h a arr xs) (hs : q_sp W h h') (h1 : ¬ W a) (h2 : ¬ W arr) : q_dq G h' a arr xs := by
  obtain ⟨d, f, e1, e2, e3, e4, e5⟩ := q
  exact ⟨d, f, e1, e2, hs _ _ e3 h1, hs _ _ e4 h2, e5⟩
/-- a book of another owner keeps -/
theorem q_B.own {k b w p t K : Nat} {C : CC} (hB : q_B G h ρ k b w p t C) (he : q_ex h ρ ρ') (hs : q_sp (fun c => (ρ c).1 = K) h h') (hk : k ≠ K) (hK : K ≠ 0) : q_B G h' ρ' k b w p t C := by
  have ne : ∀ {c : Nat} {r : Nat × Nat}, ρ c = r → r.1 = k → ¬ (ρ c).1 = K := fun h1 h2 h3 => by
    rw [h1, h2] at h3
    exact hk h3
  obtain ⟨⟨e1, e2⟩, ⟨e3, e4⟩, ⟨e5, e6⟩⟩ := hB.2.1.cells
  refine hB.ro (hB.1.kp ⟨he, fun c e hc _ hr => hs c e hc (fun z => ?_)⟩) (hB.2.1.S hs (ne hB.2.2.1 rfl) (ne hB.2.2.2.1 rfl) (ne hB.2.2.2.2 rfl)) he
  rcases hr with hr | hr
  · exact hk (hr.symm.trans z)
  · exact hK (z.symm.trans hr)
/-- what a book's ops (owner K) leave of the top level -/
theorem q_X.fr {K : Nat} (hX : q_X G h ρ x S) (he : q_ex h ρ ρ') (hs : q_sp (fun c => (ρ c).1 = K) h h') (hK : 10 ≤ K) (hB : ∀ B ∈ q_bks S, B.1 = K → q_Bk G h' ρ' B) : q_X G h' ρ' x S := by
  obtain ⟨dq, arr, ra, si, v, N, ls, er, rf, fr, h1, r1, r2, r3, r4, r5, r6, h2, h3, h4, h5, h6, h7, h8, h9, h10, h11, h12, h13, h14⟩ := hX
  have n1 : ∀ {c : Nat} {j : Nat}, ρ c = (1, j) → ¬ (ρ c).1 = K := fun e z => by rw [e] at z; simp only at z; omega
  have n6 : ∀ c, q_t6 ρ c → ¬ (ρ c).1 = K := fun c hc z => by have := hc.1; omega
  obtain ⟨d, f, e1, e2, e3, e4, e5⟩ := id h2
  obtain ⟨⟨ml, s1⟩, s2, s3, s4, fv, s5, s6⟩ := id h6
  refine ⟨dq, arr, ra, si, v, N, ls, er, rf, fr, hs _ _ h1 (n1 r1), by rw [he _ _ h1]; exact r1, by rw [he _ _ e3]; exact r2, by rw [he _ _ e4]; exact r3, by rw [he _ _ h3]; exact r4, by rw [he _ _ s1]; exact r5, by rw [he _ _ s5]; exact r6, h2.kp hs (n1 r2) (n1 r3), hs _ _ h3 (n1 r4), h4.kp he hs n6, h5.kp he hs n6, h6.sp hs (n1 r5) (n1 r6), h7, h8, h9.kp he hs n6, h10.kp he hs n6, h11.kp he hs n6, h12, fun B hBm => ?_, h14.1.kp he hs (fun c z z2 => by omega), h14.2⟩
  by_cases z : B.1 = K
  · exact hB B hBm z
  · exact ⟨(h13 B hBm).1.own he hs z (by omega), (h13 B hBm).2⟩
theorem q_X.no (hX : q_X G h ρ x S) (he : q_ex h ρ ρ') (hs : q_sp q_no h h') : q_X G h' ρ' x S := by
  obtain ⟨dq, arr, ra, si, v, N, ls, er, rf, fr, h1, r1, r2, r3, r4, r5, r6, h2, h3, h4, h5, h6, h7, h8, h9, h10, h11, h12, h13, h14⟩ := hX
  have n6 : ∀ c, q_t6 ρ c → ¬ q_no c := fun c hc => q_no.not
  obtain ⟨d, f, e1, e2, e3, e4, e5⟩ := id h2
  obtain ⟨⟨ml, s1⟩, s2, s3, s4, fv, s5, s6⟩ := id h6
  exact ⟨dq, arr, ra, si, v, N, ls, er, rf, fr, hs _ _ h1 q_no.not, by rw [he _ _ h1]; exact r1, by rw [he _ _ e3]; exact r2, by rw [he _ _ e4]; exact r3, by rw [he _ _ h3]; exact r4, by rw [he _ _ s1]; exact r5, by rw [he _ _ s5]; exact r6, h2.kp hs q_no.not q_no.not, hs _ _ h3 q_no.not, h4.kp he hs n6, h5.kp he hs n6, h6.sp hs q_no.not q_no.not, h7, h8, h9.kp he hs n6, h10.kp he hs n6, h11.kp he hs n6, h12, fun B hBm => ⟨(h13 B hBm).1.base hs he, (h13 B hBm).2⟩, h14.1.kp he hs (fun c z => q_no.not), h14.2⟩
/-- the roles made anew -/
theorem q_B.re {k b w p t : Nat} {C : CC} (hB : q_B G h ρ k b w p t C) (hr : ∀ c, ((ρ c).1 = k ∨ (ρ c).1 = 0) → ρ' c = ρ c) : q_B G h ρ' k b w p t C := by
  have rk : ∀ {c : Nat} {j : Nat}, ρ c = (k, j) → ρ' c = (k, j) := fun {c j} e => by rw [hr c (Or.inl (by rw [e]))]; exact e
  have r0 : ∀ {c : Nat}, ρ c = (0, 0) → ρ' c = (0, 0) := fun {c} e => by rw [hr c (Or.inr (by rw [e]))]; exact e
  have ls : ∀ {j a xs}, q_ls G h ρ (k, j) a xs → q_ls G h ρ' (k, j) a xs := by
    intro j a xs ⟨e1, e2, mc, arr, e3, e4⟩
    refine ⟨rk e1, e2, mc, arr, e3, ?_⟩
    rcases e4 with e4 | ⟨e4, e5⟩
    · exact Or.inl e4
    · exact Or.inr ⟨rk e4, e5⟩
  have pt : ∀ {a k0 t0 t1}, q_pt G h ρ a k0 t0 t1 → q_pt G h ρ' a k0 t0 t1 := by
    intro a k0 t0 t1 ⟨b1, b2, b, f, b3, b4⟩
    exact ⟨r0 b1, b2, b, f, r0 b3, b4⟩
  have rl : ∀ {a r}, q_rl G h ρ a r → q_rl G h ρ' a r := by
    intro a r ⟨b1, b2, b3, p1, p2, p3, b4, b5, b6, b7, b8⟩
    refine ⟨r0 b1, b2, b3, p1, p2, p3, b4, pt b5, b6, fun z => ?_, pt b8⟩
    obtain ⟨p, c1, c2⟩ := b7 z
    exact ⟨p, c1, pt c2⟩
  have fl : ∀ {j a fis}, q_fl G h ρ (k, j) a fis → q_fl G h ρ' (k, j) a fis := by
    intro j a fis ⟨xs, e1, e2, e3⟩
    exact ⟨xs, ls e1, e2, fun i x1 fi hx hf => ⟨r0 (e3 i x1 fi hx hf).1, (e3 i x1 fi hx hf).2⟩⟩
  obtain ⟨⟨e1, lr, lf, e2, e3, e4, e5, e6⟩, hw, e7, e8, e9⟩ := hB
  refine ⟨⟨rk e1, lr, lf, e2, ls e3, fun y hy => rl (e4 y hy), ls e5, fun y hy => ?_⟩, hw, rk e7, rk e8, rk e9⟩
  obtain ⟨c1, l1, l2, c2, c3, c4⟩ := e6 y hy
  exact ⟨rk c1, l1, l2, c2, fl c3, fl c4⟩
theorem q_X.re (hX : q_X G h ρ x S) (hr : ∀ c, ((ρ c).1 = 0 ∨ (ρ c).1 = 1 ∨ (∃ B ∈ q_bks S, (ρ c).1 = B.1) ∨ (ρ c).1 = 8) → ρ' c = ρ c) : q_X G h ρ' x S := by
  obtain ⟨dq, arr, ra, si, v, N, ls, er, rf, fr, h1, r1, r2, r3, r4, r5, r6, h2, h3, h4, h5, h6, h7, h8, h9, h10, h11, h12, h13, h14⟩ := hX
  have k1 : ∀ {c j}, ρ c = (1, j) → ρ' c = (1, j) := fun {c j} e => by rw [hr c (Or.inr (Or.inl (by rw [e])))]; exact e
  have k6 : ∀ {c}, q_t6 ρ c → q_t6 ρ' c := fun {c} e => by unfold q_t6; rw [hr c (Or.inr (Or.inl e.1))]; exact e
  have row : ∀ {o rw}, q_row G h ρ o rw → q_row G h ρ' o rw := by
    intro o rw q
    rcases q with q | ⟨a, e, r, q⟩
    · exact Or.inl q
    · exact Or.inr ⟨a, e, k6 r, q⟩
  refine ⟨dq, arr, ra, si, v, N, ls, er, rf, fr, h1, k1 r1, k1 r2, k1 r3, k1 r4, k1 r5, k1 r6, h2, h3, row h4, row h5, h6, h7, h8, ?_, ?_, ?_, h12, fun B hB => ⟨(h13 B hB).1.re (fun c hc => hr c ?_), (h13 B hB).2⟩, fun a e ha => ⟨(h14.1 a e ha).1, by rw [hr a (Or.inr (Or.inr (Or.inr (h14.1 a e ha).2)))]; exact (h14.1 a e ha).2⟩, h14.2⟩
  · rcases h9 with ⟨v, e1, e2, e3⟩ | q
    · exact Or.inl ⟨v, k6 e1, k6 e2, e3⟩
    · exact Or.inr q
  · rcases h10 with q | ⟨a, i, e1, e2, e3, e4, e5⟩
    · exact Or.inl q
    · exact Or.inr ⟨a, i, e1, e2, e3, k6 e4, e5⟩
  · rcases h11 with q | ⟨a, i, e1, e2, e4, e5⟩
    · exact Or.inl q
    · exact Or.inr ⟨a, i, e1, e2, k6 e4, e5⟩
  · rcases hc with hc | hc
    · exact Or.inr (Or.inr (Or.inl ⟨B, hB, hc⟩))
    · exact Or.inl hc
theorem q_bnd_all (L : List BK) : ∃ M, 10 ≤ M ∧ ∀ B ∈ L, B.1 < M := by
  induction L with
  | nil => exact ⟨10, Nat.le_refl _, fun B hB => by cases hB⟩
  | cons B L ih =>
    obtain ⟨M, h1, h2⟩ := ih
    refine ⟨M + B.1 + 1, by omega, fun B' hB' => ?_⟩
    rcases List.mem_cons.mp hB' with rfl | q
    · omega
    · have := h2 B' q
      omega
/-- a fresh owner, and no cell of owner 2 -/
theorem q_X.fresh (hX : q_X G h ρ x S) : ∃ ρ' M, q_X G h ρ' x S ∧ 10 ≤ M ∧ (∀ B ∈ q_bks S, B.1 ≠ M) ∧ (∀ c, (ρ' c).1 ≠ M) ∧ ∀ c, (ρ' c).1 ≠ 2 := by
  obtain ⟨M, h1, h2⟩ := q_bnd_all (q_bks S)
  have h10 : ∀ B ∈ q_bks S, 10 ≤ B.1 := by
    obtain ⟨dq, arr, ra, si, v, N, ls, er, rf, fr, -, -, -, -, -, -, -, -, -, -, -, -, -, -, -, -, -, -, h13, -⟩ := hX
    exact fun B hB => (h13 B hB).2
  refine ⟨fun c => if (ρ c).1 < M ∧ (ρ c).1 ≠ 2 then ρ c else (9, 9), M, hX.re (fun c hc => ?_), h1, fun B hB => by have := h2 B hB; omega, fun c => ?_, fun c => ?_⟩
  · rw [if_pos]
    rcases hc with hc | hc | ⟨B, hB, hc⟩ | hc
    · omega
    · omega
    · have := h2 B hB
      have := h10 B hB
      omega
    · omega
  · dsimp only
    split
    · omega
    · simp only; omega
  · dsimp only
    split
    · omega
    · simp only; omega
end TOP
