set_option maxRecDepth 100000
/-! a book with its walk; facts without ground go -/
def q_rk (k : Nat) : Nat × Nat → Prop := fun r => r.1 = k
def q_B (G : GG) (h : HH) (ρ : RO) (k b w p t : Nat) (C : CC) : Prop := q_bk G h ρ k b w C ∧ q_wv G h b w p t ∧ ρ w = (k, 1) ∧ ρ p = (k, 2) ∧ ρ t = (k, 3)
def c_has (n : Nat) (fi : FI) : Bool := fi.2.1 == n || fi.2.2 == some n
def c_by (a : Nat) (fi : FI) : Bool := fi.1 == a
def c_clean (T : FI → Bool) (y : CF) : CF := (y.1, y.2.1, y.2.2.1.filter (fun fi => !T fi), y.2.2.2.filter (fun fi => !T fi))
section BB
variable {G : GG} {h h' : HH} {ρ ρ' : RO} {k b w p t : Nat} {C : CC}
theorem q_wv.cells (hw : q_wv G h b w p t) : (∃ e, h w = some e) ∧ (∃ e, h p = some e) ∧ ∃ e, h t = some e := by
  obtain ⟨r, pl, ot, f, s, g, e1, ⟨f1, e2, e3⟩, ⟨f2, e4⟩, e5⟩ := hw
  exact ⟨⟨_, e1⟩, ⟨_, e2⟩, ⟨_, e4⟩⟩
theorem q_wv.S {S : Nat → Prop} (hw : q_wv G h b w p t) (hs : q_sp S h h') (h1 : ¬ S w) (h2 : ¬ S p) (h3 : ¬ S t) : q_wv G h' b w p t := by
  obtain ⟨r, pl, ot, f, s, g, e1, ⟨f1, e2, e3⟩, ⟨f2, e4⟩, e5⟩ := hw
  exact ⟨r, pl, ot, f, s, g, hs _ _ e1 h1, ⟨f1, hs _ _ e2 h2, e3⟩, ⟨f2, hs _ _ e4 h3⟩, e5⟩
theorem q_B.ro (hB : q_B G h ρ k b w p t C) (hk : q_bk G h' ρ' k b w C) (hw : q_wv G h' b w p t) (he : q_ex h ρ ρ') : q_B G h' ρ' k b w p t C := by
  obtain ⟨⟨e1, e2⟩, ⟨e3, e4⟩, ⟨e5, e6⟩⟩ := hB.2.1.cells
  exact ⟨hk, hw, by rw [he _ _ e2]; exact hB.2.2.1, by rw [he _ _ e4]; exact hB.2.2.2.1, by rw [he _ _ e6]; exact hB.2.2.2.2⟩
/-- a new cell, with a role -/
theorem q_B.nw {q : Nat} {r : Nat × Nat} (hB : q_B G h ρ k b w p t C) (hq : h q = none) (hh : ∀ c, c ≠ q → h' c = h c) : q_B G h' (q_up ρ q r) k b w p t C := by
  have he : q_ex h ρ (q_up ρ q r) := fun c e hc => q_up_ne (q_new_ne hq hc)
  have hs : ∀ {S}, q_sp S h h' := q_sp.nw hq hh
  exact hB.ro (hB.1.kp ⟨he, fun c e hc _ _ => hs (S := q_no) c e hc q_no.not⟩) (hB.2.1.S (S := q_no) hs q_no.not q_no.not q_no.not) he
theorem q_B.nwv {q : Nat} {e : Option va_E} {r : Nat × Nat} (hB : q_B G h ρ k b w p t C) (hq : h q = none) : q_B G (va_up h q e) (q_up ρ q r) k b w p t C := hB.nw hq (fun c hc => q_h_ne hc)
theorem q_B.sp (hB : q_B G h ρ k b w p t C) (hs : q_sp (q_S w p t) h h') (hw : q_wv G h' b w p t) : q_B G h' ρ k b w p t C := hB.ro (hB.1.kp (hB.2.1.kp hs)) hw (fun _ _ _ => rfl)
theorem q_B.no (hB : q_B G h ρ k b w p t C) (hs : q_sp q_no h h') : q_B G h' ρ k b w p t C := hB.ro (hB.1.kp (q_no_kp hs)) (hB.2.1.st hs) (fun _ _ _ => rfl)
theorem q_ex_up {q : Nat} {r : Nat × Nat} (hq : h q = none) : q_ex h ρ (q_up ρ q r) := fun c e hc => q_up_ne (q_new_ne hq hc)
/-- one list of a fact is made shorter -/
theorem q_B.clean1 {i : Nat} {y : CF} {lr lf : Nat} {fis : List FI} (hB : q_B G h ρ k b w p t C) (hk : k ≠ 0) (hok : c_ok C) (hy : C.2.1[i]? = some y) (hc : h y.1 = some (.inr (14, q_fv y.2.1 lr lf)))
    (hs : q_sp (fun c => ρ c = (k, 8 + 5 * y.2.1 0 + 3) ∨ ρ c = (k, 8 + 5 * y.2.1 0 + 3 + 1)) h h') (hl : q_fl G h' ρ (k, 8 + 5 * y.2.1 0 + 3) lf fis) : q_B G h' ρ k b w p t (C.1, C.2.1.set i (y.1, y.2.1, y.2.2.1, fis), C.2.2) := by
  have hkR : q_kR G (fun r => r ≠ (k, 8 + 5 * y.2.1 0 + 3) ∧ r ≠ (k, 8 + 5 * y.2.1 0 + 3 + 1)) h ρ h' ρ := ⟨fun _ _ _ => rfl, fun c e hc _ hr => hs c e hc (fun z => z.elim hr.1 hr.2)⟩
  have hne : ∀ j, j < 8 + 5 * y.2.1 0 + 3 → ((k, j) : Nat × Nat) ≠ (k, 8 + 5 * y.2.1 0 + 3) ∧ ((k, j) : Nat × Nat) ≠ (k, 8 + 5 * y.2.1 0 + 3 + 1) := fun j hj => ⟨fun z => by have := congrArg Prod.snd z; simp only at this; omega, fun z => by have := congrArg Prod.snd z; simp only at this; omega⟩
  have h00 : ((0, 0) : Nat × Nat) ≠ (k, 8 + 5 * y.2.1 0 + 3) ∧ ((0, 0) : Nat × Nat) ≠ (k, 8 + 5 * y.2.1 0 + 3 + 1) := ⟨fun z => hk (congrArg Prod.fst z).symm, fun z => hk (congrArg Prod.fst z).symm⟩
  obtain ⟨e1, lr1, lf1, e2, e3, e4⟩ := (hB.1.fact hy).1
  rw [hc] at e2
  cases e2
  have hy' : q_ft G h' ρ k (y.1, y.2.1, y.2.2.1, fis) := ⟨e1, lr, lf, hs _ _ hc (fun z => by change ρ y.1 = _ ∨ ρ y.1 = _ at z; rw [e1] at z; exact z.elim (hne _ (by omega)).1 (hne _ (by omega)).2), e3.kR hkR h00 (hne _ (by omega)) (hne _ (by omega)), hl⟩
  refine ⟨hB.1.set hok hy (hkR.mono (fun r hr => ?_)) hy' rfl, hB.2.1.S hs (fun z => ?_) (fun z => ?_) (fun z => ?_), hB.2.2⟩
  · rcases hr with hr | ⟨hr1, hr2⟩
    · exact ⟨fun z => hk (by rw [z] at hr; exact hr), fun z => hk (by rw [z] at hr; exact hr)⟩
    · refine ⟨fun z => hr2 ?_, fun z => hr2 ?_⟩ <;> rw [z] <;> simp only <;> omega
  · rw [hB.2.2.1] at z
    exact z.elim (hne 1 (by omega)).1 (hne 1 (by omega)).2
  · rw [hB.2.2.2.1] at z
    exact z.elim (hne 2 (by omega)).1 (hne 2 (by omega)).2
  · rw [hB.2.2.2.2] at z
    exact z.elim (hne 3 (by omega)).1 (hne 3 (by omega)).2
theorem q_B.clean2 {i : Nat} {y : CF} {lr lf : Nat} {fis : List FI} (hB : q_B G h ρ k b w p t C) (hk : k ≠ 0) (hok : c_ok C) (hy : C.2.1[i]? = some y) (hc : h y.1 = some (.inr (14, q_fv y.2.1 lr lf)))
    (hs : q_sp (fun c => ρ c = (k, 8 + 5 * y.2.1 0 + 1) ∨ ρ c = (k, 8 + 5 * y.2.1 0 + 1 + 1)) h h') (hl : q_fl G h' ρ (k, 8 + 5 * y.2.1 0 + 1) lr fis) : q_B G h' ρ k b w p t (C.1, C.2.1.set i (y.1, y.2.1, fis, y.2.2.2), C.2.2) := by
  have hkR : q_kR G (fun r => r ≠ (k, 8 + 5 * y.2.1 0 + 1) ∧ r ≠ (k, 8 + 5 * y.2.1 0 + 1 + 1)) h ρ h' ρ := ⟨fun _ _ _ => rfl, fun c e hc _ hr => hs c e hc (fun z => z.elim hr.1 hr.2)⟩
  have hne : ∀ j, (j < 8 + 5 * y.2.1 0 + 1 ∨ 8 + 5 * y.2.1 0 + 2 < j) → ((k, j) : Nat × Nat) ≠ (k, 8 + 5 * y.2.1 0 + 1) ∧ ((k, j) : Nat × Nat) ≠ (k, 8 + 5 * y.2.1 0 + 1 + 1) := fun j hj => ⟨fun z => by have := congrArg Prod.snd z; simp only at this; omega, fun z => by have := congrArg Prod.snd z; simp only at this; omega⟩
  have h00 : ((0, 0) : Nat × Nat) ≠ (k, 8 + 5 * y.2.1 0 + 1) ∧ ((0, 0) : Nat × Nat) ≠ (k, 8 + 5 * y.2.1 0 + 1 + 1) := ⟨fun z => hk (congrArg Prod.fst z).symm, fun z => hk (congrArg Prod.fst z).symm⟩
  obtain ⟨e1, lr1, lf1, e2, e3, e4⟩ := (hB.1.fact hy).1
  rw [hc] at e2
  cases e2
  have hy' : q_ft G h' ρ k (y.1, y.2.1, fis, y.2.2.2) := ⟨e1, lr, lf, hs _ _ hc (fun z => by change ρ y.1 = _ ∨ ρ y.1 = _ at z; rw [e1] at z; exact z.elim (hne _ (by omega)).1 (hne _ (by omega)).2), hl, e4.kR hkR h00 (hne _ (by omega)) (hne _ (by omega))⟩
  refine ⟨hB.1.set hok hy (hkR.mono (fun r hr => ?_)) hy' rfl, hB.2.1.S hs (fun z => ?_) (fun z => ?_) (fun z => ?_), hB.2.2⟩
  · rcases hr with hr | ⟨hr1, hr2⟩
    · exact ⟨fun z => hk (by rw [z] at hr; exact hr), fun z => hk (by rw [z] at hr; exact hr)⟩
    · refine ⟨fun z => hr2 ?_, fun z => hr2 ?_⟩ <;> rw [z] <;> simp only <;> omega
  · rw [hB.2.2.1] at z
    exact z.elim (hne 1 (by omega)).1 (hne 1 (by omega)).2
  · rw [hB.2.2.2.1] at z
    exact z.elim (hne 2 (by omega)).1 (hne 2 (by omega)).2
  · rw [hB.2.2.2.2] at z
    exact z.elim (hne 3 (by omega)).1 (hne 3 (by omega)).2
/-- the tests of the removals -/
theorem q_test_has {ta n x1 : Nat} {fi : FI} {P : Int32 → HH → Prop} (hta : h ta = some (.inl (G.2.1 13, 1, .inl (fun _ => nI n))) ∨ h ta = some (.inl (G.2.1 14, 1, .inl (fun _ => nI n)))) (hn : n < 2 ^ 31) (hf : h x1 = some (.inr (16, [.ref fi.1, .int (nI fi.2.1), .int (nO fi.2.2)]))) (hb1 : fi.2.1 < 2 ^ 31) (hb2 : q_bd fi.2.2) (hP : P (if c_has n fi then 1 else 0) h) : w_test G h ta (some x1) P := by
  have key : ∀ P' : Int32 → HH → Prop, P' (if c_has n fi then 1 else 0) h → wp_X12_has G h x1 (nI n) P' := by
    intro P' hP'
    refine sp_X12_has hf ?_
    have e : (nI fi.2.1 = nI n ∨ nO fi.2.2 = nI n) ↔ c_has n fi = true := by
      have e2 : nO fi.2.2 = nI n ↔ fi.2.2 = some n := nO_inj (b := some n) hb2 (fun m hm => by cases hm; exact hn)
      rw [nI_eq hb1 hn, e2]
      simp [c_has]
    by_cases q : c_has n fi = true
    · rw [if_pos (e.mpr q)]
      rw [if_pos q] at hP'
      exact hP'
    · rw [if_neg (fun z => q (e.mp z))]
      rw [if_neg q] at hP'
      exact hP'
  have hnar : ∀ c : Bool, narrow .boolean (.int (if c then 1 else 0)) = .int (if c then 1 else 0) := fun c => by cases c <;> rfl
  rcases hta with hta | hta
  · refine Or.inr (Or.inr (Or.inr (Or.inl ⟨nI n, hta, w_nn_of <| w_is_of hf <| key _ ⟨hnar _, hnar _, hP⟩⟩)))
  · refine Or.inr (Or.inr (Or.inr (Or.inr (Or.inl ⟨nI n, hta, w_nn_of <| w_is_of hf <| key _ ⟨hnar _, hnar _, hP⟩⟩))))
theorem q_test_by {ta a x1 : Nat} {fi : FI} {P : Int32 → HH → Prop} (hta : h ta = some (.inl (G.2.1 11, 1, .inr (.inr (.inr (.inr (fun _ => some a)))))) ∨ h ta = some (.inl (G.2.1 12, 1, .inr (.inr (.inr (.inr (fun _ => some a))))))) (hf : h x1 = some (.inr (16, [.ref fi.1, .int (nI fi.2.1), .int (nO fi.2.2)]))) (hP : P (if c_by a fi then 1 else 0) h) : w_test G h ta (some x1) P := by
  have key : ∀ P' : Int32 → HH → Prop, P' (if c_by a fi then 1 else 0) h → w_getq h x1 16 0 (fun r2 => ((¬ r2 = some a → P' 0 h) ∧ (r2 = some a → P' 1 h))) := by
    intro P' hP'
    refine w_geta_of hf rfl ⟨fun z => ?_, fun z => ?_⟩
    · have : c_by a fi = false := by
        unfold c_by
        have : fi.1 ≠ a := fun q => z (by rw [q])
        simp [this]
      rw [this] at hP'
      exact hP'
    · have : c_by a fi = true := by
        unfold c_by
        simp [Option.some.inj z]
      rw [this] at hP'
      exact hP'
  have hnar : ∀ c : Bool, narrow .boolean (.int (if c then 1 else 0)) = .int (if c then 1 else 0) := fun c => by cases c <;> rfl
  rcases hta with hta | hta
  · exact Or.inr (Or.inl ⟨some a, hta, w_nn_of (key (fun r h1 => narrow .boolean (.int r) = .int r ∧ P r h1) ⟨hnar _, hP⟩)⟩)
  · exact Or.inr (Or.inr (Or.inl ⟨some a, hta, w_nn_of (key (fun r h1 => narrow .boolean (.int r) = .int r ∧ P r h1) ⟨hnar _, hP⟩)⟩))
/-- the firings of one fact tested: by two test objects, one after another -/
theorem sp_clean {mc ms i ta : Nat} {y : CF} {T : FI → Bool} {Q : HH → Prop} {lr lf : Nat} (hB : q_B G h ρ k b w p t C) (hk : k ≠ 0) (hok : c_ok C) (hy : C.2.1[i]? = some y) (hc : h y.1 = some (.inr (14, q_fv y.2.1 lr lf))) (hm : 1 ≤ mc) (hms : 4 ≤ ms)
    (hρ : ρ ta = (0, 1)) {e : va_E} (hta : h ta = some e)
    (htest : ∀ h1 x1 fi (P : Int32 → HH → Prop), h1 ta = some e → (fi.2.1 < 2 ^ 31 ∧ q_bd fi.2.2) → q_fi h1 ρ x1 fi → P (if T fi then 1 else 0) h1 → w_test G h1 ta (some x1) P)
    (hQ : ∀ h', q_dm h h' → q_sp (fun c => ρ c = (k, 8 + 5 * y.2.1 0 + 3) ∨ ρ c = (k, 8 + 5 * y.2.1 0 + 3 + 1)) h h' → q_B G h' ρ k b w p t (C.1, C.2.1.set i (y.1, y.2.1, y.2.2.1, y.2.2.2.filter (fun fi => !T fi)), C.2.2) → Q h') : wp_X1_remove G mc ms h (some lf) (some ta) Q := by
  obtain ⟨e1, lr1, lf1, e2, e3, e4⟩ := (hB.1.fact hy).1
  rw [hc] at e2
  cases e2
  refine sp_X1_remove (T := T) e4 (by exact hk) hm hms (fun h1 x1 fi P hs hfi hf hP => ?_) (fun h' hdm hs hl => ?_)
  · refine htest h1 x1 fi P (hs ta _ hta (fun z => ?_)) ?_ hf hP
    · change ρ ta = _ ∨ ρ ta = _ at z
      rw [hρ] at z
      exact z.elim (fun z => hk (congrArg Prod.fst z).symm) (fun z => hk (congrArg Prod.fst z).symm)
    · have := (hok.2.2.2.2.2.2 y (List.mem_of_getElem? hy)).2 fi hfi
      exact ⟨Nat.lt_trans this.1 (by decide), fun n hn => Nat.lt_trans (this.2 n hn) (by decide)⟩
  · exact hQ h' hdm hs (hB.clean1 hk hok hy hc hs hl)
theorem sp_cleanR {mc ms i ta : Nat} {y : CF} {T : FI → Bool} {Q : HH → Prop} {lr lf : Nat} (hB : q_B G h ρ k b w p t C) (hk : k ≠ 0) (hok : c_ok C) (hy : C.2.1[i]? = some y) (hc : h y.1 = some (.inr (14, q_fv y.2.1 lr lf))) (hm : 1 ≤ mc) (hms : 4 ≤ ms)
    (hρ : ρ ta = (0, 1)) {e : va_E} (hta : h ta = some e)
    (htest : ∀ h1 x1 fi (P : Int32 → HH → Prop), h1 ta = some e → (fi.2.1 < 2 ^ 31 ∧ q_bd fi.2.2) → q_fi h1 ρ x1 fi → P (if T fi then 1 else 0) h1 → w_test G h1 ta (some x1) P)
    (hQ : ∀ h', q_dm h h' → q_sp (fun c => ρ c = (k, 8 + 5 * y.2.1 0 + 1) ∨ ρ c = (k, 8 + 5 * y.2.1 0 + 1 + 1)) h h' → q_B G h' ρ k b w p t (C.1, C.2.1.set i (y.1, y.2.1, y.2.2.1.filter (fun fi => !T fi), y.2.2.2), C.2.2) → Q h') : wp_X1_remove G mc ms h (some lr) (some ta) Q := by
  obtain ⟨e1, lr1, lf1, e2, e3, e4⟩ := (hB.1.fact hy).1
  rw [hc] at e2
  cases e2
  refine sp_X1_remove (T := T) e3 (by exact hk) hm hms (fun h1 x1 fi P hs hfi hf hP => ?_) (fun h' hdm hs hl => ?_)
  · refine htest h1 x1 fi P (hs ta _ hta (fun z => ?_)) ?_ hf hP
    · change ρ ta = _ ∨ ρ ta = _ at z
      rw [hρ] at z
      exact z.elim (fun z => hk (congrArg Prod.fst z).symm) (fun z => hk (congrArg Prod.fst z).symm)
    · have := (hok.2.2.2.2.2.2 y (List.mem_of_getElem? hy)).1 fi hfi
      exact ⟨Nat.lt_trans this.1 (by decide), fun n hn => Nat.lt_trans (this.2 n hn) (by decide)⟩
  · exact hQ h' hdm hs (hB.clean2 hk hok hy hc hs hl)
end BB
/-! facts without ground go -/
def c_mid (T : FI → Bool) (C : CC) (j : Nat) : CC := (C.1, (C.2.1.take j).map (c_clean T) ++ C.2.1.drop j, C.2.2)
theorem c_ok.sub {C C' : CC} (hok : c_ok C) (h1 : C'.1 = C.1) (hlen : C'.2.1.length = C.2.1.length) (h : ∀ (i : Nat) (y' : CF), C'.2.1[i]? = some y' → ∃ y : CF, C.2.1[i]? = some y ∧ y'.2.1 0 = y.2.1 0 ∧ (∀ fi ∈ y'.2.2.1, fi ∈ y.2.2.1) ∧ ∀ fi ∈ y'.2.2.2, fi ∈ y.2.2.2) : c_ok C' := by
  obtain ⟨k1, k2, k3, k4, k5, k6, k7⟩ := hok
  refine ⟨by rw [h1]; exact k1, by rw [h1]; exact k2, by rw [h1]; exact k3, by rw [hlen]; exact k4, fun i j y z hy hz hij => ?_, fun y hy => ?_, fun y hy => ?_⟩
  · obtain ⟨y0, e1, e2, -⟩ := h i y hy
    obtain ⟨z0, e3, e4, -⟩ := h j z hz
    rw [e2, e4]
    exact k5 i j y0 z0 e1 e3 hij
  · obtain ⟨i, hi⟩ := List.getElem?_of_mem hy
    obtain ⟨y0, e1, e2, -⟩ := h i y hi
    rw [e2]
    exact k6 y0 (List.mem_of_getElem? e1)
  · obtain ⟨i, hi⟩ := List.getElem?_of_mem hy
    obtain ⟨y0, e1, e2, e3, e4⟩ := h i y hi
    have := k7 y0 (List.mem_of_getElem? e1)
    exact ⟨fun fi hfi => this.1 fi (e3 fi hfi), fun fi hfi => this.2 fi (e4 fi hfi)⟩
theorem c_mid_at {T : FI → Bool} {C : CC} {i j : Nat} : (c_mid T C j).2.1[i]? = if i < j then (C.2.1[i]?).map (c_clean T) else C.2.1[i]? := by
  show ((C.2.1.take j).map (c_clean T) ++ C.2.1.drop j)[i]? = _
  rw [List.getElem?_append, List.length_map, List.length_take]
  by_cases q : i < j
  · rw [if_pos q]
    by_cases q2 : i < C.2.1.length
    · rw [if_pos (by omega), List.getElem?_map, List.getElem?_take, if_pos q]
    · rw [if_neg (by omega), List.getElem?_eq_none (by rw [List.length_drop]; omega), List.getElem?_eq_none (by omega)]
      rfl
  · rw [if_neg q, if_neg (by omega), List.getElem?_drop]
    by_cases q2 : j ≤ C.2.1.length
    · congr 1
      omega
    · rw [List.getElem?_eq_none (by omega), List.getElem?_eq_none (by omega)]
theorem c_mid_len {T : FI → Bool} {C : CC} {j : Nat} : (c_mid T C j).2.1.length = C.2.1.length := by
  show ((C.2.1.take j).map (c_clean T) ++ C.2.1.drop j).length = _
  rw [List.length_append, List.length_map, List.length_take, List.length_drop]
  omega
theorem c_ok.mid {T : FI → Bool} {C : CC} {j : Nat} (hok : c_ok C) : c_ok (c_mid T C j) := by
  refine hok.sub rfl c_mid_len (fun i y' hy => ?_)
  rw [c_mid_at] at hy
  split at hy
  · obtain ⟨y, h1, rfl⟩ := Option.map_eq_some_iff.mp hy
    exact ⟨y, h1, rfl, fun fi hfi => (List.mem_filter.mp hfi).1, fun fi hfi => (List.mem_filter.mp hfi).1⟩
  · exact ⟨y', hy, rfl, fun fi hfi => hfi, fun fi hfi => hfi⟩
theorem c_mid_set {T : FI → Bool} {C : CC} {j : Nat} {y : CF} (hy : C.2.1[j]? = some y) : (c_mid T C j).2.1.set j (c_clean T y) = (c_mid T C (j + 1)).2.1 := by
  refine List.ext_getElem? (fun i => ?_)
  have hlt := (List.getElem?_eq_some_iff.mp hy).1
  by_cases q : i = j
  · subst q
    rw [List.getElem?_set_self (by rw [c_mid_len]; exact hlt), c_mid_at, if_pos (by omega), hy]
    rfl
  · rw [List.getElem?_set_ne (Ne.symm q), c_mid_at, c_mid_at]
    by_cases q2 : i < j
    · rw [if_pos q2, if_pos (by omega)]
    · rw [if_neg q2, if_neg (by omega)]
theorem c_mid_0 {T : FI → Bool} {C : CC} : c_mid T C 0 = C := by
  obtain ⟨a, b, c⟩ := C
  simp [c_mid]
theorem c_mid_all {T : FI → Bool} {C : CC} {j : Nat} (hj : C.2.1.length ≤ j) : c_mid T C j = (C.1, C.2.1.map (c_clean T), C.2.2) := by
  unfold c_mid
  rw [List.take_of_length_le hj, List.drop_of_length_le hj, List.append_nil]
def c_delF (C : CC) (i : Nat) : CC := match C.2.1[i]? with
  | none => C
  | some y => (C.1, (C.2.1.eraseIdx i).map (c_clean (c_has (y.2.1 0))), C.2.2)
theorem c_ok.erase {C : CC} {i : Nat} (hok : c_ok C) : c_ok (C.1, C.2.1.eraseIdx i, C.2.2) := by
  obtain ⟨k1, k2, k3, k4, k5, k6, k7⟩ := hok
  have hm : ∀ y ∈ C.2.1.eraseIdx i, y ∈ C.2.1 := fun y hy => List.mem_of_mem_eraseIdx hy
  refine ⟨k1, k2, k3, Nat.le_trans (List.length_eraseIdx_le _ _) k4, fun a c y z hy hz hac => ?_, fun y hy => k6 y (hm y hy), fun y hy => k7 y (hm y hy)⟩
  simp only [List.getElem?_eraseIdx] at hy hz
  split at hy <;> split at hz
  · exact k5 a c y z hy hz hac
  · exact k5 a (c + 1) y z hy hz (by omega)
  · omega
  · exact k5 (a + 1) (c + 1) y z hy hz (by omega)
theorem c_ok.delF {C : CC} {i : Nat} (hok : c_ok C) : c_ok (c_delF C i) := by
  unfold c_delF
  split
  · exact hok
  · next y hy =>
    have h1 := (hok.erase (i := i)).mid (T := c_has (y.2.1 0)) (j := (C.2.1.eraseIdx i).length)
    rw [c_mid_all (Nat.le_refl _)] at h1
    exact h1
def c_lo (D : Nat → Nat) : Nat → CC → CC × Nat
  | 0, C => (C, 0)
  | i + 1, C => if D i < 1000 then c_lo D i C else ((c_lo D i (c_delF C i)).1, (c_lo D i (c_delF C i)).2 + 1)
def c_cnt (C : CC) (j v : Nat) : CC := (C.1, C.2.1, fun i => if i = j then v else C.2.2 i)
section LOSE
variable {G : GG} {h h' : HH} {ρ ρ' : RO} {k b w p t : Nat} {C : CC}
theorem q_B.cnt {lr lf : Nat} {n' : Nat → Nat} (hB : q_B G h ρ k b w p t C) (hk : k ≠ 0) (hb : h b = some (.inr (2, q_bv w lr lf C.2.2))) (hh : ∀ c, c ≠ b → h' c = h c) (hb' : h' b = some (.inr (2, q_bv w lr lf n'))) : q_B G h' ρ k b w p t (C.1, C.2.1, n') := by
  obtain ⟨h0, lr1, lf1, g1, g2, g3, g4, g5⟩ := hB.1
  rw [hb] at g1
  cases g1
  have hkR : q_kR G (fun r => r ≠ (k, 0)) h ρ h' ρ := ⟨fun _ _ _ => rfl, fun c e hc _ hr => by rw [hh c (fun z => hr (by rw [z]; exact h0))]; exact hc⟩
  have h00 : ((0, 0) : Nat × Nat) ≠ (k, 0) := fun z => hk (congrArg Prod.fst z).symm
  have hkj : ∀ j, j ≠ 0 → ((k, j) : Nat × Nat) ≠ (k, 0) := fun j hj z => hj (congrArg Prod.snd z)
  refine ⟨⟨h0, lr, lf, hb', g2.kR hkR (hkj 4 (by decide)) (hkj 5 (by decide)), fun y hy => (g3 y hy).kR hkR h00, g4.kR hkR (hkj 6 (by decide)) (hkj 7 (by decide)), fun y hy => (g5 y hy).kR hkR h00 (fun j _ => hkj _ (by omega))⟩, hB.2.1.S (S := fun c => c = b) (q_sp.of hh rfl) (fun z => ?_) (fun z => ?_) (fun z => ?_), hB.2.2⟩
  · have := hB.2.2.1
    rw [z, h0] at this
    cases this
  · have := hB.2.2.2.1
    rw [z, h0] at this
    cases this
  · have := hB.2.2.2.2
    rw [z, h0] at this
    cases this
/-- a list of the book anew: of rules or of facts -/
theorem q_B.facts {lr lf : Nat} {ys : List CF} (hB : q_B G h ρ k b w p t C) (hk : k ≠ 0) (hb : h b = some (.inr (2, q_bv w lr lf C.2.2))) (he : q_ex h ρ ρ') (hs : q_sp (fun c => ρ c = (k, 6) ∨ ρ c = (k, 7)) h h') (hl : q_ls G h' ρ' (k, 6) lf (ys.map Prod.fst)) (hys : ∀ y ∈ ys, y ∈ C.2.1 ∨ q_ft G h' ρ' k y) : q_B G h' ρ' k b w p t (C.1, ys, C.2.2) := by
  obtain ⟨h0, lr1, lf1, g1, g2, g3, g4, g5⟩ := hB.1
  rw [hb] at g1
  cases g1
  have hkR : q_kR G (fun r => r ≠ (k, 6) ∧ r ≠ (k, 7)) h ρ h' ρ' := ⟨he, fun c e hc _ hr => hs c e hc (fun z => z.elim hr.1 hr.2)⟩
  have h00 : ((0, 0) : Nat × Nat) ≠ (k, 6) ∧ ((0, 0) : Nat × Nat) ≠ (k, 7) := ⟨fun z => hk (congrArg Prod.fst z).symm, fun z => hk (congrArg Prod.fst z).symm⟩
  have hkj : ∀ j, j ≠ 6 → j ≠ 7 → ((k, j) : Nat × Nat) ≠ (k, 6) ∧ ((k, j) : Nat × Nat) ≠ (k, 7) := fun j hj hj2 => ⟨fun z => hj (congrArg Prod.snd z), fun z => hj2 (congrArg Prod.snd z)⟩
  have hw : ∀ {c j}, ρ c = (k, j) → j ≠ 6 → j ≠ 7 → ¬ (ρ c = (k, 6) ∨ ρ c = (k, 7)) := fun e1 e2 e3 z => by
    rw [e1] at z
    exact z.elim (hkj _ e2 e3).1 (hkj _ e2 e3).2
  obtain ⟨⟨e1, e2⟩, ⟨e3, e4⟩, ⟨e5, e6⟩⟩ := hB.2.1.cells
  refine ⟨⟨by rw [he _ _ hb]; exact h0, lr, lf, hs _ _ hb (hw h0 (by decide) (by decide)), g2.kR hkR (hkj 4 (by decide) (by decide)) (hkj 5 (by decide) (by decide)), fun y hy => (g3 y hy).kR hkR h00, hl, fun y hy => ?_⟩, hB.2.1.S hs (hw hB.2.2.1 (by decide) (by decide)) (hw hB.2.2.2.1 (by decide) (by decide)) (hw hB.2.2.2.2 (by decide) (by decide)), by rw [he _ _ e2]; exact hB.2.2.1, by rw [he _ _ e4]; exact hB.2.2.2.1, by rw [he _ _ e6]; exact hB.2.2.2.2⟩
  rcases hys y hy with q | q
  · exact (g5 y q).kR hkR h00 (fun j _ => hkj _ (by omega) (by omega))
  · exact q
theorem q_fv_ob {h1 : HH} {a : Nat} {F : Nat → Nat} {l1 l2 : Nat} (hc : h1 a = some (.inr (14, q_fv F l1 l2))) : ∃ e, h1 a = some e ∧ hv_ob G e := ⟨_, hc, Or.inl ⟨14, _, by decide, rfl⟩⟩
theorem sp_cleanStep {e1 e2 : va_E} {K : HH → Nat → Nat → Prop} {nc nk mc ms j : Nat} {y : CF} {T : FI → Bool} (hB : q_B G h ρ k b w p t (c_mid T C j)) (hk : k ≠ 0) (hok : c_ok C) (hy : C.2.1[j]? = some y) (hnc : nc + 4 ≤ mc) (hnk : nk + 10 ≤ ms)
    (ht1 : ∀ (h1 : HH) (ta x1 : Nat) (fi : FI) (P : Int32 → HH → Prop), h1 ta = some e1 → (fi.2.1 < 2 ^ 31 ∧ q_bd fi.2.2) → h1 x1 = some (.inr (16, [.ref fi.1, .int (nI fi.2.1), .int (nO fi.2.2)])) → P (if T fi then 1 else 0) h1 → w_test G h1 ta (some x1) P)
    (ht2 : ∀ (h1 : HH) (ta x1 : Nat) (fi : FI) (P : Int32 → HH → Prop), h1 ta = some e2 → (fi.2.1 < 2 ^ 31 ∧ q_bd fi.2.2) → h1 x1 = some (.inr (16, [.ref fi.1, .int (nI fi.2.1), .int (nO fi.2.2)])) → P (if T fi then 1 else 0) h1 → w_test G h1 ta (some x1) P)
    (hK : ∀ h' ρ', q_dm h h' → q_ex h ρ ρ' → q_sp (fun c => (ρ c).1 = k ∧ 8 ≤ (ρ c).2) h h' → q_B G h' ρ' k b w p t (c_mid T C (j + 1)) → K h' ((((nc + 1) + 1) + 1) + 1) ((((nk + 1) + 4) + 1) + 4)) :
    w_getq h y.1 14 8 (fun r26 => (nc + 1 ≤ mc ∧ nk + 1 ≤ ms ∧ w_new h e1 (fun a27 h28 => (∃ mc29 ms29, (nc + 1) + mc29 ≤ mc ∧ (nk + 1) + ms29 ≤ ms ∧ wp_X1_remove G mc29 ms29 h28 r26 (some a27) (fun h30 => w_getq h30 y.1 14 7 (fun r31 => (((nc + 1) + mc29) + 1 ≤ mc ∧ ((nk + 1) + ms29) + 1 ≤ ms ∧ w_new h30 e2 (fun a32 h33 => (∃ mc34 ms34, (((nc + 1) + mc29) + 1) + mc34 ≤ mc ∧ (((nk + 1) + ms29) + 1) + ms34 ≤ ms ∧ wp_X1_remove G mc34 ms34 h33 r31 (some a32) (fun h35 => K h35 ((((nc + 1) + mc29) + 1) + mc34) ((((nk + 1) + ms29) + 1) + ms34))))))))))) := by
  have hyj : (c_mid T C j).2.1[j]? = some y := by rw [c_mid_at, if_neg (by omega)]; exact hy
  have hlt := (List.getElem?_eq_some_iff.mp hy).1
  have hokj := hok.mid (T := T) (j := j)
  obtain ⟨hry, lr, lf, hc, -, -⟩ := (hB.1.fact hyj).1
  refine w_geta_of hc rfl ⟨by omega, by omega, fun ta hta => ⟨1, 4, by omega, by omega, ?_⟩⟩
  have hB1 := hB.nwv (r := (0, 1)) (e := some e1) hta
  have hc1 : va_up h ta (some e1) y.1 = some (.inr (14, q_fv y.2.1 lr lf)) := by rw [q_h_ne (q_new_ne hta hc)]; exact hc
  refine sp_clean (T := T) hB1 hk hokj hyj hc1 (by omega) (by omega) q_up_same q_h_same (fun h1 x1 fi P a1 a2 a3 a4 => ht1 h1 ta x1 fi P a1 a2 a3.2 a4) (fun h2 hdm2 hs2 hB2 => ?_)
  have hcy2 : h2 y.1 = some (.inr (14, q_fv y.2.1 lr lf)) := hs2 _ _ hc1 (fun z => by
    dsimp only at z
    rw [q_up_ne (q_new_ne hta hc), hry] at z
    rcases z with z | z
    · have := congrArg Prod.snd z
      simp only at this
      omega
    · have := congrArg Prod.snd z
      simp only at this
      omega)
  refine w_geta_of hcy2 rfl ⟨by omega, by omega, fun tb htb => ⟨1, 4, by omega, by omega, ?_⟩⟩
  have hB3 := hB2.nwv (r := (0, 1)) (e := some e2) htb
  have hok2 : c_ok ((c_mid T C j).1, (c_mid T C j).2.1.set j (y.1, y.2.1, y.2.2.1, y.2.2.2.filter (fun fi => !T fi)), (c_mid T C j).2.2) := by
    refine hokj.sub rfl (by simp) (fun i y' hy' => ?_)
    by_cases q : i = j
    · subst q
      rw [List.getElem?_set_self (by rw [c_mid_len]; exact hlt)] at hy'
      cases hy'
      exact ⟨y, hyj, rfl, fun fi hfi => hfi, fun fi hfi => (List.mem_filter.mp hfi).1⟩
    · rw [List.getElem?_set_ne (Ne.symm q)] at hy'
      exact ⟨y', hy', rfl, fun fi hfi => hfi, fun fi hfi => hfi⟩
  have hyj2 : ((c_mid T C j).2.1.set j (y.1, y.2.1, y.2.2.1, y.2.2.2.filter (fun fi => !T fi)))[j]? = some (y.1, y.2.1, y.2.2.1, y.2.2.2.filter (fun fi => !T fi)) := List.getElem?_set_self (by rw [c_mid_len]; exact hlt)
  have hc3 : va_up h2 tb (some e2) y.1 = some (.inr (14, q_fv y.2.1 lr lf)) := by rw [q_h_ne (q_new_ne htb hcy2)]; exact hcy2
  refine sp_cleanR (T := T) (y := (y.1, y.2.1, y.2.2.1, y.2.2.2.filter (fun fi => !T fi))) hB3 hk hok2 hyj2 hc3 (by omega) (by omega) q_up_same q_h_same (fun h1 x1 fi P a1 a2 a3 a4 => ht2 h1 tb x1 fi P a1 a2 a3.2 a4) (fun h4 hdm4 hs4 hB4 => ?_)
  have hdmA : q_dm h (va_up h ta (some e1)) := q_dm.rf.up
  have hdmB : q_dm h2 (va_up h2 tb (some e2)) := q_dm.rf.up
  have hdm02 := hdmA.tr hdm2
  refine hK h4 (q_up (q_up ρ ta (0, 1)) tb (0, 1)) ((hdm02.tr hdmB).tr hdm4) (q_ex.tr hdm02 (q_ex_up hta) (q_ex_up htb)) (fun c e hc0 hS => ?_) ?_
  · have n1 := q_new_ne hta hc0
    have g1 : va_up h ta (some e1) c = some e := by rw [q_h_ne n1]; exact hc0
    have g2 : h2 c = some e := hs2 c e g1 (fun z => by
      dsimp only at z
      rw [q_up_ne n1] at z
      refine hS ?_
      rcases z with z | z <;> rw [z] <;> exact ⟨rfl, by simp only; omega⟩)
    have n2 := q_new_ne htb g2
    have g3 : va_up h2 tb (some e2) c = some e := by rw [q_h_ne n2]; exact g2
    exact hs4 c e g3 (fun z => by
      dsimp only at z
      rw [q_up_ne n2, q_up_ne n1] at z
      refine hS ?_
      rcases z with z | z <;> rw [z] <;> exact ⟨rfl, by simp only; omega⟩)
  · have e : (c_mid T C (j + 1)) = ((c_mid T C j).1, ((c_mid T C j).2.1.set j (y.1, y.2.1, y.2.2.1, y.2.2.2.filter (fun fi => !T fi))).set j (y.1, y.2.1, y.2.2.1.filter (fun fi => !T fi), y.2.2.2.filter (fun fi => !T fi)), (c_mid T C j).2.2) := by
      rw [List.set_set]
      have := c_mid_set (T := T) hy
      unfold c_clean at this
      rw [this]
      rfl
    rw [e]
    exact hB4
end LOSE
