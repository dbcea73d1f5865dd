set_option maxRecDepth 100000
/-! THE BOOK IN THE HEAP: frames by addresses, rules, facts, firings -/
theorem q_bt {c A B : Prop} (h : c) (b : B) : (¬ c → A) ∧ (c → B) := ⟨fun z => absurd h z, fun _ => b⟩
theorem q_bf {c A B : Prop} (h : ¬ c) (a : A) : (¬ c → A) ∧ (c → B) := ⟨fun _ => a, fun z => absurd z h⟩
def q_sp (S : Nat → Prop) (h h' : HH) : Prop := ∀ c e, h c = some e → ¬ S c → h' c = some e
section QSP
variable {S : Nat → Prop} {h h' h'' : HH} {a : Nat}
theorem q_sp.rf : q_sp S h h := fun _ _ q _ => q
theorem q_sp.tr (h1 : q_sp S h h') (h2 : q_sp S h' h'') : q_sp S h h'' := fun c e q s => h2 c e (h1 c e q s) s
theorem q_sp.of (hh : ∀ c, c ≠ a → h' c = h c) (ha : S a) : q_sp S h h' := fun c e q s => by
  rw [hh c (fun z => s (z ▸ ha))]
  exact q
theorem q_sp.up {x : Option va_E} (ha : S a) : q_sp S h (va_up h a x) := q_sp.of (fun _ hc => q_h_ne hc) ha
theorem q_sp.new {x : Option va_E} (ha : h a = none) : q_sp S h (va_up h a x) := fun c e q _ => by
  rw [q_h_ne (q_new_ne ha q)]
  exact q
theorem q_sp.mono {S' : Nat → Prop} (h1 : q_sp S h h') (hS : ∀ c, S c → S' c) : q_sp S' h h' := fun c e q s => h1 c e q (fun z => s (hS c z))
end QSP
theorem q_c_ne {h : HH} {a b : Nat} {e e' : va_E} (ha : h a = some e) (hb : h b = some e') (hn : e ≠ e') : a ≠ b := fun z => hn (Option.some.inj (by rw [← ha, ← hb, z]))
/-- what a walk writes: its object, rows of three ints -/
def q_wl (G : GG) (e : va_E) : Prop := (∃ fs, e = .inr (3, fs)) ∨ ∃ f, e = .inl (G.2.1 0, 3, .inl f)
theorem q_wl.ob {G : GG} {n : Nat} {fs : List Value} (hn : n ≠ 3) : ¬ q_wl G (.inr (n, fs)) := by
  rintro (⟨fs', e⟩ | ⟨f, e⟩)
  · cases e
    exact hn rfl
  · cases e
theorem q_wl.ar {G : GG} {t : ClassId} {n : Nat} {f : Nat → Option Nat} : ¬ q_wl G (.inl (t, n, .inr (.inr (.inr (.inr f))))) := by
  rintro (⟨fs', e⟩ | ⟨f, e⟩) <;> cases e
theorem q_wl.i2 {G : GG} {t : ClassId} {f : Nat → Int32} : ¬ q_wl G (.inl (t, 2, .inl f)) := by
  rintro (⟨fs', e⟩ | ⟨f, e⟩)
  · cases e
  · have := congrArg (fun x1 : va_E => match x1 with | .inl (_, n, _) => n | _ => 0) e
    simp at this
abbrev FI : Type := Nat × Nat × Option Nat
abbrev CF : Type := Nat × (Nat → Nat) × List FI × List FI
abbrev CC : Type := List (Nat × (Nat → Nat)) × List CF × (Nat → Nat)
def nO : Option Nat → Int32
  | none => -1
  | some n => nI n
def q_tb (n : Nat) : UInt32 := UInt32.ofNat n
def q_pt (G : GG) (h : HH) (ρ : RO) (a k t0 t1 : Nat) : Prop := ρ a = (0, 0) ∧ k < 65536 ∧ ∃ b f, ρ b = (0, 0) ∧ h a = some (.inr (11, [.int (nI k), .ref b])) ∧ h b = some (.inl (G.2.1 0, 2, .inl f)) ∧ f 0 = nI t0 ∧ f 1 = nI t1 ∧ t0 ≤ 12 ∧ t1 ≤ 12
theorem q_pt.p {G : GG} {h : HH} {ρ : RO} {a k t0 t1 : Nat} (q : q_pt G h ρ a k t0 t1) : q_pat G h a (nI k) t0 t1 := by
  obtain ⟨-, -, b, f, -, h1, h2, h3, h4, h5, h6⟩ := q
  exact ⟨b, 2, f, h1, h2, rfl, h3, h4, h5, h6⟩
def q_rl (G : GG) (h : HH) (ρ : RO) (a : Nat) (r : Nat → Nat) : Prop := ρ a = (0, 0) ∧ r 3 ≤ 2 ∧ r 10 ≤ 9 ∧ ∃ p1 p2 p3, h a = some (.inr (12, [.ref p1, va_rf p2, .int (if r 3 = 2 then 1 else 0), .ref p3, .int (nI (r 10))])) ∧ q_pt G h ρ p1 (r 0) (r 1) (r 2) ∧ (r 3 = 0 → p2 = none) ∧ (r 3 ≠ 0 → ∃ p, p2 = some p ∧ q_pt G h ρ p (r 4) (r 5) (r 6)) ∧ q_pt G h ρ p3 (r 7) (r 8) (r 9)
def q_fi (h : HH) (ρ : RO) (a : Nat) (fi : FI) : Prop := ρ a = (0, 0) ∧ h a = some (.inr (16, [.ref fi.1, .int (nI fi.2.1), .int (nO fi.2.2)]))
def q_fl (G : GG) (h : HH) (ρ : RO) (t : Nat × Nat) (a : Nat) (fis : List FI) : Prop := ∃ xs, q_ls G h ρ t a xs ∧ xs.length = fis.length ∧ ∀ (i x1 : Nat) (fi : FI), xs[i]? = some x1 → fis[i]? = some fi → q_fi h ρ x1 fi
def q_fv (F : Nat → Nat) (lr lf : Nat) : List Value := [.int (nI (F 0)), .int (nI (F 1)), .int (nI (F 2)), .int (nI (F 3)), .float (q_tb (F 5)), .int (nI (F 6)), .int (nI (F 4)), .ref lr, .ref lf]
def q_fc (h : HH) (a : Nat) (F : Nat → Nat) : Prop := ∃ lr lf, h a = some (.inr (14, q_fv F lr lf))
def q_ft (G : GG) (h : HH) (ρ : RO) (k : Nat) (c : CF) : Prop := ρ c.1 = (k, 8 + 5 * c.2.1 0) ∧ ∃ lr lf, h c.1 = some (.inr (14, q_fv c.2.1 lr lf)) ∧ q_fl G h ρ (k, 8 + 5 * c.2.1 0 + 1) lr c.2.2.1 ∧ q_fl G h ρ (k, 8 + 5 * c.2.1 0 + 3) lf c.2.2.2
theorem q_ft.c {G : GG} {h : HH} {ρ : RO} {k : Nat} {c : CF} (q : q_ft G h ρ k c) : q_fc h c.1 c.2.1 := by
  obtain ⟨-, lr, lf, h1, -⟩ := q
  exact ⟨lr, lf, h1⟩
def q_bv (w lr lf : Nat) (n : Nat → Nat) : List Value := [.ref w, .ref lr, .ref lf, .int (nI (n 0)), .int (nI (n 1)), .int (nI (n 2)), .int (nI (n 3))]
def q_bk (G : GG) (h : HH) (ρ : RO) (k b w : Nat) (C : CC) : Prop := ρ b = (k, 0) ∧ ∃ lr lf, h b = some (.inr (2, q_bv w lr lf C.2.2)) ∧ q_ls G h ρ (k, 4) lr (C.1.map Prod.fst) ∧ (∀ y ∈ C.1, q_rl G h ρ y.1 y.2) ∧ q_ls G h ρ (k, 6) lf (C.2.1.map Prod.fst) ∧ ∀ y ∈ C.2.1, q_ft G h ρ k y
/-- a walk's state -/
def q_wk (G : GG) (h : HH) (b w p t : Nat) (r : Option Nat) (pl ot : Int32) (f : Option Nat) (s : Int32) (g : Nat → Int32) : Prop :=
  h w = some (.inr (3, [va_rf r, .ref p, .ref t, .int pl, .int ot, va_rf f, .int s, .ref b])) ∧ (∃ f', h p = some (.inl (G.2.1 0, 3, .inl f')) ∧ ∀ i, i < 3 → f' i = g i) ∧ (∃ f', h t = some (.inl (G.2.1 0, 3, .inl f'))) ∧ p ≠ t
def q_S (w p t : Nat) : Nat → Prop := fun c => c = w ∨ c = p ∨ c = t
theorem q_wk.ne {G : GG} {h : HH} {b w p t : Nat} {r : Option Nat} {pl ot : Int32} {f : Option Nat} {s : Int32} {g : Nat → Int32} (hw : q_wk G h b w p t r pl ot f s g) {c : Nat} {e : va_E} (hc : h c = some e) (he : ¬ q_wl G e) : ¬ q_S w p t c := by
  obtain ⟨h1, ⟨f1, h2, -⟩, ⟨f2, h3⟩, -⟩ := hw
  rintro (rfl | rfl | rfl)
  · rw [h1] at hc
    cases hc
    exact he (Or.inl ⟨_, rfl⟩)
  · rw [h2] at hc
    cases hc
    exact he (Or.inr ⟨_, rfl⟩)
  · rw [h3] at hc
    cases hc
    exact he (Or.inr ⟨_, rfl⟩)
section KEEP
variable {G : GG} {h h' : HH} {ρ ρ' : RO} {k : Nat}
/-- what is kept: the cells of book k and what is shared, but for the walk's -/
def q_kp (G : GG) (k : Nat) (h : HH) (ρ : RO) (h' : HH) (ρ' : RO) : Prop := q_ex h ρ ρ' ∧ ∀ c e, h c = some e → ¬ q_wl G e → ((ρ c).1 = k ∨ (ρ c).1 = 0) → h' c = some e
theorem q_ls.kp {t : Nat × Nat} {a : Nat} {xs : List Nat} (hl : q_ls G h ρ t a xs) (hk : q_kp G k h ρ h' ρ') (ht : t.1 = k) : q_ls G h' ρ' t a xs := by
  obtain ⟨hr, hlen, mc, arr, ha, hA⟩ := hl
  refine ⟨by rw [hk.1 a _ ha]; exact hr, hlen, mc, arr, hk.2 a _ ha (q_wl.ob (by decide)) (Or.inl (by rw [hr]; exact ht)), ?_⟩
  rcases hA with ⟨e1, e2⟩ | ⟨har, N, f, hb, h2, h3, h4, h5⟩
  · exact Or.inl ⟨e1, e2⟩
  · exact Or.inr ⟨by rw [hk.1 arr _ hb]; exact har, N, f, hk.2 arr _ hb q_wl.ar (Or.inl (by rw [har]; exact ht)), h2, h3, h4, h5⟩
theorem q_pt.kp {a n t0 t1 : Nat} (q : q_pt G h ρ a n t0 t1) (hk : q_kp G k h ρ h' ρ') : q_pt G h' ρ' a n t0 t1 := by
  obtain ⟨h0, hn, b, f, h1, h2, h3, h4⟩ := q
  exact ⟨by rw [hk.1 a _ h2]; exact h0, hn, b, f, by rw [hk.1 b _ h3]; exact h1, hk.2 a _ h2 (q_wl.ob (by decide)) (Or.inr (by rw [h0])), hk.2 b _ h3 q_wl.i2 (Or.inr (by rw [h1])), h4⟩
theorem q_rl.kp {a : Nat} {r : Nat → Nat} (q : q_rl G h ρ a r) (hk : q_kp G k h ρ h' ρ') : q_rl G h' ρ' a r := by
  obtain ⟨h0, h1, h2, p1, p2, p3, h3, h4, h5, h6, h7⟩ := q
  refine ⟨by rw [hk.1 a _ h3]; exact h0, h1, h2, p1, p2, p3, hk.2 a _ h3 (q_wl.ob (by decide)) (Or.inr (by rw [h0])), h4.kp hk, h5, fun z => ?_, h7.kp hk⟩
  obtain ⟨p, e, hp⟩ := h6 z
  exact ⟨p, e, hp.kp hk⟩
theorem q_fi.kp {a : Nat} {fi : FI} (q : q_fi h ρ a fi) (hk : q_kp G k h ρ h' ρ') : q_fi h' ρ' a fi := ⟨by rw [hk.1 a _ q.2]; exact q.1, hk.2 a _ q.2 (q_wl.ob (by decide)) (Or.inr (by rw [q.1]))⟩
theorem q_fl.kp {t : Nat × Nat} {a : Nat} {fis : List FI} (q : q_fl G h ρ t a fis) (hk : q_kp G k h ρ h' ρ') (ht : t.1 = k) : q_fl G h' ρ' t a fis := by
  obtain ⟨xs, h1, h2, h3⟩ := q
  exact ⟨xs, h1.kp hk ht, h2, fun i x1 fi hx hf => (h3 i x1 fi hx hf).kp hk⟩
theorem q_ft.kp {c : CF} (q : q_ft G h ρ k c) (hk : q_kp G k h ρ h' ρ') : q_ft G h' ρ' k c := by
  obtain ⟨h0, lr, lf, h1, h2, h3⟩ := q
  exact ⟨by rw [hk.1 _ _ h1]; exact h0, lr, lf, hk.2 _ _ h1 (q_wl.ob (by decide)) (Or.inl (by rw [h0])), h2.kp hk rfl, h3.kp hk rfl⟩
theorem q_bk.kp {b w : Nat} {C : CC} (q : q_bk G h ρ k b w C) (hk : q_kp G k h ρ h' ρ') : q_bk G h' ρ' k b w C := by
  obtain ⟨h0, lr, lf, h1, h2, h3, h4, h5⟩ := q
  exact ⟨by rw [hk.1 _ _ h1]; exact h0, lr, lf, hk.2 _ _ h1 (q_wl.ob (by decide)) (Or.inl (by rw [h0])), h2.kp hk rfl, fun y hy => (h3 y hy).kp hk, h4.kp hk rfl, fun y hy => (h5 y hy).kp hk⟩
/-- a frame that spares all but a walk's cells keeps a book -/
theorem q_wk.kp {b w p t : Nat} {r : Option Nat} {pl ot : Int32} {f : Option Nat} {s : Int32} {g : Nat → Int32} (hw : q_wk G h b w p t r pl ot f s g) (hs : q_sp (q_S w p t) h h') : q_kp G k h ρ h' ρ := ⟨fun _ _ _ => rfl, fun c e hc he _ => hs c e hc (hw.ne hc he)⟩
end KEEP
theorem w_ist_of {G : GG} {h : HH} {a i n : Nat} {v : Int32} {Q : HH → Prop} {f : Nat → Int32} (h1 : h a = some (.inl (G.2.1 0, n, .inl f))) (hi : i < n) (hn : n < 2 ^ 31) (h3 : Q (va_up h a (some (.inl (G.2.1 0, n, .inl (upd f i v)))))) : w_ist G h a (nI i) v Q := ⟨n, f, h1, vp_in_nI hi hn, by rw [nI_clamp (by omega)]; exact h3⟩
theorem w_ild_of {G : GG} {h : HH} {a i n : Nat} {Q : Int32 → Prop} {f : Nat → Int32} (h1 : h a = some (.inl (G.2.1 0, n, .inl f))) (hi : i < n) (hn : n < 2 ^ 31) (h3 : Q (f i)) : w_ild G h a (nI i) Q := ⟨n, f, h1, vp_in_nI hi hn, by rw [nI_clamp (by omega)]; exact h3⟩
def q_no : Nat → Prop := fun _ => False
theorem q_no.not {c : Nat} : ¬ q_no c := fun z => z
/-! a pattern against facts, with what is bound -/
def s_g0 : Nat → Int32 := fun _ => -1
def s_f1 (r F : Nat → Nat) : Bool × (Nat → Int32) := s_fits s_g0 (nI (r 0)) (r 1) (r 2) (nI (F 1)) (nI (F 2)) (nI (F 3))
def s_f2 (r : Nat → Nat) (g : Nat → Int32) (F : Nat → Nat) : Bool × (Nat → Int32) := s_fits g (nI (r 4)) (r 5) (r 6) (nI (F 1)) (nI (F 2)) (nI (F 3))
/-- whether a fact is a match's first one -/
def s_fst (r : Nat → Nat) (Fs : List (Nat → Nat)) (F : Nat → Nat) : Bool := (s_f1 r F).1 && (r 3 != 2 || !(Fs.any fun F' => (s_f2 r (s_f1 r F).2 F').1))
/-- whether a mark of one rule (21 * first + (0 or 1 + second)) is a match -/
def s_is (r : Nat → Nat) (Fs : List (Nat → Nat)) (c : Nat) : Bool :=
  match Fs[c / 21]? with
  | none => false
  | some F => if c % 21 = 0 then r 3 != 1 && s_fst r Fs F else
    match Fs[c % 21 - 1]? with
    | none => false
    | some F' => r 3 == 1 && (s_f1 r F).1 && (s_f2 r (s_f1 r F).2 F').1
theorem s_fit_cong {f g : Nat → Int32} {t : Nat} {q : Int32} (ht : t ≤ 12) (h : ∀ i, i < 3 → f i = g i) : (s_fit f t q).1 = (s_fit g t q).1 ∧ ∀ i, i < 3 → (s_fit f t q).2 i = (s_fit g t q).2 i := by
  unfold s_fit
  split
  · exact ⟨rfl, h⟩
  · have := h (t - 10) (by omega)
    refine ⟨by simp only [this], fun i hi => ?_⟩
    simp only [this, upd]
    split
    · rfl
    · exact h i hi
theorem s_fits_cong {f g : Nat → Int32} {k : Int32} {t0 t1 : Nat} {fk p0 p1 : Int32} (h0 : t0 ≤ 12) (h1 : t1 ≤ 12) (h : ∀ i, i < 3 → f i = g i) : (s_fits f k t0 t1 fk p0 p1).1 = (s_fits g k t0 t1 fk p0 p1).1 ∧ ∀ i, i < 3 → (s_fits f k t0 t1 fk p0 p1).2 i = (s_fits g k t0 t1 fk p0 p1).2 i := by
  unfold s_fits
  split
  · obtain ⟨a1, a2⟩ := s_fit_cong (q := p0) h0 h
    rw [a1]
    split
    · exact s_fit_cong h1 a2
    · exact ⟨rfl, a2⟩
  · exact ⟨rfl, h⟩
theorem sp_X2_free_L2 {G : GG} {pa : Nat} {Q : HH → Prop} : ∀ (d j : Nat) (h : HH) (f : Nat → Int32), j + d = 3 → h pa = some (.inl (G.2.1 0, 3, .inl f)) → (∀ i, i < j → f i = -1) → (∀ h' f', (∀ c, c ≠ pa → h' c = h c) → h' pa = some (.inl (G.2.1 0, 3, .inl f')) → (∀ i, i < 3 → f' i = -1) → Q h') → wp_X2_free_L2 G Q (d + 1) h (some pa) (nI j) := by
  intro d
  induction d with
  | zero =>
    intro j h f hj hp hf hQ
    unfold wp_X2_free_L2
    exact br_t (nI_le (a := 3) (by omega) (by omega)) (hQ h f (fun _ _ => rfl) hp (fun i hi => hf i (by omega)))
  | succ d ih =>
    intro j h f hj hp hf hQ
    unfold wp_X2_free_L2
    refine br_f (nI_ge (b := 3) (by omega) (by omega)) (w_nn_of (w_ist_of hp (by omega) (by omega) ?_))
    rw [nI_1]
    refine ih (j + 1) _ _ (by omega) q_h_same (fun i hi => ?_) (fun h' f' hh hp' hf' => hQ h' f' (fun c hc => by rw [hh c hc, q_h_ne hc]) hp' hf')
    by_cases z : i = j
    · subst z
      exact pk_us
    · rw [pk_un z]
      exact hf i (by omega)
theorem sp_X2_free {G : GG} {h : HH} {pa : Nat} {f : Nat → Int32} {Q : HH → Prop} (hp : h pa = some (.inl (G.2.1 0, 3, .inl f))) (hQ : ∀ h' f', (∀ c, c ≠ pa → h' c = h c) → h' pa = some (.inl (G.2.1 0, 3, .inl f')) → (∀ i, i < 3 → f' i = -1) → Q h') : wp_X2_free G h (some pa) Q :=
  ⟨4, sp_X2_free_L2 3 0 h f (by omega) hp (fun i hi => absurd hi (Nat.not_lt_zero _)) hQ⟩
section WK
variable {G : GG} {h : HH} {ρ : RO} {k b w p t : Nat}
theorem sp_X3_begin {ra : Nat} {r : Option Nat} {pl ot : Int32} {f : Option Nat} {s : Int32} {g : Nat → Int32} {Q : Option Nat → HH → Prop} (hw : q_wk G h b w p t r pl ot f s g)
    (hQ : ∀ h', (∀ c, c ≠ w → h' c = h c) → q_wk G h' b w p t (some ra) (nI 0) (-1) none (-1) g → Q (some w) h') : wp_X3_begin G h w (some ra) Q := by
  obtain ⟨hw1, ⟨gp, hp, hgp⟩, ⟨gt, ht⟩, hpt⟩ := hw
  have hwp : p ≠ w := fun z => by rw [z, hw1] at hp; cases hp
  have hwt : t ≠ w := fun z => by rw [z, hw1] at ht; cases ht
  unfold wp_X3_begin
  refine w_put_of hw1 (Nat.le_of_ble_eq_true rfl) rfl (w_put_of q_h_same (Nat.le_of_ble_eq_true rfl) rfl (w_put_of q_h_same (Nat.le_of_ble_eq_true rfl) rfl (w_put_of q_h_same (Nat.le_of_ble_eq_true rfl) rfl (w_put_of q_h_same (Nat.le_of_ble_eq_true rfl) rfl ?_))))
  simp only [q_h_up]
  refine hQ _ (fun c hc => q_h_ne hc) ⟨q_h_same, ⟨gp, by rw [q_h_ne hwp]; exact hp, hgp⟩, ⟨gt, by rw [q_h_ne hwt]; exact ht⟩, hpt⟩
theorem sp_X3_isSecond {ra fa : Nat} {r F : Nat → Nat} {pl ot : Int32} {f : Option Nat} {s : Int32} {g : Nat → Int32} {Q : Int32 → HH → Prop} (hw : q_wk G h b w p t (some ra) pl ot f s g) (hr : q_rl G h ρ ra r) (h3 : r 3 ≠ 0) (hF : q_fc h fa F)
    (hQ : ∀ h', (∀ c, c ≠ t → h' c = h c) → (∃ f', h' t = some (.inl (G.2.1 0, 3, .inl f'))) → Q (if (s_f2 r g F).1 then 1 else 0) h') : wp_X3_isSecond G h w (some fa) Q := by
  obtain ⟨hw1, ⟨gp, hp, hgp⟩, ⟨gt, ht⟩, hpt⟩ := hw
  obtain ⟨h0, h1, h2, p1, p2, p3, hra, hp1, -, hp2, hp3⟩ := hr
  obtain ⟨pp, rfl, hpp⟩ := hp2 h3
  obtain ⟨lr, lf, hfa⟩ := hF
  have hwt : w ≠ t := fun z => by rw [← z, hw1] at ht; cases ht
  have hrt : ra ≠ t := fun z => by rw [← z, hra] at ht; cases ht
  have hft : fa ≠ t := fun z => by rw [← z, hfa] at ht; cases ht
  obtain ⟨-, hn9, b1, f1, h9, hpa, hpb, k1, k2, k3, k4⟩ := hpp
  have hat : pp ≠ t := fun z => by rw [← z, hpa] at ht; cases ht
  have hbt : b1 ≠ t := fun z => by
    rw [← z, hpb] at ht
    exact q_wl.i2 (Or.inr ⟨_, Option.some.inj ht⟩)
  unfold wp_X3_isSecond
  refine w_geta_of hw1 rfl (w_geta_of hw1 rfl (w_nn_of (w_nn_of ?_)))
  refine ⟨3, 3, gp, gt, hp, ht, by decide, by decide, by decide, by decide, by decide, fun z => absurd z (by decide), ?_⟩
  have e0 : (0 : Int32).toNatClampNeg = 0 := by decide +kernel
  have e3 : (3 : Int32).toNatClampNeg = 3 := by decide +kernel
  rw [e0, e3]
  refine w_geta_of (by rw [q_h_ne hwt]; exact hw1) rfl (w_nn_of (w_geta_of (by rw [q_h_ne hrt]; exact hra) rfl (w_geta_of (by rw [q_h_ne hwt]; exact hw1) rfl (w_nn_of (w_is_of (by rw [q_h_ne hat]; exact hpa) ?_)))))
  refine sp_X8_fits (g := va_cpy gp gt 0 0 3) ⟨b1, 2, f1, by rw [q_h_ne hat]; exact hpa, by rw [q_h_ne hbt]; exact hpb, rfl, k1, k2, k3, k4⟩ q_h_same (fun b2 hb2 => ?_) (by rw [q_h_ne hft]; exact hfa) rfl rfl rfl (fun h' hh ht' => ?_)
  · rw [q_h_ne hat, hpa] at hb2
    cases hb2
    exact hbt
  · have e : ∀ i, i < 3 → va_cpy gp gt 0 0 3 i = g i := fun i hi => by rw [pk_cpy_in (by omega) (by omega), ← hgp i hi]; simp
    have e1 := (s_fits_cong (k := nI (r 4)) (fk := nI (F 1)) (p0 := nI (F 2)) (p1 := nI (F 3)) k3 k4 e).1
    rw [e1]
    refine ⟨?_, hQ h' (fun c hc => by rw [hh c hc, q_h_ne hc]) ⟨_, ht'⟩⟩
    split <;> rfl
theorem q_bk.fact {C : CC} (hb : q_bk G h ρ k b w C) {i : Nat} {y : CF} (hi : C.2.1[i]? = some y) : q_ft G h ρ k y ∧ (C.2.1.map Prod.fst)[i]? = some y.1 ∧ (C.2.1.map fun y => y.2.1)[i]? = some y.2.1 := by
  obtain ⟨-, lr, lf, -, -, -, -, h5⟩ := hb
  exact ⟨h5 y (List.mem_of_getElem? hi), by rw [List.getElem?_map, hi]; rfl, by rw [List.getElem?_map, hi]; rfl⟩
theorem q_wk.st {h1 : HH} {r : Option Nat} {pl ot : Int32} {f : Option Nat} {s : Int32} {g : Nat → Int32} (hw : q_wk G h b w p t r pl ot f s g) (hh : ∀ c, c ≠ t → h1 c = h c) (ht : ∃ f', h1 t = some (.inl (G.2.1 0, 3, .inl f'))) : q_wk G h1 b w p t r pl ot f s g := by
  obtain ⟨hw1, ⟨gp, hp, hgp⟩, ⟨gt, ht0⟩, hpt⟩ := hw
  have hwt : w ≠ t := fun z => by rw [← z, hw1] at ht0; cases ht0
  exact ⟨by rw [hh w hwt]; exact hw1, ⟨gp, by rw [hh p hpt]; exact hp, hgp⟩, ht, hpt⟩
/-- the walk's object written -/
theorem q_wk.sw {h1 : HH} {r r' : Option Nat} {pl ot pl' ot' : Int32} {f f' : Option Nat} {s s' : Int32} {g : Nat → Int32} (hw : q_wk G h b w p t r pl ot f s g) (hh : ∀ c, c ≠ w → h1 c = h c) (h1w : h1 w = some (.inr (3, [va_rf r', .ref p, .ref t, .int pl', .int ot', va_rf f', .int s', .ref b]))) : q_wk G h1 b w p t r' pl' ot' f' s' g := by
  obtain ⟨hw1, ⟨gp, hp, hgp⟩, ⟨gt, ht0⟩, hpt⟩ := hw
  have hwp : p ≠ w := fun z => by rw [z, hw1] at hp; cases hp
  have hwt : t ≠ w := fun z => by rw [z, hw1] at ht0; cases ht0
  exact ⟨h1w, ⟨gp, by rw [hh p hwp]; exact hp, hgp⟩, ⟨gt, by rw [hh t hwt]; exact ht0⟩, hpt⟩
theorem q_or (a b : Bool) : ((if a then 1 else 0 : Int32) ||| (if b then 1 else 0)) = if (a || b) then 1 else 0 := by cases a <;> cases b <;> decide
theorem q_take {α : Type} {l : List α} {P : α → Bool} {j : Nat} {y : α} (hj : l[j]? = some y) : (l.take (j + 1)).any P = ((l.take j).any P || P y) := by
  rw [List.take_add_one, hj]
  simp
theorem q_fc.ne {fa t : Nat} {F : Nat → Nat} {h1 : HH} (hF : q_fc h fa F) (hh : ∀ c, c ≠ t → h1 c = h c) (ht : ∃ f', h t = some (.inl (G.2.1 0, 3, .inl f'))) : q_fc h1 fa F := by
  obtain ⟨lr, lf, hfa⟩ := hF
  obtain ⟨f', ht⟩ := ht
  exact ⟨lr, lf, by rw [hh fa (fun z => by rw [← z, hfa] at ht; cases ht)]; exact hfa⟩
theorem sp_X3_isFulfilled {C : CC} {ra : Nat} {r : Nat → Nat} {pl ot : Int32} {f : Option Nat} {s : Int32} {g : Nat → Int32} {Q : Int32 → HH → Prop} (hb : q_bk G h ρ k b w C) (hw : q_wk G h b w p t (some ra) pl ot f s g) (hr : q_rl G h ρ ra r) (h3 : r 3 ≠ 0)
    (hQ : ∀ h', (∀ c, c ≠ t → h' c = h c) → (∃ f', h' t = some (.inl (G.2.1 0, 3, .inl f'))) → Q (if (C.2.1.map fun y => y.2.1).any (fun F => (s_f2 r g F).1) then 0 else 1) h') : wp_X3_isFulfilled G h w Q := by
  have hn : (C.2.1.map Prod.fst).length < 10000 := by
    obtain ⟨-, lr, lf, -, -, -, h4, -⟩ := hb
    exact h4.2.1
  have main : ∀ d j h1, j + d = C.2.1.length → (∀ c, c ≠ t → h1 c = h c) → (∃ f', h1 t = some (.inl (G.2.1 0, 3, .inl f'))) → wp_X3_isFulfilled_L4 G w Q (d + 1) h1 (if ((C.2.1.map fun y => y.2.1).take j).any (fun F => (s_f2 r g F).1) then 1 else 0) (nI j) := by
    intro d
    induction d with
    | zero =>
      intro j h1 hj hh ht
      have hw1 := hw.st hh ht
      have hb1 := hb.kp (hw.kp (k := k) (ρ := ρ) (q_sp.of hh (Or.inr (Or.inr rfl))))
      obtain ⟨-, lr, lf, g1, -, -, g4, -⟩ := hb1
      unfold wp_X3_isFulfilled_L4
      refine w_geta_of hw1.1 rfl (w_nn_of (w_geta_of g1 rfl (w_nn_of (w_is_of g4.2.2.choose_spec.choose_spec.1 (sp_J2_size g4 ?_)))))
      rw [List.length_map] at hn ⊢
      refine br_t (nI_le (by omega) (by omega)) ?_
      have := hQ h1 hh ht
      rw [List.take_of_length_le (by rw [List.length_map]; omega)]
      cases e : (C.2.1.map fun y => y.2.1).any (fun F => (s_f2 r g F).1) with
      | true =>
        rw [e] at this
        exact ⟨fun _ => this, fun z => absurd z (by decide)⟩
      | false =>
        rw [e] at this
        exact ⟨fun z => absurd rfl z, fun _ => this⟩
    | succ d ih =>
      intro j h1 hj hh ht
      have hw1 := hw.st hh ht
      have hkp := hw.kp (k := k) (ρ := ρ) (q_sp.of hh (Or.inr (Or.inr rfl)))
      have hb1 := hb.kp hkp
      have hr1 := hr.kp hkp
      obtain ⟨y, hy⟩ : ∃ y, C.2.1[j]? = some y := ⟨_, List.getElem?_eq_getElem (by omega)⟩
      obtain ⟨hf1, hf2, hf3⟩ := hb1.fact hy
      obtain ⟨-, lr, lf, g1, -, -, g4, -⟩ := hb1
      have g5 := g4.2.2.choose_spec.choose_spec.1
      unfold wp_X3_isFulfilled_L4
      refine w_geta_of hw1.1 rfl (w_nn_of (w_geta_of g1 rfl (w_nn_of (w_is_of g5 (sp_J2_size g4 ?_)))))
      rw [List.length_map] at hn ⊢
      refine br_f (nI_ge (by omega) (by omega)) (w_geta_of hw1.1 rfl (w_nn_of (w_geta_of g1 rfl (w_nn_of (w_is_of g5 (sp_J2_get g4 hf2 (w_nn_of ?_)))))))
      obtain ⟨l1, l2, hc⟩ := hf1.c
      refine w_cast_of hc (w_is_of hw1.1 (sp_X3_isSecond hw1 hr1 h3 ⟨l1, l2, hc⟩ (fun h' hh' ht' => ?_)))
      rw [q_or, ← q_take (P := fun F => (s_f2 r g F).1) hf3, nI_1]
      exact ih (j + 1) h' (by omega) (fun c hc => by rw [hh' c hc, hh c hc]) ht'
  have := main C.2.1.length 0 h (by omega) (fun _ _ => rfl) hw.2.2.1
  exact ⟨_, this⟩
theorem sp_X3_isFirst {C : CC} {ra fa : Nat} {r F : Nat → Nat} {pl ot : Int32} {s : Int32} {g : Nat → Int32} {Q : Int32 → HH → Prop} (hb : q_bk G h ρ k b w C) (hw : q_wk G h b w p t (some ra) pl ot (some fa) s g) (hr : q_rl G h ρ ra r) (hF : q_fc h fa F)
    (hQ : ∀ h', (∀ c, c ≠ p → c ≠ t → h' c = h c) → q_wk G h' b w p t (some ra) pl ot (some fa) s (s_f1 r F).2 → Q (if s_fst r (C.2.1.map fun y => y.2.1) F then 1 else 0) h') : wp_X3_isFirst G h w Q := by
  have hw0 := hw
  obtain ⟨hw1, ⟨gp, hp, hgp⟩, ⟨gt, ht⟩, hpt⟩ := hw
  have hwp : w ≠ p := fun z => by rw [← z, hw1] at hp; cases hp
  have hwt : w ≠ t := fun z => by rw [← z, hw1] at ht; cases ht
  have htp : t ≠ p := Ne.symm hpt
  unfold wp_X3_isFirst
  refine w_geta_of hw1 rfl (sp_X2_free hp (fun h2 f2 hh2 hp2 hf2 => ?_))
  have hs2 : q_sp (q_S w p t) h h2 := q_sp.of hh2 (Or.inr (Or.inl rfl))
  have hr2 := hr.kp (hw0.kp (k := k) (ρ := ρ) hs2)
  obtain ⟨q0, q1, q2, p1, p2, p3, hra, hp1, hp2a, hp2b, hp3⟩ := hr2
  obtain ⟨lr, lf, hfa⟩ := hF
  have hfp : fa ≠ p := fun z => by rw [← z, hfa] at hp; cases hp
  have hw2 : h2 w = _ := (hh2 w hwp).trans hw1
  obtain ⟨-, hn9, b1, f1, h9, hpa, hpb, k1, k2, k3, k4⟩ := hp1
  have hbp : b1 ≠ p := fun z => by
    rw [z, hp2] at hpb
    exact q_wl.i2 (Or.inr ⟨_, (Option.some.inj hpb).symm⟩)
  refine w_geta_of hw2 rfl (w_nn_of (w_geta_of hra rfl (w_geta_of hw2 rfl (w_geta_of hw2 rfl (w_nn_of (w_is_of hpa ?_))))))
  have hfa2 : h2 fa = _ := (hh2 fa hfp).trans hfa
  refine sp_X8_fits ⟨b1, 2, f1, hpa, hpb, rfl, k1, k2, k3, k4⟩ hp2 (fun b2 hb2 => ?_) hfa2 rfl rfl rfl (fun h3 hh3 hp3 => ?_)
  · rw [hpa] at hb2
    cases hb2
    exact hbp
  have e := s_fits_cong (k := nI (r 0)) (fk := nI (F 1)) (p0 := nI (F 2)) (p1 := nI (F 3)) k3 k4 (f := f2) (g := s_g0) hf2
  have e1 : (s_fits f2 (nI (r 0)) (r 1) (r 2) (nI (F 1)) (nI (F 2)) (nI (F 3))).1 = (s_f1 r F).1 := e.1
  rw [e1]
  have hw3 : q_wk G h3 b w p t (some ra) pl ot (some fa) s (s_f1 r F).2 := ⟨by rw [hh3 w hwp]; exact hw2, ⟨_, hp3, e.2⟩, ⟨gt, by rw [hh3 t htp, hh2 t htp]; exact ht⟩, hpt⟩
  have hs3 : q_sp (q_S w p t) h h3 := hs2.tr (q_sp.of hh3 (Or.inr (Or.inl rfl)))
  have hr3 := hr.kp (hw0.kp (k := k) (ρ := ρ) hs3)
  have hb3 := hb.kp (hw0.kp (k := k) (ρ := ρ) hs3)
  have hr3' := hr3
  obtain ⟨-, -, -, p1', p2', p3', hra3, -, g1, g2, -⟩ := hr3'
  have hQ3 := hQ h3 (fun c c1 c2 => by rw [hh3 c c1, hh2 c c1]) hw3
  cases ef : (s_f1 r F).1 with
  | false =>
    have es : s_fst r (C.2.1.map fun y => y.2.1) F = false := by
      unfold s_fst
      rw [ef]
      rfl
    rw [es] at hQ3
    exact ⟨fun _ => hQ3, fun z => absurd rfl z⟩
  | true =>
    refine ⟨fun z => absurd z (by decide), fun _ => w_geta_of hw3.1 rfl (w_nn_of (w_getr_of hra3 rfl ⟨fun z => ?_, fun a z => ?_⟩))⟩
    · have h0 : r 3 = 0 := by
        rcases Nat.eq_zero_or_pos (r 3) with q | q
        · exact q
        · obtain ⟨p9, e9, -⟩ := g2 (by omega)
          rw [z] at e9
          cases e9
      have es : s_fst r (C.2.1.map fun y => y.2.1) F = true := by
        unfold s_fst
        rw [ef, h0]
        rfl
      rw [es] at hQ3
      exact hQ3
    · have h0 : r 3 ≠ 0 := fun q => by
        have := g1 q
        rw [z] at this
        cases this
      refine w_geta_of hw3.1 rfl (w_nn_of (w_geti_of hra3 rfl ?_))
      by_cases h2 : r 3 = 2
      · rw [if_pos h2]
        refine ⟨fun q => absurd q (by decide), fun _ => w_is_of hw3.1 (sp_X3_isFulfilled hb3 hw3 hr3 h0 (fun h' hh' ht' => ?_))⟩
        have hQ4 := hQ h' (fun c c1 c2 => by rw [hh' c c2, hh3 c c1, hh2 c c1]) (hw3.st hh' ht')
        have es : s_fst r (C.2.1.map fun y => y.2.1) F = !((C.2.1.map fun y => y.2.1).any fun F' => (s_f2 r (s_f1 r F).2 F').1) := by
          unfold s_fst
          rw [ef, h2]
          rfl
        rw [es] at hQ4
        cases e : (C.2.1.map fun y => y.2.1).any (fun F' => (s_f2 r (s_f1 r F).2 F').1) with
        | true =>
          rw [e] at hQ4
          exact ⟨fun _ => hQ4, fun q => absurd rfl q⟩
        | false =>
          rw [e] at hQ4
          exact ⟨fun q => absurd q (by decide), fun _ => hQ4⟩
      · rw [if_neg h2]
        have es : s_fst r (C.2.1.map fun y => y.2.1) F = true := by
          unfold s_fst
          rw [ef]
          simp [h2]
        rw [es] at hQ3
        exact ⟨fun _ => hQ3, fun q => absurd rfl q⟩
end WK
/-! the walk goes on -/
def q_fs (C : CC) : List (Nat → Nat) := C.2.1.map fun y => y.2.1
/-- a walk at a place: the next mark is q_ps pl ot -/
def q_wp (G : GG) (h : HH) (b w p t ra : Nat) (r : Nat → Nat) (C : CC) (pl : Nat) (ot : Option Nat) (f : Option Nat) (s : Int32) : Prop :=
  ∃ g, q_wk G h b w p t (some ra) (nI pl) (nO ot) f s g ∧ pl ≤ C.2.1.length ∧ (r 3 ≠ 1 → s = -1) ∧ ∀ o, ot = some o → o ≤ C.2.1.length ∧ r 3 = 1 ∧ ∃ y, C.2.1[pl]? = some y ∧ f = some y.1 ∧ (s_f1 r y.2.1).1 = true ∧ ∀ i, i < 3 → g i = (s_f1 r y.2.1).2 i
def q_ps (pl : Nat) (ot : Option Nat) : Nat := 21 * pl + match ot with | none => 0 | some o => o + 1
/-- a walk that stands at a mark: its first fact, its second one's number -/
def q_at (C : CC) (c : Nat) (f : Option Nat) (s : Int32) : Prop := ∃ y, C.2.1[c / 21]? = some y ∧ f = some y.1 ∧ (c % 21 = 0 → s = -1) ∧ (c % 21 ≠ 0 → ∃ z, C.2.1[c % 21 - 1]? = some z ∧ s = nI (z.2.1 0))
theorem s_is_0 {r F : Nat → Nat} {Fs : List (Nat → Nat)} {pl : Nat} (h1 : Fs[pl]? = some F) : s_is r Fs (21 * pl) = (r 3 != 1 && s_fst r Fs F) := by
  unfold s_is
  rw [show 21 * pl / 21 = pl by omega, h1]
  simp
theorem s_is_1 {r F F' : Nat → Nat} {Fs : List (Nat → Nat)} {pl o : Nat} (h1 : Fs[pl]? = some F) (h2 : Fs[o]? = some F') (ho : o < 20) : s_is r Fs (21 * pl + (o + 1)) = (r 3 == 1 && (s_f1 r F).1 && (s_f2 r (s_f1 r F).2 F').1) := by
  unfold s_is
  rw [show (21 * pl + (o + 1)) / 21 = pl by omega, h1]
  simp only
  rw [if_neg (by omega), show (21 * pl + (o + 1)) % 21 - 1 = o by omega, h2]
theorem s_is_n {r : Nat → Nat} {Fs : List (Nat → Nat)} {c : Nat} (h : Fs.length ≤ c / 21 ∨ (c % 21 ≠ 0 ∧ Fs.length ≤ c % 21 - 1)) : s_is r Fs c = false := by
  unfold s_is
  rcases h with q | ⟨q1, q2⟩
  · rw [List.getElem?_eq_none q]
  · split
    · rfl
    · rw [if_neg q1, List.getElem?_eq_none q2]
theorem s_is_f {r F : Nat → Nat} {Fs : List (Nat → Nat)} {pl c : Nat} (h1 : Fs[pl]? = some F) (h2 : s_fst r Fs F = false) (hc : c / 21 = pl) : s_is r Fs c = false := by
  unfold s_is
  rw [hc, h1]
  simp only
  split
  · rw [h2, Bool.and_false]
  · split
    · rfl
    · by_cases q : r 3 = 1
      · have : (s_f1 r F).1 = false := by
          unfold s_fst at h2
          simpa [q] using h2
        rw [this, Bool.and_false, Bool.false_and]
      · simp [q]
theorem s_is_t {r : Nat → Nat} {Fs : List (Nat → Nat)} {c : Nat} (h1 : r 3 ≠ 1) (hc : c % 21 ≠ 0) : s_is r Fs c = false := by
  unfold s_is
  split
  · rfl
  · rw [if_neg hc]
    split
    · rfl
    · simp [h1]
section WK2
variable {G : GG} {h : HH} {ρ : RO} {k b w p t : Nat}
theorem q_rl.t2 {ra : Nat} {r : Nat → Nat} (hr : q_rl G h ρ ra r) (h3 : r 3 ≠ 0) : r 5 ≤ 12 ∧ r 6 ≤ 12 := by
  obtain ⟨-, -, -, p1, p2, p3, -, -, -, h6, -⟩ := hr
  obtain ⟨pp, -, -, -, b1, f1, -, -, -, -, -, k1, k2⟩ := h6 h3
  exact ⟨k1, k2⟩
theorem q_bk.len {C : CC} (hb : q_bk G h ρ k b w C) : ∃ lr lf, h b = some (.inr (2, q_bv w lr lf C.2.2)) ∧ q_ls G h ρ (k, 4) lr (C.1.map Prod.fst) ∧ q_ls G h ρ (k, 6) lf (C.2.1.map Prod.fst) ∧ (∃ fs, h lr = some (.inr (4, fs))) ∧ ∃ fs, h lf = some (.inr (4, fs)) := by
  obtain ⟨-, lr, lf, h1, h2, -, h4, -⟩ := hb
  exact ⟨lr, lf, h1, h2, h4, ⟨_, h2.2.2.choose_spec.choose_spec.1⟩, ⟨_, h4.2.2.choose_spec.choose_spec.1⟩⟩
section GO
variable {ra : Nat} {r : Nat → Nat} {C : CC} {Q : Int32 → HH → Prop}
theorem sp_X3_goesOn_end {k0 : HH → Prop} {n9 : Nat} {ot : Int32} {f : Option Nat} {s : Int32} {g : Nat → Int32} {x1 : Nat} (hb : q_bk G h ρ k b w C) (hw : q_wk G h b w p t (some ra) (nI x1) ot f s g) (hl : C.2.1.length < 2 ^ 31) (hot : nI C.2.1.length ≤ ot)
    (hk : ∀ h2, (∀ c, c ≠ w → h2 c = h c) → q_wk G h2 b w p t (some ra) (nI (x1 + 1)) (-1) f s g → k0 h2) : wp_X3_goesOn_L99 G w Q k0 (n9 + 1) h := by
  obtain ⟨lr, lf, g1, -, g2, -, fs4, g4⟩ := hb.len
  unfold wp_X3_goesOn_L99
  refine w_geti_of hw.1 rfl (w_geta_of hw.1 rfl (w_nn_of (w_geta_of g1 rfl (w_nn_of (w_is_of g4 (sp_J2_size g2 ?_))))))
  rw [List.length_map]
  refine br_t hot (w_put_of hw.1 (Nat.le_of_ble_eq_true rfl) rfl (w_geti_of q_h_same rfl (w_put_of q_h_same (Nat.le_of_ble_eq_true rfl) rfl ?_)))
  rw [q_h_up, nI_1]
  exact hk _ (fun c hc => q_h_ne hc) (hw.sw (fun c hc => q_h_ne hc) q_h_same)
theorem sp_X3_goesOn_L99 {r0 : Option Nat} {pl0 ot0 : Int32} {f0 : Option Nat} {s0 : Int32} {g0 : Nat → Int32} {k0 : HH → Prop} {q0 pl : Nat} {f : Option Nat} (hb : q_bk G h ρ k b w C) (hw0 : q_wk G h b w p t r0 pl0 ot0 f0 s0 g0) (hr : q_rl G h ρ ra r) (hn : C.2.1.length ≤ 20) (hpl : pl < C.2.1.length)
    (hk : ∀ h2 s2, q_sp (q_S w p t) h h2 → q_wp G h2 b w p t ra r C (pl + 1) none f s2 → (∀ c', q0 ≤ c' → c' < 21 * (pl + 1) → s_is r (q_fs C) c' = false) → k0 h2)
    (hQ : ∀ h2 c pl' ot' f' s', q_sp (q_S w p t) h h2 → q0 ≤ c → (∀ c', q0 ≤ c' → c' < c → s_is r (q_fs C) c' = false) → s_is r (q_fs C) c = true → c < q_ps pl' ot' → (∀ c', c < c' → c' < q_ps pl' ot' → s_is r (q_fs C) c' = false) → q_wp G h2 b w p t ra r C pl' ot' f' s' → q_at C c f' s' → Q 1 h2) :
    ∀ d o h1 s, o + d = C.2.1.length → q_sp (q_S w p t) h h1 → q_wp G h1 b w p t ra r C pl (some o) f s → q0 ≤ 21 * pl + (o + 1) → (∀ c', q0 ≤ c' → c' < 21 * pl + (o + 1) → s_is r (q_fs C) c' = false) → wp_X3_goesOn_L99 G w Q k0 (d + 1) h1 := by
  intro d
  induction d with
  | zero =>
    intro o h1 s hd hs ⟨g, hw, hq1, hq2, hq3⟩ hq0 hno
    obtain ⟨-, e3, y, hy, hf, hf1, hg⟩ := hq3 o rfl
    refine sp_X3_goesOn_end (hb.kp (hw0.kp hs)) hw (by omega) (nI_le (a := C.2.1.length) (b := o) (by omega) (by omega)) (fun h2 hh hw2 => hk h2 s (hs.tr (q_sp.of hh (Or.inl rfl))) ⟨g, hw2, by omega, hq2, fun o h => by cases h⟩ (fun c' h1 h2 => ?_))
    rcases Nat.lt_or_ge c' (21 * pl + (o + 1)) with q | q
    · exact hno c' h1 q
    · refine s_is_n (Or.inr ⟨by omega, ?_⟩)
      rw [q_fs, List.length_map]
      omega
  | succ d ih =>
    intro o h1 s hd hs ⟨g, hw, hq1, hq2, hq3⟩ hq0 hno
    obtain ⟨-, e3, y, hy, hf, hf1, hg⟩ := hq3 o rfl
    have hb1 := hb.kp (hw0.kp hs)
    obtain ⟨lr, lf, g1, -, g2, -, fs4, g4⟩ := hb1.len
    obtain ⟨z, hz⟩ : ∃ z, C.2.1[o]? = some z := ⟨_, List.getElem?_eq_getElem (by omega)⟩
    obtain ⟨hz1, hz2, hz3⟩ := hb1.fact hz
    obtain ⟨l1, l2, hc⟩ := hz1.c
    unfold wp_X3_goesOn_L99
    refine w_geti_of hw.1 rfl (w_geta_of hw.1 rfl (w_nn_of (w_geta_of g1 rfl (w_nn_of (w_is_of g4 (sp_J2_size g2 ?_))))))
    rw [List.length_map]
    refine br_f (nI_ge (a := o) (by omega) (by omega)) (w_geta_of hw.1 rfl (w_nn_of (w_geta_of g1 rfl (w_geti_of hw.1 rfl (w_nn_of (w_is_of g4 (sp_J2_get g2 hz2 (w_nn_of (w_cast_of hc (w_geti_of hw.1 rfl (w_put_of hw.1 (Nat.le_of_ble_eq_true rfl) rfl ?_)))))))))))
    have hw2 : q_wk G (va_up h1 w (some (.inr (3, [.ref ra, .ref p, .ref t, .int (nI pl), .int (nI o + 1), va_rf f, .int s, .ref b])))) b w p t (some ra) (nI pl) (nI o + 1) f s g := hw.sw (fun c hc => q_h_ne hc) q_h_same
    have hs2 := hs.tr (q_sp.up (S := q_S w p t) (h := h1) (x := some (.inr (3, [.ref ra, .ref p, .ref t, .int (nI pl), .int (nI o + 1), va_rf f, .int s, .ref b]))) (Or.inl rfl))
    have hr2 := hr.kp (hw0.kp (k := k) (ρ := ρ) hs2)
    have hzw : z.1 ≠ w := fun e => by rw [e, hw.1] at hc; cases hc
    have hc2 := (q_h_ne (h := h1) (a := w) (e := some (.inr (3, [.ref ra, .ref p, .ref t, .int (nI pl), .int (nI o + 1), va_rf f, .int s, .ref b]))) hzw).trans hc
    refine w_is_of q_h_same (sp_X3_isSecond hw2 hr2 (by omega) ⟨l1, l2, hc2⟩ (fun h3 hh3 ht3 => ?_))
    have hw3 := hw2.st hh3 ht3
    have hs3 := hs2.tr (q_sp.of hh3 (Or.inr (Or.inr rfl)))
    obtain ⟨t5, t6⟩ := hr.t2 (by omega)
    have e1 : (s_f2 r g z.2.1).1 = (s_f2 r (s_f1 r y.2.1).2 z.2.1).1 := (s_fits_cong t5 t6 hg).1
    have e2 : s_is r (q_fs C) (21 * pl + (o + 1)) = (s_f2 r (s_f1 r y.2.1).2 z.2.1).1 := by
      rw [s_is_1 (F := y.2.1) (F' := z.2.1) (by rw [q_fs, List.getElem?_map, hy]; rfl) (by rw [q_fs, List.getElem?_map, hz]; rfl) (by omega), e3, hf1]
      rfl
    rw [e1, ← e2]
    rw [nI_1] at hw3
    cases e : s_is r (q_fs C) (21 * pl + (o + 1)) with
    | false =>
      refine br_t rfl (ih (o + 1) h3 s (by omega) hs3 ⟨g, hw3, hq1, hq2, fun o' ho' => ?_⟩ (by omega) (fun c' h1 h2 => ?_))
      · cases ho'
        exact ⟨by omega, e3, y, hy, hf, hf1, hg⟩
      · rcases Nat.lt_or_ge c' (21 * pl + (o + 1)) with q | q
        · exact hno c' h1 q
        · rw [show c' = 21 * pl + (o + 1) by omega]
          exact e
    | true =>
      have hct : z.1 ≠ t := fun e => by
        obtain ⟨f', ht'⟩ := hw2.2.2.1
        exact q_c_ne hc2 ht' nofun e
      refine br_f (by decide) (w_geti_of ((hh3 _ hct).trans hc2) rfl (w_put_of hw3.1 (Nat.le_of_ble_eq_true rfl) rfl ?_))
      refine hQ _ (21 * pl + (o + 1)) pl (some (o + 1)) f (nI (z.2.1 0)) (hs3.tr (q_sp.up (Or.inl rfl))) hq0 hno e ?_ (fun c' h1 h2 => ?_) ⟨g, hw3.sw (fun c hc => q_h_ne hc) q_h_same, hq1, fun h => absurd e3 h, fun o' ho' => ?_⟩ ⟨y, ?_, hf, fun h => by omega, fun _ => ⟨z, ?_, rfl⟩⟩
      · simp only [q_ps]; omega
      · simp only [q_ps] at h2; omega
      · cases ho'
        exact ⟨by omega, e3, y, hy, hf, hf1, hg⟩
      · rw [show (21 * pl + (o + 1)) / 21 = pl by omega]; exact hy
      · rw [show (21 * pl + (o + 1)) % 21 - 1 = o by omega]; exact hz
theorem sp_X3_goesOn_L0 {r0 : Option Nat} {pl0 ot0 : Int32} {f0 : Option Nat} {s0 : Int32} {g0 : Nat → Int32} {q0 : Nat} (hb : q_bk G h ρ k b w C) (hw0 : q_wk G h b w p t r0 pl0 ot0 f0 s0 g0) (hr : q_rl G h ρ ra r) (hn : C.2.1.length ≤ 20)
    (hQ : ∀ h2 c pl' ot' f' s', q_sp (q_S w p t) h h2 → q0 ≤ c → (∀ c', q0 ≤ c' → c' < c → s_is r (q_fs C) c' = false) → s_is r (q_fs C) c = true → c < q_ps pl' ot' → (∀ c', c < c' → c' < q_ps pl' ot' → s_is r (q_fs C) c' = false) → q_wp G h2 b w p t ra r C pl' ot' f' s' → q_at C c f' s' → Q 1 h2)
    (hQ0 : ∀ h2 pl' ot' f' s', q_sp (q_S w p t) h h2 → (∀ c', q0 ≤ c' → s_is r (q_fs C) c' = false) → q_wp G h2 b w p t ra r C pl' ot' f' s' → Q 0 h2) :
    ∀ d pl ot f s h1, pl + d = C.2.1.length → q_sp (q_S w p t) h h1 → q_wp G h1 b w p t ra r C pl ot f s → q0 ≤ q_ps pl ot → (∀ c', q0 ≤ c' → c' < q_ps pl ot → s_is r (q_fs C) c' = false) → wp_X3_goesOn_L0 G w Q (d + 1) h1 := by
  intro d
  induction d with
  | zero =>
    intro pl ot f s h1 hd hs hwp hq0 hno
    have hwp' := hwp
    obtain ⟨g, hw, hq1, hq2, hq3⟩ := hwp
    have hb1 := hb.kp (hw0.kp hs)
    obtain ⟨lr, lf, g1, -, g2, -, fs4, g4⟩ := hb1.len
    unfold wp_X3_goesOn_L0
    refine w_geti_of hw.1 rfl <| w_geta_of hw.1 rfl <| w_nn_of <| w_geta_of g1 rfl <| w_nn_of <| w_is_of g4 <| sp_J2_size g2 ?_
    rw [List.length_map]
    refine br_t (nI_le (a := C.2.1.length) (b := pl) (by omega) (by omega)) (hQ0 h1 pl ot f s hs (fun c' h1 => ?_) hwp')
    rcases Nat.lt_or_ge c' (q_ps pl ot) with q | q
    · exact hno c' h1 q
    · refine s_is_n (Or.inl ?_)
      rw [q_fs, List.length_map]
      simp only [q_ps] at q
      omega
  | succ d ih =>
    intro pl ot f s h1 hd hs hwp hq0 hno
    obtain ⟨g, hw, hq1, hq2, hq3⟩ := hwp
    have hb1 := hb.kp (hw0.kp hs)
    obtain ⟨lr, lf, g1, -, g2, -, fs4, g4⟩ := hb1.len
    have hkk : ∀ h2 s2 f2, q_sp (q_S w p t) h h2 → q_wp G h2 b w p t ra r C (pl + 1) none f2 s2 → (∀ c', q0 ≤ c' → c' < 21 * (pl + 1) → s_is r (q_fs C) c' = false) → q0 ≤ 21 * (pl + 1) → wp_X3_goesOn_L0 G w Q (d + 1) h2 := fun h2 s2 f2 a1 a2 a3 a4 => ih (pl + 1) none f2 s2 h2 (by omega) a1 a2 a4 a3
    have hin : ∀ o f2 s2 h3, q_sp (q_S w p t) h h3 → q_wp G h3 b w p t ra r C pl (some o) f2 s2 → q0 ≤ 21 * pl + (o + 1) → o ≤ C.2.1.length → (∀ c', q0 ≤ c' → c' < 21 * pl + (o + 1) → s_is r (q_fs C) c' = false) → ∃ n99, wp_X3_goesOn_L99 G w Q (fun h => wp_X3_goesOn_L0 G w Q (d + 1) h) n99 h3 := fun o f2 s2 h3 a1 a2 a3 a5 a4 =>
      ⟨_, sp_X3_goesOn_L99 (k0 := fun h => wp_X3_goesOn_L0 G w Q (d + 1) h) hb hw0 hr hn (by omega) (fun h2 s3 b1 b2 b3 => hkk h2 s3 f2 b1 b2 b3 (by omega)) hQ (C.2.1.length - o) o h3 s2 (by omega) a1 a2 a3 a4⟩
    unfold wp_X3_goesOn_L0
    refine w_geti_of hw.1 rfl <| w_geta_of hw.1 rfl <| w_nn_of <| w_geta_of g1 rfl <| w_nn_of <| w_is_of g4 <| sp_J2_size g2 ?_
    rw [List.length_map]
    refine br_f (nI_ge (a := pl) (by omega) (by omega)) <| w_geti_of hw.1 rfl ?_
    cases ot with
    | some o =>
      have ho := (hq3 o rfl).1
      refine q_bf (fun z => ?_) (hin o f s h1 hs ⟨g, hw, hq1, hq2, hq3⟩ hq0 ho hno)
      have z' : nI o = -1 := z
      exact nI_pos (n := o) (by omega) (by rw [z']; decide)
    | none =>
      refine q_bt rfl ?_
      obtain ⟨y, hy⟩ : ∃ y, C.2.1[pl]? = some y := ⟨_, List.getElem?_eq_getElem (by omega)⟩
      obtain ⟨hz1, hz2, hz3⟩ := hb1.fact hy
      obtain ⟨l1, l2, hc⟩ := hz1.c
      refine w_geta_of hw.1 rfl <| w_nn_of <| w_geta_of g1 rfl <| w_geti_of hw.1 rfl <| w_nn_of <| w_is_of g4 <| sp_J2_get g2 hz2 <| w_nn_of <| w_cast_of hc <| w_put_of hw.1 (Nat.le_of_ble_eq_true rfl) rfl ?_
      have hw2 : q_wk G (va_up h1 w (some (.inr (3, [.ref ra, .ref p, .ref t, .int (nI pl), .int (-1), .ref y.1, .int s, .ref b])))) b w p t (some ra) (nI pl) (-1) (some y.1) s g := hw.sw (fun c hc => q_h_ne hc) q_h_same
      have hs2 := hs.tr (q_sp.up (S := q_S w p t) (h := h1) (x := some (.inr (3, [.ref ra, .ref p, .ref t, .int (nI pl), .int (-1), .ref y.1, .int s, .ref b]))) (Or.inl rfl))
      have hyw : y.1 ≠ w := q_c_ne hc hw.1 (by intro q; cases q)
      have hF2 : q_fc (va_up h1 w (some (.inr (3, [.ref ra, .ref p, .ref t, .int (nI pl), .int (-1), .ref y.1, .int s, .ref b])))) y.1 y.2.1 := ⟨l1, l2, by rw [q_h_ne hyw]; exact hc⟩
      refine w_is_of q_h_same (sp_X3_isFirst (hb.kp (hw0.kp hs2)) hw2 (hr.kp (k := k) (hw0.kp hs2)) hF2 (fun h3 hh3 hw3 => ?_))
      have hs3 : q_sp (q_S w p t) h h3 := hs2.tr (fun c e hc hS => by
        rw [hh3 c (fun z => hS (Or.inr (Or.inl z))) (fun z => hS (Or.inr (Or.inr z)))]
        exact hc)
      have hFy : (q_fs C)[pl]? = some y.2.1 := by rw [q_fs, List.getElem?_map, hy]; rfl
      have hb3 := hb.kp (hw0.kp hs3)
      obtain ⟨lr3, lf3, j1, -, j2, -, fs5, j4⟩ := hb3.len
      have hr3 := hr.kp (hw0.kp (k := k) (ρ := ρ) hs3)
      have hr3' := hr3
      obtain ⟨-, hr2, hr10, p1', p2', p3', hra3, -, m1, m2, -⟩ := hr3'
      simp only [q_ps, Nat.add_zero] at hq0 hno
      cases es : s_fst r (C.2.1.map fun y => y.2.1) y.2.1 with
      | false =>
        refine br_t rfl <| br_t rfl <| w_geta_of hw3.1 rfl <| w_nn_of <| w_geta_of j1 rfl <| w_nn_of <| w_is_of j4 <| sp_J2_size j2 <| w_put_of hw3.1 (Nat.le_of_ble_eq_true rfl) rfl ?_
        rw [List.length_map]
        have hw4 : q_wk G (va_up h3 w (some (.inr (3, [.ref ra, .ref p, .ref t, .int (nI pl), .int (nI C.2.1.length), .ref y.1, .int s, .ref b])))) b w p t (some ra) (nI pl) (nI C.2.1.length) (some y.1) s (s_f1 r y.2.1).2 := hw3.sw (fun c hc => q_h_ne hc) q_h_same
        have hs4 := hs3.tr (q_sp.up (S := q_S w p t) (h := h3) (x := some (.inr (3, [.ref ra, .ref p, .ref t, .int (nI pl), .int (nI C.2.1.length), .ref y.1, .int s, .ref b]))) (Or.inl rfl))
        refine ⟨1, sp_X3_goesOn_end (n9 := 0) (hb.kp (hw0.kp hs4)) hw4 (by omega) (nI_le (Nat.le_refl _) (by omega)) (fun h5 hh5 hw5 => hkk h5 s (some y.1) (hs4.tr (q_sp.of hh5 (Or.inl rfl))) ⟨_, hw5, by omega, hq2, fun o h => by cases h⟩ (fun c' h1 h2 => ?_) (by omega))⟩
        rcases Nat.lt_or_ge c' (21 * pl) with q | q
        · exact hno c' h1 q
        · exact s_is_f hFy es (by omega)
      | true =>
        refine br_f (by decide) <| w_geta_of hw3.1 rfl <| w_nn_of <| w_is_of hra3 <| sp_X9_wantsTwo (s2 := .null) hra3 ?_
        by_cases h31 : r 3 = 1
        · obtain ⟨pp, rfl, -⟩ := m2 (by omega)
          rw [if_pos ⟨by simp, by rw [if_neg (by omega)]⟩]
          refine q_bf (by decide) <| br_f (by decide) <| w_put_of hw3.1 (Nat.le_of_ble_eq_true rfl) rfl ?_
          have hf1 : (s_f1 r y.2.1).1 = true := by
            unfold s_fst at es
            simpa [h31] using es
          refine hin 0 (some y.1) s _ (hs3.tr (q_sp.up (Or.inl rfl))) ⟨_, hw3.sw (ot' := 0) (fun c hc => q_h_ne hc) q_h_same, by omega, hq2, fun o ho => ?_⟩ (by omega) (by omega) (fun c' h1 h2 => ?_)
          · cases ho
            exact ⟨by omega, h31, y, hy, rfl, hf1, fun _ _ => rfl⟩
          · rcases Nat.lt_or_ge c' (21 * pl) with q | q
            · exact hno c' h1 q
            · rw [show c' = 21 * pl by omega, s_is_0 hFy, h31]
              rfl
        · rw [if_neg (fun q => by
            obtain ⟨q1, q2⟩ := q
            by_cases h0 : r 3 = 0
            · exact q1 (m1 h0)
            · rw [if_pos (by omega)] at q2
              exact absurd q2 (by decide))]
          refine q_bt rfl <| w_geti_of hw3.1 rfl <| w_put_of hw3.1 (Nat.le_of_ble_eq_true rfl) rfl ?_
          rw [nI_1]
          refine hQ _ (21 * pl) (pl + 1) none (some y.1) s (hs3.tr (q_sp.up (Or.inl rfl))) hq0 hno ?_ ?_ (fun c' h1 h2 => ?_) ⟨_, hw3.sw (fun c hc => q_h_ne hc) q_h_same, by omega, hq2, fun o ho => by cases ho⟩ ⟨y, ?_, rfl, fun _ => hq2 h31, fun q => absurd (by omega) q⟩
          · rw [s_is_0 hFy, show s_fst r (q_fs C) y.2.1 = true from es]
            simp [h31]
          · simp only [q_ps]; omega
          · simp only [q_ps] at h2
            exact s_is_t h31 (by omega)
          · rw [show 21 * pl / 21 = pl by omega]; exact hy
/-- the walk goes on to the next match of its rule -/
theorem sp_X3_goesOn {pl : Nat} {ot f : Option Nat} {s : Int32} (hb : q_bk G h ρ k b w C) (hr : q_rl G h ρ ra r) (hn : C.2.1.length ≤ 20) (hp : q_wp G h b w p t ra r C pl ot f s)
    (hQ : ∀ h2 c pl' ot' f' s', q_sp (q_S w p t) h h2 → q_ps pl ot ≤ c → (∀ c', q_ps pl ot ≤ c' → c' < c → s_is r (q_fs C) c' = false) → s_is r (q_fs C) c = true → c < q_ps pl' ot' → (∀ c', c < c' → c' < q_ps pl' ot' → s_is r (q_fs C) c' = false) → q_wp G h2 b w p t ra r C pl' ot' f' s' → q_at C c f' s' → Q 1 h2)
    (hQ0 : ∀ h2 pl' ot' f' s', q_sp (q_S w p t) h h2 → (∀ c', q_ps pl ot ≤ c' → s_is r (q_fs C) c' = false) → q_wp G h2 b w p t ra r C pl' ot' f' s' → Q 0 h2) : wp_X3_goesOn G h w Q := by
  have hp' := hp
  obtain ⟨g, hw, hq1, -, -⟩ := hp
  exact ⟨_, sp_X3_goesOn_L0 hb hw hr hn hQ hQ0 (C.2.1.length - pl) pl ot f s h (by omega) q_sp.rf hp' (Nat.le_refl _) (fun c' h1 h2 => by omega)⟩
end GO
end WK2
