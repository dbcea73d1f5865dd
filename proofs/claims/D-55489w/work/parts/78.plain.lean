/-! GROUNDS AND DEPTHS: what comes from told facts (T) by reasons (R m a b: m has a reason with first a, second b) -/
set_option maxRecDepth 100000
def dv_g (T : Nat → Prop) (R : Nat → Nat → Option Nat → Prop) (n : Nat) : Prop := ∀ P : Nat → Prop, (∀ n, T n → P n) → (∀ m a b, R m a b → P a → (∀ c, b = some c → P c) → P m) → P n
/-- its depth is at most d -/
def dv_d (T : Nat → Prop) (R : Nat → Nat → Option Nat → Prop) (n d : Nat) : Prop := ∀ P : Nat → Nat → Prop, (∀ n d, T n → P n d) → (∀ m a b d d', R m a b → P a d → (∀ c, b = some c → P c d) → d < d' → P m d') → P n d
section DV
variable {T : Nat → Prop} {R : Nat → Nat → Option Nat → Prop}
theorem dv_g.told {n : Nat} (h : T n) : dv_g T R n := fun _ h1 _ => h1 n h
theorem dv_g.step {m a : Nat} {b : Option Nat} (h : R m a b) (ha : dv_g T R a) (hb : ∀ c, b = some c → dv_g T R c) : dv_g T R m := fun P h1 h2 => h2 m a b h (ha P h1 h2) (fun c hc => hb c hc P h1 h2)
theorem dv_d.told {n d : Nat} (h : T n) : dv_d T R n d := fun _ h1 _ => h1 n d h
theorem dv_d.step {m a d d' : Nat} {b : Option Nat} (h : R m a b) (ha : dv_d T R a d) (hb : ∀ c, b = some c → dv_d T R c d) (hd : d < d') : dv_d T R m d' := fun P h1 h2 => h2 m a b d d' h (ha P h1 h2) (fun c hc => hb c hc P h1 h2) hd
theorem dv_d.mono {n d d' : Nat} (h : dv_d T R n d) (hd : d ≤ d') : dv_d T R n d' := by
  have := h (fun n d => ∀ d', d ≤ d' → dv_d T R n d') (fun n d ht d' _ => dv_d.told ht) (fun m a b d d1 hr ha hb hd1 d2 hd2 => dv_d.step hr (ha d (Nat.le_refl _)) (fun c hc => hb c hc d (Nat.le_refl _)) (Nat.lt_of_lt_of_le hd1 hd2))
  exact this d' hd
theorem dv_d.g {n d : Nat} (h : dv_d T R n d) : dv_g T R n := h (fun n _ => dv_g T R n) (fun _ _ ht => dv_g.told ht) (fun _ _ _ _ _ hr ha hb _ => dv_g.step hr ha hb)
theorem dv_g.d {n : Nat} (h : dv_g T R n) : ∃ d, dv_d T R n d := by
  refine h (fun n => ∃ d, dv_d T R n d) (fun n ht => ⟨0, dv_d.told ht⟩) (fun m a b hr ⟨d1, ha⟩ hb => ?_)
  cases b with
  | none => exact ⟨d1 + 1, dv_d.step hr ha (fun c hc => by cases hc) (Nat.lt_succ_self _)⟩
  | some c =>
    obtain ⟨d2, hc⟩ := hb c rfl
    exact ⟨max d1 d2 + 1, dv_d.step hr (ha.mono (Nat.le_max_left _ _)) (fun c' hc' => by cases hc'; exact hc.mono (Nat.le_max_right _ _)) (Nat.lt_succ_self _)⟩
theorem dv_d.inv {n d : Nat} (h : dv_d T R n d) : T n ∨ ∃ a b d0, R n a b ∧ d0 < d ∧ dv_d T R a d0 ∧ ∀ c, b = some c → dv_d T R c d0 := by
  have := h (fun n d => dv_d T R n d ∧ (T n ∨ ∃ a b d0, R n a b ∧ d0 < d ∧ dv_d T R a d0 ∧ ∀ c, b = some c → dv_d T R c d0)) (fun n d ht => ⟨dv_d.told ht, Or.inl ht⟩)
    (fun m a b d d' hr ha hb hd => ⟨dv_d.step hr ha.1 (fun c hc => (hb c hc).1) hd, Or.inr ⟨a, b, d, hr, hd, ha.1, fun c hc => (hb c hc).1⟩⟩)
  exact this.2
theorem dv_g.inv {n : Nat} (h : dv_g T R n) : T n ∨ ∃ a b, R n a b ∧ dv_g T R a ∧ ∀ c, b = some c → dv_g T R c := by
  obtain ⟨d, hd⟩ := h.d
  rcases hd.inv with q | ⟨a, b, d0, h1, -, h2, h3⟩
  · exact Or.inl q
  · exact Or.inr ⟨a, b, h1, h2.g, fun c hc => (h3 c hc).g⟩
/-- the least depth -/
def dv_l (T : Nat → Prop) (R : Nat → Nat → Option Nat → Prop) (n d : Nat) : Prop := dv_d T R n d ∧ ∀ d', dv_d T R n d' → d ≤ d'
theorem dv_l.uq {n d d' : Nat} (h : dv_l T R n d) (h' : dv_l T R n d') : d = d' := Nat.le_antisymm (h.2 _ h'.1) (h'.2 _ h.1)
theorem dv_g.l {n : Nat} (h : dv_g T R n) : ∃ d, dv_l T R n d := by
  obtain ⟨d, hd⟩ := h.d
  have : ∀ k d, d ≤ k → dv_d T R n d → ∃ d, dv_l T R n d := by
    intro k
    induction k with
    | zero =>
      intro d hk hd
      exact ⟨d, hd, fun d' _ => by omega⟩
    | succ k ih =>
      intro d hk hd
      by_cases hex : ∃ d', d' < d ∧ dv_d T R n d'
      · obtain ⟨d', h1, h2⟩ := hex
        exact ih d' (by omega) h2
      · refine ⟨d, hd, fun d' hd' => ?_⟩
        rcases Nat.lt_or_ge d' d with q | q
        · exact absurd ⟨d', q, hd'⟩ hex
        · exact q
  exact this d d (Nat.le_refl _) hd
theorem dv_pg : ∀ (xs ys : List Nat), xs.Nodup → (∀ x1 ∈ xs, x1 ∈ ys) → xs.length ≤ ys.length := by
  intro xs
  induction xs with
  | nil => intro ys _ _; exact Nat.zero_le _
  | cons z zs ih =>
    intro ys hn hs
    obtain ⟨h1, h2⟩ := List.nodup_cons.mp hn
    have hz : z ∈ ys := hs z List.mem_cons_self
    have := ih (ys.erase z) h2 (fun w hw => by
      have hwz : w ≠ z := fun q => h1 (q ▸ hw)
      exact (List.mem_erase_of_ne hwz).mpr (hs w (List.mem_cons_of_mem _ hw)))
    rw [List.length_erase_of_mem hz] at this
    have h0 : 0 < ys.length := List.length_pos_of_mem hz
    simp only [List.length_cons]
    omega
/-- a fact of least depth d stands on d + 1 facts -/
theorem dv_l.chain {N : List Nat} (hT : ∀ n, T n → n ∈ N) (hR : ∀ m a b, R m a b → m ∈ N) : ∀ d n, dv_l T R n d → ∃ xs : List Nat, xs.length = d + 1 ∧ xs.Nodup ∧ (∀ x1 ∈ xs, x1 ∈ N) ∧ ∀ x1 ∈ xs, dv_d T R x1 d := by
  intro d
  induction d with
  | zero =>
    intro n hn
    refine ⟨[n], rfl, by simp, fun x1 hx => ?_, fun x1 hx => ?_⟩
    · rw [List.mem_singleton.mp hx]
      rcases hn.1.inv with q | ⟨a, b, d0, h1, h2, -⟩
      · exact hT n q
      · exact hR _ _ _ h1
    · rw [List.mem_singleton.mp hx]
      exact hn.1
  | succ d ih =>
    intro n hn
    rcases hn.1.inv with q | ⟨a, b, d0, h1, h2, h3, h4⟩
    · exact absurd (hn.2 0 (dv_d.told q)) (by omega)
    · have key : ∃ e, dv_l T R e d := by
        obtain ⟨da, hda⟩ := h3.g.l
        have ha := hda.2 _ h3
        by_cases qa : da = d
        · exact ⟨a, qa ▸ hda⟩
        · cases b with
          | none => exact absurd (hn.2 d (dv_d.step h1 hda.1 (fun c hc => by cases hc) (by omega))) (by omega)
          | some c =>
            obtain ⟨dc, hdc⟩ := (h4 c rfl).g.l
            have hc := hdc.2 _ (h4 c rfl)
            by_cases qc : dc = d
            · exact ⟨c, qc ▸ hdc⟩
            · exact absurd (hn.2 d (dv_d.step h1 (hda.1.mono (Nat.le_max_left da dc)) (fun c' hc' => by cases hc'; exact hdc.1.mono (Nat.le_max_right da dc)) (by omega))) (by omega)
      obtain ⟨e, he⟩ := key
      obtain ⟨xs, x1, x2, x3, x4⟩ := ih e he
      refine ⟨n :: xs, by simp [x1], List.nodup_cons.mpr ⟨fun hm => ?_, x2⟩, fun y hy => ?_, fun y hy => ?_⟩
      · exact absurd (hn.2 d (x4 n hm)) (by omega)
      · rcases List.mem_cons.mp hy with q | q
        · rw [q]; exact hR _ _ _ h1
        · exact x3 y q
      · rcases List.mem_cons.mp hy with q | q
        · rw [q]; exact hn.1
        · exact (x4 y q).mono (by omega)
theorem dv_l.lt {N : List Nat} (hT : ∀ n, T n → n ∈ N) (hR : ∀ m a b, R m a b → m ∈ N) {d n : Nat} (h : dv_l T R n d) : d < N.length := by
  obtain ⟨xs, h1, h2, h3, -⟩ := dv_l.chain hT hR d n h
  have := dv_pg xs N h2 h3
  omega
/-- what is below all reasons is below the depths -/
theorem dv_d.le {D : Nat → Nat} (h0 : ∀ n, T n → D n = 0) (h1 : ∀ m a b, R m a b → D m ≤ 1 + max (D a) (match b with | none => 0 | some c => D c)) {n d : Nat} (h : dv_d T R n d) : D n ≤ d := by
  refine h (fun n d => D n ≤ d) (fun n d ht => by rw [h0 n ht]; exact Nat.zero_le _) (fun m a b d d' hr ha hb hd => ?_)
  have := h1 m a b hr
  cases b with
  | none => simp only at this; omega
  | some c =>
    have := hb c rfl
    simp only at *
    omega
theorem dv_cong {T' : Nat → Prop} {R' : Nat → Nat → Option Nat → Prop} (hT : ∀ n, T n ↔ T' n) (hR : ∀ m a b, R m a b ↔ R' m a b) : dv_g T R = dv_g T' R' ∧ dv_d T R = dv_d T' R' := by
  have e1 : T = T' := funext fun n => propext (hT n)
  have e2 : R = R' := funext fun m => funext fun a => funext fun b => propext (hR m a b)
  subst e1
  subst e2
  exact ⟨rfl, rfl⟩
end DV
/-! COUNTS AND THE AGENDA's ORDER: a match is a mark: 420 * rule + 21 * first + (0 or 1 + second) -/
def s_cn (P : Nat → Bool) : Nat → Nat
  | 0 => 0
  | n + 1 => s_cn P n + if P n then 1 else 0
theorem s_cn_none {P : Nat → Bool} {a b : Nat} (hab : a ≤ b) (h : ∀ m, a ≤ m → m < b → P m = false) : s_cn P b = s_cn P a := by
  induction b with
  | zero => rw [show a = 0 by omega]
  | succ b ih =>
    by_cases q : a = b + 1
    · rw [q]
    · have := ih (by omega) (fun m h1 h2 => h m h1 (by omega))
      simp only [s_cn, h b (by omega) (by omega), this, Bool.false_eq_true, if_false, Nat.add_zero]
theorem s_cn_one {P : Nat → Bool} {a b c : Nat} (hab : a ≤ c) (hcb : c < b) (h : ∀ m, a ≤ m → m < c → P m = false) (hc : P c = true) (h2 : ∀ m, c < m → m < b → P m = false) : s_cn P b = s_cn P a + 1 := by
  have e1 : s_cn P c = s_cn P a := s_cn_none hab h
  have e2 : s_cn P b = s_cn P (c + 1) := s_cn_none (by omega) (fun m h3 h4 => h2 m (by omega) h4)
  rw [e2]
  simp only [s_cn, hc, e1, if_true]
theorem s_cn_cong {P Q : Nat → Bool} {n : Nat} (h : ∀ m, m < n → P m = Q m) : s_cn P n = s_cn Q n := by
  induction n with
  | zero => rfl
  | succ n ih => simp only [s_cn, ih (fun m hm => h m (by omega)), h n (by omega)]
theorem s_cn_le {P : Nat → Bool} {n : Nat} : s_cn P n ≤ n := by
  induction n with
  | zero => exact Nat.le_refl _
  | succ n ih =>
    simp only [s_cn]
    split <;> omega
theorem s_cn_mono {P Q : Nat → Bool} {n : Nat} (h : ∀ m, m < n → P m = true → Q m = true) : s_cn P n ≤ s_cn Q n := by
  induction n with
  | zero => exact Nat.le_refl _
  | succ n ih =>
    have := ih (fun m hm => h m (by omega))
    simp only [s_cn]
    by_cases q : P n = true
    · rw [if_pos q, if_pos (h n (by omega) q)]; omega
    · rw [if_neg q]; omega
theorem s_cn_add {P Q : Nat → Bool} {n a : Nat} (ha : a < n) (hp : P a = false) (hq : Q a = true) (h : ∀ m, m < n → m ≠ a → P m = Q m) : s_cn Q n = s_cn P n + 1 := by
  induction n with
  | zero => omega
  | succ n ih =>
    by_cases q : a = n
    · subst q
      have e : s_cn P a = s_cn Q a := s_cn_cong (fun m hm => h m (by omega) (by omega))
      simp only [s_cn, hp, hq, e, if_true, Bool.false_eq_true, if_false, Nat.add_zero]
    · have := ih (by omega) (fun m hm hn => h m (by omega) hn)
      simp only [s_cn, this, h n (by omega) (by omega)]
      omega
theorem s_cn_pos {P : Nat → Bool} {n : Nat} : 0 < s_cn P n ↔ ∃ m, m < n ∧ P m = true := by
  constructor
  · intro h
    induction n with
    | zero => exact absurd h (Nat.lt_irrefl 0)
    | succ n ih =>
      by_cases q : P n = true
      · exact ⟨n, by omega, q⟩
      · simp only [s_cn, if_neg q, Nat.add_zero] at h
        obtain ⟨m, h1, h2⟩ := ih h
        exact ⟨m, by omega, h2⟩
  · rintro ⟨m, h1, h2⟩
    have := s_cn_mono (P := fun x1 => decide (x1 = m)) (Q := P) (n := n) (fun x1 _ hx => by
      rw [of_decide_eq_true hx]; exact h2)
    have e := s_cn_add (P := fun _ => false) (Q := fun x1 => decide (x1 = m)) (n := n) h1 rfl (by simp) (fun x1 _ hx => by simp [hx])
    omega
/-- the newest fact of a match, by its place -/
def s_nw (m : Nat) : Nat := max (m / 21 % 20) (m % 21 - 1)
/-- the agenda's order: less is ahead; w: the weights of the rules -/
def s_key (w : Nat → Nat) (m : Nat) : Nat := ((9 - w (m / 420)) * 20 + (19 - s_nw m)) * 3360 + m
theorem s_key_inj {w : Nat → Nat} {m m' : Nat} (h : m < 3360) (h' : m' < 3360) (e : s_key w m = s_key w m') : m = m' := by
  unfold s_key at e
  omega
theorem s_nw_lt {m : Nat} : s_nw m < 20 := by
  unfold s_nw
  omega
theorem s_key_lt {w : Nat → Nat} {m m' : Nat} (h : m < 3360) (h' : m' < 3360) (hw : w (m / 420) ≤ 9) (hw' : w (m' / 420) ≤ 9) :
    s_key w m < s_key w m' ↔ (w (m' / 420) < w (m / 420) ∨ w (m' / 420) = w (m / 420) ∧ (s_nw m' < s_nw m ∨ s_nw m' = s_nw m ∧ m < m')) := by
  have h1 := s_nw_lt (m := m)
  have h2 := s_nw_lt (m := m')
  unfold s_key
  omega
/-- the next one behind a last one, or the first of all -/
def s_mn (D : Nat → Bool) (κ : Nat → Nat) (last res : Option Nat) : Prop :=
  (∀ m, res = some m → D m = true ∧ (∀ l, last = some l → κ l < κ m) ∧ ∀ m', D m' = true → (∀ l, last = some l → κ l < κ m') → κ m ≤ κ m') ∧ (res = none → ∀ m, D m = true → ∃ l, last = some l ∧ κ m ≤ κ l)
theorem s_mn_uq {D : Nat → Bool} {κ : Nat → Nat} {last r r' : Option Nat} (hi : ∀ m m', D m = true → D m' = true → κ m = κ m' → m = m') (h : s_mn D κ last r) (h' : s_mn D κ last r') : r = r' := by
  have key : ∀ {r r' : Option Nat} (m : Nat), r = some m → s_mn D κ last r → s_mn D κ last r' → r' ≠ none := by
    intro r r' m hr h h' hn
    obtain ⟨h1, h2, -⟩ := h.1 m hr
    obtain ⟨l, h3, h4⟩ := h'.2 hn m h1
    have := h2 l h3
    omega
  cases r with
  | none =>
    cases r' with
    | none => rfl
    | some m => exact absurd rfl (key m rfl h' h)
  | some m =>
    cases r' with
    | none => exact absurd rfl (key m rfl h h')
    | some m' =>
      obtain ⟨h1, h2, h3⟩ := h.1 m rfl
      obtain ⟨h4, h5, h6⟩ := h'.1 m' rfl
      rw [hi m m' h1 h4 (Nat.le_antisymm (h3 m' h4 h5) (h6 m h1 h2))]
/-- the match at a place of the agenda -/
def s_at (D : Nat → Bool) (κ : Nat → Nat) : Nat → Option Nat → Prop
  | 0, r => s_mn D κ none r
  | n + 1, r => ∃ q, s_at D κ n q ∧ ((q = none ∧ r = none) ∨ ∃ l, q = some l ∧ s_mn D κ (some l) r)
theorem s_at_D {D : Nat → Bool} {κ : Nat → Nat} {n m : Nat} (h : s_at D κ n (some m)) : D m = true := by
  cases n with
  | zero => exact (h.1 m rfl).1
  | succ n =>
    obtain ⟨q, -, ⟨-, z⟩ | ⟨l, -, h1⟩⟩ := h
    · cases z
    · exact (h1.1 m rfl).1
theorem s_at_uq {D : Nat → Bool} {κ : Nat → Nat} (hi : ∀ m m', D m = true → D m' = true → κ m = κ m' → m = m') {n : Nat} : ∀ {r r' : Option Nat}, s_at D κ n r → s_at D κ n r' → r = r' := by
  induction n with
  | zero => exact fun h h' => s_mn_uq hi h h'
  | succ n ih =>
    rintro r r' ⟨q, h1, h2⟩ ⟨q', h1', h2'⟩
    cases ih h1 h1'
    rcases h2 with ⟨rfl, rfl⟩ | ⟨l, rfl, h3⟩ <;> rcases h2' with ⟨z, rfl⟩ | ⟨l', z, h3'⟩
    · rfl
    · cases z
    · cases z
    · cases z
      exact s_mn_uq hi h3 h3'
theorem s_at_cn {D : Nat → Bool} {κ : Nat → Nat} {N : Nat} (hN : ∀ m, D m = true → m < N) (hi : ∀ m m', D m = true → D m' = true → κ m = κ m' → m = m') {n : Nat} : ∀ {r : Option Nat}, s_at D κ n r → (∀ m, r = some m → s_cn (fun x1 => D x1 && decide (κ x1 ≤ κ m)) N = n + 1) ∧ (r = none → s_cn D N ≤ n) := by
  induction n with
  | zero =>
    intro r h
    refine ⟨fun m hm => ?_, fun hm => ?_⟩
    · obtain ⟨h1, -, h3⟩ := h.1 m hm
      have := s_cn_add (P := fun _ => false) (Q := fun x1 => D x1 && decide (κ x1 ≤ κ m)) (n := N) (hN m h1) rfl (by simp [h1]) (fun x1 _ hx => by
        cases hd : D x1 with
        | false => simp
        | true =>
          have := h3 x1 hd (fun l hl => by cases hl)
          have hne : κ x1 ≠ κ m := fun e => hx (hi _ _ hd h1 e)
          simp
          omega)
      have e0 : s_cn (fun _ => false) N = 0 := s_cn_none (a := 0) (Nat.zero_le _) (fun _ _ _ => rfl)
      omega
    · have : s_cn D N = s_cn D 0 := s_cn_none (Nat.zero_le _) (fun m _ _ => by
        cases hd : D m with
        | false => rfl
        | true =>
          obtain ⟨l, hl, -⟩ := h.2 hm m hd
          cases hl)
      rw [this]
      exact Nat.le_refl _
  | succ n ih =>
    rintro r ⟨q, h1, ⟨rfl, rfl⟩ | ⟨l, rfl, h3⟩⟩
    · exact ⟨fun m hm => (by cases hm), fun _ => Nat.le_succ_of_le ((ih h1).2 rfl)⟩
    · have hl := s_at_D h1
      have e := (ih h1).1 l rfl
      refine ⟨fun m hm => ?_, fun hm => ?_⟩
      · obtain ⟨g1, g2, g3⟩ := h3.1 m hm
        have hlm := g2 l rfl
        have := s_cn_add (P := fun x1 => D x1 && decide (κ x1 ≤ κ l)) (Q := fun x1 => D x1 && decide (κ x1 ≤ κ m)) (n := N) (hN m g1) (by simp [g1]; omega) (by simp [g1]) (fun x1 _ hx => by
          cases hd : D x1 with
          | false => simp
          | true =>
            have hne : κ x1 ≠ κ m := fun e => hx (hi _ _ hd g1 e)
            by_cases z : κ x1 ≤ κ l
            · have : κ x1 ≤ κ m := by omega
              simp [z, this]
            · have := g3 x1 hd (fun l' hl' => by cases hl'; omega)
              have : ¬ κ x1 ≤ κ m := by omega
              simp [z, this])
        omega
      · have : s_cn D N = s_cn (fun x1 => D x1 && decide (κ x1 ≤ κ l)) N := s_cn_cong (fun x1 _ => by
          cases hd : D x1 with
          | false => simp
          | true =>
            obtain ⟨l', z, g⟩ := h3.2 hm x1 hd
            cases z
            simpa using g)
        omega
def c_lt (D : Nat → Bool) (q : Nat) : Nat → Bool := fun m => D m && decide (m < q)
theorem s_mn_cong {D D' : Nat → Bool} {κ : Nat → Nat} {last bst : Option Nat} (h : s_mn D κ last bst) (e : ∀ m, D m = D' m) : s_mn D' κ last bst := by
  rw [show D' = D from funext fun m => (e m).symm]
  exact h
theorem s_mn_skip {D : Nat → Bool} {κ : Nat → Nat} {last bst : Option Nat} {q q' : Nat} (h : s_mn (c_lt D q) κ last bst) (hqq : q ≤ q') (hno : ∀ m, q ≤ m → m < q' → D m = false) : s_mn (c_lt D q') κ last bst := by
  refine s_mn_cong h (fun m => ?_)
  unfold c_lt
  cases hd : D m with
  | false => rfl
  | true =>
    have : ¬ (q ≤ m ∧ m < q') := fun z => by
      have := hno m z.1 z.2
      rw [hd] at this
      cases this
    simp only [Bool.true_and, decide_eq_decide]
    omega
theorem s_mn_all {D : Nat → Bool} {κ : Nat → Nat} {last bst : Option Nat} {q : Nat} (h : s_mn (c_lt D q) κ last bst) (hno : ∀ m, q ≤ m → D m = false) : s_mn D κ last bst := by
  refine s_mn_cong h (fun m => ?_)
  unfold c_lt
  cases hd : D m with
  | false => rfl
  | true =>
    have : ¬ q ≤ m := fun z => by
      have := hno m z
      rw [hd] at this
      cases this
    simp
    omega
theorem s_mn_0 {D : Nat → Bool} {κ : Nat → Nat} {last : Option Nat} : s_mn (c_lt D 0) κ last none := ⟨fun m hm => (by cases hm), fun _ m hm => by simp [c_lt] at hm⟩
theorem s_mn_stay {D : Nat → Bool} {κ : Nat → Nat} {last bst : Option Nat} {m : Nat} (h : s_mn (c_lt D m) κ last bst) (hno : D m = true → (∃ l, last = some l ∧ κ m ≤ κ l) ∨ ∃ q, bst = some q ∧ κ q ≤ κ m) : s_mn (c_lt D (m + 1)) κ last bst := by
  have key : ∀ x1, c_lt D (m + 1) x1 = true → c_lt D m x1 = true ∨ (x1 = m ∧ D m = true) := by
    intro x1 hx
    simp only [c_lt, Bool.and_eq_true, decide_eq_true_eq] at hx ⊢
    by_cases z : x1 = m
    · exact Or.inr ⟨z, z ▸ hx.1⟩
    · exact Or.inl ⟨hx.1, by omega⟩
  have key2 : ∀ x1, c_lt D m x1 = true → c_lt D (m + 1) x1 = true := by
    intro x1 hx
    simp only [c_lt, Bool.and_eq_true, decide_eq_true_eq] at hx ⊢
    exact ⟨hx.1, by omega⟩
  refine ⟨fun q hq => ?_, fun hn x1 hx => ?_⟩
  · obtain ⟨h1, h2, h3⟩ := h.1 q hq
    refine ⟨key2 q h1, h2, fun x1 hx hl => ?_⟩
    rcases key x1 hx with z | ⟨rfl, z⟩
    · exact h3 x1 z hl
    · rcases hno z with ⟨l, e, g⟩ | ⟨q', e, g⟩
      · have := hl l e
        omega
      · rw [hq] at e
        cases e
        exact g
  · rcases key x1 hx with z | ⟨rfl, z⟩
    · exact h.2 hn x1 z
    · rcases hno z with g | ⟨q', e, -⟩
      · exact g
      · rw [hn] at e
        cases e
theorem s_mn_take {D : Nat → Bool} {κ : Nat → Nat} {last bst : Option Nat} {m : Nat} (h : s_mn (c_lt D m) κ last bst) (hD : D m = true) (hl : ∀ l, last = some l → κ l < κ m) (hb : ∀ q, bst = some q → κ m ≤ κ q) : s_mn (c_lt D (m + 1)) κ last (some m) := by
  refine ⟨fun q hq => ?_, fun hn => by cases hn⟩
  cases hq
  refine ⟨by simp [c_lt, hD], hl, fun x1 hx hlx => ?_⟩
  simp only [c_lt, Bool.and_eq_true, decide_eq_true_eq] at hx
  by_cases z : x1 = m
  · rw [z]
    exact Nat.le_refl _
  · have hx' : c_lt D m x1 = true := by
      simp only [c_lt, Bool.and_eq_true, decide_eq_true_eq]
      exact ⟨hx.1, by omega⟩
    cases bst with
    | none =>
      obtain ⟨l, e, g⟩ := h.2 rfl x1 hx'
      have := hlx l e
      omega
    | some q =>
      have := (h.1 q rfl).2.2 x1 hx' hlx
      have := hb q rfl
      omega
