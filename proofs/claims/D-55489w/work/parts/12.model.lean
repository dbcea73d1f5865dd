/-! THE REFERENCE'S STATE: its fields F (numbers, by the field's place), its arrays A (by the field's place), its float row L; at addresses ad (ad 0: the object) -/
set_option maxRecDepth 100000
def ml_len : Nat → Nat := fun k => match k with
  | 1 => 13675 | 2 => 13675 | 3 => 13675 | 4 => 13675 | 5 => 109400 | 8 => 60 | 9 => 240 | 10 => 60000 | 11 => 3 | 12 => 11 | 13 => 3360 | 14 => 20
  | 15 => 3360 | 16 => 3360 | 17 => 3360 | 18 => 20 | 19 => 40 | 20 => 2 | 21 => 2 | 22 => 40 | 36 => 3 | _ => 0
/-- the place of an array field's class in hv_tys -/
def ml_ty : Nat → Nat := fun k => match k with
  | 13 => 3 | 14 => 3 | 36 => 3 | 22 => 2 | _ => 0
/-- an array of ints or booleans -/
def ml_ia : Nat → Bool := fun k => match k with
  | 1 => true | 2 => true | 3 => true | 4 => true | 5 => true | 8 => true | 9 => true | 10 => true | 11 => true | 12 => true | 13 => true | 14 => true
  | 15 => true | 16 => true | 17 => true | 18 => true | 19 => true | 20 => true | 21 => true | 36 => true | _ => false
/-- the object, or an array -/
def ml_ar : Nat → Bool := fun k => ml_ia k || k == 0 || k == 22
def ml_fs (ad : Nat → Nat) (F : Nat → Int32) : List Value :=
  [.int (F 0), .ref (ad 1), .ref (ad 2), .ref (ad 3), .ref (ad 4), .ref (ad 5), .int (F 6), .int (F 7), .ref (ad 8), .ref (ad 9), .ref (ad 10), .ref (ad 11), .ref (ad 12), .ref (ad 13), .ref (ad 14), .ref (ad 15), .ref (ad 16), .ref (ad 17), .ref (ad 18), .ref (ad 19), .ref (ad 20), .ref (ad 21), .ref (ad 22),
   .int (F 23), .int (F 24), .int (F 25), .int (F 26), .int (F 27), .int (F 28), .int (F 29), .int (F 30), .int (F 31), .int (F 32), .int (F 33), .int (F 34), .int (F 35), .ref (ad 36)]
def ml_up (A : Nat → Nat → Int32) (k i : Nat) (x : Int32) : Nat → Nat → Int32 := va_up A k (upd (A k) i x)
def ml_S (G : GG) (h : HH) (ad : Nat → Nat) (F : Nat → Int32) (A : Nat → Nat → Int32) (L : Nat → UInt32) : Prop :=
  (∀ i j, ml_ar i = true → ml_ar j = true → ad i = ad j → i = j) ∧ h (ad 0) = some (.inr (0, ml_fs ad F)) ∧
  (∀ k, ml_ia k = true → h (ad k) = some (.inl (G.2.1 (ml_ty k), ml_len k, .inl (A k)))) ∧ h (ad 22) = some (.inl (G.2.1 2, 40, .inr (.inr (.inl L))))
/-- outside the reference's cells nothing changed -/
def ml_O (ad : Nat → Nat) (h h' : HH) : Prop := ∀ a, (∀ k, ml_ar k = true → a ≠ ad k) → h' a = h a
/-- a contract's end: the world holds the new state, nothing else changed -/
def ml_Q (G : GG) (h : HH) (ad : Nat → Nat) (q : (Nat → Int32) → (Nat → Nat → Int32) → (Nat → UInt32) → Prop) (h' : HH) : Prop := ∃ F A L, ml_S G h' ad F A L ∧ ml_O ad h h' ∧ q F A L
/-- the walk's invariant -/
def ml_I (G : GG) (h0 : HH) (H0 : Heap) (ad : Nat → Nat) (F : Nat → Int32) (A : Nat → Nat → Int32) (L : Nat → UInt32) (H : Heap) (locs : List Loc) : Prop :=
  ∃ h, hv_I G h0 H0 h H locs ∧ ml_S G h ad F A L ∧ ml_O ad h0 h
theorem ml_I.start {G : GG} {h : HH} {H : Heap} {ad : Nat → Nat} {F : Nat → Int32} {A : Nat → Nat → Int32} {L : Nat → UInt32} (hI : hv_I G h H h H []) (hS : ml_S G h ad F A L) : ml_I G h H ad F A L H [] := ⟨h, hI, hS, fun _ _ => rfl⟩
theorem ml_S.ap {G : GG} {h : HH} {ad : Nat → Nat} {F : Nat → Int32} {A : Nat → Nat → Int32} {L : Nat → UInt32} (hS : ml_S G h ad F A L) {i j : Nat} (hi : ml_ar i = true) (hj : ml_ar j = true) (hn : i ≠ j) : ad i ≠ ad j := fun q => hn (hS.1 i j hi hj q)
theorem ml_ia_ar {k : Nat} (h : ml_ia k = true) : ml_ar k = true := by simp [ml_ar, h]
theorem ml_S.ast {G : GG} {h : HH} {ad : Nat → Nat} {F : Nat → Int32} {A : Nat → Nat → Int32} {L : Nat → UInt32} (hS : ml_S G h ad F A L) (k : Nat) (hk : ml_ia k = true) (i : Nat) (x : Int32) :
    ml_S G (va_up h (ad k) (some (.inl (G.2.1 (ml_ty k), ml_len k, .inl (upd (A k) i x))))) ad F (ml_up A k i x) L := by
  have k0 : k ≠ 0 := fun q => by subst q; exact absurd hk (by decide)
  have k22 : k ≠ 22 := fun q => by subst q; exact absurd hk (by decide)
  refine ⟨hS.1, ?_, fun j hj => ?_, ?_⟩
  · simp only [va_up, if_neg (hS.ap (i := 0) (j := k) rfl (ml_ia_ar hk) (Ne.symm k0))]
    exact hS.2.1
  · by_cases hjk : j = k
    · subst hjk
      simp [va_up, ml_up]
    · simp only [va_up, ml_up, if_neg hjk, if_neg (hS.ap (ml_ia_ar hj) (ml_ia_ar hk) hjk)]
      exact hS.2.2.1 j hj
  · simp only [va_up, if_neg (hS.ap (i := 22) (j := k) rfl (ml_ia_ar hk) (Ne.symm k22))]
    exact hS.2.2.2
theorem ml_S.fst {G : GG} {h : HH} {ad : Nat → Nat} {F : Nat → Int32} {A : Nat → Nat → Int32} {L : Nat → UInt32} (hS : ml_S G h ad F A L) (i : Nat) (x : UInt32) :
    ml_S G (va_up h (ad 22) (some (.inl (G.2.1 2, 40, .inr (.inr (.inl (vf_upd L i x))))))) ad F A (vf_upd L i x) := by
  refine ⟨hS.1, ?_, fun j hj => ?_, ?_⟩
  · simp only [va_up, if_neg (hS.ap (i := 0) (j := 22) rfl rfl (by decide))]
    exact hS.2.1
  · have j22 : j ≠ 22 := fun q => by subst q; exact absurd hj (by decide)
    simp only [va_up, if_neg (hS.ap (ml_ia_ar hj) (j := 22) rfl j22)]
    exact hS.2.2.1 j hj
  · simp [va_up]
theorem ml_S.put {G : GG} {h : HH} {ad : Nat → Nat} {F F' : Nat → Int32} {A : Nat → Nat → Int32} {L : Nat → UInt32} (hS : ml_S G h ad F A L) :
    ml_S G (va_up h (ad 0) (some (.inr (0, ml_fs ad F')))) ad F' A L := by
  refine ⟨hS.1, ?_, fun j hj => ?_, ?_⟩
  · simp [va_up]
  · have j0 : j ≠ 0 := fun q => by subst q; exact absurd hj (by decide)
    simp only [va_up, if_neg (hS.ap (ml_ia_ar hj) (j := 0) rfl j0)]
    exact hS.2.2.1 j hj
  · simp only [va_up, if_neg (hS.ap (i := 22) (j := 0) rfl rfl (by decide))]
    exact hS.2.2.2
theorem ml_O.up {ad : Nat → Nat} {h0 h : HH} (hO : ml_O ad h0 h) (k : Nat) (hk : ml_ar k = true) (e : va_E) : ml_O ad h0 (va_up h (ad k) (some e)) := by
  intro a ha
  simp only [va_up, if_neg (ha k hk)]
  exact hO a ha
section MLR
variable {p : Program} {l : Launch} {e : Env} {R : Room} {s : State} {m : MethodId} {args : Array Value} {below : List Frame} {meth : Method} {c : Code} {H : Heap} {locs : List Loc} {cells slots mc ms : Nat} {Q : State → Prop}
variable {cc : ByteArray} {pc : Nat} {ls : Array Slot} {rest : List Value} {G : GG} {h0 : HH} {nL : Nat} {own : String} {ad : Nat → Nat} {F : Nat → Int32} {A : Nat → Nat → Int32} {L : Nat → UInt32} {ret : Option FieldType}
theorem ml_get {index : Nat} {v : Value} (hE : hv_E p s m args meth c cc nL ret RX4 G h0) (hI : ml_I G h0 s.heap ad F A L H locs) (k : Nat) (hk : k < 37) (hlink : Cond.fieldLink RX4 index RX4 (TX4 k).2.1 (TX4 k).2.2.1 ∈ lw_all) (hsame : (TX4 k).1 = RX4) (hv : (ml_fs ad F)[k]? = some v) (hdg : decode cc pc = .ok (.getfield index, 3))
    (kk : W p l e R s m args below meth c H locs cells slots Q (F0 m (pc + 3) ls (v :: rest))) : W p l e R s m args below meth c H locs cells slots Q (F0 m pc ls (.ref (ad 0) :: rest)) := by
  obtain ⟨⟨hx, hb, hml, hown, hts⟩, -, -, hX⟩ := hE
  obtain ⟨h, hI, hS, -⟩ := hI
  have hP : va_P G.1 hv_cl [(ad 0, .inr (0, ml_fs ad F))] H := by
    intro j q hj
    match j, hj with
    | 0, hj => cases hj; exact hI.1 _ _ hS.2.1
    | j + 1, hj => simp at hj
  exact va_get hx hb hts in_X4 hown hX.1 hP 0 rfl rfl k hk (hts _ hlink) (fun x hx => by rw [hsame] at hx; exact hx) hv hdg kk
theorem ml_iald (hE : hv_E p s m args meth c cc nL ret own G h0) (hI : ml_I G h0 s.heap ad F A L H locs) (k : Nat) (hk : ml_ia k = true) (ht : ml_ty k = 0) {i : Int32} {j : Nat} (hj : i.toNatClampNeg = j) (hin : vp_in i (ml_len k)) (hdg : decode cc pc = .ok (.iaload, 1))
    (kk : W p l e R s m args below meth c H locs cells slots Q (F0 m (pc + 1) ls (.int (A k j) :: rest))) : W p l e R s m args below meth c H locs cells slots Q (F0 m pc ls (.int i :: .ref (ad k) :: rest)) := by
  subst hj
  obtain ⟨⟨hx, hb, hml, hown, hts⟩, -, -, hX⟩ := hE
  obtain ⟨h, hI, hS, -⟩ := hI
  have hk' := hS.2.2.1 k hk
  rw [ht] at hk'
  have hP : va_P G.1 hv_cl [(ad k, .inl (G.2.1 0, ml_len k, .inl (A k)))] H := by
    intro j q hj
    match j, hj with
    | 0, hj => cases hj; exact hI.1 _ _ hk'
    | j + 1, hj => simp at hj
  exact va_iald hx hb hX.1 hP 0 0 rfl rfl hin hdg kk
theorem ml_zald (hE : hv_E p s m args meth c cc nL ret own G h0) (hI : ml_I G h0 s.heap ad F A L H locs) (k : Nat) (hk : ml_ia k = true) (ht : ml_ty k = 3) {i : Int32} {j : Nat} (hj : i.toNatClampNeg = j) (hin : vp_in i (ml_len k)) (hdg : decode cc pc = .ok (.baload, 1))
    (kk : W p l e R s m args below meth c H locs cells slots Q (F0 m (pc + 1) ls (.int (A k j) :: rest))) : W p l e R s m args below meth c H locs cells slots Q (F0 m pc ls (.int i :: .ref (ad k) :: rest)) := by
  subst hj
  obtain ⟨⟨hx, hb, hml, hown, hts⟩, -, -, hX⟩ := hE
  obtain ⟨h, hI, hS, -⟩ := hI
  have hk' := hS.2.2.1 k hk
  rw [ht] at hk'
  have hP : va_P G.1 hv_cl [(ad k, .inl (G.2.1 3, ml_len k, .inl (A k)))] H := by
    intro j q hj
    match j, hj with
    | 0, hj => cases hj; exact hI.1 _ _ hk'
    | j + 1, hj => simp at hj
  exact va_zald hx hb hX.1 hP 0 3 rfl rfl hin hdg kk
theorem ml_fald (hE : hv_E p s m args meth c cc nL ret own G h0) (hI : ml_I G h0 s.heap ad F A L H locs) {i : Int32} (hin : vp_in i 40) (hdg : decode cc pc = .ok (.faload, 1))
    (kk : W p l e R s m args below meth c H locs cells slots Q (F0 m (pc + 1) ls (.float (L i.toNatClampNeg) :: rest))) : W p l e R s m args below meth c H locs cells slots Q (F0 m pc ls (.int i :: .ref (ad 22) :: rest)) := by
  obtain ⟨⟨hx, hb, hml, hown, hts⟩, -, -, hX⟩ := hE
  obtain ⟨h, hI, hS, -⟩ := hI
  have hP : va_P G.1 hv_cl [(ad 22, .inl (G.2.1 2, 40, .inr (.inr (.inl L))))] H := by
    intro j q hj
    match j, hj with
    | 0, hj => cases hj; exact hI.1 _ _ hS.2.2.2
    | j + 1, hj => simp at hj
  exact va_fald hx hb hX.1 hP 0 2 rfl rfl hin hdg kk
theorem ml_iast (hE : hv_E p s m args meth c cc nL ret own G h0) (hI : ml_I G h0 s.heap ad F A L H locs) (k : Nat) (hk : ml_ia k = true) (ht : ml_ty k = 0) {i x : Int32} {q : Nat} (hq : i.toNatClampNeg = q) (hin : vp_in i (ml_len k)) (hdg : decode cc pc = .ok (.iastore, 1))
    (kk : ∀ (H1 : Heap) (locs1 : List Loc), ml_I G h0 s.heap ad F (ml_up A k q x) L H1 locs1 → W p l e R s m args below meth c H1 locs1 cells slots Q (F0 m (pc + 1) ls rest)) : W p l e R s m args below meth c H locs cells slots Q (F0 m pc ls (.int x :: .int i :: .ref (ad k) :: rest)) := by
  subst hq
  obtain ⟨⟨hx, hb, hml, hown, hts⟩, -, -, hX⟩ := hE
  obtain ⟨h, hI, hS, hO⟩ := hI
  obtain ⟨ws, hP, hD, hget, hset, -⟩ := hv_list hI
  have hk' := hS.2.2.1 k hk
  obtain ⟨j, hj⟩ := hget _ _ hk'
  have hS' := hS.ast k hk i.toNatClampNeg x
  rw [ht] at hj hk' hS'
  refine va_iast hx hb hX.1 hP hD hI.2.1 j 0 hj rfl hin hdg fun H1 locs1 hP1 hD1 hS1 => kk H1 locs1 ⟨_, ⟨hset j _ _ _ H1 hj hP1, hS1, ?_⟩, hS', hO.up k (ml_ia_ar hk) _⟩
  exact fun a ha => hv_up_dom hI.2.2 (hI.2.2 _ (by rw [hk']; exact fun z => by cases z)) ha
theorem ml_zast (hE : hv_E p s m args meth c cc nL ret own G h0) (hI : ml_I G h0 s.heap ad F A L H locs) (k : Nat) (hk : ml_ia k = true) (ht : ml_ty k = 3) {i x : Int32} {q : Nat} (hq : i.toNatClampNeg = q) (hin : vp_in i (ml_len k)) (hdg : decode cc pc = .ok (.bastore, 1))
    (kk : ∀ (H1 : Heap) (locs1 : List Loc), ml_I G h0 s.heap ad F (ml_up A k q (vp_nar .boolean x)) L H1 locs1 → W p l e R s m args below meth c H1 locs1 cells slots Q (F0 m (pc + 1) ls rest)) : W p l e R s m args below meth c H locs cells slots Q (F0 m pc ls (.int x :: .int i :: .ref (ad k) :: rest)) := by
  subst hq
  obtain ⟨⟨hx, hb, hml, hown, hts⟩, -, -, hX⟩ := hE
  obtain ⟨h, hI, hS, hO⟩ := hI
  obtain ⟨ws, hP, hD, hget, hset, -⟩ := hv_list hI
  have hk' := hS.2.2.1 k hk
  obtain ⟨j, hj⟩ := hget _ _ hk'
  have hS' := hS.ast k hk i.toNatClampNeg (vp_nar .boolean x)
  rw [ht] at hj hk' hS'
  refine va_zast hx hb hX.1 hP hD hI.2.1 j 3 hj rfl hin hdg fun H1 locs1 hP1 hD1 hS1 => kk H1 locs1 ⟨_, ⟨hset j _ _ _ H1 hj hP1, hS1, ?_⟩, hS', hO.up k (ml_ia_ar hk) _⟩
  exact fun a ha => hv_up_dom hI.2.2 (hI.2.2 _ (by rw [hk']; exact fun z => by cases z)) ha
theorem ml_fast (hE : hv_E p s m args meth c cc nL ret own G h0) (hI : ml_I G h0 s.heap ad F A L H locs) {i : Int32} {x : UInt32} (hin : vp_in i 40) (hdg : decode cc pc = .ok (.fastore, 1))
    (kk : ∀ (H1 : Heap) (locs1 : List Loc), ml_I G h0 s.heap ad F A (vf_upd L i.toNatClampNeg x) H1 locs1 → W p l e R s m args below meth c H1 locs1 cells slots Q (F0 m (pc + 1) ls rest)) : W p l e R s m args below meth c H locs cells slots Q (F0 m pc ls (.float x :: .int i :: .ref (ad 22) :: rest)) := by
  obtain ⟨⟨hx, hb, hml, hown, hts⟩, -, -, hX⟩ := hE
  obtain ⟨h, hI, hS, hO⟩ := hI
  obtain ⟨ws, hP, hD, hget, hset, -⟩ := hv_list hI
  have hk' := hS.2.2.2
  obtain ⟨j, hj⟩ := hget _ _ hk'
  refine va_fast hx hb hX.1 hP hD hI.2.1 j 2 hj rfl hin hdg fun H1 locs1 hP1 hD1 hS1 => kk H1 locs1 ⟨_, ⟨hset j _ _ _ H1 hj hP1, hS1, ?_⟩, hS.fst _ x, hO.up 22 rfl _⟩
  exact fun a ha => hv_up_dom hI.2.2 (hI.2.2 _ (by rw [hk']; exact fun z => by cases z)) ha
/-- a number is put: F' is the new row of numbers -/
theorem ml_put {index : Nat} {x : Int32} (hE : hv_E p s m args meth c cc nL ret RX4 G h0) (hI : ml_I G h0 s.heap ad F A L H locs) (k : Nat) (hk : k < 37) (hlink : Cond.fieldLink RX4 index RX4 (TX4 k).2.1 (TX4 k).2.2.1 ∈ lw_all) (hsame : (TX4 k).1 = RX4) (hfin : (TX4 k).2.2.2 = false) {ty : FieldType} (hd : parseFieldDescriptor (TX4 k).2.2.1 = some ty) (hn : narrow ty (.int x) = .int x) (hfit : fits ty (.int x) = true) (hset : ∀ F : Nat → Int32, (ml_fs ad F).set k (.int x) = ml_fs ad (upd F k x)) (hdg : decode cc pc = .ok (.putfield index, 3))
    (kk : ∀ (H1 : Heap) (locs1 : List Loc), ml_I G h0 s.heap ad (upd F k x) A L H1 locs1 → W p l e R s m args below meth c H1 locs1 cells slots Q (F0 m (pc + 3) ls rest)) : W p l e R s m args below meth c H locs cells slots Q (F0 m pc ls (.int x :: .ref (ad 0) :: rest)) := by
  obtain ⟨⟨hx, hb, hml, hown, hts⟩, -, -, hX⟩ := hE
  obtain ⟨h, hI, hS, hO⟩ := hI
  obtain ⟨ws, hP, hD, hget, hset2, -⟩ := hv_list hI
  obtain ⟨j, hj⟩ := hget _ _ hS.2.1
  refine va_put hx hb hts in_X4 tyX4 tyX4_ok nmX4 hown hX.1 hP hD hI.2.1 j hj rfl k hk (hts _ hlink) (fun x hx => by rw [hsame] at hx; exact hx) hfin hd hn hfit hk hdg fun H1 locs1 hP1 hD1 hS1 => ?_
  rw [hset F] at hP1
  refine kk H1 locs1 ⟨_, ⟨hset2 j _ _ _ H1 hj hP1, hS1, ?_⟩, hS.put, hO.up 0 rfl _⟩
  exact fun a ha => hv_up_dom hI.2.2 (hI.2.2 _ (by rw [hS.2.1]; exact fun z => by cases z)) ha
/-- returns -/
theorem ml_iret {v : Int32} {q : Int32 → (Nat → Int32) → (Nat → Nat → Int32) → (Nat → UInt32) → Prop} (hE : hv_E p s m args meth c cc nL (some .int) own G h0) (hI : ml_I G h0 s.heap ad F A L H locs) (hQ : q v F A L) (hdg : decode cc pc = .ok (.ireturn, 1)) :
    W p l e R s m args below meth c H locs 0 0 (MQ below (hv_Qi G h0 s.heap.size (fun r => ml_Q G h0 ad (q r))) args s 0 0 (hv_A h0 s.heap.size)) (F0 m pc ls [.int v]) := by
  obtain ⟨h, hI, hS, hO⟩ := hI
  exact hv_iret hE hI (Nat.le_refl 0) (Nat.le_refl 0) ⟨F, A, L, hS, hO, hQ⟩ hdg
theorem ml_zret {v : Int32} {ty : FieldType} {q : Int32 → (Nat → Int32) → (Nat → Nat → Int32) → (Nat → UInt32) → Prop} (hE : hv_E p s m args meth c cc nL (some ty) own G h0) (hI : ml_I G h0 s.heap ad F A L H locs) (hn : narrow ty (.int v) = .int v) (hQ : q v F A L) (hdg : decode cc pc = .ok (.ireturn, 1)) :
    W p l e R s m args below meth c H locs 0 0 (MQ below (hv_Qi G h0 s.heap.size (fun r => ml_Q G h0 ad (q r))) args s 0 0 (hv_A h0 s.heap.size)) (F0 m pc ls [.int v]) := by
  obtain ⟨h, hI, hS, hO⟩ := hI
  exact hv_zret hE hI (Nat.le_refl 0) (Nat.le_refl 0) hn ⟨F, A, L, hS, hO, hQ⟩ hdg
theorem ml_vret {q : (Nat → Int32) → (Nat → Nat → Int32) → (Nat → UInt32) → Prop} (hE : hv_E p s m args meth c cc nL none own G h0) (hI : ml_I G h0 s.heap ad F A L H locs) (hQ : q F A L) (hdg : decode cc pc = .ok (.return_, 1)) :
    W p l e R s m args below meth c H locs 0 0 (MQ below (hv_Qv G h0 s.heap.size (ml_Q G h0 ad q)) args s 0 0 (hv_A h0 s.heap.size)) (F0 m pc ls []) := by
  obtain ⟨h, hI, hS, hO⟩ := hI
  exact hv_vret hE hI (Nat.le_refl 0) (Nat.le_refl 0) ⟨F, A, L, hS, hO, hQ⟩ hdg
theorem ml_fret {v : UInt32} {q : UInt32 → (Nat → Int32) → (Nat → Nat → Int32) → (Nat → UInt32) → Prop} (hE : hv_E p s m args meth c cc nL (some .float) own G h0) (hI : ml_I G h0 s.heap ad F A L H locs) (hQ : q v F A L) (hdg : decode cc pc = .ok (.freturn, 1)) :
    W p l e R s m args below meth c H locs 0 0 (MQ below (hv_Qf G h0 s.heap.size (fun r => ml_Q G h0 ad (q r))) args s 0 0 (hv_A h0 s.heap.size)) (F0 m pc ls [.float v]) := by
  obtain ⟨h, hI, hS, hO⟩ := hI
  exact hv_fret hE hI (Nat.le_refl 0) (Nat.le_refl 0) ⟨F, A, L, hS, hO, hQ⟩ hdg
theorem ml_dret {v : UInt64} {q : UInt64 → (Nat → Int32) → (Nat → Nat → Int32) → (Nat → UInt32) → Prop} (hE : hv_E p s m args meth c cc nL (some .double) own G h0) (hI : ml_I G h0 s.heap ad F A L H locs) (hQ : q v F A L) (hdg : decode cc pc = .ok (.dreturn, 1)) :
    W p l e R s m args below meth c H locs 0 0 (MQ below (hv_Qd G h0 s.heap.size (fun r => ml_Q G h0 ad (q r))) args s 0 0 (hv_A h0 s.heap.size)) (F0 m pc ls [.double v]) := by
  obtain ⟨h, hI, hS, hO⟩ := hI
  exact hv_dret hE hI (Nat.le_refl 0) (Nat.le_refl 0) ⟨F, A, L, hS, hO, hQ⟩ hdg
/-- calls of the reference's own methods -/
theorem ml_pre (hE : hv_E p s m args meth c cc nL ret own G h0) {h : HH} (hI : hv_I G h0 s.heap h H locs) (hS : ml_S G h ad F A L) {As : List Value} : PreV s H RX4 (ad 0) (hv_Pc G h H.size (.ref (ad 0) :: As)) As := by
  obtain ⟨-, -, -, hX⟩ := hE
  refine ⟨hv_blind, ?_, fun U hU hW => ⟨rfl, by rw [hU], by rw [hU]; exact hI.1, hX.next hI hU hW⟩⟩
  obtain ⟨q', h1, cell, g1, g2, g3, -⟩ := hI.1 _ _ hS.2.1
  exact ⟨cell, g1, by rw [g3]; rfl, by rw [g2]; exact (hX.1.1 0 _ rfl).2.1⟩
theorem ml_O.trans {h h1 h2 : HH} (h1' : ml_O ad h h1) (h2' : ml_O ad h1 h2) : ml_O ad h h2 := fun a ha => (h2' a ha).trans (h1' a ha)
theorem ml_back {h h' : HH} {H1 : Heap} {t : State} {locs1 : List Loc} (hI : hv_I G h0 s.heap h H locs) (hO : ml_O ad h0 h) (ht : t.heap = H1) (hB : hv_B G h H.size h' t) (hS1 : va_S (hv_A h0 s.heap.size) s.heap H1 locs1) (hS : ml_S G h' ad F A L) (hO' : ml_O ad h h') : ml_I G h0 s.heap ad F A L H1 locs1 := by
  refine ⟨h', ⟨by rw [← ht]; exact hB.1, hS1, fun a ha => ?_⟩, hS, hO.trans hO'⟩
  rcases hB.2 a ha with q | q
  · exact hI.2.2 a q
  · exact hv_A_new (Nat.le_trans hI.2.1.1 q)
theorem ml_sub {h : HH} (hI : hv_I G h0 s.heap h H locs) : ∀ q, hv_A h H.size q → hv_A h0 s.heap.size q := fun q hq => by
  rcases hq with z | z
  · exact hI.2.2 q z
  · exact hv_A_new (Nat.le_trans hI.2.1.1 z)
theorem ml_calli {y : MethodName} {bytes : ByteArray} {maxL n index : Nat} {rt : Option FieldType} {rm : Room} {As : List Value} {q : Int32 → (Nat → Int32) → (Nat → Nat → Int32) → (Nat → UInt32) → Prop} (hE : hv_E p s m args meth c cc nL ret RX4 G h0) (hI : ml_I G h0 s.heap ad F A L H locs)
    (hM : ∀ h, ml_S G h ad F A L → Met l y (ws_ y bytes maxL rt) rm (hv_Pc G h H.size (.ref (ad 0) :: As)) (hv_Qi G h H.size (fun r => ml_Q G h ad (q r))) 0 0 (hv_A h H.size)) (cw : CallW R s args RX4 RX4 index y bytes maxL rt (ws_ y bytes maxL rt) rm 0 0 n)
    (hn : As.length = n) (hsize : ls.size = nL) (hW : (rest.map fun v => v.category).sum ≤ 8) (hdg : decode cc pc = .ok (.invokevirtual index, 3)) (hf : cells ≤ R.cells ∧ slots ≤ R.slots)
    (kk : ∀ r F A L (H1 : Heap) (locs1 : List Loc), q r F A L → ml_I G h0 s.heap ad F A L H1 locs1 → W p l e R s m args below meth c H1 locs1 cells slots Q (F0 m (pc + 3) ls (.int r :: rest))) :
    W p l e R s m args below meth c H locs cells slots Q (F0 m pc ls (As.reverse ++ .ref (ad 0) :: rest)) := by
  obtain ⟨h, hI, hS, hO⟩ := hI
  exact va_calli (va_runV hE.1 (hM h hS) cw (ml_pre hE hI hS) rfl hn hsize rfl (lv_room hW) hdg hf) hI.2.1 (fun q _ hq => ml_sub hI q hq) (ml_sub hI) fun r h' t H1 locs1 ht hvm hq hB hz hk hS1 => by
    obtain ⟨F', A', L', hS', hO', hq⟩ := hq
    exact kk r F' A' L' H1 locs1 hq (ml_back hI hO ht hB hS1 hS' hO')
theorem ml_callv {y : MethodName} {bytes : ByteArray} {maxL n index : Nat} {rm : Room} {As : List Value} {q : (Nat → Int32) → (Nat → Nat → Int32) → (Nat → UInt32) → Prop} (hE : hv_E p s m args meth c cc nL ret RX4 G h0) (hI : ml_I G h0 s.heap ad F A L H locs)
    (hM : ∀ h, ml_S G h ad F A L → Met l y (ws_ y bytes maxL none) rm (hv_Pc G h H.size (.ref (ad 0) :: As)) (hv_Qv G h H.size (ml_Q G h ad q)) 0 0 (hv_A h H.size)) (cw : CallW R s args RX4 RX4 index y bytes maxL none (ws_ y bytes maxL none) rm 0 0 n)
    (hn : As.length = n) (hsize : ls.size = nL) (hW : (rest.map fun v => v.category).sum ≤ 8) (hdg : decode cc pc = .ok (.invokevirtual index, 3)) (hf : cells ≤ R.cells ∧ slots ≤ R.slots)
    (kk : ∀ F A L (H1 : Heap) (locs1 : List Loc), q F A L → ml_I G h0 s.heap ad F A L H1 locs1 → W p l e R s m args below meth c H1 locs1 cells slots Q (F0 m (pc + 3) ls rest)) :
    W p l e R s m args below meth c H locs cells slots Q (F0 m pc ls (As.reverse ++ .ref (ad 0) :: rest)) := by
  obtain ⟨h, hI, hS, hO⟩ := hI
  exact va_callv (va_runV hE.1 (hM h hS) cw (ml_pre hE hI hS) rfl hn hsize rfl (lv_room hW) hdg hf) hI.2.1 (fun q _ hq => ml_sub hI q hq) (ml_sub hI) fun h' t H1 locs1 ht hvm hq hB hz hk hS1 => by
    obtain ⟨F', A', L', hS', hO', hq⟩ := hq
    exact kk F' A' L' H1 locs1 hq (ml_back hI hO ht hB hS1 hS' hO')
theorem ml_callf {y : MethodName} {bytes : ByteArray} {maxL n index : Nat} {rt : Option FieldType} {rm : Room} {As : List Value} {q : UInt32 → (Nat → Int32) → (Nat → Nat → Int32) → (Nat → UInt32) → Prop} (hE : hv_E p s m args meth c cc nL ret RX4 G h0) (hI : ml_I G h0 s.heap ad F A L H locs)
    (hM : ∀ h, ml_S G h ad F A L → Met l y (ws_ y bytes maxL rt) rm (hv_Pc G h H.size (.ref (ad 0) :: As)) (hv_Qf G h H.size (fun r => ml_Q G h ad (q r))) 0 0 (hv_A h H.size)) (cw : CallW R s args RX4 RX4 index y bytes maxL rt (ws_ y bytes maxL rt) rm 0 0 n)
    (hn : As.length = n) (hsize : ls.size = nL) (hW : (rest.map fun v => v.category).sum ≤ 8) (hdg : decode cc pc = .ok (.invokevirtual index, 3)) (hf : cells ≤ R.cells ∧ slots ≤ R.slots)
    (kk : ∀ r F A L (H1 : Heap) (locs1 : List Loc), q r F A L → ml_I G h0 s.heap ad F A L H1 locs1 → W p l e R s m args below meth c H1 locs1 cells slots Q (F0 m (pc + 3) ls (.float r :: rest))) :
    W p l e R s m args below meth c H locs cells slots Q (F0 m pc ls (As.reverse ++ .ref (ad 0) :: rest)) := by
  obtain ⟨h, hI, hS, hO⟩ := hI
  exact va_callf (va_runV hE.1 (hM h hS) cw (ml_pre hE hI hS) rfl hn hsize rfl (lv_room hW) hdg hf) hI.2.1 (fun q _ hq => ml_sub hI q hq) (ml_sub hI) fun r h' t H1 locs1 ht hvm hq hB hz hk hS1 => by
    obtain ⟨F', A', L', hS', hO', hq⟩ := hq
    exact kk r F' A' L' H1 locs1 hq (ml_back hI hO ht hB hS1 hS' hO')
/-- calls of static methods that touch no cell -/
theorem ml_calls {y : MethodName} {bytes : ByteArray} {maxL n index : Nat} {rt : Option FieldType} {rm : Room} {As : List Value} {q : Int32 → Prop} (hE : hv_E p s m args meth c cc nL ret own G h0) (hI : ml_I G h0 s.heap ad F A L H locs)
    (hM : ∀ h, Met l y (ws_ y bytes maxL rt) rm (hv_Pc G h H.size As) (hv_Qi G h H.size (fun r h' => h' = h ∧ q r)) 0 0 (hv_A h H.size)) (cw : CallB R s args own index y bytes maxL rt (ws_ y bytes maxL rt) rm 0 0 n ∧ (Cond.static y).before args s = true)
    (hn : As.length = n) (hsize : ls.size = nL) (hW : (rest.map fun v => v.category).sum ≤ 8) (hdg : decode cc pc = .ok (.invokestatic index, 3)) (hf : cells ≤ R.cells ∧ slots ≤ R.slots)
    (kk : ∀ r (H1 : Heap) (locs1 : List Loc), q r → ml_I G h0 s.heap ad F A L H1 locs1 → W p l e R s m args below meth c H1 locs1 cells slots Q (F0 m (pc + 3) ls (.int r :: rest))) :
    W p l e R s m args below meth c H locs cells slots Q (F0 m pc ls (As.reverse ++ rest)) := by
  obtain ⟨h, hI, hS, hO⟩ := hI
  have hX := hE.2.2.2
  exact va_calli (va_runS hE.1 (hM h) cw ⟨hv_blind, fun U hU hW => ⟨rfl, by rw [hU], by rw [hU]; exact hI.1, hX.next hI hU hW⟩⟩ rfl hn hsize rfl (lv_room hW) hdg hf) hI.2.1 (fun q _ hq => ml_sub hI q hq) (ml_sub hI) fun r h' t H1 locs1 ht hvm hq hB hz hk hS1 => by
    obtain ⟨rfl, hq⟩ := hq
    exact kk r H1 locs1 hq (ml_back hI hO ht hB hS1 hS (fun _ _ => rfl))
end MLR
