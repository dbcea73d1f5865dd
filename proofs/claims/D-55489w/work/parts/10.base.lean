/-! THE BASE: a world as a function from addresses to cells; the rows of the kit over it -/
set_option maxRecDepth 100000
abbrev HH : Type := Nat → Option va_E
def hv_cl : List vw_C := [(RX4, TX4, 37), (RX1, TX1, 9), (RX2, TX2, 7), (RX3, TX3, 8), (RJ2, TJ2, 3), (RJ3, TJ3, 3), (RJ5, TJ5, 4), (RJ6, TJ6, 4), (RX5, TX5, 3), (RX6, TX6, 2), (RX7, TX7, 7), (RX8, TX8, 2), (RX9, TX9, 5), (RJ15, TJ15, 4), (RX10, TX10, 9), (RX11, TX11, 8), (RX12, TX12, 3)]
def hv_tys (G : GG) : List (ClassId × FieldType) := [(G.2.1 0, .int), (G.2.1 1, .byte), (G.2.1 2, .float), (G.2.1 3, .boolean), (G.2.1 4, .long), (G.2.1 5, .double), (G.2.1 6, .object "java/lang/Object")]
def hv_P (G : GG) (h : HH) (H : Heap) : Prop := ∀ a e, h a = some e → va_at G.1 hv_cl (a, e) H
def hv_A (h : HH) (sz : Nat) : Nat → Prop := fun q => h q ≠ none ∨ sz ≤ q
/-- the walk's invariant: the heap holds h; what is old and outside the start's world is unchanged; the world is the start's and what is new -/
def hv_I (G : GG) (h0 : HH) (H0 : Heap) (h : HH) (H : Heap) (locs : List Loc) : Prop := hv_P G h H ∧ va_S (hv_A h0 H0.size) H0 H locs ∧ ∀ a, h a ≠ none → hv_A h0 H0.size a
theorem hv_A_new {h : HH} {sz q : Nat} (hq : sz ≤ q) : hv_A h sz q := Or.inr hq
/-- the world as a list: so the kit's rows serve -/
theorem hv_list {G : GG} {h0 h : HH} {H0 H : Heap} {locs : List Loc} (hI : hv_I G h0 H0 h H locs) :
    ∃ ws : va_W, va_P G.1 hv_cl ws H ∧ va_D (hv_A h0 H0.size) ws ∧ (∀ a e, h a = some e → ∃ i : Nat, ws[i]? = some (a, e)) ∧
      (∀ (i a : Nat) (e e' : va_E) (H1 : Heap), ws[i]? = some (a, e) → va_P G.1 hv_cl (ws.set i (a, e')) H1 → hv_P G (va_up h a (some e')) H1) ∧
      (∀ (a : Nat) (e : va_E) (H1 : Heap) , va_D (hv_A h0 H0.size) (ws ++ [(a, e)]) → va_P G.1 hv_cl (ws ++ [(a, e)]) H1 → h a = none ∧ hv_P G (va_up h a (some e)) H1) := by
  have hlt : ∀ a e, h a = some e → a < H.size := fun a e ha => (hI.1 a e ha).lt
  let ws : va_W := (List.range H.size).filterMap (fun a => (h a).map (fun e => (a, e)))
  have hmem : ∀ a e, (a, e) ∈ ws ↔ h a = some e := by
    intro a e
    simp only [ws, List.mem_filterMap, List.mem_range, Option.map_eq_some_iff, Prod.mk.injEq]
    constructor
    · rintro ⟨b, -, x, hx, rfl, rfl⟩
      exact hx
    · intro ha
      exact ⟨a, hlt a e ha, e, ha, rfl, rfl⟩
  have hpw : ws.Pairwise (fun x y => x.1 ≠ y.1) := by
    refine List.Pairwise.filterMap _ ?_ (List.nodup_range (n := H.size))
    intro a b hab x hx y hy
    simp only [Option.map_eq_some_iff] at hx hy
    obtain ⟨_, -, rfl⟩ := hx
    obtain ⟨_, -, rfl⟩ := hy
    exact hab
  have hinj : ∀ (i j : Nat) (x y : Nat × va_E), ws[i]? = some x → ws[j]? = some y → x.1 = y.1 → i = j := by
    intro i j x y hi hj hxy
    obtain ⟨hi1, hi2⟩ := List.getElem?_eq_some_iff.mp hi
    obtain ⟨hj1, hj2⟩ := List.getElem?_eq_some_iff.mp hj
    rcases Nat.lt_trichotomy i j with q | q | q
    · exact absurd (by rw [hi2, hj2]; exact hxy) (List.pairwise_iff_getElem.mp hpw i j hi1 hj1 q)
    · exact q
    · exact absurd (by rw [hi2, hj2]; exact hxy.symm) (List.pairwise_iff_getElem.mp hpw j i hj1 hi1 q)
  refine ⟨ws, ?_, ⟨?_, ?_⟩, ?_, ?_, ?_⟩
  · intro k q hk
    exact hI.1 q.1 q.2 ((hmem q.1 q.2).mp (List.mem_of_getElem? hk))
  · exact fun i j p q hi hj => hinj i j p q hi hj
  · intro k q hk
    exact hI.2.2 q.1 (by rw [(hmem q.1 q.2).mp (List.mem_of_getElem? hk)]; exact fun z => by cases z)
  · intro a e ha
    exact List.getElem?_of_mem ((hmem a e).mpr ha)
  · intro i a e e' H1 hi hP b x hb
    have hil := (List.getElem?_eq_some_iff.mp hi).1
    unfold va_up at hb
    split at hb
    · next hba =>
      subst hba
      cases hb
      exact hP i (b, e') (by rw [List.getElem?_set_self hil])
    · next hba =>
      obtain ⟨j, hj⟩ := List.getElem?_of_mem ((hmem b x).mpr hb)
      have hij : i ≠ j := fun q => by
        subst q
        rw [hi] at hj
        cases hj
        exact hba rfl
      exact hP j (b, x) (by rw [List.getElem?_set_ne hij]; exact hj)
  · intro a e H1 hD hP
    have hlen : (ws ++ [(a, e)])[ws.length]? = some (a, e) := by rw [List.getElem?_append_right (Nat.le_refl _), Nat.sub_self]; rfl
    refine ⟨?_, ?_⟩
    · cases hh : h a with
      | none => rfl
      | some x =>
        obtain ⟨j, hj⟩ := List.getElem?_of_mem ((hmem a x).mpr hh)
        have hjl := (List.getElem?_eq_some_iff.mp hj).1
        have := hD.1 j ws.length (a, x) (a, e) (by rw [List.getElem?_append_left hjl]; exact hj) hlen rfl
        omega
    · intro b x hb
      unfold va_up at hb
      split at hb
      · next hba =>
        subst hba
        cases hb
        exact hP _ _ hlen
      · next hba =>
        obtain ⟨j, hj⟩ := List.getElem?_of_mem ((hmem b x).mpr hb)
        have hjl := (List.getElem?_eq_some_iff.mp hj).1
        exact hP j (b, x) (by rw [List.getElem?_append_left hjl]; exact hj)
theorem hv_I.start {G : GG} {h : HH} {H : Heap} (hP : hv_P G h H) : hv_I G h H h H [] := ⟨hP, va_S.rf, fun _ ha => Or.inl ha⟩
theorem hv_up_dom {h : HH} {a b : Nat} {e : va_E} {P : Nat → Prop} (hd : ∀ q, h q ≠ none → P q) (ha : P a) (hb : va_up h a (some e) b ≠ none) : P b := by
  unfold va_up at hb
  split at hb
  · next q => rw [q]; exact ha
  · exact hd b hb
theorem hv_I.sub {G : GG} {h0 h : HH} {H0 H : Heap} {locs : List Loc} (hI : hv_I G h0 H0 h H locs) : ∀ q, hv_A h H.size q → hv_A h0 H0.size q := fun q hq => by
  rcases hq with z | z
  · exact hI.2.2 q z
  · exact hv_A_new (Nat.le_trans hI.2.1.1 z)
/-- what every method may take of the tables and the statics -/
def hv_X (G : GG) (h : HH) (U : State) : Prop := va_K G.1 hv_cl (hv_tys G) U ∧ hv_w U ∧ hv_z G (hv_A h U.heap.size) U U.heap
theorem hv_X.next {G : GG} {h0 h : HH} {s : State} {H : Heap} {locs : List Loc} (hX : hv_X G h0 s) (hI : hv_I G h0 s.heap h H locs) {U : State} (hU : U.heap = H) (hW : s.WarmedH U.vm) : hv_X G h U := by
  refine ⟨va_K.moved hW.alike hX.1, hv_w.moved hW hX.2.1, ?_⟩
  rw [hU]
  exact hX.2.2.next hW hI.2.1.2.1 hI.sub
theorem hv_X.call {G : GG} {h : HH} {U : State} {g : JFrame} {mk : MethodId} {a : Array Value} (hX : hv_X G h U) : hv_X G h (U.calling g mk a) := ⟨va_K.moved (u := U) (U := U.calling g mk a) (Vm.Alike.refl U.vm) hX.1, hv_w.same (u := U) (U := U.calling g mk a) rfl hX.2.1, hv_z.same (u := U) (U := U.calling g mk a) rfl hX.2.2⟩
/-- a contract's start and end -/
def hv_Pc (G : GG) (h : HH) (sz : Nat) (av : List Value) : Array Value → State → Prop := va_Pc av (fun U => U.heap.size = sz ∧ hv_P G h U.heap ∧ hv_X G h U)
def hv_B (G : GG) (h : HH) (sz : Nat) (h' : HH) (t : State) : Prop := hv_P G h' t.heap ∧ ∀ a, h' a ≠ none → hv_A h sz a
theorem hv_blind {G : GG} {h : HH} {sz : Nat} {av : List Value} : FrameBlind (hv_Pc G h sz av) := fun _ _ _ _ q => ⟨q.1, q.2.1, q.2.2.1, hv_X.call q.2.2.2⟩
abbrev hv_Qi (G : GG) (h : HH) (sz : Nat) (Q : Int32 → HH → Prop) : Array Value → State → Outcome → State → Prop := va_Qi (fun r (h' : HH) => Q r h') (fun h' t => hv_B G h sz h' t) (hv_A h sz)
abbrev hv_Ql (G : GG) (h : HH) (sz : Nat) (Q : Int64 → HH → Prop) : Array Value → State → Outcome → State → Prop := va_Ql (fun r (h' : HH) => Q r h') (fun h' t => hv_B G h sz h' t) (hv_A h sz)
abbrev hv_Qf (G : GG) (h : HH) (sz : Nat) (Q : UInt32 → HH → Prop) : Array Value → State → Outcome → State → Prop := va_Qf (fun r (h' : HH) => Q r h') (fun h' t => hv_B G h sz h' t) (hv_A h sz)
abbrev hv_Qd (G : GG) (h : HH) (sz : Nat) (Q : UInt64 → HH → Prop) : Array Value → State → Outcome → State → Prop := va_Qd (fun r (h' : HH) => Q r h') (fun h' t => hv_B G h sz h' t) (hv_A h sz)
abbrev hv_Qq (G : GG) (h : HH) (sz : Nat) (Q : Option Nat → HH → Prop) : Array Value → State → Outcome → State → Prop := va_Qq (fun r (h' : HH) => Q r h') (fun h' t => hv_B G h sz h' t) (hv_A h sz)
abbrev hv_Qv (G : GG) (h : HH) (sz : Nat) (Q : HH → Prop) : Array Value → State → Outcome → State → Prop := va_Qv (fun (h' : HH) => Q h') (fun h' t => hv_B G h sz h' t) (hv_A h sz)
/-- what a walk has at hand of its method -/
def hv_E (p : Program) (s : State) (m : MethodId) (args : Array Value) (meth : Method) (c : Code) (cc : ByteArray) (nL : Nat) (ret : Option FieldType) (own : String) (G : GG) (h0 : HH) : Prop :=
  CallFix p m c cc nL s args lw_all own ∧ meth.sig.returnType = ret ∧ meth.locks = false ∧ hv_X G h0 s
theorem hv_open {p : Program} {l : Launch} {y : MethodName} {cc : ByteArray} {nL : Nat} {ret : Option FieldType} {rm : Room} {e : Env} {s : State} {m : MethodId} {args : Array Value} {below : List Frame} {meth : Method} {c : Code} {s₁ : State} {G : GG} {h : HH} {sz : Nat} {av : List Value}
    (B : BodyLoose p l y (headSpec (ws_ y cc nL ret) rm) cc nL ret e s m args below meth c s₁) (hml : c.maxLocals = nL) (hv : hv_Pc G h sz av args s) :
    args = av.toArray ∧ s.heap.size = sz ∧ hv_E p s m args meth c cc nL ret y.cls G h ∧ hv_I G h s.heap h s.heap [] := by
  obtain ⟨ha, hsz, hP, hX⟩ := hv
  have hts := atoms_spec (ws := ws_ y cc nL ret) B.pre
  have hts : ∀ w ∈ lw_all, w.before args s = true := fun w h => hts w (List.mem_cons_of_mem _ h)
  exact ⟨ha, hsz, ⟨⟨B.exec, B.bytes, hml, findClass_of_methodNamed B.named, hts⟩, B.returns, B.notSynchronized, hX⟩, hv_I.start hP⟩
/-- Met.ofW for a class some of whose methods are run by an entry instead -/
theorem hv_ofW {l : Launch} {y : MethodName} {ws ws' : List Cond} {rm : Room} {Pc : Array Value → State → Prop} {Qc : Array Value → State → Outcome → State → Prop} {mc ms : Nat} {free : Addr → Prop} {cc : ByteArray} {maxL : Nat} {ret : Option FieldType}
    (hy : plainFor y = true) (hw : ws = Cond.code y cc maxL ret :: ws')
    (body : ∀ p e s m args below meth c s₁, BodyLoose p l y (headSpec ws rm) cc maxL ret e s m args below meth c s₁ → c.maxLocals = maxL → Pc args s →
      W p l e (headSpec ws rm).room s m args below meth c s.heap [] 0 0 (MQ below Qc args s mc ms free) (entryFrame m args maxL)) : Met l y ws rm Pc Qc mc ms free := by
  refine MetFree.of_bodySF (code := cc) (maxLocals := maxL) (ret := ret) hy ?_ ?_
  · intro args s m h hn
    obtain ⟨meth, c, h1, h2, h3, h4, h5, h6, -, -⟩ := Cond.code_spec hn (atoms_spec (ws := ws) h _ (by rw [hw]; exact List.mem_cons_self))
    exact ⟨meth, c, h1, h2, h3, h4, h5, h6⟩
  · intro p e s m args below meth c s₁ B hml hP _
    have hh0 : s₁.heap = s.heap := by rw [B.state]; rfl
    obtain ⟨t, a1, o, b1, b2, b3⟩ := body p e s m args below meth c s₁ B hml hP s₁ hh0 (Stand.of_body B)
    exact ⟨t, o, a1, b1, b2, ⟨b3.1, b3.2⟩⟩
/-! ends -/
section HVR
variable {p : Program} {l : Launch} {e : Env} {R : Room} {s : State} {m : MethodId} {args : Array Value} {below : List Frame} {meth : Method} {c : Code} {H : Heap} {locs : List Loc} {cells slots mc ms : Nat}
variable {cc : ByteArray} {pc : Nat} {ls : Array Slot} {G : GG} {h0 h : HH} {nL : Nat} {own : String}
theorem hv_I.F {t : State} (hI : hv_I G h0 s.heap h H locs) (ht : t.heap = H) : va_F (hv_A h0 s.heap.size) s t := hI.2.1.F ht
theorem hv_I.B {t : State} (hI : hv_I G h0 s.heap h H locs) (ht : t.heap = H) : hv_B G h0 s.heap.size h t := ⟨by rw [ht]; exact hI.1, hI.2.2⟩
theorem hv_iret {v : Int32} {Q : Int32 → HH → Prop} (hE : hv_E p s m args meth c cc nL (some .int) own G h0) (hI : hv_I G h0 s.heap h H locs) (hc : cells ≤ mc) (hs : slots ≤ ms) (hQ : Q v h) (hdg : decode cc pc = .ok (.ireturn, 1)) :
    W p l e R s m args below meth c H locs cells slots (MQ below (hv_Qi G h0 s.heap.size Q) args s mc ms (hv_A h0 s.heap.size)) (F0 m pc ls [.int v]) :=
  W.widen (k := mc) (n := ms) hc hs (W.iret hE.1.1 hE.1.2.1 hE.2.1 (fun t ht _ => ⟨⟨v, h, rfl, hQ, hI.B ht⟩, hI.F ht⟩) hI.2.1.2.2 hdg hE.2.2.1)
theorem hv_zret {v : Int32} {ty : FieldType} {Q : Int32 → HH → Prop} (hE : hv_E p s m args meth c cc nL (some ty) own G h0) (hI : hv_I G h0 s.heap h H locs) (hc : cells ≤ mc) (hs : slots ≤ ms) (hn : narrow ty (.int v) = .int v) (hQ : Q v h) (hdg : decode cc pc = .ok (.ireturn, 1)) :
    W p l e R s m args below meth c H locs cells slots (MQ below (hv_Qi G h0 s.heap.size Q) args s mc ms (hv_A h0 s.heap.size)) (F0 m pc ls [.int v]) :=
  W.widen (k := mc) (n := ms) hc hs (W.zret hE.1.1 hE.1.2.1 hE.2.1 hn (fun t ht _ => ⟨⟨v, h, rfl, hQ, hI.B ht⟩, hI.F ht⟩) hI.2.1.2.2 hdg hE.2.2.1)
theorem hv_vret {Q : HH → Prop} (hE : hv_E p s m args meth c cc nL none own G h0) (hI : hv_I G h0 s.heap h H locs) (hc : cells ≤ mc) (hs : slots ≤ ms) (hQ : Q h) (hdg : decode cc pc = .ok (.return_, 1)) :
    W p l e R s m args below meth c H locs cells slots (MQ below (hv_Qv G h0 s.heap.size Q) args s mc ms (hv_A h0 s.heap.size)) (F0 m pc ls []) :=
  W.widen (k := mc) (n := ms) hc hs (W.vret hE.1.1 hE.1.2.1 hE.2.1 (fun t ht _ => ⟨⟨h, rfl, hQ, hI.B ht⟩, hI.F ht⟩) hI.2.1.2.2 hdg hE.2.2.1)
theorem hv_fret {v : UInt32} {Q : UInt32 → HH → Prop} (hE : hv_E p s m args meth c cc nL (some .float) own G h0) (hI : hv_I G h0 s.heap h H locs) (hc : cells ≤ mc) (hs : slots ≤ ms) (hQ : Q v h) (hdg : decode cc pc = .ok (.freturn, 1)) :
    W p l e R s m args below meth c H locs cells slots (MQ below (hv_Qf G h0 s.heap.size Q) args s mc ms (hv_A h0 s.heap.size)) (F0 m pc ls [.float v]) :=
  W.widen (k := mc) (n := ms) hc hs (W.fret hE.1.1 hE.1.2.1 hE.2.1 (fun t ht _ => ⟨⟨v, h, rfl, hQ, hI.B ht⟩, hI.F ht⟩) hI.2.1.2.2 hdg hE.2.2.1)
theorem hv_dret {v : UInt64} {Q : UInt64 → HH → Prop} (hE : hv_E p s m args meth c cc nL (some .double) own G h0) (hI : hv_I G h0 s.heap h H locs) (hc : cells ≤ mc) (hs : slots ≤ ms) (hQ : Q v h) (hdg : decode cc pc = .ok (.dreturn, 1)) :
    W p l e R s m args below meth c H locs cells slots (MQ below (hv_Qd G h0 s.heap.size Q) args s mc ms (hv_A h0 s.heap.size)) (F0 m pc ls [.double v]) :=
  W.widen (k := mc) (n := ms) hc hs (W.dret hE.1.1 hE.1.2.1 hE.2.1 (fun t ht _ => ⟨⟨v, h, rfl, hQ, hI.B ht⟩, hI.F ht⟩) hI.2.1.2.2 hdg hE.2.2.1)
theorem hv_qret {v : Option Nat} {rt : FieldType} {Q : Option Nat → HH → Prop} (hE : hv_E p s m args meth c cc nL (some rt) own G h0) (hrt : (∃ n, rt = .object n) ∨ ∃ t, rt = .array t) (hI : hv_I G h0 s.heap h H locs) (hc : cells ≤ mc) (hs : slots ≤ ms) (hQ : Q v h) (hdg : decode cc pc = .ok (.areturn, 1)) :
    W p l e R s m args below meth c H locs cells slots (MQ below (hv_Qq G h0 s.heap.size Q) args s mc ms (hv_A h0 s.heap.size)) (F0 m pc ls [va_rf v]) :=
  W.widen (k := mc) (n := ms) hc hs (W.aret hE.1.1 hE.1.2.1 hE.2.1 hrt (va_rf_or v) (fun t ht _ => ⟨⟨v, h, rfl, hQ, hI.B ht⟩, hI.F ht⟩) hI.2.1.2.2 hdg hE.2.2.1)
theorem hv_sub {h : HH} (hI : hv_I G h0 s.heap h H locs) : ∀ q, hv_A h H.size q → hv_A h0 s.heap.size q := hI.sub
theorem hv_back {h h' : HH} {H1 : Heap} {t : State} {locs1 : List Loc} (hI : hv_I G h0 s.heap h H locs) (ht : t.heap = H1) (hB : hv_B G h H.size h' t) (hS1 : va_S (hv_A h0 s.heap.size) s.heap H1 locs1) : hv_I G h0 s.heap h' H1 locs1 := by
  refine ⟨by rw [← ht]; exact hB.1, hS1, fun a ha => ?_⟩
  rcases hB.2 a ha with q | q
  · exact hI.2.2 a q
  · exact hv_A_new (Nat.le_trans hI.2.1.1 q)
theorem hv_preS {ret : Option FieldType} {As : List Value} (hE : hv_E p s m args meth c cc nL ret own G h0) (hI : hv_I G h0 s.heap h H locs) : PreS s H (hv_Pc G h H.size As) As :=
  ⟨hv_blind, fun U hU hW => ⟨rfl, by rw [hU], by rw [hU]; exact hI.1, hE.2.2.2.next hI hU hW⟩⟩
/-- a call of a static method that touches no cell -/
theorem pu_calls {Q : State → Prop} {rest : List Value} {y : MethodName} {bytes : ByteArray} {maxL n index : Nat} {ret rt : Option FieldType} {rm : Room} {As : List Value} {q : Int32 → Prop} (hE : hv_E p s m args meth c cc nL ret own G h0) (hI : hv_I G h0 s.heap h H locs)
    (hM : Met l y (ws_ y bytes maxL rt) rm (hv_Pc G h H.size As) (hv_Qi G h H.size (fun r h' => h' = h ∧ q r)) 0 0 (hv_A h H.size)) (cw : CallB R s args own index y bytes maxL rt (ws_ y bytes maxL rt) rm 0 0 n ∧ (Cond.static y).before args s = true)
    (hn : As.length = n) (hsize : ls.size = nL) (hW : (rest.map fun v => v.category).sum ≤ 8) (hdg : decode cc pc = .ok (.invokestatic index, 3)) (hf : cells ≤ R.cells ∧ slots ≤ R.slots)
    (kk : ∀ r (H1 : Heap) (locs1 : List Loc), q r → hv_I G h0 s.heap h H1 locs1 → W p l e R s m args below meth c H1 locs1 cells slots Q (F0 m (pc + 3) ls (.int r :: rest))) :
    W p l e R s m args below meth c H locs cells slots Q (F0 m pc ls (As.reverse ++ rest)) :=
  va_calli (va_runS hE.1 hM cw (hv_preS hE hI) rfl hn hsize rfl (lv_room hW) hdg hf) hI.2.1 (fun q _ hq => hv_sub hI q hq) (hv_sub hI) fun r h' t H1 locs1 ht hvm hq hB hz hk hS1 => by
    obtain ⟨rfl, hq⟩ := hq
    exact kk r H1 locs1 hq (hv_back hI ht hB hS1)
end HVR
