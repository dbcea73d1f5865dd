/-! THE ROWS, second half: unknown references, arraycopy, clone, statics, calls, exceptions. By gen/mkcalls.py -/
set_option maxRecDepth 100000
def w_cast (h : HH) (a ci : Nat) (Q : Prop) : Prop := ∃ fs, h a = some (.inr (ci, fs)) ∧ Q
def w_castA (G : GG) (h : HH) (a t : Nat) (Q : Prop) : Prop := ∃ x, h a = some (.inl (G.2.1 t, x)) ∧ Q
/-- instanceof int[] of an int[] or a float[] -/
def w_instI (G : GG) (h : HH) (a : Nat) (Q : Int32 → Prop) : Prop := (∃ x, h a = some (.inl (G.2.1 0, x)) ∧ Q 1) ∨ ∃ x, h a = some (.inl (G.2.1 2, x)) ∧ Q 0
theorem lg_sl_q (r : Option Nat) (vs : List Value) : lg_sl (va_rf r :: vs) = Slot.val (va_rf r) :: lg_sl vs := by cases r <;> rfl
theorem lv_args_q (n : Nat) (r : Option Nat) (vs : List Value) : lv_args n (va_rf r :: vs) = (n, va_rf r) :: lv_args (n + 1) vs := by cases r <;> rfl
theorem lw_U {own : String} {idx : Nat} {C owner : String} {x1 y : MethodName} {b : ByteArray} {L : Nat} {r : Option FieldType} (h1 : Cond.methodLink own idx x1 ∈ lw_all) (h2 : Cond.sameMethod x1.cls owner x1.name x1.desc ∈ lw_all) (h3 : Cond.selects C x1 y ∈ lw_all) (h4 : Cond.instanceMethod y ∈ lw_all) (h5 : Cond.initialized y.cls ∈ lw_all) (h6 : Cond.code y b L r ∈ lw_all) : GoodIn lw_all (va_wsU own idx C owner x1 y (ws_ y b L r)) :=
  lw_app (List.forall_mem_cons.mpr ⟨h1, List.forall_mem_cons.mpr ⟨h2, List.forall_mem_cons.mpr ⟨h3, List.forall_mem_cons.mpr ⟨h4, List.forall_mem_cons.mpr ⟨h5, fun _ h => absurd h List.not_mem_nil⟩⟩⟩⟩⟩) (lw_meth h6)
theorem lw_SU {own : String} {idx : Nat} {y : MethodName} {b : ByteArray} {L : Nat} {r : Option FieldType} (h1 : Cond.methodLink own idx y ∈ lw_all) (h2 : Cond.sameMethod y.cls y.cls y.name y.desc ∈ lw_all) (h3 : Cond.superclass own y.cls ∈ lw_all) (h4 : Cond.instanceMethod y ∈ lw_all) (h5 : Cond.initialized y.cls ∈ lw_all) (h6 : Cond.code y b L r ∈ lw_all) : GoodIn lw_all (va_wsSU own idx y (ws_ y b L r)) :=
  lw_app (List.forall_mem_cons.mpr ⟨h1, List.forall_mem_cons.mpr ⟨h2, List.forall_mem_cons.mpr ⟨h3, List.forall_mem_cons.mpr ⟨h4, List.forall_mem_cons.mpr ⟨h5, fun _ h => absurd h List.not_mem_nil⟩⟩⟩⟩⟩) (lw_meth h6)
theorem lw_F {own : String} {idx : Nat} {C : String} {x1 y : MethodName} {b : ByteArray} {L : Nat} {r : Option FieldType} (h1 : Cond.methodLink own idx x1 ∈ lw_all) (h3 : Cond.selects C x1 y ∈ lw_all) (h4 : Cond.instanceMethod y ∈ lw_all) (h5 : Cond.initialized y.cls ∈ lw_all) (h6 : Cond.code y b L r ∈ lw_all) : GoodIn lw_all (va_wsF own idx C x1 y (ws_ y b L r)) :=
  lw_app (List.forall_mem_cons.mpr ⟨h1, List.forall_mem_cons.mpr ⟨h3, List.forall_mem_cons.mpr ⟨h4, List.forall_mem_cons.mpr ⟨h5, fun _ h => absurd h List.not_mem_nil⟩⟩⟩⟩) (lw_meth h6)
theorem lw_FW {own : String} {idx : Nat} {C : String} {x1 y : MethodName} {b : ByteArray} {L : Nat} {r : Option FieldType} {hh : List (Nat × Nat × Nat × Nat)} (h1 : Cond.methodLink own idx x1 ∈ lw_all) (h3 : Cond.selects C x1 y ∈ lw_all) (h4 : Cond.instanceMethod y ∈ lw_all) (h5 : Cond.initialized y.cls ∈ lw_all) (h6 : Cond.codeWith y b L r hh ∈ lw_all) : GoodIn lw_all (va_wsF own idx C x1 y (wsW_ y b L r hh)) :=
  lw_app (List.forall_mem_cons.mpr ⟨h1, List.forall_mem_cons.mpr ⟨h3, List.forall_mem_cons.mpr ⟨h4, List.forall_mem_cons.mpr ⟨h5, fun _ h => absurd h List.not_mem_nil⟩⟩⟩⟩) (lw_methW h6)
/-- a private method of a superclass -/
theorem hv_selP {y z : MethodName} {s : State} {args : Array Value} {n : Nat} {C : String} (hy : y.cls ≠ "java/lang/invoke/MethodHandle" ∧ y.cls ≠ "java/lang/invoke/VarHandle") (hins : (Cond.instantiable C n).before args s = true) (hpriv : (Cond.privateMethod y).before args s = true) (hinst : (Cond.instanceMethod y).before args s = true) (hz : (Cond.selects C z z).before args s = true) (hzy : z.cls = y.cls) : (Cond.selects C y y).before args s = true := by
  obtain ⟨c, k, hc, hk, -, hniab, -, -⟩ := Cond.instantiable_spec hins
  have hni : k.isInterface = false := (Bool.or_eq_false_iff.mp hniab).1
  obtain ⟨mk, methM, hnamed, hmethM, -, -⟩ := Cond.instanceMethod_spec hinst
  have hfound : s.methodFound? y.cls y.name y.desc = some mk := State.methodFound?_of_named hnamed hy
  have hsel : selectMethod {} s.vm c mk = .method mk := selectMethod_private hmethM (Cond.privateMethod_at hpriv mk methM hnamed hmethM)
  obtain ⟨c8, r8, m8, -, -, hn8, -, k8, hk8, hi8⟩ := Cond.selects_spec hz
  have e8 : m8.cls = mk.cls := Option.some.inj ((findClass_of_methodNamed hn8).symm.trans (by rw [hzy]; exact findClass_of_methodNamed hnamed))
  rw [e8] at hk8
  simp only [Cond.before, Cond.holds, Cond.value, hc, hfound, hnamed, hsel, hk8]
  simp; exact hi8
theorem hv_cwUP {R : Room} {s : State} {args : Array Value} {own C : String} {index maxL mc ms : Nat} {y : MethodName} {bytes : ByteArray} {rt : Option FieldType} {rm : Room} (n : Nat) (ht : ∀ w ∈ lw_all, w.before args s = true) (h1 : Cond.methodLink own index y ∈ lw_all) (h2 : Cond.sameMethod y.cls y.cls y.name y.desc ∈ lw_all) (h3 : Cond.instanceMethod y ∈ lw_all) (h4 : Cond.initialized y.cls ∈ lw_all) (h5 : Cond.code y bytes maxL rt ∈ lw_all) (hsel : (Cond.selects C y y).before args s = true) (hrc : rm.cells = mc) (hrs : rm.slots = ms)
    (hd : y.cls ≠ "java/lang/invoke/MethodHandle" ∧ y.cls ≠ "java/lang/invoke/VarHandle" ∧ (parseMethodDescriptor y.desc).map (fun d => d.parameters.length) = some n) (hR : rm.frames + 1 ≤ R.frames ∧ 8 + (maxL + 11) + rm.locals ≤ R.locals) : va_CU R s args own C y.cls index y y bytes maxL rt (ws_ y bytes maxL rt) rm mc ms n := by
  refine ⟨⟨hrc, hrs, hR.1, hR.2, pay_in ht (lw_meth h5), List.mem_cons_self⟩, ht _ h5, ht _ h4, ⟨hd.1, hd.2.1⟩, fun sig h => ?_, ht _ h1, ht _ h2, va_Decl.of (ht _ h3) (ht _ h5), hsel, ht _ h3⟩
  have h9 := hd.2.2
  rw [h] at h9
  exact (Option.some.inj h9).symm
section HVT
variable {p : Program} {l : Launch} {e : Env} {R : Room} {s : State} {m : MethodId} {args : Array Value} {below : List Frame} {meth : Method} {c : Code} {H : Heap} {locs : List Loc} {cells slots mc ms : Nat} {Q : State → Prop}
variable {cc : ByteArray} {pc : Nat} {ls : Array Slot} {rest : List Value} {G : GG} {h0 h : HH} {nL : Nat} {own : String} {ret : Option FieldType} {a : Nat}
theorem lv_aload_nq (hexec : p.tables.exec = Jvm.exec) (hb : c.code = cc) {k : Fin 4} {i : Nat} {r : Option Nat} (hdg : decode cc pc = .ok (.aload_n k, 1)) (hi : (k : Nat) = i) (hl : ls[i]? = some (.val (va_rf r)))
    (kk : W p l e R s m args below meth c H locs cells slots Q (F0 m (pc + 1) ls (va_rf r :: rest))) : W p l e R s m args below meth c H locs cells slots Q (F0 m pc ls rest) := by
  cases r with
  | none => exact lv_aload_nN hexec hb hdg hi hl kk
  | some x1 => exact lv_aload_n hexec hb hdg hi hl kk
theorem lv_aloadq (hexec : p.tables.exec = Jvm.exec) (hb : c.code = cc) {i : Nat} {r : Option Nat} (hdg : decode cc pc = .ok (.aload i, 2)) (hl : ls[i]? = some (.val (va_rf r)))
    (kk : W p l e R s m args below meth c H locs cells slots Q (F0 m (pc + 2) ls (va_rf r :: rest))) : W p l e R s m args below meth c H locs cells slots Q (F0 m pc ls rest) := by
  cases r with
  | none => exact lv_aloadN hexec hb hdg hl kk
  | some x1 => exact lv_aload hexec hb hdg hl kk
theorem lv_astore_nq (hexec : p.tables.exec = Jvm.exec) (hb : c.code = cc) {k : Fin 4} {i nL : Nat} {r : Option Nat} {lv lv' : List (Nat × Value)} (hdg : decode cc pc = .ok (.astore_n k, 1)) (hi : (k : Nat) = i) (h : lv_has ls nL lv) (hn : i < nL) (hl : (i, va_rf r) :: lv.filter (fun q => !(q.1 == i) && !(q.1 + 1 == i && q.2.category == 2)) = lv')
    (kk : ∀ ls' : Array Slot, lv_has ls' nL lv' → W p l e R s m args below meth c H locs cells slots Q (F0 m (pc + 1) ls' rest)) : W p l e R s m args below meth c H locs cells slots Q (F0 m pc ls (va_rf r :: rest)) := by
  cases r with
  | none => exact lv_astore_nN hexec hb hdg hi h hn hl kk
  | some x1 => exact lv_astore_n hexec hb hdg hi h hn hl kk
theorem lv_astoreq (hexec : p.tables.exec = Jvm.exec) (hb : c.code = cc) {i nL : Nat} {r : Option Nat} {lv lv' : List (Nat × Value)} (hdg : decode cc pc = .ok (.astore i, 2)) (h : lv_has ls nL lv) (hn : i < nL) (hl : (i, va_rf r) :: lv.filter (fun q => !(q.1 == i) && !(q.1 + 1 == i && q.2.category == 2)) = lv')
    (kk : ∀ ls' : Array Slot, lv_has ls' nL lv' → W p l e R s m args below meth c H locs cells slots Q (F0 m (pc + 2) ls' rest)) : W p l e R s m args below meth c H locs cells slots Q (F0 m pc ls (va_rf r :: rest)) := by
  cases r with
  | none => exact lv_astoreN hexec hb hdg h hn hl kk
  | some x1 => exact lv_astore hexec hb hdg h hn hl kk
theorem lv_ifnullq (hexec : p.tables.exec = Jvm.exec) (hb : c.code = cc) {r : Option Nat} {off : Int} {tgt : Nat} (hdg : decode cc pc = .ok (.ifnull off, 3)) (ht : (pc : Int) + off = (tgt : Int))
    (kt : r = none → W p l e R s m args below meth c H locs cells slots Q (F0 m tgt ls rest)) (kf : ¬ r = none → W p l e R s m args below meth c H locs cells slots Q (F0 m (pc + 3) ls rest)) : W p l e R s m args below meth c H locs cells slots Q (F0 m pc ls (va_rf r :: rest)) := by
  cases r with
  | none => exact lv_ifnullN hexec hb hdg ht (kt rfl)
  | some x1 => exact lv_ifnull hexec hb hdg (kf (fun z => by cases z))
theorem lv_ifnonnullq (hexec : p.tables.exec = Jvm.exec) (hb : c.code = cc) {r : Option Nat} {off : Int} {tgt : Nat} (hdg : decode cc pc = .ok (.ifnonnull off, 3)) (ht : (pc : Int) + off = (tgt : Int))
    (kt : ¬ r = none → W p l e R s m args below meth c H locs cells slots Q (F0 m tgt ls rest)) (kf : r = none → W p l e R s m args below meth c H locs cells slots Q (F0 m (pc + 3) ls rest)) : W p l e R s m args below meth c H locs cells slots Q (F0 m pc ls (va_rf r :: rest)) := by
  cases r with
  | none => exact lv_ifnonnullN hexec hb hdg (kf rfl)
  | some x1 => exact lv_ifnonnull hexec hb hdg ht (kt (fun z => by cases z))
theorem hv_instIw {index : Nat} {P : Int32 → Prop} (hE : hv_E p s m args meth c cc nL ret own G h0) (hI : hv_I G h0 s.heap h H locs) (hlink : (Cond.classLink own index "[I").before args s = true) (hw : w_instI G h a P) (hdg : decode cc pc = .ok (.instanceof index, 3))
    (kk : ∀ v, P v → W p l e R s m args below meth c H locs cells slots Q (F0 m (pc + 3) ls (.int v :: rest))) : W p l e R s m args below meth c H locs cells slots Q (F0 m pc ls (.ref a :: rest)) := by
  have hX := hE.2.2.2
  have hr : ∀ (t : Nat) (ty : FieldType) (C : String) (a : Nat) (x : vp_A), (hv_tys G)[t]? = some (G.2.1 t, ty) → refKind ty = false → "[" ++ ty.toString = C → h a = some (.inl (G.2.1 t, x)) → ∃ cell : Cell, H[a]? = some cell ∧ cell.vm.isStatics = false ∧ s.vm.findClass C = some cell.cls := by
    intro t ty C a x ht hp hC ha
    have h2 := hv_nm hX ht hp
    rw [hC] at h2
    refine ⟨vp_cell (G.2.1 t) x, hI.1 _ _ ha, ?_, ?_⟩
    · obtain ⟨n, f | f | f | f | f⟩ := x <;> rfl
    · obtain ⟨n, f | f | f | f | f⟩ := x <;> exact h2
  rcases hw with ⟨x, ha, hw⟩ | ⟨x, ha, hw⟩
  · exact va_instE hE.1.1 hE.1.2.1 hE.1.2.2.2.1 hlink (hr 0 .int "[I" a x rfl rfl (by decide +kernel) ha) hdg (kk _ hw)
  · exact va_instNo hE.1.1 hE.1.2.1 hE.1.2.2.2.1 hlink (hX.2.1.N 16 rfl) (hr 2 .float "[F" a x rfl rfl (by decide +kernel) ha) hdg (kk _ hw)

theorem hv_cpi {t : Nat} {ty : FieldType} (ht : (hv_tys G)[t]? = some (G.2.1 t, ty)) (hprim : refKind ty = false) (hfit : ∀ {sp n : Int32} (f : Nat → Int32), (t = 1 → ∀ i, i < n.toNatClampNeg → fits .byte (.int (f (sp.toNatClampNeg + i))) = true) → ∀ i, i < n.toNatClampNeg → fits ty (.int (f (sp.toNatClampNeg + i))) = true) {a b : Nat} {sp dp n : Int32} {P : HH → Prop} (hE : hv_E p s m args meth c cc nL ret own G h0) (hI : hv_I G h0 s.heap h H locs) (hw : w_cpi G t h a sp b dp n P) (hsize : ls.size = nL) {index : Nat} (hlink : (Cond.methodLink own index arraycopyName).before args s = true) (hnat : (Cond.native arraycopyName).before args s = true) (hstat : (Cond.static arraycopyName).before args s = true) (hini : (Cond.initialized "java/lang/System").before args s = true) (hframes : 1 ≤ R.frames) (hlocals : (rest.map fun v => v.category).sum + 50 ≤ R.locals) (hdg : decode cc pc = .ok (.invokestatic index, 3))
    (kk : ∀ (h1 : HH) (H1 : Heap) (locs1 : List Loc), P h1 → hv_I G h0 s.heap h1 H1 locs1 → W p l e R s m args below meth c H1 locs1 cells slots Q (F0 m (pc + 3) ls rest)) : W p l e R s m args below meth c H locs cells slots Q (F0 m pc ls (.int n :: .int dp :: .ref b :: .int sp :: .ref a :: rest)) := by
  obtain ⟨n0, n1, f, g, ha, hb2, h1, h2, h3, h4, h5, hfb, hw⟩ := hw
  have hfit : ∀ i, i < n.toNatClampNeg → fits ty (.int (f (sp.toNatClampNeg + i))) = true := hfit f hfb
  have hloc : (rest.map fun v => v.category).sum + (nativeFrameWords "java/lang/System" "arraycopy" 5 + 11) ≤ R.locals := by
    have : nativeFrameWords "java/lang/System" "arraycopy" 5 ≤ 39 := by decide +kernel
    omega
  obtain ⟨⟨hx, hb, hml, hown, hts⟩, -, -, hX⟩ := hE
  obtain ⟨ws, hP, hD, hget, hset, -⟩ := hv_list hI
  obtain ⟨i, hi⟩ := hget _ _ ha
  obtain ⟨j, hj⟩ := hget _ _ hb2
  exact va_copyi hx hb (hml.trans hsize.symm) hown hlink hnat hstat hini hX.1 hP hD hI.2.1 i j t t hi hj ht ht hprim h1 h2 h3 h4 h5 hfit
    hframes hloc hdg fun H1 locs1 hP1 _ hS1 => kk _ H1 locs1 hw (hv_setI hI hb2 (hset j _ _ _ H1 hj hP1) hS1)
theorem hv_cpf  {a b : Nat} {sp dp n : Int32} {P : HH → Prop} (hE : hv_E p s m args meth c cc nL ret own G h0) (hI : hv_I G h0 s.heap h H locs) (hw : w_cpf G h a sp b dp n P) (hsize : ls.size = nL) {index : Nat} (hlink : (Cond.methodLink own index arraycopyName).before args s = true) (hnat : (Cond.native arraycopyName).before args s = true) (hstat : (Cond.static arraycopyName).before args s = true) (hini : (Cond.initialized "java/lang/System").before args s = true) (hframes : 1 ≤ R.frames) (hlocals : (rest.map fun v => v.category).sum + 50 ≤ R.locals) (hdg : decode cc pc = .ok (.invokestatic index, 3))
    (kk : ∀ (h1 : HH) (H1 : Heap) (locs1 : List Loc), P h1 → hv_I G h0 s.heap h1 H1 locs1 → W p l e R s m args below meth c H1 locs1 cells slots Q (F0 m (pc + 3) ls rest)) : W p l e R s m args below meth c H locs cells slots Q (F0 m pc ls (.int n :: .int dp :: .ref b :: .int sp :: .ref a :: rest)) := by
  obtain ⟨n0, n1, f, g, ha, hb2, h1, h2, h3, h4, h5, hw⟩ := hw
  skip
  have hloc : (rest.map fun v => v.category).sum + (nativeFrameWords "java/lang/System" "arraycopy" 5 + 11) ≤ R.locals := by
    have : nativeFrameWords "java/lang/System" "arraycopy" 5 ≤ 39 := by decide +kernel
    omega
  obtain ⟨⟨hx, hb, hml, hown, hts⟩, -, -, hX⟩ := hE
  obtain ⟨ws, hP, hD, hget, hset, -⟩ := hv_list hI
  obtain ⟨i, hi⟩ := hget _ _ ha
  obtain ⟨j, hj⟩ := hget _ _ hb2
  exact va_copyf hx hb (hml.trans hsize.symm) hown hlink hnat hstat hini hX.1 hP hD hI.2.1 i j 2 2 hi hj rfl rfl rfl h1 h2 h3 h4 h5 (fun _ _ => rfl)
    hframes hloc hdg fun H1 locs1 hP1 _ hS1 => kk _ H1 locs1 hw (hv_setI hI hb2 (hset j _ _ _ H1 hj hP1) hS1)
theorem hv_cpq  {a b : Nat} {sp dp n : Int32} {P : HH → Prop} (hE : hv_E p s m args meth c cc nL ret own G h0) (hI : hv_I G h0 s.heap h H locs) (hw : w_cpq G h a sp b dp n P) (hsize : ls.size = nL) {index : Nat} (hlink : (Cond.methodLink own index arraycopyName).before args s = true) (hnat : (Cond.native arraycopyName).before args s = true) (hstat : (Cond.static arraycopyName).before args s = true) (hini : (Cond.initialized "java/lang/System").before args s = true) (hframes : 1 ≤ R.frames) (hlocals : (rest.map fun v => v.category).sum + 50 ≤ R.locals) (hdg : decode cc pc = .ok (.invokestatic index, 3))
    (kk : ∀ (h1 : HH) (H1 : Heap) (locs1 : List Loc), P h1 → hv_I G h0 s.heap h1 H1 locs1 → W p l e R s m args below meth c H1 locs1 cells slots Q (F0 m (pc + 3) ls rest)) : W p l e R s m args below meth c H locs cells slots Q (F0 m pc ls (.int n :: .int dp :: .ref b :: .int sp :: .ref a :: rest)) := by
  obtain ⟨n0, n1, f, g, ha, hb2, h1, h2, h3, h4, h5, hob, hw⟩ := hw
  have hany : ∀ i, i < n.toNatClampNeg → ∀ y, f (sp.toNatClampNeg + i) = some y → va_Any "java/lang/Object" s H y := fun i hi y hy => hv_any hE hI (hob i hi y hy)
  have hloc : (rest.map fun v => v.category).sum + (nativeFrameWords "java/lang/System" "arraycopy" 5 + 11) ≤ R.locals := by
    have : nativeFrameWords "java/lang/System" "arraycopy" 5 ≤ 39 := by decide +kernel
    omega
  obtain ⟨⟨hx, hb, hml, hown, hts⟩, -, -, hX⟩ := hE
  obtain ⟨ws, hP, hD, hget, hset, -⟩ := hv_list hI
  obtain ⟨i, hi⟩ := hget _ _ ha
  obtain ⟨j, hj⟩ := hget _ _ hb2
  exact va_copyM hx hb (hml.trans hsize.symm) hown hlink hnat hstat hini hX.1 hP hD hI.2.1 i j 6 6 hi hj rfl rfl h1 h2 h3 h4 h5 hany
    hframes hloc hdg fun H1 locs1 hP1 _ hS1 => kk _ H1 locs1 hw (hv_setI hI hb2 (hset j _ _ _ H1 hj hP1) hS1)
theorem hv_cpk {a b : Nat} {sp dp n : Int32} {P : HH → Prop} (hE : hv_E p s m args meth c cc nL ret own G h0) (hI : hv_I G h0 s.heap h H locs) (hw : w_cpk G h a sp b dp n P) (hsize : ls.size = nL) {index : Nat} (hlink : (Cond.methodLink own index arraycopyName).before args s = true) (hnat : (Cond.native arraycopyName).before args s = true) (hstat : (Cond.static arraycopyName).before args s = true) (hini : (Cond.initialized "java/lang/System").before args s = true) (hframes : 1 ≤ R.frames) (hlocals : (rest.map fun v => v.category).sum + 50 ≤ R.locals) (hdg : decode cc pc = .ok (.invokestatic index, 3))
    (kk : ∀ (h1 : HH) (H1 : Heap) (locs1 : List Loc), P h1 → hv_I G h0 s.heap h1 H1 locs1 → W p l e R s m args below meth c H1 locs1 cells slots Q (F0 m (pc + 3) ls rest)) : W p l e R s m args below meth c H locs cells slots Q (F0 m pc ls (.int n :: .int dp :: .ref b :: .int sp :: .ref a :: rest)) := by
  obtain ⟨n1, g, rfl, hb2, h1, h2, h3, h4, h5, hw⟩ := hw
  have hT : va_T .byte (G.2.2 7) 2 (fun j => .int ([32, 114].getD j 0)) (hv_A h0 s.heap.size) s s.heap := ((hv_zH hE).2.2.2.2.2.2.2.2.2.2.2.2.2.1 1 (by decide)).2.2.2
  have hfit : ∀ i : Nat, i < n.toNatClampNeg → fits .byte (.int (([32, 114] : List Int32).getD (sp.toNatClampNeg + i) 0)) = true := by
    intro i hi
    have hlt : sp.toNatClampNeg + i < 2 := by omega
    generalize sp.toNatClampNeg + i = q at hlt ⊢
    match q, hlt with
    | 0, _ => rfl
    | 1, _ => rfl
  have hloc : (rest.map fun v => v.category).sum + (nativeFrameWords "java/lang/System" "arraycopy" 5 + 11) ≤ R.locals := by
    have : nativeFrameWords "java/lang/System" "arraycopy" 5 ≤ 39 := by decide +kernel
    omega
  obtain ⟨⟨hx, hb, hml, hown, hts⟩, -, -, hX⟩ := hE
  obtain ⟨ws, hP, hD, hget, hset, -⟩ := hv_list hI
  obtain ⟨j, hj⟩ := hget _ _ hb2
  exact vk_copyt hx hb (hml.trans hsize.symm) hown hlink hnat hstat hini hX.1 hP hD hI.2.1 hT j 1 hj rfl h1 h2 h3 h4 h5 hfit
    hframes hloc hdg fun H1 locs1 hP1 _ hS1 => kk _ H1 locs1 hw (hv_setI hI hb2 (hset j _ _ _ H1 hj hP1) hS1)
theorem hv_clone {a : Nat} {t index : Nat} {ad : String} {P : Nat → HH → Nat → Prop} (hE : hv_E p s m args meth c cc nL ret own G h0) (hI : hv_I G h0 s.heap h H locs) (hw : w_clone G h a t mc ms cells slots P) (hsize : ls.size = nL) (hRc : mc ≤ R.cells) (hRs : ms ≤ R.slots)
    (hlink : (Cond.methodLink own index ⟨ad, "clone", "()Ljava/lang/Object;"⟩).before args s = true) (hsame : (Cond.sameMethod ad "java/lang/Object" "clone" "()Ljava/lang/Object;").before args s = true)
    (hnat : (Cond.native ⟨"java/lang/Object", "clone", "()Ljava/lang/Object;"⟩).before args s = true) (hinst : (Cond.instanceMethod ⟨"java/lang/Object", "clone", "()Ljava/lang/Object;"⟩).before args s = true)
    (hsel : (Cond.selects ad ⟨ad, "clone", "()Ljava/lang/Object;"⟩ ⟨"java/lang/Object", "clone", "()Ljava/lang/Object;"⟩).before args s = true) (hcl : va_Nw (.castable ad "java/lang/Cloneable") s) {ty : FieldType} (hty : ty = if t = 0 then .int else if t = 1 then .byte else .float) (ht : (hv_tys G)[t]? = some (G.2.1 t, ty)) (hp : refKind ty = false) (hC : "[" ++ ty.toString = ad)
    (hframes : 1 ≤ R.frames) (hlocals : (rest.map fun v => v.category).sum + 14 ≤ R.locals) (hdg : decode cc pc = .ok (.invokevirtual index, 3))
    (kk : ∀ (q n : Nat) (h1 : HH) (H1 : Heap), P q h1 n → cells + 1 ≤ mc → slots + n ≤ ms → hv_I G h0 s.heap h1 H1 locs → W p l e R s m args below meth c H1 locs (cells + 1) (slots + n) Q (F0 m (pc + 3) ls (.ref q :: rest))) : W p l e R s m args below meth c H locs cells slots Q (F0 m pc ls (.ref a :: rest)) := by
  subst hty
  obtain ⟨x1, ha, hfit, hc1, hs1, hw⟩ := hw
  have h2 := hv_nm hE.2.2.2 ht hp
  rw [hC] at h2
  obtain ⟨⟨hx, hb, hml, hown, hts⟩, -, -, hX⟩ := hE
  obtain ⟨ws, hP, hD, hget, -, hpush⟩ := hv_list hI
  obtain ⟨i, hi⟩ := hget _ _ ha
  exact va_clone hx hb (hml.trans hsize.symm) hown hlink hsame hnat hinst hsel hcl hX.1 hP hD hI.2.1 (fun _ => hv_A_new) i t hi ht h2 hfit hframes hlocals (Nat.le_trans hc1 hRc) (Nat.le_trans hs1 hRs) hdg fun q H1 hK1 hP1 hD1 hS1 =>
    kk q x1.1 _ H1 (hw q (hpush q _ H1 hD1 hP1).1) hc1 hs1 (hv_newI hI (hv_DA hD1) (hpush q _ H1 hD1 hP1).2 hS1)
theorem hv_ldcS {own2 tx : String} {index a : Nat} (hE : hv_E p s m args meth c cc nL ret own G h0) (hR : vk_R own2 index tx a s) (ho : own2 = own) (hdg : decode cc pc = .ok (.ldc index, 2))
    (kk : W p l e R s m args below meth c H locs cells slots Q (F0 m (pc + 2) ls (.ref a :: rest))) : W p l e R s m args below meth c H locs cells slots Q (F0 m pc ls rest) := by
  subst ho
  exact va_ldcS hE.1.1 hE.1.2.1 hE.1.2.2.2.1 hR hdg kk
theorem hv_gets {C n d ref : String} {v : Value} {index : Nat} (hE : hv_E p s m args meth c cc nL ret own G h0) (hI : hv_I G h0 s.heap h H locs) (hZ : va_Z C n d v (hv_A h0 s.heap.size) s s.heap) (hlink : (Cond.fieldLink own index ref n d).before args s = true) (hsame : ∀ x, s.fieldFound? C n d = some x → s.fieldFound? ref n d = some x) (hdg : decode cc pc = .ok (.getstatic index, 3))
    (kk : W p l e R s m args below meth c H locs cells slots Q (F0 m (pc + 3) ls (v :: rest))) : W p l e R s m args below meth c H locs cells slots Q (F0 m pc ls rest) :=
  va_gets hE.1.1 hE.1.2.1 hZ hI.2.1 hE.1.2.2.2.1 hlink hsame hdg kk
theorem hv_getsQ {C n d ref : String} {index : Nat} (hE : hv_E p s m args meth c cc nL ret own G h0) (hI : hv_I G h0 s.heap h H locs) (hZ : va_Zq C n d (hv_A h0 s.heap.size) s s.heap) (hlink : (Cond.fieldLink own index ref n d).before args s = true) (hsame : ∀ x, s.fieldFound? C n d = some x → s.fieldFound? ref n d = some x) (hdg : decode cc pc = .ok (.getstatic index, 3))
    (kk : ∀ r : Option Nat, W p l e R s m args below meth c H locs cells slots Q (F0 m (pc + 3) ls (va_rf r :: rest))) : W p l e R s m args below meth c H locs cells slots Q (F0 m pc ls rest) := by
  rcases hZ with hZ | ⟨t, hZ⟩
  · exact hv_gets hE hI hZ hlink hsame hdg (kk none)
  · exact hv_gets hE hI hZ hlink hsame hdg (kk (some t))
theorem hv_rci {st0 : List Value} {av : Array Value} {mc1 ms1 : Nat} {Q1 : Int32 → HH → Prop} (hI : hv_I G h0 s.heap h H locs) (hr : va_Run p l e R s m args below meth c H locs cells slots mc1 ms1 (F0 m pc ls st0) rest (hv_Qi G h H.size Q1 av) (hv_A h H.size))
    (kk : ∀ (r : Int32) (h1 : HH) (H1 : Heap) (locs1 : List Loc), Q1 r h1 → hv_I G h0 s.heap h1 H1 locs1 → W p l e R s m args below meth c H1 locs1 (cells + mc1) (slots + ms1) Q (F0 m (pc + 3) ls (.int r :: rest))) : W p l e R s m args below meth c H locs cells slots Q (F0 m pc ls st0) :=
  va_calli hr hI.2.1 (fun q _ hq => hI.sub q hq) hI.sub fun r h' t H1 locs1 ht hvm hq hB hz hk hS1 => kk r h' H1 locs1 hq (hv_back hI ht hB hS1)
theorem hv_rFi {st0 : List Value} {av : Array Value} {mc1 ms1 : Nat} {Q1 : Int32 → HH → Prop} (hI : hv_I G h0 s.heap h H locs) (hr : va_Run5 p l e R s m args below meth c H locs cells slots mc1 ms1 (F0 m pc ls st0) rest (hv_Qi G h H.size Q1 av) (hv_A h H.size))
    (kk : ∀ (r : Int32) (h1 : HH) (H1 : Heap) (locs1 : List Loc), Q1 r h1 → hv_I G h0 s.heap h1 H1 locs1 → W p l e R s m args below meth c H1 locs1 (cells + mc1) (slots + ms1) Q (F0 m (pc + 5) ls (.int r :: rest))) : W p l e R s m args below meth c H locs cells slots Q (F0 m pc ls st0) :=
  va_callFi hr hI.2.1 (fun q _ hq => hI.sub q hq) hI.sub fun r h' t H1 locs1 ht hvm hq hB hz hk hS1 => kk r h' H1 locs1 hq (hv_back hI ht hB hS1)
theorem hv_rcl {st0 : List Value} {av : Array Value} {mc1 ms1 : Nat} {Q1 : Int64 → HH → Prop} (hI : hv_I G h0 s.heap h H locs) (hr : va_Run p l e R s m args below meth c H locs cells slots mc1 ms1 (F0 m pc ls st0) rest (hv_Ql G h H.size Q1 av) (hv_A h H.size))
    (kk : ∀ (r : Int64) (h1 : HH) (H1 : Heap) (locs1 : List Loc), Q1 r h1 → hv_I G h0 s.heap h1 H1 locs1 → W p l e R s m args below meth c H1 locs1 (cells + mc1) (slots + ms1) Q (F0 m (pc + 3) ls (.long r :: rest))) : W p l e R s m args below meth c H locs cells slots Q (F0 m pc ls st0) :=
  va_calll hr hI.2.1 (fun q _ hq => hI.sub q hq) hI.sub fun r h' t H1 locs1 ht hvm hq hB hz hk hS1 => kk r h' H1 locs1 hq (hv_back hI ht hB hS1)
theorem hv_rFl {st0 : List Value} {av : Array Value} {mc1 ms1 : Nat} {Q1 : Int64 → HH → Prop} (hI : hv_I G h0 s.heap h H locs) (hr : va_Run5 p l e R s m args below meth c H locs cells slots mc1 ms1 (F0 m pc ls st0) rest (hv_Ql G h H.size Q1 av) (hv_A h H.size))
    (kk : ∀ (r : Int64) (h1 : HH) (H1 : Heap) (locs1 : List Loc), Q1 r h1 → hv_I G h0 s.heap h1 H1 locs1 → W p l e R s m args below meth c H1 locs1 (cells + mc1) (slots + ms1) Q (F0 m (pc + 5) ls (.long r :: rest))) : W p l e R s m args below meth c H locs cells slots Q (F0 m pc ls st0) :=
  va_callFl hr hI.2.1 (fun q _ hq => hI.sub q hq) hI.sub fun r h' t H1 locs1 ht hvm hq hB hz hk hS1 => kk r h' H1 locs1 hq (hv_back hI ht hB hS1)
theorem hv_rcf {st0 : List Value} {av : Array Value} {mc1 ms1 : Nat} {Q1 : UInt32 → HH → Prop} (hI : hv_I G h0 s.heap h H locs) (hr : va_Run p l e R s m args below meth c H locs cells slots mc1 ms1 (F0 m pc ls st0) rest (hv_Qf G h H.size Q1 av) (hv_A h H.size))
    (kk : ∀ (r : UInt32) (h1 : HH) (H1 : Heap) (locs1 : List Loc), Q1 r h1 → hv_I G h0 s.heap h1 H1 locs1 → W p l e R s m args below meth c H1 locs1 (cells + mc1) (slots + ms1) Q (F0 m (pc + 3) ls (.float r :: rest))) : W p l e R s m args below meth c H locs cells slots Q (F0 m pc ls st0) :=
  va_callf hr hI.2.1 (fun q _ hq => hI.sub q hq) hI.sub fun r h' t H1 locs1 ht hvm hq hB hz hk hS1 => kk r h' H1 locs1 hq (hv_back hI ht hB hS1)
theorem hv_rFf {st0 : List Value} {av : Array Value} {mc1 ms1 : Nat} {Q1 : UInt32 → HH → Prop} (hI : hv_I G h0 s.heap h H locs) (hr : va_Run5 p l e R s m args below meth c H locs cells slots mc1 ms1 (F0 m pc ls st0) rest (hv_Qf G h H.size Q1 av) (hv_A h H.size))
    (kk : ∀ (r : UInt32) (h1 : HH) (H1 : Heap) (locs1 : List Loc), Q1 r h1 → hv_I G h0 s.heap h1 H1 locs1 → W p l e R s m args below meth c H1 locs1 (cells + mc1) (slots + ms1) Q (F0 m (pc + 5) ls (.float r :: rest))) : W p l e R s m args below meth c H locs cells slots Q (F0 m pc ls st0) :=
  va_callFf hr hI.2.1 (fun q _ hq => hI.sub q hq) hI.sub fun r h' t H1 locs1 ht hvm hq hB hz hk hS1 => kk r h' H1 locs1 hq (hv_back hI ht hB hS1)
theorem hv_rcd {st0 : List Value} {av : Array Value} {mc1 ms1 : Nat} {Q1 : UInt64 → HH → Prop} (hI : hv_I G h0 s.heap h H locs) (hr : va_Run p l e R s m args below meth c H locs cells slots mc1 ms1 (F0 m pc ls st0) rest (hv_Qd G h H.size Q1 av) (hv_A h H.size))
    (kk : ∀ (r : UInt64) (h1 : HH) (H1 : Heap) (locs1 : List Loc), Q1 r h1 → hv_I G h0 s.heap h1 H1 locs1 → W p l e R s m args below meth c H1 locs1 (cells + mc1) (slots + ms1) Q (F0 m (pc + 3) ls (.double r :: rest))) : W p l e R s m args below meth c H locs cells slots Q (F0 m pc ls st0) :=
  va_calld hr hI.2.1 (fun q _ hq => hI.sub q hq) hI.sub fun r h' t H1 locs1 ht hvm hq hB hz hk hS1 => kk r h' H1 locs1 hq (hv_back hI ht hB hS1)
theorem hv_rFd {st0 : List Value} {av : Array Value} {mc1 ms1 : Nat} {Q1 : UInt64 → HH → Prop} (hI : hv_I G h0 s.heap h H locs) (hr : va_Run5 p l e R s m args below meth c H locs cells slots mc1 ms1 (F0 m pc ls st0) rest (hv_Qd G h H.size Q1 av) (hv_A h H.size))
    (kk : ∀ (r : UInt64) (h1 : HH) (H1 : Heap) (locs1 : List Loc), Q1 r h1 → hv_I G h0 s.heap h1 H1 locs1 → W p l e R s m args below meth c H1 locs1 (cells + mc1) (slots + ms1) Q (F0 m (pc + 5) ls (.double r :: rest))) : W p l e R s m args below meth c H locs cells slots Q (F0 m pc ls st0) :=
  va_callFd hr hI.2.1 (fun q _ hq => hI.sub q hq) hI.sub fun r h' t H1 locs1 ht hvm hq hB hz hk hS1 => kk r h' H1 locs1 hq (hv_back hI ht hB hS1)
theorem hv_rcq {st0 : List Value} {av : Array Value} {mc1 ms1 : Nat} {Q1 : Option Nat → HH → Prop} (hI : hv_I G h0 s.heap h H locs) (hr : va_Run p l e R s m args below meth c H locs cells slots mc1 ms1 (F0 m pc ls st0) rest (hv_Qq G h H.size Q1 av) (hv_A h H.size))
    (kk : ∀ (r : Option Nat) (h1 : HH) (H1 : Heap) (locs1 : List Loc), Q1 r h1 → hv_I G h0 s.heap h1 H1 locs1 → W p l e R s m args below meth c H1 locs1 (cells + mc1) (slots + ms1) Q (F0 m (pc + 3) ls (va_rf r :: rest))) : W p l e R s m args below meth c H locs cells slots Q (F0 m pc ls st0) :=
  va_callq hr hI.2.1 (fun q _ hq => hI.sub q hq) hI.sub fun r h' t H1 locs1 ht hvm hq hB hz hk hS1 => kk r h' H1 locs1 hq (hv_back hI ht hB hS1)
theorem hv_rFq {st0 : List Value} {av : Array Value} {mc1 ms1 : Nat} {Q1 : Option Nat → HH → Prop} (hI : hv_I G h0 s.heap h H locs) (hr : va_Run5 p l e R s m args below meth c H locs cells slots mc1 ms1 (F0 m pc ls st0) rest (hv_Qq G h H.size Q1 av) (hv_A h H.size))
    (kk : ∀ (r : Option Nat) (h1 : HH) (H1 : Heap) (locs1 : List Loc), Q1 r h1 → hv_I G h0 s.heap h1 H1 locs1 → W p l e R s m args below meth c H1 locs1 (cells + mc1) (slots + ms1) Q (F0 m (pc + 5) ls (va_rf r :: rest))) : W p l e R s m args below meth c H locs cells slots Q (F0 m pc ls st0) :=
  va_callFq hr hI.2.1 (fun q _ hq => hI.sub q hq) hI.sub fun r h' t H1 locs1 ht hvm hq hB hz hk hS1 => kk r h' H1 locs1 hq (hv_back hI ht hB hS1)
theorem hv_rcv {st0 : List Value} {av : Array Value} {mc1 ms1 : Nat} {Q1 : HH → Prop} (hI : hv_I G h0 s.heap h H locs) (hr : va_Run p l e R s m args below meth c H locs cells slots mc1 ms1 (F0 m pc ls st0) rest (hv_Qv G h H.size Q1 av) (hv_A h H.size))
    (kk : ∀ (h1 : HH) (H1 : Heap) (locs1 : List Loc), Q1 h1 → hv_I G h0 s.heap h1 H1 locs1 → W p l e R s m args below meth c H1 locs1 (cells + mc1) (slots + ms1) Q (F0 m (pc + 3) ls (rest))) : W p l e R s m args below meth c H locs cells slots Q (F0 m pc ls st0) :=
  va_callv hr hI.2.1 (fun q _ hq => hI.sub q hq) hI.sub fun h' t H1 locs1 ht hvm hq hB hz hk hS1 => kk h' H1 locs1 hq (hv_back hI ht hB hS1)
theorem hv_rFv {st0 : List Value} {av : Array Value} {mc1 ms1 : Nat} {Q1 : HH → Prop} (hI : hv_I G h0 s.heap h H locs) (hr : va_Run5 p l e R s m args below meth c H locs cells slots mc1 ms1 (F0 m pc ls st0) rest (hv_Qv G h H.size Q1 av) (hv_A h H.size))
    (kk : ∀ (h1 : HH) (H1 : Heap) (locs1 : List Loc), Q1 h1 → hv_I G h0 s.heap h1 H1 locs1 → W p l e R s m args below meth c H1 locs1 (cells + mc1) (slots + ms1) Q (F0 m (pc + 5) ls (rest))) : W p l e R s m args below meth c H locs cells slots Q (F0 m pc ls st0) :=
  va_callFv hr hI.2.1 (fun q _ hq => hI.sub q hq) hI.sub fun h' t H1 locs1 ht hvm hq hB hz hk hS1 => kk h' H1 locs1 hq (hv_back hI ht hB hS1)
/-- what a method that throws owes: X says of the class, the object and the world -/
abbrev hv_XC (G : GG) (h : HH) (sz : Nat) (X : String → Nat → HH → Prop) : String → Addr → State → State → Prop := vx_X (fun _ : HH => True) (fun E q h' t => X E q h' ∧ hv_B G h sz h' t) (hv_A h sz)
/-- in flight: an object of class E at q -/
def hv_T (s : State) (H : Heap) (E : String) (q : Nat) : Prop := ∃ ce : Cell, H[q]? = some ce ∧ ce.vm = .none ∧ s.vm.findClass E = some ce.cls
theorem hx_rci {st0 : List Value} {av : Array Value} {mc1 ms1 : Nat} {Q1 : Int32 → HH → Prop} {X1 : String → Nat → HH → Prop} (hI : hv_I G h0 s.heap h H locs) (hr : vx_Run p l e R s m args below meth c H locs cells slots mc1 ms1 (F0 m pc ls st0) rest (hv_Qi G h H.size Q1 av) (hv_XC G h H.size X1) (hv_A h H.size))
    (kx : ∀ (E : String) (q : Nat) (h1 : HH) (H1 : Heap) (locs1 : List Loc), X1 E q h1 → hv_I G h0 s.heap h1 H1 locs1 → hv_T s H1 E q → vx_W p l e R s m args below meth c H1 locs1 (cells + mc1) (slots + ms1) Q (F0 m pc ls rest) q)
    (kk : ∀ (r : Int32) (h1 : HH) (H1 : Heap) (locs1 : List Loc), Q1 r h1 → hv_I G h0 s.heap h1 H1 locs1 → W p l e R s m args below meth c H1 locs1 (cells + mc1) (slots + ms1) Q (F0 m (pc + 3) ls (.int r :: rest))) : W p l e R s m args below meth c H locs cells slots Q (F0 m pc ls st0) :=
  vx_calli hr hI.2.1 (fun q _ hq => hI.sub q hq) hI.sub (fun q _ hq => hI.sub q hq) (fun E ce q9 h' t H1 locs1 ht hvm _ hB hz hk hS1 g1 g2 g3 => kx E q9 h' H1 locs1 hB.1 (hv_back hI ht hB.2 hS1) ⟨ce, g1, g2, g3⟩) fun r h' t H1 locs1 ht hvm hq hB hz hk hS1 => kk r h' H1 locs1 hq (hv_back hI ht hB hS1)
theorem hx_rcl {st0 : List Value} {av : Array Value} {mc1 ms1 : Nat} {Q1 : Int64 → HH → Prop} {X1 : String → Nat → HH → Prop} (hI : hv_I G h0 s.heap h H locs) (hr : vx_Run p l e R s m args below meth c H locs cells slots mc1 ms1 (F0 m pc ls st0) rest (hv_Ql G h H.size Q1 av) (hv_XC G h H.size X1) (hv_A h H.size))
    (kx : ∀ (E : String) (q : Nat) (h1 : HH) (H1 : Heap) (locs1 : List Loc), X1 E q h1 → hv_I G h0 s.heap h1 H1 locs1 → hv_T s H1 E q → vx_W p l e R s m args below meth c H1 locs1 (cells + mc1) (slots + ms1) Q (F0 m pc ls rest) q)
    (kk : ∀ (r : Int64) (h1 : HH) (H1 : Heap) (locs1 : List Loc), Q1 r h1 → hv_I G h0 s.heap h1 H1 locs1 → W p l e R s m args below meth c H1 locs1 (cells + mc1) (slots + ms1) Q (F0 m (pc + 3) ls (.long r :: rest))) : W p l e R s m args below meth c H locs cells slots Q (F0 m pc ls st0) :=
  vx_calll hr hI.2.1 (fun q _ hq => hI.sub q hq) hI.sub (fun q _ hq => hI.sub q hq) (fun E ce q9 h' t H1 locs1 ht hvm _ hB hz hk hS1 g1 g2 g3 => kx E q9 h' H1 locs1 hB.1 (hv_back hI ht hB.2 hS1) ⟨ce, g1, g2, g3⟩) fun r h' t H1 locs1 ht hvm hq hB hz hk hS1 => kk r h' H1 locs1 hq (hv_back hI ht hB hS1)
theorem hx_rcf {st0 : List Value} {av : Array Value} {mc1 ms1 : Nat} {Q1 : UInt32 → HH → Prop} {X1 : String → Nat → HH → Prop} (hI : hv_I G h0 s.heap h H locs) (hr : vx_Run p l e R s m args below meth c H locs cells slots mc1 ms1 (F0 m pc ls st0) rest (hv_Qf G h H.size Q1 av) (hv_XC G h H.size X1) (hv_A h H.size))
    (kx : ∀ (E : String) (q : Nat) (h1 : HH) (H1 : Heap) (locs1 : List Loc), X1 E q h1 → hv_I G h0 s.heap h1 H1 locs1 → hv_T s H1 E q → vx_W p l e R s m args below meth c H1 locs1 (cells + mc1) (slots + ms1) Q (F0 m pc ls rest) q)
    (kk : ∀ (r : UInt32) (h1 : HH) (H1 : Heap) (locs1 : List Loc), Q1 r h1 → hv_I G h0 s.heap h1 H1 locs1 → W p l e R s m args below meth c H1 locs1 (cells + mc1) (slots + ms1) Q (F0 m (pc + 3) ls (.float r :: rest))) : W p l e R s m args below meth c H locs cells slots Q (F0 m pc ls st0) :=
  vx_callf hr hI.2.1 (fun q _ hq => hI.sub q hq) hI.sub (fun q _ hq => hI.sub q hq) (fun E ce q9 h' t H1 locs1 ht hvm _ hB hz hk hS1 g1 g2 g3 => kx E q9 h' H1 locs1 hB.1 (hv_back hI ht hB.2 hS1) ⟨ce, g1, g2, g3⟩) fun r h' t H1 locs1 ht hvm hq hB hz hk hS1 => kk r h' H1 locs1 hq (hv_back hI ht hB hS1)
theorem hx_rcd {st0 : List Value} {av : Array Value} {mc1 ms1 : Nat} {Q1 : UInt64 → HH → Prop} {X1 : String → Nat → HH → Prop} (hI : hv_I G h0 s.heap h H locs) (hr : vx_Run p l e R s m args below meth c H locs cells slots mc1 ms1 (F0 m pc ls st0) rest (hv_Qd G h H.size Q1 av) (hv_XC G h H.size X1) (hv_A h H.size))
    (kx : ∀ (E : String) (q : Nat) (h1 : HH) (H1 : Heap) (locs1 : List Loc), X1 E q h1 → hv_I G h0 s.heap h1 H1 locs1 → hv_T s H1 E q → vx_W p l e R s m args below meth c H1 locs1 (cells + mc1) (slots + ms1) Q (F0 m pc ls rest) q)
    (kk : ∀ (r : UInt64) (h1 : HH) (H1 : Heap) (locs1 : List Loc), Q1 r h1 → hv_I G h0 s.heap h1 H1 locs1 → W p l e R s m args below meth c H1 locs1 (cells + mc1) (slots + ms1) Q (F0 m (pc + 3) ls (.double r :: rest))) : W p l e R s m args below meth c H locs cells slots Q (F0 m pc ls st0) :=
  vx_calld hr hI.2.1 (fun q _ hq => hI.sub q hq) hI.sub (fun q _ hq => hI.sub q hq) (fun E ce q9 h' t H1 locs1 ht hvm _ hB hz hk hS1 g1 g2 g3 => kx E q9 h' H1 locs1 hB.1 (hv_back hI ht hB.2 hS1) ⟨ce, g1, g2, g3⟩) fun r h' t H1 locs1 ht hvm hq hB hz hk hS1 => kk r h' H1 locs1 hq (hv_back hI ht hB hS1)
theorem hx_rcq {st0 : List Value} {av : Array Value} {mc1 ms1 : Nat} {Q1 : Option Nat → HH → Prop} {X1 : String → Nat → HH → Prop} (hI : hv_I G h0 s.heap h H locs) (hr : vx_Run p l e R s m args below meth c H locs cells slots mc1 ms1 (F0 m pc ls st0) rest (hv_Qq G h H.size Q1 av) (hv_XC G h H.size X1) (hv_A h H.size))
    (kx : ∀ (E : String) (q : Nat) (h1 : HH) (H1 : Heap) (locs1 : List Loc), X1 E q h1 → hv_I G h0 s.heap h1 H1 locs1 → hv_T s H1 E q → vx_W p l e R s m args below meth c H1 locs1 (cells + mc1) (slots + ms1) Q (F0 m pc ls rest) q)
    (kk : ∀ (r : Option Nat) (h1 : HH) (H1 : Heap) (locs1 : List Loc), Q1 r h1 → hv_I G h0 s.heap h1 H1 locs1 → W p l e R s m args below meth c H1 locs1 (cells + mc1) (slots + ms1) Q (F0 m (pc + 3) ls (va_rf r :: rest))) : W p l e R s m args below meth c H locs cells slots Q (F0 m pc ls st0) :=
  vx_callq hr hI.2.1 (fun q _ hq => hI.sub q hq) hI.sub (fun q _ hq => hI.sub q hq) (fun E ce q9 h' t H1 locs1 ht hvm _ hB hz hk hS1 g1 g2 g3 => kx E q9 h' H1 locs1 hB.1 (hv_back hI ht hB.2 hS1) ⟨ce, g1, g2, g3⟩) fun r h' t H1 locs1 ht hvm hq hB hz hk hS1 => kk r h' H1 locs1 hq (hv_back hI ht hB hS1)
theorem hx_rcv {st0 : List Value} {av : Array Value} {mc1 ms1 : Nat} {Q1 : HH → Prop} {X1 : String → Nat → HH → Prop} (hI : hv_I G h0 s.heap h H locs) (hr : vx_Run p l e R s m args below meth c H locs cells slots mc1 ms1 (F0 m pc ls st0) rest (hv_Qv G h H.size Q1 av) (hv_XC G h H.size X1) (hv_A h H.size))
    (kx : ∀ (E : String) (q : Nat) (h1 : HH) (H1 : Heap) (locs1 : List Loc), X1 E q h1 → hv_I G h0 s.heap h1 H1 locs1 → hv_T s H1 E q → vx_W p l e R s m args below meth c H1 locs1 (cells + mc1) (slots + ms1) Q (F0 m pc ls rest) q)
    (kk : ∀ (h1 : HH) (H1 : Heap) (locs1 : List Loc), Q1 h1 → hv_I G h0 s.heap h1 H1 locs1 → W p l e R s m args below meth c H1 locs1 (cells + mc1) (slots + ms1) Q (F0 m (pc + 3) ls (rest))) : W p l e R s m args below meth c H locs cells slots Q (F0 m pc ls st0) :=
  vx_callv hr hI.2.1 (fun q _ hq => hI.sub q hq) hI.sub (fun q _ hq => hI.sub q hq) (fun E ce q9 h' t H1 locs1 ht hvm _ hB hz hk hS1 g1 g2 g3 => kx E q9 h' H1 locs1 hB.1 (hv_back hI ht hB.2 hS1) ⟨ce, g1, g2, g3⟩) fun h' t H1 locs1 ht hvm hq hB hz hk hS1 => kk h' H1 locs1 hq (hv_back hI ht hB hS1)
theorem hx_out {st : List Value} {E : String} {q : Nat} {Qc : Array Value → State → Outcome → State → Prop} {X : String → Nat → HH → Prop} (hE : hv_E p s m args meth c cc nL ret own G h0) (hI : hv_I G h0 s.heap h H locs) (hT : hv_T s H E q) (hc : cells ≤ mc) (hs : slots ≤ ms) (hout : ∀ x ∈ c.exceptionTable.toList, covers x pc = false) (hX : X E q h) :
    vx_W p l e R s m args below meth c H locs cells slots (vx_MQ below Qc (hv_XC G h0 s.heap.size X) args s mc ms (hv_A h0 s.heap.size)) (F0 m pc ls st) q := by
  obtain ⟨ce, g1, g2, g3⟩ := hT
  exact vx_out hout hE.2.2.1 g1 g2 g3 (fun t ht _ => ⟨h, trivial, ⟨hX, hI.B ht⟩, hI.F ht⟩) hI.2.1.2.2 hc hs
/-- past rows that name other classes -/
theorem hx_outP {st : List Value} {E : String} {q : Nat} {Qc : Array Value → State → Outcome → State → Prop} {X : String → Nat → HH → Prop} (hE : hv_E p s m args meth c cc nL ret own G h0) (hI : hv_I G h0 s.heap h H locs) (hT : hv_T s H E q) (hc : cells ≤ mc) (hs : slots ≤ ms) (hpass : ∀ z ∈ c.exceptionTable.toList, covers z pc = false ∨ (z.catchType ≠ 0 ∧ ∃ nm : String, (Cond.classLink own z.catchType nm).before args s = true ∧ va_Nc E nm s)) (hX : X E q h) :
    vx_W p l e R s m args below meth c H locs cells slots (vx_MQ below Qc (hv_XC G h0 s.heap.size X) args s mc ms (hv_A h0 s.heap.size)) (F0 m pc ls st) q := by
  obtain ⟨ce, g1, g2, g3⟩ := hT
  exact vx_outP hE.1.2.2.2.1 hE.2.2.1 hpass g1 g2 g3 (fun t ht _ => ⟨h, trivial, ⟨hX, hI.B ht⟩, hI.F ht⟩) hI.2.1.2.2 hc hs
theorem hx_catch {st : List Value} {E name : String} {q : Nat} (hE : hv_E p s m args meth c cc nL ret own G h0) (hT : hv_T s H E q) (pre : List ExceptionTableEntry) (x1 : ExceptionTableEntry) (suf : List ExceptionTableEntry) (hsplit : c.exceptionTable.toList = pre ++ x1 :: suf)
    (hpass : ∀ z ∈ pre, covers z pc = false ∨ (z.catchType ≠ 0 ∧ ∃ nm : String, (Cond.classLink own z.catchType nm).before args s = true ∧ va_Nc E nm s)) (hcov : covers x1 pc = true) (h0 : x1.catchType ≠ 0)
    (hlink : (Cond.classLink own x1.catchType name).before args s = true) (hcast : (Cond.castable E name).before args s = true)
    (kk : W p l e R s m args below meth c H locs cells slots Q (F0 m x1.handlerPc ls [.ref q])) : vx_W p l e R s m args below meth c H locs cells slots Q (F0 m pc ls st) q := by
  obtain ⟨ce, g1, g2, g3⟩ := hT
  exact vx_catch hE.1.2.2.2.1 pre x1 suf hsplit hpass hcov h0 hlink hcast g1 g2 g3 kk
/-- throw new E() of the JDK -/
theorem hx_throw0 {cls : String} {names : List String} {ik ic : Nat} {Qc : Array Value → State → Outcome → State → Prop} {X : String → Nat → HH → Prop} (hl : l.stackTraces = false) (hE : hv_E p s m args meth c cc nL ret own G h0) (hI : hv_I G h0 s.heap h H locs)
    (hcls : Bundle.fit cls = true) (hnames : ∀ n ∈ names, Bundle.fit n = true) (hk : (Cond.classLink own ik cls).before args s = true) (hini : (Cond.initialized cls).before args s = true) (hat : ∀ w ∈ vx_at0 own ic cls names, w.before args s = true) (hgood : ∀ w ∈ Cond.classLink own ik cls :: Cond.initialized cls :: vx_at0 own ic cls names, vx_ot w = true) (hsize : ls.size = nL)
    (d0 : decode cc pc = .ok (.new ik, 3)) (d3 : decode cc (pc + 3) = .ok (.dup, 1)) (d4 : decode cc (pc + 4) = .ok (.invokespecial ic, 3)) (d7 : decode cc (pc + 7) = .ok (.athrow, 1)) (hout : ∀ x ∈ c.exceptionTable.toList, covers x (pc + 7) = false)
    (hRframes : names.length + 3 < R.frames) (hRlocals : (rest.map fun v => v.category).sum + (13 * (names.length + 1) + 42) ≤ R.locals) (hRc : mc ≤ R.cells) (hRs : ms ≤ R.slots) (hc : cells + 1 ≤ mc) (hs : slots + 6 ≤ ms) (hX : ∀ q, h q = none → X cls q h) :
    W p l e R s m args below meth c H locs cells slots (vx_MQ below Qc (hv_XC G h0 s.heap.size X) args s mc ms (hv_A h0 s.heap.size)) (F0 m pc ls rest) := by
  have hz := hv_zH hE
  refine vx_throw0 hE.1.1 hE.1.2.1 hl hE.1.2.2.2.1 hcls hnames hk hini hat hgood hz.2.2.2.2.2.2.2.2.1 hz.2.2.2.2.2.2.2.2.2.1 hI.2.1 (hsize.trans hE.1.2.2.1.symm) d0 d3 d4 d7 hout hRframes hRlocals (Nat.le_trans hc hRc) (Nat.le_trans hs hRs) hE.2.2.1 (fun t ht1 ht2 ht3 q9 hq9 => ⟨h, trivial, ⟨hX q9 ?_, fun a e ha => ?_, hI.2.2⟩, Nat.le_trans hI.2.1.1 ht2, fun q h1 h2 => ?_⟩) hI.2.1.2.2 hc hs
  · cases hh : h q9 with
    | none => rfl
    | some e1 =>
      have hq : q9 < H.size := (hI.1 q9 e1 hh).lt
      exact absurd (Nat.lt_of_lt_of_le hq hq9) (Nat.lt_irrefl _)
  · exact (hI.1 a e ha).kept (ht3 a ((hI.1 a e ha).lt))
  · rw [ht3 q (Nat.lt_of_lt_of_le h1 hI.2.1.1)]
    exact hI.2.1.2.1 q h1 h2
theorem hx_athrow {q : Nat} {E : String} (hE : hv_E p s m args meth c cc nL ret own G h0) (hdg : decode cc pc = .ok (.athrow, 1)) (kk : vx_W p l e R s m args below meth c H locs cells slots Q (F0 m pc ls rest) q) : W p l e R s m args below meth c H locs cells slots Q (F0 m pc ls (.ref q :: rest)) :=
  vx_athrow hE.1.1 hE.1.2.1 hdg kk
theorem hv_Tof {ci : Nat} {C : String} {T : u_T} {N : Nat} {fs : List Value} (hE : hv_E p s m args meth c cc nL ret own G h0) (hI : hv_I G h0 s.heap h H locs) (hc : hv_cl[ci]? = some (C, T, N)) (ha : h a = some (.inr (ci, fs))) : hv_T s H C a := by
  obtain ⟨q', h1, cell, g1, g2, g3, -⟩ := hI.1 _ _ ha
  exact ⟨cell, g1, g3, by rw [g2]; exact (hE.2.2.2.1.1 ci _ hc).2.1⟩
/-- opening a body with handlers -/
theorem hv_openW {y : MethodName} {hh : List (Nat × Nat × Nat × Nat)} {rm : Room} {s₁ : State} {sz : Nat} {av : List Value}
    (B : BodyLoose p l y (headSpec (wsW_ y cc nL ret hh) rm) cc nL ret e s m args below meth c s₁) (hml : c.maxLocals = nL) (hv : hv_Pc G h sz av args s) :
    args = av.toArray ∧ s.heap.size = sz ∧ hv_E p s m args meth c cc nL ret y.cls G h ∧ hv_I G h s.heap h s.heap [] := by
  obtain ⟨ha, hsz, hP, hX⟩ := hv
  have hts := atoms_spec (ws := wsW_ y cc nL ret hh) B.pre
  have hts : ∀ w ∈ lw_all, w.before args s = true := fun w h => hts w (List.mem_cons_of_mem _ h)
  exact ⟨ha, hsz, ⟨⟨B.exec, B.bytes, hml, findClass_of_methodNamed B.named, hts⟩, B.returns, B.notSynchronized, hX⟩, hv_I.start hP⟩
theorem lv_ldcwf (hexec : p.tables.exec = Jvm.exec) (hb : c.code = cc) {own : String} {index : Nat} {v : UInt32} (hown : s.vm.findClass own = some m.cls) (hconst : (Jvm.Cond.constantFloat own index v).before args s = true) (hdg : decode cc pc = .ok (.ldc_w index, 3)) (k : W p l e R s m args below meth c H locs cells slots Q (F0 m (pc + 3) ls (.float v :: rest))) : W p l e R s m args below meth c H locs cells slots Q (F0 m pc ls rest) := by
  intro T hT X
  obtain ⟨t, a1, b1⟩ := k T hT X
  refine ⟨t, ?_, b1⟩
  obtain ⟨k1, cf, hk, hcf, hcp⟩ := Cond.constantFloat_spec hown hconst
  obtain ⟨k', hk', he⟩ := X.warmed.alike.2.2 _ _ hk
  have hdg' : decode c.code pc = .ok (.ldc_w index, 3) := by rw [hb]; exact hdg
  jvm_step X.here [hexec, hdg', ldc_w.wp_float (s := T) (f := F0 m pc ls rest) X.here.top hk' (by rw [he]; exact hcf) hcp]
  exact a1
theorem hv_ldcwS {own2 tx : String} {index a : Nat} (hE : hv_E p s m args meth c cc nL ret own G h0) (hR : vk_R own2 index tx a s) (ho : own2 = own) (hdg : decode cc pc = .ok (.ldc_w index, 3))
    (kk : W p l e R s m args below meth c H locs cells slots Q (F0 m (pc + 3) ls (.ref a :: rest))) : W p l e R s m args below meth c H locs cells slots Q (F0 m pc ls rest) := by
  subst ho
  obtain ⟨⟨hexec, hb, -, hown, -⟩, -, -, -⟩ := hE
  intro T hT X
  obtain ⟨t, a1, b1⟩ := kk T hT X
  refine ⟨t, ?_, b1⟩
  obtain ⟨k1, cf, i, a', hk, hcf, hcp, -, hr, hev'⟩ := Cond.stringRef_spec hown hR.1
  cases hR.2.symm.trans hev'
  obtain ⟨k', hk', he⟩ := X.warmed.alike.2.2 _ _ hk
  have hr' : k'.resolved[index]? = some (some (.string a)) := by
    rcases X.warmed.entry hk hk' index with h | ⟨h, -⟩
    · rw [h]; exact hr
    · rw [hr] at h; cases h
  have hdg' : decode c.code pc = .ok (.ldc_w index, 3) := by rw [hb]; exact hdg
  jvm_step X.here [hexec, hdg', ldc_w.wp_string (e := e) (s := T) (f := F0 m pc ls rest) X.here.top hk' (by rw [he]; exact hcf) hcp hr']
  exact a1
end HVT
