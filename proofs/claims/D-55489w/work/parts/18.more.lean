/-! MORE ROWS (by gen/mkmore.py) -/
set_option maxRecDepth 100000
theorem lw_O {own : String} {idx : Nat} {C owner : String} {x1 y : MethodName} {b : ByteArray} {L : Nat} {r : Option FieldType} (h1 : Cond.methodLink own idx x1 ∈ lw_all) (h2 : Cond.sameMethod x1.cls owner x1.name x1.desc ∈ lw_all) (h3 : Cond.instanceMethod ⟨owner, x1.name, x1.desc⟩ ∈ lw_all) (h4 : Cond.selects C x1 y ∈ lw_all) (h5 : Cond.instanceMethod y ∈ lw_all) (h6 : Cond.initialized y.cls ∈ lw_all) (h7 : Cond.code y b L r ∈ lw_all) : GoodIn lw_all (va_wsO own idx C owner x1 y (ws_ y b L r)) :=
  lw_app (List.forall_mem_cons.mpr ⟨h1, List.forall_mem_cons.mpr ⟨h2, List.forall_mem_cons.mpr ⟨h3, List.forall_mem_cons.mpr ⟨h4, List.forall_mem_cons.mpr ⟨h5, List.forall_mem_cons.mpr ⟨h6, fun _ h => absurd h List.not_mem_nil⟩⟩⟩⟩⟩⟩) (lw_meth h7)
def w_cpb (G : GG) (h : HH) (a : Nat) (sp : Int32) (b : Nat) (dp n : Int32) (Q : HH → Prop) : Prop := w_cpi G 1 h a sp b dp n Q ∨ w_cpk G h a sp b dp n Q
def w_eqo (h : HH) (a : Nat) (r : Option Nat) (Q : Int32 → Prop) : Prop := ((∃ fs, h a = some (.inr (12, fs))) ∨ ∃ fs, h a = some (.inr (14, fs))) ∧ Q (if some a = r then 1 else 0)
section HVM
variable {p : Program} {l : Launch} {e : Env} {R : Room} {s : State} {m : MethodId} {args : Array Value} {below : List Frame} {meth : Method} {c : Code} {H : Heap} {locs : List Loc} {cells slots mc ms : Nat} {Q : State → Prop}
variable {cc : ByteArray} {pc : Nat} {ls : Array Slot} {rest : List Value} {G : GG} {h0 h : HH} {nL : Nat} {own : String} {ret : Option FieldType} {a : Nat}
theorem hv_cpb {a b : Nat} {sp dp n : Int32} {P : HH → Prop} (hE : hv_E p s m args meth c cc nL ret own G h0) (hI : hv_I G h0 s.heap h H locs) (hw : w_cpb G h a sp b dp n P) (hsize : ls.size = nL) {index : Nat} (hlink : (Cond.methodLink own index arraycopyName).before args s = true) (hnat : (Cond.native arraycopyName).before args s = true) (hstat : (Cond.static arraycopyName).before args s = true) (hini : (Cond.initialized "java/lang/System").before args s = true) (hframes : 1 ≤ R.frames) (hlocals : (rest.map fun v => v.category).sum + 50 ≤ R.locals) (hdg : decode cc pc = .ok (.invokestatic index, 3))
    (kk : ∀ (h1 : HH) (H1 : Heap) (locs1 : List Loc), P h1 → hv_I G h0 s.heap h1 H1 locs1 → W p l e R s m args below meth c H1 locs1 cells slots Q (F0 m (pc + 3) ls rest)) : W p l e R s m args below meth c H locs cells slots Q (F0 m pc ls (.int n :: .int dp :: .ref b :: .int sp :: .ref a :: rest)) := by
  rcases hw with hw | hw
  · exact hv_cpi (t := 1) (ty := .byte) rfl rfl (fun _ hf => hf rfl) hE hI hw hsize hlink hnat hstat hini hframes hlocals hdg kk
  · exact hv_cpk hE hI hw hsize hlink hnat hstat hini hframes hlocals hdg kk
theorem hv_objI {index : Nat} (hE : hv_E p s m args meth c cc nL ret own G h0) (hlink : (Cond.methodLink own index Lib.objectInit).before args s = true) (hinst : (Cond.instanceMethod Lib.objectInit).before args s = true) (hcode : (Cond.code Lib.objectInit ⟨#[0xb1]⟩ 1 none).before args s = true) (hsize : ls.size = nL) (hdg : decode cc pc = .ok (.invokespecial index, 3)) (hframes : 1 ≤ R.frames) (hlocals : (rest.map fun v => v.category).sum + 12 ≤ R.locals)
    (kk : W p l e R s m args below meth c H locs cells slots Q (F0 m (pc + 3) ls rest)) : W p l e R s m args below meth c H locs cells slots Q (F0 m pc ls (.ref a :: rest)) :=
  W.objInit hE.1.1 hE.1.2.1 hE.1.2.2.2.1 hlink hinst hcode rfl (hsize.trans hE.1.2.2.1.symm) (rest := rest) rfl hdg hframes (by show 2 * 0 + _ + 12 ≤ _; omega) kk
theorem hv_fw0 {U : State} (h : hv_w U) : va_Fw "java/util/ArrayList$Itr" ⟨"java/util/Iterator", "hasNext", "()Z"⟩ yJ15_hasNext U := h.I 0 (q := ("java/util/ArrayList$Itr", ⟨"java/util/Iterator", "hasNext", "()Z"⟩, ⟨"java/util/ArrayList$Itr", "hasNext", "()Z"⟩)) rfl
theorem hv_fw1 {U : State} (h : hv_w U) : va_Fw "java/util/ArrayList$Itr" ⟨"java/util/Iterator", "next", "()Ljava/lang/Object;"⟩ yJ15_next U := h.I 1 (q := ("java/util/ArrayList$Itr", ⟨"java/util/Iterator", "next", "()Ljava/lang/Object;"⟩, ⟨"java/util/ArrayList$Itr", "next", "()Ljava/lang/Object;"⟩)) rfl
theorem hv_fw2 {U : State} (h : hv_w U) : va_Fw "java/util/ArrayList$Itr" ⟨"java/util/Iterator", "remove", "()V"⟩ yJ15_remove U := h.I 2 (q := ("java/util/ArrayList$Itr", ⟨"java/util/Iterator", "remove", "()V"⟩, ⟨"java/util/ArrayList$Itr", "remove", "()V"⟩)) rfl
theorem hv_fw3 {U : State} (h : hv_w U) : va_Fw "java/lang/StringBuilder" ⟨"java/lang/CharSequence", "length", "()I"⟩ yJ5_length U := h.I 3 (q := ("java/lang/StringBuilder", ⟨"java/lang/CharSequence", "length", "()I"⟩, ⟨"java/lang/StringBuilder", "length", "()I"⟩)) rfl
theorem hv_fw4 {U : State} (h : hv_w U) : va_Fw "java/lang/StringBuilder" ⟨"java/lang/CharSequence", "charAt", "(I)C"⟩ yJ5_charAt U := h.I 4 (q := ("java/lang/StringBuilder", ⟨"java/lang/CharSequence", "charAt", "(I)C"⟩, ⟨"java/lang/StringBuilder", "charAt", "(I)C"⟩)) rfl
theorem hv_nm6 {G : GG} {h : HH} {s : State} (hX : hv_X G h s) : s.vm.findClass "[Ljava/lang/Object;" = some (G.2.1 6) := by
  obtain ⟨-, -, -, -, -, e2⟩ := (hX.1.2 6 _ rfl).2
  exact e2
theorem hv_wcastQ {index : Nat} {P : Prop} (hE : hv_E p s m args meth c cc nL ret own G h0) (hI : hv_I G h0 s.heap h H locs) (hlink : (Cond.classLink own index "[Ljava/lang/Object;").before args s = true) (hw : w_castA G h a 6 P) (hdg : decode cc pc = .ok (.checkcast index, 3))
    (kk : P → W p l e R s m args below meth c H locs cells slots Q (F0 m (pc + 3) ls (.ref a :: rest))) : W p l e R s m args below meth c H locs cells slots Q (F0 m pc ls (.ref a :: rest)) := by
  obtain ⟨x1, ha, hw⟩ := hw
  exact va_castA hE.1.1 hE.1.2.1 hE.1.2.2.2.1 hlink (hv_one hI ha) 0 rfl (hv_nm6 hE.2.2.2) hdg (kk hw)
theorem hv_getCQ {index : Nat} {P : Prop} (hE : hv_E p s m args meth c cc nL ret own G h0) (hI : hv_I G h0 s.heap h H locs) (hw : w_castA G h a 6 P) (hsize : ls.size = nL) (hlink : (Cond.methodLink own index ⟨"java/lang/Object", "getClass", "()Ljava/lang/Class;"⟩).before args s = true) (hdecl : (Cond.declares ⟨"java/lang/Object", "getClass", "()Ljava/lang/Class;"⟩).before args s = true)
    (hsel : (Cond.selects "[Ljava/lang/Object;" ⟨"java/lang/Object", "getClass", "()Ljava/lang/Class;"⟩ ⟨"java/lang/Object", "getClass", "()Ljava/lang/Class;"⟩).before args s = true) (hinst : (Cond.instanceMethod ⟨"java/lang/Object", "getClass", "()Ljava/lang/Class;"⟩).before args s = true) (hnat : (Cond.native ⟨"java/lang/Object", "getClass", "()Ljava/lang/Class;"⟩).before args s = true)
    (hframes : 1 ≤ R.frames) (hlocals : (rest.map fun v => v.category).sum + 14 ≤ R.locals) (hdg : decode cc pc = .ok (.invokevirtual index, 3))
    (kk : P → W p l e R s m args below meth c H locs cells slots Q (F0 m (pc + 3) ls (.ref (G.2.2 3) :: rest))) : W p l e R s m args below meth c H locs cells slots Q (F0 m pc ls (.ref a :: rest)) := by
  obtain ⟨x1, ha, hw⟩ := hw
  refine va_getC hE.1.1 hE.1.2.1 (hE.1.2.2.1.trans hsize.symm) hE.1.2.2.2.1 hlink hdecl hsel hinst hnat (hv_zH hE).2.2.2.2.2.2.2.2.2.2.1 ⟨vp_cell (G.2.1 6) x1, hI.1 _ _ ha, ?_, ?_⟩ hframes hlocals hdg (kk hw)
  · obtain ⟨n, f | f | f | f | f⟩ := x1 <;> rfl
  · obtain ⟨n, f | f | f | f | f⟩ := x1 <;> exact hv_nm6 hE.2.2.2
end HVM
