/-! THE SIX LAMBDAS OF THE BOOK: their sites, the made classes, isSo on their objects (by gen/mklam.py) -/
set_option maxRecDepth 100000
def la_x : MethodName := ⟨"MatchmakerRules$Test", "isSo", "(LMatchmakerRules$Firing;)Z"⟩
def la_code : ByteArray := ⟨#[0x2a, 0xb4, 0x00, 0x0f, 0x2b, 0xb8, 0x00, 0x17, 0xac]⟩
theorem la_d0 : decode la_code 0 = .ok (.aload_n 0, 1) := by decide +kernel
theorem la_d1 : decode la_code 1 = .ok (.getfield 15, 3) := by decide +kernel
theorem la_d4 : decode la_code 4 = .ok (.aload_n 1, 1) := by decide +kernel
theorem la_d5 : decode la_code 5 = .ok (.invokestatic 23, 3) := by decide +kernel
theorem la_d8 : decode la_code 8 = .ok (.ireturn, 1) := by decide +kernel
def la_F : FieldType := .object "MatchmakerRules$Firing"
abbrev la_S (nm : String) (cap : FieldType) : Lambda.Shape := { iface := "MatchmakerRules$Test", name := "isSo", sam := ⟨[la_F], some .boolean⟩, captured := [cap], kind := 6, implClass := "MatchmakerRules$Book", implName := nm, implDesc := ⟨[cap, la_F], some .boolean⟩, implItf := false, inst := ⟨[la_F], some .boolean⟩ }
/-- what the kernel looks up in the made class's file -/
def la_chk (nm desc : String) (cap : FieldType) : Bool :=
  match (la_S nm cap).file "MatchmakerRules$Book" with
  | none => false
  | some D => match (layoutMethods D).bind (·[1]?), layoutFields D 0 with
    | some fw, some laid => decide ((fw.code.map fun c => (c.code.data, c.maxLocals)) = some (la_code.data, 2)) && decide ((fw.accessFlags, fw.name, fw.sig.returnType) = (0x0001, "isSo", some FieldType.boolean)) &&
      decide (D.constantPool[23]? = some (.methodref 19 22)) && decide (D.constantPool.className? 19 = some "MatchmakerRules$Book") && decide (D.constantPool.nameAndType? 22 = some (nm, desc)) &&
      decide (D.constantPool[19]? = some (.class_ 18)) && decide (D.constantPool.string? 18 = some "MatchmakerRules$Book") && decide (19 ≠ D.thisClass) &&
      decide (D.constantPool[15]? = some (.fieldref 2 14)) && decide (D.constantPool.nameAndType? 14 = some ("arg$1", cap.toString)) && decide (laid.1.findIdx? (·.name == "arg$1") = some 0) && decide ((laid.1[0]?).map (fun f => (f.isStatic, f.slot)) = some (false, 0)) &&
      decide (laid.2.1 = #[cap]) && decide ((la_S nm cap).implDesc.toString = desc)
    | _, _ => false
theorem la_made {e : Setting} {vm : Vm} {d c : ClassId} {dk : Class} {nm desc : String} {cap : FieldType} (hchk : la_chk nm desc cap = true) (hd : vm.classes[d]? = some dk) (hname : dk.name = "MatchmakerRules$Book") (h : Lambda.isMade e vm d (la_S nm cap) c = true)
    (hO : ∀ o ok, vm.findClass "java/lang/Object" = some o → vm.classes[o]? = some ok → ok.instanceTypes.size = 0) :
    ∃ (k tk : Class) (file D : ClassFile) (methk : Method) (ck : Code) (toy : ClassId) (t : MethodId) (f0 : Field),
      vm.classes[c]? = some k ∧ k.name = "MatchmakerRules$Book$$Lambda" ∧ k.cf = some file ∧ file.constantPool = D.constantPool ∧ D.constantPool[23]? = some (.methodref 19 22) ∧ D.constantPool.nameAndType? 22 = some (nm, desc) ∧
      vm.method? ⟨c, 1⟩ = some methk ∧ methk.code = some ck ∧ ck.code = la_code ∧ ck.maxLocals = 2 ∧ methk.locks = false ∧ methk.accessFlags = 0x0001 ∧ methk.sig.returnType = some .boolean ∧
      vm.findClass "MatchmakerRules$Book" = some toy ∧ vm.classes[toy]? = some tk ∧ tk.isInterface = false ∧ ((methodIn toy nm desc tk.isInterface none).ask e vm).1 = .ok t ∧
      vm.methodReady c 23 t ∧ vm.classReady c 19 toy ∧ vm.fieldReady c 15 c f0 ∧ f0.isStatic = false ∧ f0.slot = 0 ∧ k.instanceTypes = #[cap] ∧ k.kind = .ordinary := by
  obtain ⟨dk', k, ok, tk, file, cf, object, iface, toy, lay, methods, target, found, hd', hk, hfile, hcf, hobj, -, hok, hlay, hms, ht, htk, hg, -, hrec, -, -, -, hitf, hpool, hmeth, hfields, hty, hres, -⟩ := Lambda.isMade_spec h
  cases hd.symm.trans hd'
  rw [hname] at hcf
  unfold la_chk at hchk
  rw [hcf] at hchk
  have hO1 := hO object ok hobj hok
  rw [hO1] at hlay
  simp only [hms, hlay, Option.bind_some] at hchk
  cases hfw : methods[1]? with
  | none => simp [hfw] at hchk
  | some fw =>
    simp only [hfw, Bool.and_eq_true, decide_eq_true_eq, Prod.mk.injEq] at hchk
    obtain ⟨⟨⟨⟨⟨⟨⟨⟨⟨⟨⟨⟨⟨fc, ff⟩, e23⟩, e19⟩, e22⟩, e19c⟩, e18⟩, ethis⟩, e15⟩, e14⟩, efi⟩, ef0⟩, ety⟩, edesc⟩ := hchk
    obtain ⟨b, hb, hsame⟩ := hmeth 1 fw hfw
    simp only [Lambda.sameMethod, Bool.and_eq_true, decide_eq_true_eq] at hsame
    obtain ⟨⟨hn, -, hsig, hfl⟩, hcode⟩ := hsame
    obtain ⟨g0, hg0, hp0⟩ := Option.map_eq_some_iff.mp ef0
    simp only [Prod.mk.injEq] at hp0
    have hg' : ((methodIn toy nm desc tk.isInterface none).ask e vm).1 = .ok target := by rw [← edesc]; exact hg
    cases hfc : fw.code with
    | none => rw [hfc] at fc; cases fc
    | some x1 =>
      cases hbc : b.code with
      | none => simp [hfc, hbc] at hcode
      | some y1 =>
        simp only [hfc, hbc, Bool.and_eq_true, decide_eq_true_eq] at hcode
        simp only [hfc, Option.map_some, Option.some.injEq, Prod.mk.injEq] at fc
        refine ⟨k, tk, file, cf, b, y1, toy, target, g0, hk, by rw [hrec.1, hname]; rfl, hfile, hpool.2.1, e23, e22, by simp [Vm.method?, hk, hb], hbc, ?_, by rw [← hcode.1.1.1.1.2.1]; exact fc.2, ?_, by rw [← hfl]; exact ff.1, by rw [← hsig]; exact ff.2.2, ht, htk, hitf, hg',
          ⟨k, hk, hres 23 _ (Lambda.resolvedOf_method e23 e19 ht htk e22 hg')⟩, ⟨k, hk, hres 19 _ (Lambda.resolvedOf_class e19c ethis e18 ht)⟩,
          ⟨k, 0, k, hk, hres 15 _ (Lambda.resolvedOf_field e15 e14 efi), hk, hfields 0 _ hg0⟩, hp0.1, hp0.2, ?_, hrec.2.1⟩
        · rw [← hcode.1.1.1.1.2.2]
          exact ByteArray.ext fc.1
        · simp [Method.locks, Method.isSynchronized, ← hfl, ff.1, hasFlag, Acc.synchronized]
        · rw [hty.1, ety, Array.eq_empty_of_size_eq_zero hO1]
          simp
/-- a site that is linked: what the tables say -/
def la_Is (nm : String) (cap : FieldType) (x : MethodName) (pc index : Nat) (cK : ClassId) (U : State) : Prop :=
  ∃ (m : MethodId) (k : Class) (cf : ClassFile) (i0 p0 : Nat), U.methodNamed? x = some m ∧ U.vm.classes[m.cls]? = some k ∧ k.cf = some cf ∧ Lambda.shapeOf? cf index = some (la_S nm cap) ∧
    (k.callSites.find? fun y => y.1 == m.idx && y.2.1 == pc) = some (i0, p0, .makes cK) ∧ Lambda.isMade { classPath := fun _ => none } U.vm m.cls (la_S nm cap) cK = true ∧ U.lambdaCallable (la_S nm cap) cK = true
theorem la_Is.same {nm : String} {cap : FieldType} {x : MethodName} {pc index : Nat} {cK : ClassId} {u U : State} (hv : u.vm = U.vm) (h : la_Is nm cap x pc index cK u) : la_Is nm cap x pc index cK U := by
  obtain ⟨m, k, cf, i0, p0, h1, h2, h3, h4, h5, h6, h7⟩ := h
  refine ⟨m, k, cf, i0, p0, ?_, hv ▸ h2, h3, h4, h5, hv ▸ h6, ?_⟩
  · rw [← h1]
    exact congrArg (fun v => (u.setVm v).methodNamed? x) hv.symm
  · rw [← h7]
    simp only [State.lambdaCallable, hv]
theorem la_Is.moved {nm : String} {cap : FieldType} {x : MethodName} {pc index : Nat} {cK : ClassId} {s U : State} (hW : s.WarmedH U.vm) (h : la_Is nm cap x pc index cK s) : la_Is nm cap x pc index cK U := by
  obtain ⟨m, k, cf, i0, p0, h1, h2, h3, h4, h5, h6, h7⟩ := h
  obtain ⟨k', hk', he⟩ := hW.alike.2.2 _ _ h2
  refine ⟨m, k', cf, i0, p0, ?_, hk', by rw [he]; exact h3, h4, by rw [he]; exact h5, Lambda.isMade_warmer hW h6, ?_⟩
  · have := State.methodNamed?_setVm (s := s) hW.alike x
    rw [h1] at this
    exact this
  · have hA := hW.alike
    simp only [State.lambdaCallable, hA.findClass, hA.assignable, hA.superclasses, hA.declaredIn] at h7 ⊢
    exact h7
theorem la_Is.of {nm : String} {cap : FieldType} {x : MethodName} {pc index : Nat} {args : Array Value} {s : State} (h : (Cond.lambdaSite x pc index (la_S nm cap)).before args s = true) : ∃ cK, la_Is nm cap x pc index cK s := by
  obtain ⟨cK, one, hat⟩ := Cond.lambdaSite_spec h
  obtain ⟨m, k, cf, i0, p0, lk, h1, h2, h3, h4, -, h5, h6, h7, hlk⟩ := State.lambdaAt?_spec hat
  rcases hlk with ⟨a, cell, -, -, h8, -⟩ | ⟨rfl, rfl, -⟩
  · cases h8
  · exact ⟨cK, m, k, cf, i0, p0, h1, h2, h3, h4, h5, h6, h7⟩
def la_If (U : State) : Prop := (Cond.declares la_x).before #[] U = true ∧ (Cond.interfaceMethod "MatchmakerRules$Test" "MatchmakerRules$Test" "isSo" "(LMatchmakerRules$Firing;)Z").before #[] U = true
theorem la_If.of {A : Array Value} {U : State} (h1 : (Cond.declares la_x).before A U = true) (h2 : (Cond.interfaceMethod "MatchmakerRules$Test" "MatchmakerRules$Test" "isSo" "(LMatchmakerRules$Firing;)Z").before A U = true) : la_If U := ⟨va_any rfl h1, va_any rfl h2⟩
theorem la_If.moved {u U : State} (hvm : u.vm.Alike U.vm) (h : la_If u) : la_If U := by
  obtain ⟨h1, h2⟩ := h
  obtain ⟨r, meth, hn, -⟩ := Cond.declares_spec h1
  have tr : ∀ {c : Cond}, c.onTables = true → c.before #[] (u.setVm U.vm) = true → c.before #[] U = true := by
    intro c hc h
    have e := Cond.onTables_vm (A := #[]) (A' := #[]) (U := u) (U' := U) U.vm c hc
    have hU : U.setVm U.vm = U := rfl
    rw [hU] at e
    rw [← e]
    exact h
  exact ⟨tr rfl (by rw [Cond.declares_setVm hvm]; exact h1), tr rfl (by rw [Cond.interfaceMethod_setVm hvm (r := r) hn (by decide)]; exact h2)⟩

section LAC
variable {p : Program} {l : Launch} {e : Env} {R : Room} {s : State} {m : MethodId} {args : Array Value} {below : List Frame} {meth : Method} {c : Code} {H : Heap} {locs : List Loc} {cells slots : Nat}
theorem la_named {u U : State} (hv : u.vm = U.vm) (y : MethodName) : u.methodNamed? y = U.methodNamed? y := congrArg (fun v => (u.setVm v).methodNamed? y) hv
theorem la_isSo {nm desc : String} {cap : FieldType} {x1 : MethodName} {pcS ixS : Nat} {cK : ClassId} {y : MethodName} {bytes cc : ByteArray} {maxL nL index count : Nat} {ws : List Cond} {rm : Room} {Pc : Array Value → State → Prop} {Qc : Array Value → State → Outcome → State → Prop} {free : Addr → Prop} {Ts : List Cond} {own : String} {v vf : Value} {a : Nat} {rest : List Value} {g : JFrame}
    (S : CallFix p m c cc nL s args Ts own) (hchk : la_chk nm desc cap = true) (hIs : la_Is nm cap x1 pcS ixS cK s) (hxc : x1.cls = "MatchmakerRules$Book") (hIf : la_If s) (hO : (Cond.instantiable "java/lang/Object" 0).before args s = true) (hy : y = ⟨"MatchmakerRules$Book", nm, desc⟩) (hpd : parseMethodDescriptor desc = some ⟨[cap, la_F], some .boolean⟩)
    (hM : Met l y ws rm Pc Qc 0 0 free) (hblind : FrameBlind Pc) (hrc : rm.cells = 0) (hrs : rm.slots = 0) (hws : ∀ w ∈ ws, ∀ a' U, s.WarmedH U.vm → w.before a' U = true) (hcw : Cond.code y bytes maxL (some .boolean) ∈ ws)
    (hcode : (Cond.code y bytes maxL (some .boolean)).before args s = true) (hstat : (Cond.static y).before args s = true) (hini : (Cond.initialized y.cls).before args s = true)
    (hlink : (Cond.methodLink own index la_x).before args s = true) (hcell : H[a]? = some { cls := cK, slots := #[v], vm := .none }) (hvf : vf.isRef = true) (hcat : v.category = 1)
    (hPc : ∀ U : State, U.heap = H → s.WarmedH U.vm → Pc #[v, vf] U) (hQi : ∀ st t v1, Qc #[v, vf] st (.returned v1) t → ∃ r : Int32, v1 = some (.int r) ∧ narrow .boolean (.int r) = .int r)
    (hg : g.method = m) (hsize : g.locals.size = nL) (hstack : g.stack = vf :: .ref a :: rest) (hW : 2 * g.monitorRoom + (rest.map fun v => v.category).sum ≤ 8) (hdg : decode cc g.pc = .ok (.invokeinterface index count, 5))
    (hfr : rm.frames + 2 ≤ R.frames) (hlo : 8 + (2 + 11) + (8 + (maxL + 11) + rm.locals) ≤ R.locals) (hf : cells ≤ R.cells ∧ slots ≤ R.slots) :
    va_Run5 p l e R s m args below meth c H locs cells slots 0 0 g rest (Qc #[v, vf]) free := by
  intro T hT X
  obtain ⟨hx, hb, hml, hown, hts⟩ := S
  subst hy
  obtain ⟨mS, kS, cfS, i0, p0, hmS, hkS, -, -, -, hmade, hcan⟩ := hIs
  obtain ⟨kS', hkS', hnameS⟩ := className_of_methodNamed hmS
  cases hkS.symm.trans hkS'
  rw [hxc] at hnameS
  obtain ⟨cO, kO, hfO, hkO, -, -, -, hsz⟩ := Cond.instantiable_spec hO
  have hOb : ∀ o ok, s.vm.findClass "java/lang/Object" = some o → s.vm.classes[o]? = some ok → ok.instanceTypes.size = 0 := fun o ok h1 h2 => by
    cases hfO.symm.trans h1
    cases hkO.symm.trans h2
    exact hsz
  obtain ⟨kK, tk, file, D, methk, ck, toy, t, f0, hkK, hkn, hfile, hpool, e23, e22, hmk, hck, hbytes, hml2, hlk, hfl, hretk, htoy, htk, htki, hlook, hready, hclsR, hf0, hf0s, hf0i, hkt, hkk⟩ := la_made hchk hkS hnameS hmade hOb
  obtain ⟨hd0, hf1⟩ := hIf
  obtain ⟨r0, r, hn, hrm, hstR, hsigR⟩ := Cond.declares_spec hd0
  obtain ⟨cL, kL, r1, hcL, hkL, hiL, hfoundL, hn1⟩ := Cond.interfaceMethod_spec hf1
  cases hn.symm.trans hn1
  have hr0cls : r0.cls = cL := Option.some.inj ((findClass_of_methodNamed hn).symm.trans hcL)
  obtain ⟨hnameR, hdescR⟩ := name_of_methodNamed hn hrm
  obtain ⟨-, -, -, -, -, -, -, iface', -, -, -, -, found, -, -, -, -, -, hi', -, -, -, -, -, -, hfound', -, -, -, -, -, -, -, -, -, -, hsel⟩ := Lambda.isMade_spec hmade
  cases hcL.symm.trans hi'
  have e1 : (⟨[la_F], some .boolean⟩ : MethodDescriptor).toString = "(LMatchmakerRules$Firing;)Z" := by decide +kernel
  have hfr0 : found = r0 := by
    have h1 : s.methodFound? "MatchmakerRules$Test" "isSo" "(LMatchmakerRules$Firing;)Z" = some r0 := hfoundL
    simp only [State.methodFound?, hcL, hkL, hiL, Option.bind_eq_bind, Option.bind_some] at h1
    have h2 : ((methodIn cL "isSo" "(LMatchmakerRules$Firing;)Z" true none).ask { classPath := fun _ => none } s.vm).1 = .ok found := by rw [← e1]; exact hfound'
    rw [h2] at h1
    exact Option.some.inj h1
  subst hfr0
  obtain ⟨i2, hi2, hasg, hway⟩ := State.lambdaCallable_spec hcan
  cases hcL.symm.trans hi2
  have hsigI : r.sig = ⟨[la_F], some .boolean⟩ := (Option.some.inj ((by decide +kernel : parseMethodDescriptor "(LMatchmakerRules$Firing;)Z" = some ⟨[la_F], some .boolean⟩).symm.trans hsigR)).symm
  have hway' : ((cK :: s.vm.superclasses cK).any fun k => (declaredIn s.vm r.name r.desc k).any fun (_, y) => y.isPrivate || y.isStatic) = false := by
    rw [hnameR, hdescR]
    rw [show (la_S nm cap).sam.toString = "(LMatchmakerRules$Firing;)Z" from e1] at hway
    exact hway
  have hdgc : decode c.code g.pc = .ok (.invokeinterface index count, 5) := by rw [hb]; exact hdg
  obtain ⟨vm₁, X₁, hstep₁⟩ := X.invokeinterface hx hown hlink hn hrm hstR (by rw [hr0cls]; exact hkL) hiL (by decide) (a := a) (cell := { cls := cK, slots := #[v], vm := .none }) (kcell := kK) (by rw [hT]; exact hcell) (fun z h => by cases h) hkK (by rw [hr0cls]; exact hasg)
    (m' := ⟨cK, 1⟩) (meth' := methk) (by rw [Launch.admits_selectMethod X.admits]; exact hsel) hmk hway' (by rw [hfl]; decide) (by simp [Method.isAbstract, hfl, hasFlag, Acc.abstract]) hg (argsL := [vf]) (rest := rest) (by rw [hsigI]; rfl) hstack hdgc
  have hW₁ : s.WarmedH vm₁ := X₁.warmed
  obtain ⟨kS₁, hkS₁, heS₁⟩ := hW₁.alike.2.2 _ _ hkS
  have hOb₁ : ∀ o ok, vm₁.findClass "java/lang/Object" = some o → vm₁.classes[o]? = some ok → ok.instanceTypes.size = 0 := fun o ok h1 h2 => by
    rw [hW₁.alike.findClass] at h1
    cases hfO.symm.trans h1
    obtain ⟨kO₁, hkO₁, heO₁⟩ := hW₁.alike.2.2 _ _ hkO
    cases hkO₁.symm.trans h2
    rw [heO₁]
    exact hsz
  obtain ⟨kK₁, tk₁, file₁, D₁, methk₁, ck₁, toy₁, t₁, f0₁, hkK₁, hkn₁, hfile₁, hpool₁, e23₁, e22₁, hmk₁, hck₁, hbytes₁, hml₁, hlk₁, hfl₁, hretk₁, htoy₁, htk₁, htki₁, hlook₁, hready₁, hclsR₁, hf0₁, hf0s₁, hf0i₁, hkt₁, hkk₁⟩ := la_made hchk hkS₁ (by rw [heS₁]; exact hnameS) (Lambda.isMade_warmer hW₁ hmade) hOb₁
  obtain ⟨mT, hmT⟩ := Cond.code_named hcode
  obtain ⟨methT, cT, hmethT, hcT, hbytesT, hlocT, hretT, hlocksT, -, hsigT⟩ := Cond.code_spec hmT hcode
  have hstaticT : methT.isStatic = true := Cond.static_spec hmT hmethT hstat
  obtain ⟨kT, hkT, hnameT⟩ := className_of_methodNamed hmT
  have hfT : s.vm.findClass "MatchmakerRules$Book" = some mT.cls := findClass_of_methodNamed hmT
  have hinitK : kT.init = .initialized := Cond.initialized_spec hfT hkT hini
  have hsigTI : methT.sig = ⟨[cap, la_F], some .boolean⟩ := (Option.some.inj (hpd.symm.trans hsigT)).symm
  have hfT₁ : vm₁.findClass "MatchmakerRules$Book" = some mT.cls := by rw [hW₁.alike.findClass]; exact hfT
  cases htoy₁.symm.trans hfT₁
  have ht₁ : t₁ = mT := by
    have h1 : (s.setVm vm₁).methodFound? "MatchmakerRules$Book" nm desc = some mT := by rw [State.methodFound?_setVm hW₁.alike]; exact State.methodFound?_of_named hmT (by show "MatchmakerRules$Book" ≠ _ ∧ "MatchmakerRules$Book" ≠ _; decide)
    simp only [State.methodFound?, State.vm_setVm, hfT₁, htk₁, Option.bind_eq_bind, Option.bind_some] at h1
    rw [hlook₁] at h1
    exact Option.some.inj h1
  subst ht₁
  have hmethT₁ : vm₁.method? t₁ = some methT := by rw [hW₁.alike.method?]; exact hmethT
  obtain ⟨kT₁, hkT₁, heT₁⟩ := hW₁.alike.2.2 _ _ hkT
  cases htk₁.symm.trans hkT₁
  have hnm9 : tk₁.name ≠ "java/lang/invoke/MethodHandle" ∧ tk₁.name ≠ "java/lang/invoke/VarHandle" := by
    have : tk₁.name = "MatchmakerRules$Book" := by rw [heT₁]; exact hnameT
    rw [this]; decide
  have hsp : ∀ y1 : Method, signaturePolymorphic tk₁ y1 = false := fun y1 => by simp [signaturePolymorphic, hnm9.1, hnm9.2]
  obtain ⟨b, hmem⟩ := memberRef_ask' (e := e) (vm := vm₁) (d := cK) (index := 23) hkK₁ hfile₁ (Or.inl (by rw [hpool₁]; exact e23₁)) (by rw [hpool₁]; exact e22₁)
  have hpk : (T.setVm vm₁).plainMethod ⟨cK, 1⟩ := State.plainMethod.of_name (fun k' hk' => by cases hkK₁.symm.trans hk'; rw [hkn₁]; decide)
  have hszc : ({ g with stack := rest } : JFrame).locals.size = c.maxLocals := hsize.trans hml.symm
  obtain ⟨Y₀, hin⟩ := X₁.into (g := { g with stack := rest }) hg hszc hdgc #[.ref a, vf] (R' := { frames := rm.frames + 1, cells := 0, slots := 0, locals := 8 + (maxL + 11) + rm.locals }) hmk₁ hck₁ hlk₁ hpk
    (by show rm.frames + 1 + 1 ≤ R.frames; omega) (by rw [hml₁]; have : 2 * ({ g with stack := rest } : JFrame).monitorRoom + (rest.map fun v => v.category).sum ≤ 8 := hW; show 2 * ({ g with stack := rest } : JFrame).monitorRoom + (rest.map fun v => v.category).sum + (2 + 11) + (8 + (maxL + 11) + rm.locals) ≤ R.locals; omega) (by show cells + 0 ≤ R.cells; exact hf.1) (by show slots + 0 ≤ R.slots; exact hf.2)
  have hWs : ∀ U : State, ((T.setVm vm₁).calling { g with stack := rest } ⟨cK, 1⟩ #[.ref a, vf]).WarmedH U.vm → s.WarmedH U.vm := fun U h => State.WarmedH.trans (t := (T.setVm vm₁).calling { g with stack := rest } ⟨cK, 1⟩ #[.ref a, vf]) hW₁ h
  have hK : Back l { frames := rm.frames + 1, cells := 0, slots := 0, locals := 8 + (maxL + 11) + rm.locals } p e (.java { g with stack := rest } :: below) ((T.setVm vm₁).calling { g with stack := rest } ⟨cK, 1⟩ #[.ref a, vf]) #[.ref a, vf] ⟨"MatchmakerRules$Book", nm, desc⟩ 3 8 (PreOf { frames := rm.frames + 1, cells := 0, slots := 0, locals := 8 + (maxL + 11) + rm.locals } 0 0 Pc) (PostOf Qc 0 0 free) :=
    back_of (bytes := bytes) (maxL := maxL) (ret := some .boolean) hM hblind hrc hrs (Nat.le_refl _) (Nat.le_refl _) (fun w hw a' U hU => hws w hw a' U (hWs U hU)) hcw (fun a' U hU => word_at (hWs U hU) (Or.inl (by first | rfl | simp [Cond.onTables, Cond.keeps, Cond.steady])) hini)
  generalize hU : ((T.setVm vm₁).setTop { g with stack := rest }).pushFrame (.java (entryFrame ⟨cK, 1⟩ #[.ref a, vf] ck₁.maxLocals)) = U at Y₀ hin
  have hvm : U.vm = vm₁ := by rw [← hU]; rfl
  have hheap : U.heap = H := by rw [← hU, ← hT]; rfl
  have hnU : U.methodNamed? ⟨"MatchmakerRules$Book", nm, desc⟩ = some t₁ := by
    have h1 : (s.setVm vm₁).methodNamed? ⟨"MatchmakerRules$Book", nm, desc⟩ = some t₁ := by rw [State.methodNamed?_setVm hW₁.alike]; exact hmT
    rw [← h1]
    exact la_named (by rw [hvm]; rfl) _
  obtain ⟨v1, ⟨U', l2, c2, s2⟩, X', ⟨g2, mk2, t2, L, q1, q2, hq, h1, hL, h2, h3⟩, hsteps⟩ := hK ⟨cK, 1⟩ methk₁ ck₁ ⟨U, [], 0, 0⟩ { method := ⟨cK, 1⟩, pc := 5, locals := #[.val (.ref a), .val vf], stack := [], locked := none } (.invokestatic 23) t₁ #[v, vf] Y₀ rfl (by rw [hml₁]; rfl) (by rw [hbytes₁]; exact la_d5) (by show 2 * 0 + 0 ≤ 8; omega) hnU
    ⟨Nat.le_refl _, Nat.le_refl _, hPc U hheap (by rw [hvm]; exact hW₁)⟩
  dsimp only [Pt.U, Pt.locs, Pt.cells, Pt.slots] at X' q1 q2 h1 h2 h3 hsteps hq
  subst h1; subst h2; subst h3
  obtain ⟨rr, rfl, hnar⟩ := hQi _ _ _ hq
  obtain ⟨fs, hleave, -, hended, hWe, hsame⟩ := X'.leave (v := some (.int rr)) (fun h => by rw [hretk₁] at h; cases h) hlk₁
  obtain ⟨T', X'', hW', -, ht⟩ := X₁.outOf (g := { g with stack := rest }) hg hdgc hended hWe hsame
  refine ⟨some (.int rr), _, t2, T', _, ?_, X'', hL, ?_, ?_, hq, ?_⟩
  · exact hheap
  · rw [← q1]
    have h9 := congrArg State.heap ht
    exact h9.symm
  · rw [← q2]
    have h9 := congrArg State.vm ht
    exact h9.symm
  · intro target htg
    refine hstep₁ _ fun acts => ?_
    have hin9 := hin acts
    refine Eq.subst (motive := fun z => Steps p.tables e below z target) hin9.symm ?_
    refine Steps.trans (Steps.weaken (mid := [.java { g with stack := rest }]) (b := U'.setFrames fs) ?_) (by rw [ht]; exact htg)
    have hloc : entryFrame ⟨cK, 1⟩ #[.ref a, vf] ck₁.maxLocals = { method := ⟨cK, 1⟩, pc := 0, locals := #[.val (.ref a), .val vf], stack := [], locked := none } := by
      rw [hml₁]
      cases vf <;> (try cases hvf) <;> rfl
    rw [hloc]
    have hs : U.topJava?.isSome := Y₀.here.top
    have hs' : U'.topJava?.isSome := X'.here.top
    have href : plainRef U e cK 23 := ⟨19, nm, desc, b, _, tk₁, by rw [hvm]; exact hmem, by rw [hvm]; exact hclsR₁, by rw [hvm]; exact htk₁, by simp [hsp]⟩
    jvm_step Y₀.here [hx, hbytes₁, la_d0, Value.isRef]
    jvm_step Y₀.here [hx, hbytes₁, la_d1, getfield.wp_ready (e := e) (s := U) (c := cK) (field := f0₁) (a := a) (rest := []) (cell := { cls := cK, slots := #[v], vm := .none }) (v := v)
      (f := { method := ⟨cK, 1⟩, pc := 1, locals := #[.val (.ref a), .val vf], stack := [.ref a], locked := none }) hs (by rw [hvm]; exact hf0₁) hf0s₁ rfl (by rw [hheap]; exact hcell) (by intro z; cases z) (by rw [hf0i₁]; rfl)]
    jvm_step Y₀.here [hx, hbytes₁, la_d4, hvf]
    jvm_step Y₀.here [hx, hbytes₁, la_d5, invokestatic.wp_ready (e := e) (s := U) (m := t₁) (k := tk₁) (meth := methT) (args := [v, vf]) (rest := [])
      (f := { method := ⟨cK, 1⟩, pc := 5, locals := #[.val (.ref a), .val vf], stack := [vf, v], locked := none }) hs href (by rw [hvm]; exact hready₁) (by rw [hvm]; exact htk₁) (by rw [hvm]; exact hmethT₁) (hsp _) hstaticT (by rw [heT₁]; exact hinitK) (by rw [hsigTI]; rfl) rfl]
    intro acts'
    rw [doInvoke_state]
    refine hsteps.trans ?_
    show Steps p.tables e (.java { g with stack := rest } :: below) (U'.setTop { method := ⟨cK, 1⟩, pc := 8, locals := #[.val (.ref a), .val vf], stack := [.int rr], locked := none }) _
    jvm_step X'.here [hs', hx, hbytes₁, la_d8, (show U'.vm.method? ⟨cK, 1⟩ = some methk₁ from X'.method'), hretk₁, hnar]
    (try refine ⟨rfl, ?_⟩); (try refine ⟨rfl, ?_⟩)
    intro acts''
    rw [hleave { method := ⟨cK, 1⟩, pc := 8, locals := #[.val (.ref a), .val vf], stack := [], locked := none } acts'' rfl rfl rfl]
    exact Steps.refl _
end LAC
theorem la_three {α : Type} {x1 : Array Nat} {f : Nat → Nat → Nat → Option α} {r : α} (h : Lambda.shapeOf?.match_15 (fun _ => Option α) x1 f (fun _ => none) = some r) : ∃ a0 a1 a2, f a0 a1 a2 = some r := by
  obtain ⟨L⟩ := x1
  match L, h with
  | [], h => cases h
  | [_], h => cases h
  | [_, _], h => cases h
  | [a, b, c], h => exact ⟨a, b, c, h⟩
  | _ :: _ :: _ :: _ :: _, h => cases h
theorem la_indy {α : Type} {x1 : Option CpInfo} {f : Nat → Nat → Option α} {r : α} (h : Lambda.shapeOf?.match_19 (fun _ => Option α) x1 f (fun _ => none) = some r) : ∃ b nt, x1 = some (.invokeDynamic b nt) ∧ f b nt = some r := by
  split at h
  · exact ⟨_, _, rfl, h⟩
  · cases h
theorem la_h1 {α : Type} {x1 : Option CpInfo} {f : Nat → Option α} {r : α} (h : Lambda.shapeOf?.match_17 (fun _ => Option α) x1 f (fun _ => none) = some r) : ∃ y, f y = some r := by
  split at h
  · exact ⟨_, h⟩
  · cases h
theorem la_h2 {α : Type} {x1 : Option CpInfo} {f : Nat → Option α} {r : α} (h : Lambda.shapeOf?.match_9 (fun _ => Option α) x1 f (fun _ => none) = some r) : ∃ y, f y = some r := by
  split at h
  · exact ⟨_, h⟩
  · cases h
theorem la_h3 {α : Type} {x1 : Option CpInfo} {f : Nat → Nat → Option α} {r : α} (h : Lambda.shapeOf?.match_12 (fun _ => Option α) x1 f (fun _ => none) = some r) : ∃ y z, f y z = some r := by
  split at h
  · exact ⟨_, _, h⟩
  · cases h
theorem la_h4 {α : Type} {x1 : Option FieldType} {f : String → Option α} {r : α} (h : Lambda.shapeOf?.match_6 (fun _ => Option α) x1 f (fun _ => none) = some r) : ∃ y, f y = some r := by
  split at h
  · exact ⟨_, h⟩
  · cases h
theorem la_site {cf : ClassFile} {index : Nat} {σ : Lambda.Shape} (h : Lambda.shapeOf? cf index = some σ) :
    ∃ (b nt : Nat) (desc : String) (site : MethodDescriptor), cf.constantPool[index]? = some (.invokeDynamic b nt) ∧ cf.constantPool.nameAndType? nt = some (σ.name, desc) ∧ parseMethodDescriptor desc = some site ∧ site.parameters = σ.captured := by
  unfold Lambda.shapeOf? at h
  obtain ⟨b, nt, hc, h⟩ := la_indy h
  obtain ⟨entries, -, h⟩ := Option.bind_eq_some_iff.mp h
  obtain ⟨bm, -, h⟩ := Option.bind_eq_some_iff.mp h
  obtain ⟨r, h⟩ := la_h1 h
  obtain ⟨_, -, h⟩ := Option.bind_eq_some_iff.mp h
  obtain ⟨a0, a1, a2, h⟩ := la_three h
  obtain ⟨d0, h⟩ := la_h2 h
  obtain ⟨kd, r1, h⟩ := la_h3 h
  obtain ⟨d2, h⟩ := la_h2 h
  obtain ⟨⟨name, desc⟩, hnt, h⟩ := Option.bind_eq_some_iff.mp h
  obtain ⟨site, hsite, h⟩ := Option.bind_eq_some_iff.mp h
  obtain ⟨iface, h⟩ := la_h4 h
  obtain ⟨⟨c1, c2, c3, c4⟩, -, h⟩ := Option.bind_eq_some_iff.mp h
  obtain ⟨x1, -, h⟩ := Option.bind_eq_some_iff.mp h
  obtain ⟨x2, -, h⟩ := Option.bind_eq_some_iff.mp h
  obtain ⟨x3, -, h⟩ := Option.bind_eq_some_iff.mp h
  obtain ⟨x4, -, h⟩ := Option.bind_eq_some_iff.mp h
  obtain ⟨x5, -, h⟩ := Option.bind_eq_some_iff.mp h
  cases h
  exact ⟨b, nt, desc, site, hc, hnt, hsite, rfl⟩
section LAM
variable {p : Program} {l : Launch} {e : Env} {R : Room} {s : State} {m : MethodId} {args : Array Value} {below : List Frame} {meth : Method} {c : Code} {H : Heap} {locs : List Loc} {cells slots : Nat} {Q : State → Prop}
theorem la_mk {nm desc : String} {cap : FieldType} {x1 : MethodName} {cK : ClassId} {cc : ByteArray} {nL index pc : Nat} {Ts : List Cond} {own : String} {v : Value} {rest : List Value} {ls : Array Slot}
    (S : CallFix p m c cc nL s args Ts own) (hchk : la_chk nm desc cap = true) (hIs : la_Is nm cap x1 pc index cK s) (hxc : x1.cls = "MatchmakerRules$Book") (hnm : s.methodNamed? x1 = some m) (hO : (Cond.instantiable "java/lang/Object" 0).before args s = true)
    (hcat : v.category = 1) (hnar : narrow cap v = v) (hfit : fits cap v = true) (hsize : ls.size = nL) (hdg : decode cc pc = .ok (.invokedynamic index, 5)) (hwords : (rest.map fun v => v.category).sum + 1 + 3072 ≤ R.locals) (hcells : cells + 1 ≤ R.cells) (hslots : slots + 1 ≤ R.slots)
    (kk : W p l e R s m args below meth c (H.push { cls := cK, slots := #[v], vm := .none }) locs (cells + 1) (slots + 1) Q (F0 m (pc + 5) ls (.ref H.size :: rest))) :
    W p l e R s m args below meth c H locs cells slots Q (F0 m pc ls (v :: rest)) := by
  intro T hT X
  obtain ⟨hx, hb, hml, hown, hts⟩ := S
  obtain ⟨mS, kS, cfS, i0, p0, hmS, hkS, hcfS, hshape, hfind, hmade, hcan⟩ := hIs
  cases hnm.symm.trans hmS
  obtain ⟨kS', hkS', hnameS⟩ := className_of_methodNamed hmS
  cases hkS.symm.trans hkS'
  rw [hxc] at hnameS
  obtain ⟨cO, kO, hfO, hkO, -, -, -, hsz⟩ := Cond.instantiable_spec hO
  have hOb : ∀ o ok, s.vm.findClass "java/lang/Object" = some o → s.vm.classes[o]? = some ok → ok.instanceTypes.size = 0 := fun o ok h1 h2 => by
    cases hfO.symm.trans h1
    cases hkO.symm.trans h2
    exact hsz
  obtain ⟨kK, tk, file, D, methk, ck, toy, t, f0, hkK, hkn, hfile, hpool, e23, e22, hmk, hck, hbytes, hml2, hlk, hfl, hretk, htoy, htk, htki, hlook, hready, hclsR, hf0, hf0s, hf0i, hkt, hkk⟩ := la_made hchk hkS hnameS hmade hOb
  obtain ⟨bsm, nt, dsc, site, hc, hnt, hsite, hpar⟩ := la_site hshape
  have hslotsE : ((kK.instanceTypes.toList.zip [v]).map fun (t, v) => narrow t v) = [v] := by
    rw [hkt]
    simp [hnar]
  obtain ⟨X₁, st1⟩ := X.lambdaMakes hx (g := F0 m pc ls (v :: rest)) rfl (hsize.trans hml.symm) (by rw [hb]; exact hdg) (vals := [v]) (rest := rest) hkS hfind hcfS hc hnt (parseLong_of_parse hsite) (by rw [hpar]; rfl) rfl hkK
    (by rw [X.admits.platform]; show 2 * 0 + (v.category + (rest.map fun v => v.category).sum) + 3072 ≤ R.locals; omega) hcells (by rw [hslotsE]; exact hslots)
    (fun i w hv => by
      rw [hslotsE] at hv
      match i, hv with
      | 0, hv =>
        simp at hv
        subst hv
        simp [State.fitsSlot, State.slotType?, hkK, hkk, hkt, hfit]
      | k + 1, hv => simp at hv)
  rw [hslotsE] at X₁ st1
  obtain ⟨t9, a1, b1⟩ := kk (T.pushCell { cls := cK, slots := [v].toArray, vm := .none }) (by rw [← hT]; simp [State.pushCell]) X₁
  refine ⟨t9, st1 t9 ?_, b1⟩
  rw [hT]
  exact a1
end LAM
theorem la_arr1 (cA : ClassId) (g : Nat → Value) : arrV cA 1 g = { cls := cA, slots := #[g 0], vm := .none } := rfl
theorem la_k0 : la_chk "lambda$isInOrder$5" "(LMatchmakerRules$Firing;LMatchmakerRules$Firing;)Z" (.object "MatchmakerRules$Firing") = true := by decide +kernel
theorem la_p0 : parseMethodDescriptor "(LMatchmakerRules$Firing;LMatchmakerRules$Firing;)Z" = some ⟨[(.object "MatchmakerRules$Firing"), la_F], some .boolean⟩ := by decide +kernel
abbrev la_At0 (cK : ClassId) (U : State) : Prop := la_Is "lambda$isInOrder$5" (.object "MatchmakerRules$Firing") ⟨"MatchmakerRules$Book", "isInOrder", "()Z"⟩ 187 289 cK U
theorem la_k1 : la_chk "lambda$drop$2" "(LMatchmakerRules$Rule;LMatchmakerRules$Firing;)Z" (.object "MatchmakerRules$Rule") = true := by decide +kernel
theorem la_p1 : parseMethodDescriptor "(LMatchmakerRules$Rule;LMatchmakerRules$Firing;)Z" = some ⟨[(.object "MatchmakerRules$Rule"), la_F], some .boolean⟩ := by decide +kernel
abbrev la_At1 (cK : ClassId) (U : State) : Prop := la_Is "lambda$drop$2" (.object "MatchmakerRules$Rule") ⟨"MatchmakerRules$Book", "drop", "(I)I"⟩ 67 249 cK U
theorem la_k2 : la_chk "lambda$drop$3" "(LMatchmakerRules$Rule;LMatchmakerRules$Firing;)Z" (.object "MatchmakerRules$Rule") = true := by decide +kernel
theorem la_p2 : parseMethodDescriptor "(LMatchmakerRules$Rule;LMatchmakerRules$Firing;)Z" = some ⟨[(.object "MatchmakerRules$Rule"), la_F], some .boolean⟩ := by decide +kernel
abbrev la_At2 (cK : ClassId) (U : State) : Prop := la_Is "lambda$drop$3" (.object "MatchmakerRules$Rule") ⟨"MatchmakerRules$Book", "drop", "(I)I"⟩ 81 252 cK U
theorem la_k3 : la_chk "lambda$loseGround$0" "(ILMatchmakerRules$Firing;)Z" .int = true := by decide +kernel
theorem la_p3 : parseMethodDescriptor "(ILMatchmakerRules$Firing;)Z" = some ⟨[.int, la_F], some .boolean⟩ := by decide +kernel
abbrev la_At3 (cK : ClassId) (U : State) : Prop := la_Is "lambda$loseGround$0" .int ⟨"MatchmakerRules$Book", "loseGround", "()I"⟩ 79 241 cK U
theorem la_k4 : la_chk "lambda$loseGround$1" "(ILMatchmakerRules$Firing;)Z" .int = true := by decide +kernel
theorem la_p4 : parseMethodDescriptor "(ILMatchmakerRules$Firing;)Z" = some ⟨[.int, la_F], some .boolean⟩ := by decide +kernel
abbrev la_At4 (cK : ClassId) (U : State) : Prop := la_Is "lambda$loseGround$1" .int ⟨"MatchmakerRules$Book", "loseGround", "()I"⟩ 94 248 cK U
theorem la_k5 : la_chk "lambda$uses$4" "(LMatchmakerRules$Fact;LMatchmakerRules$Firing;)Z" (.object "MatchmakerRules$Fact") = true := by decide +kernel
theorem la_p5 : parseMethodDescriptor "(LMatchmakerRules$Fact;LMatchmakerRules$Firing;)Z" = some ⟨[(.object "MatchmakerRules$Fact"), la_F], some .boolean⟩ := by decide +kernel
abbrev la_At5 (cK : ClassId) (U : State) : Prop := la_Is "lambda$uses$4" (.object "MatchmakerRules$Fact") ⟨"MatchmakerRules$Book", "uses", "(LMatchmakerRules$Fact;)I"⟩ 47 268 cK U
/-- what the tables say of all six -/
def hv_L (D : Nat → ClassId) (U : State) : Prop := la_If U ∧ la_At0 (D 10) U ∧ la_At1 (D 11) U ∧ la_At2 (D 12) U ∧ la_At3 (D 13) U ∧ la_At4 (D 14) U ∧ la_At5 (D 15) U
theorem hv_L.moved {D : Nat → ClassId} {s U : State} (hW : s.WarmedH U.vm) (h : hv_L D s) : hv_L D U := ⟨h.1.moved hW.alike, h.2.1.moved hW, h.2.2.1.moved hW, h.2.2.2.1.moved hW, h.2.2.2.2.1.moved hW, h.2.2.2.2.2.1.moved hW, h.2.2.2.2.2.2.moved hW⟩
theorem hv_L.same {D : Nat → ClassId} {u U : State} (hv : u.vm = U.vm) (h : hv_L D u) : hv_L D U := ⟨h.1.moved (by rw [hv]; exact Vm.Alike.refl _), h.2.1.same hv, h.2.2.1.same hv, h.2.2.2.1.same hv, h.2.2.2.2.1.same hv, h.2.2.2.2.2.1.same hv, h.2.2.2.2.2.2.same hv⟩
