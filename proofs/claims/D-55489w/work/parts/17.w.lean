/-! THE ROWS as the generator takes them: what is asked as one hypothesis hw : w_.. P, what comes as a continuation over P. By gen/mkw.py -/
set_option maxRecDepth 100000
section HVW
variable {p : Program} {l : Launch} {e : Env} {R : Room} {s : State} {m : MethodId} {args : Array Value} {below : List Frame} {meth : Method} {c : Code} {H : Heap} {locs : List Loc} {cells slots mc ms : Nat} {Q : State → Prop}
variable {cc : ByteArray} {pc : Nat} {ls : Array Slot} {rest : List Value} {G : GG} {h0 h : HH} {nL : Nat} {own : String} {ret : Option FieldType} {a : Nat}
theorem hv_wgeti {ref C : String} {T : u_T} {N ci index : Nat} {P : Int32 → Prop} (hE : hv_E p s m args meth c cc nL ret own G h0) (hI : hv_I G h0 s.heap h H locs) (hin : ∀ w ∈ u_ws C T N, w ∈ lw_all) (hc : hv_cl[ci]? = some (C, T, N)) (k : Nat) (hk : k < N) (hlink : (Cond.fieldLink own index ref (T k).2.1 (T k).2.2.1).before args s = true) (hsame : ∀ x, s.fieldFound? (T k).1 (T k).2.1 (T k).2.2.1 = some x → s.fieldFound? ref (T k).2.1 (T k).2.2.1 = some x) (hw : w_geti h a ci k P) (hdg : decode cc pc = .ok (.getfield index, 3))
    (kk : ∀ v, P v → W p l e R s m args below meth c H locs cells slots Q (F0 m (pc + 3) ls (.int v :: rest))) : W p l e R s m args below meth c H locs cells slots Q (F0 m pc ls (.ref a :: rest)) := by
  obtain ⟨fs, v, ha, hv, hw⟩ := hw
  exact hv_get hE hI hin hc k hk hlink hsame ha hv hdg (kk v hw)
theorem hv_wgetiN {ref C : String} {host : String} {T : u_T} {N ci index : Nat} {P : Int32 → Prop} (hE : hv_E p s m args meth c cc nL ret own G h0) (hI : hv_I G h0 s.heap h H locs) (hin : ∀ w ∈ u_ws C T N, w ∈ lw_all) (hc : hv_cl[ci]? = some (C, T, N)) (k : Nat) (hk : k < N) (hlink : (Cond.fieldLinkNest own index ref (T k).2.1 (T k).2.2.1 host).before args s = true) (hsame : ∀ x, s.fieldFound? (T k).1 (T k).2.1 (T k).2.2.1 = some x → s.fieldFound? ref (T k).2.1 (T k).2.2.1 = some x) (hw : w_geti h a ci k P) (hdg : decode cc pc = .ok (.getfield index, 3))
    (kk : ∀ v, P v → W p l e R s m args below meth c H locs cells slots Q (F0 m (pc + 3) ls (.int v :: rest))) : W p l e R s m args below meth c H locs cells slots Q (F0 m pc ls (.ref a :: rest)) := by
  obtain ⟨fs, v, ha, hv, hw⟩ := hw
  exact hv_getN hE hI hin hc k hk hlink hsame ha hv hdg (kk v hw)
theorem hv_wgetf {ref C : String} {T : u_T} {N ci index : Nat} {P : UInt32 → Prop} (hE : hv_E p s m args meth c cc nL ret own G h0) (hI : hv_I G h0 s.heap h H locs) (hin : ∀ w ∈ u_ws C T N, w ∈ lw_all) (hc : hv_cl[ci]? = some (C, T, N)) (k : Nat) (hk : k < N) (hlink : (Cond.fieldLink own index ref (T k).2.1 (T k).2.2.1).before args s = true) (hsame : ∀ x, s.fieldFound? (T k).1 (T k).2.1 (T k).2.2.1 = some x → s.fieldFound? ref (T k).2.1 (T k).2.2.1 = some x) (hw : w_getf h a ci k P) (hdg : decode cc pc = .ok (.getfield index, 3))
    (kk : ∀ v, P v → W p l e R s m args below meth c H locs cells slots Q (F0 m (pc + 3) ls (.float v :: rest))) : W p l e R s m args below meth c H locs cells slots Q (F0 m pc ls (.ref a :: rest)) := by
  obtain ⟨fs, v, ha, hv, hw⟩ := hw
  exact hv_get hE hI hin hc k hk hlink hsame ha hv hdg (kk v hw)
theorem hv_wgetfN {ref C : String} {host : String} {T : u_T} {N ci index : Nat} {P : UInt32 → Prop} (hE : hv_E p s m args meth c cc nL ret own G h0) (hI : hv_I G h0 s.heap h H locs) (hin : ∀ w ∈ u_ws C T N, w ∈ lw_all) (hc : hv_cl[ci]? = some (C, T, N)) (k : Nat) (hk : k < N) (hlink : (Cond.fieldLinkNest own index ref (T k).2.1 (T k).2.2.1 host).before args s = true) (hsame : ∀ x, s.fieldFound? (T k).1 (T k).2.1 (T k).2.2.1 = some x → s.fieldFound? ref (T k).2.1 (T k).2.2.1 = some x) (hw : w_getf h a ci k P) (hdg : decode cc pc = .ok (.getfield index, 3))
    (kk : ∀ v, P v → W p l e R s m args below meth c H locs cells slots Q (F0 m (pc + 3) ls (.float v :: rest))) : W p l e R s m args below meth c H locs cells slots Q (F0 m pc ls (.ref a :: rest)) := by
  obtain ⟨fs, v, ha, hv, hw⟩ := hw
  exact hv_getN hE hI hin hc k hk hlink hsame ha hv hdg (kk v hw)
theorem hv_wgetq {ref C : String} {T : u_T} {N ci index : Nat} {P : Option Nat → Prop} (hE : hv_E p s m args meth c cc nL ret own G h0) (hI : hv_I G h0 s.heap h H locs) (hin : ∀ w ∈ u_ws C T N, w ∈ lw_all) (hc : hv_cl[ci]? = some (C, T, N)) (k : Nat) (hk : k < N) (hlink : (Cond.fieldLink own index ref (T k).2.1 (T k).2.2.1).before args s = true) (hsame : ∀ x, s.fieldFound? (T k).1 (T k).2.1 (T k).2.2.1 = some x → s.fieldFound? ref (T k).2.1 (T k).2.2.1 = some x) (hw : w_getq h a ci k P) (hdg : decode cc pc = .ok (.getfield index, 3))
    (kk : ∀ v, P v → W p l e R s m args below meth c H locs cells slots Q (F0 m (pc + 3) ls (va_rf v :: rest))) : W p l e R s m args below meth c H locs cells slots Q (F0 m pc ls (.ref a :: rest)) := by
  obtain ⟨fs, v, ha, hv, hw⟩ := hw
  exact hv_get hE hI hin hc k hk hlink hsame ha hv hdg (kk v hw)
theorem hv_wgetqN {ref C : String} {host : String} {T : u_T} {N ci index : Nat} {P : Option Nat → Prop} (hE : hv_E p s m args meth c cc nL ret own G h0) (hI : hv_I G h0 s.heap h H locs) (hin : ∀ w ∈ u_ws C T N, w ∈ lw_all) (hc : hv_cl[ci]? = some (C, T, N)) (k : Nat) (hk : k < N) (hlink : (Cond.fieldLinkNest own index ref (T k).2.1 (T k).2.2.1 host).before args s = true) (hsame : ∀ x, s.fieldFound? (T k).1 (T k).2.1 (T k).2.2.1 = some x → s.fieldFound? ref (T k).2.1 (T k).2.2.1 = some x) (hw : w_getq h a ci k P) (hdg : decode cc pc = .ok (.getfield index, 3))
    (kk : ∀ v, P v → W p l e R s m args below meth c H locs cells slots Q (F0 m (pc + 3) ls (va_rf v :: rest))) : W p l e R s m args below meth c H locs cells slots Q (F0 m pc ls (.ref a :: rest)) := by
  obtain ⟨fs, v, ha, hv, hw⟩ := hw
  exact hv_getN hE hI hin hc k hk hlink hsame ha hv hdg (kk v hw)
theorem hv_wput {ref C : String} {T : u_T} {N ci index : Nat} {v : Value} {P : HH → Prop} (ty0 : Nat → FieldType) (hE : hv_E p s m args meth c cc nL ret own G h0) (hI : hv_I G h0 s.heap h H locs) (hin : ∀ w ∈ u_ws C T N, w ∈ lw_all) (hty : ∀ k, k < N → parseFieldDescriptor (T k).2.2.1 = some (ty0 k)) (hnm : ∀ a, a < N → ∀ b, b < N → a ≠ b → (T a).2.1 ≠ (T b).2.1) (hc : hv_cl[ci]? = some (C, T, N)) (k : Nat) (hk : k < N) (hlink : (Cond.fieldLink own index ref (T k).2.1 (T k).2.2.1).before args s = true) (hsame : ∀ x, s.fieldFound? (T k).1 (T k).2.1 (T k).2.2.1 = some x → s.fieldFound? ref (T k).2.1 (T k).2.2.1 = some x) (hfin : (T k).2.2.2 = false) {ty : FieldType} (hd : parseFieldDescriptor (T k).2.2.1 = some ty) (hn : narrow ty v = v) (hfit : fits ty v = true) (hw : w_put h a ci k v P) (hdg : decode cc pc = .ok (.putfield index, 3))
    (kk : ∀ (h1 : HH) (H1 : Heap) (locs1 : List Loc), P h1 → hv_I G h0 s.heap h1 H1 locs1 → W p l e R s m args below meth c H1 locs1 cells slots Q (F0 m (pc + 3) ls rest)) : W p l e R s m args below meth c H locs cells slots Q (F0 m pc ls (v :: .ref a :: rest)) := by
  obtain ⟨fs, ha, hl, hw⟩ := hw
  exact hv_put ty0 hE hI hin hty hnm hc k hk hlink hsame hfin hd hn hfit ha hl hdg fun H1 locs1 hI1 => kk _ H1 locs1 hw hI1
theorem hv_wputN {ref C : String} {host : String} {T : u_T} {N ci index : Nat} {v : Value} {P : HH → Prop} (ty0 : Nat → FieldType) (hE : hv_E p s m args meth c cc nL ret own G h0) (hI : hv_I G h0 s.heap h H locs) (hin : ∀ w ∈ u_ws C T N, w ∈ lw_all) (hty : ∀ k, k < N → parseFieldDescriptor (T k).2.2.1 = some (ty0 k)) (hnm : ∀ a, a < N → ∀ b, b < N → a ≠ b → (T a).2.1 ≠ (T b).2.1) (hc : hv_cl[ci]? = some (C, T, N)) (k : Nat) (hk : k < N) (hlink : (Cond.fieldLinkNest own index ref (T k).2.1 (T k).2.2.1 host).before args s = true) (hsame : ∀ x, s.fieldFound? (T k).1 (T k).2.1 (T k).2.2.1 = some x → s.fieldFound? ref (T k).2.1 (T k).2.2.1 = some x) (hfin : (T k).2.2.2 = false) {ty : FieldType} (hd : parseFieldDescriptor (T k).2.2.1 = some ty) (hn : narrow ty v = v) (hfit : fits ty v = true) (hw : w_put h a ci k v P) (hdg : decode cc pc = .ok (.putfield index, 3))
    (kk : ∀ (h1 : HH) (H1 : Heap) (locs1 : List Loc), P h1 → hv_I G h0 s.heap h1 H1 locs1 → W p l e R s m args below meth c H1 locs1 cells slots Q (F0 m (pc + 3) ls rest)) : W p l e R s m args below meth c H locs cells slots Q (F0 m pc ls (v :: .ref a :: rest)) := by
  obtain ⟨fs, ha, hl, hw⟩ := hw
  exact hv_putN ty0 hE hI hin hty hnm hc k hk hlink hsame hfin hd hn hfit ha hl hdg fun H1 locs1 hI1 => kk _ H1 locs1 hw hI1
theorem hv_wputF {ref C : String} {T : u_T} {N ci index : Nat} {v : Value} {P : HH → Prop} (ty0 : Nat → FieldType) (hE : hv_E p s m args meth c cc nL ret own G h0) (hI : hv_I G h0 s.heap h H locs) (hin : ∀ w ∈ u_ws C T N, w ∈ lw_all) (hty : ∀ k, k < N → parseFieldDescriptor (T k).2.2.1 = some (ty0 k)) (hnm : ∀ a, a < N → ∀ b, b < N → a ≠ b → (T a).2.1 ≠ (T b).2.1) (hc : hv_cl[ci]? = some (C, T, N)) (k : Nat) (hk : k < N) (hlink : (Cond.fieldLink own index ref (T k).2.1 (T k).2.2.1).before args s = true) (hsame : ∀ x, s.fieldFound? (T k).1 (T k).2.1 (T k).2.2.1 = some x → s.fieldFound? ref (T k).2.1 (T k).2.2.1 = some x) (hfin : (T k).2.2.2 = true) (hin2 : meth.name = "<init>") (hdecl : (T k).1 = own) {ty : FieldType} (hd : parseFieldDescriptor (T k).2.2.1 = some ty) (hn : narrow ty v = v) (hfit : fits ty v = true) (hw : w_put h a ci k v P) (hdg : decode cc pc = .ok (.putfield index, 3))
    (kk : ∀ (h1 : HH) (H1 : Heap) (locs1 : List Loc), P h1 → hv_I G h0 s.heap h1 H1 locs1 → W p l e R s m args below meth c H1 locs1 cells slots Q (F0 m (pc + 3) ls rest)) : W p l e R s m args below meth c H locs cells slots Q (F0 m pc ls (v :: .ref a :: rest)) := by
  obtain ⟨fs, ha, hl, hw⟩ := hw
  exact hv_putF ty0 hE hI hin hty hnm hc k hk hlink hsame hfin hin2 hdecl hd hn hfit ha hl hdg fun H1 locs1 hI1 => kk _ H1 locs1 hw hI1
theorem hv_wgetSv {index : Nat} {P : Option Nat → Prop} (hE : hv_E p s m args meth c cc nL ret own G h0) (hI : hv_I G h0 s.heap h H locs) (hlink : (Cond.fieldLink own index "java/lang/String" "value" "[B").before args s = true) (hw : w_getSv G h a P) (hdg : decode cc pc = .ok (.getfield index, 3))
    (kk : ∀ v, P v → W p l e R s m args below meth c H locs cells slots Q (F0 m (pc + 3) ls (va_rf v :: rest))) : W p l e R s m args below meth c H locs cells slots Q (F0 m pc ls (.ref a :: rest)) := by
  rcases hw with ⟨fs, v, ha, hv, hw⟩ | ⟨i, hi, rfl, hw⟩
  · exact hv_get hE hI in_J6 (ci := 7) rfl 0 (by decide) hlink (fun _ h => h) ha hv hdg (kk v hw)
  · exact hv_getSv hE hI hlink hi hdg (kk _ hw)
theorem hv_wgetSc {index : Nat} {P : Int32 → Prop} (hE : hv_E p s m args meth c cc nL ret own G h0) (hI : hv_I G h0 s.heap h H locs) (hlink : (Cond.fieldLink own index "java/lang/String" "coder" "B").before args s = true) (hw : w_getSc G h a P) (hdg : decode cc pc = .ok (.getfield index, 3))
    (kk : ∀ v, P v → W p l e R s m args below meth c H locs cells slots Q (F0 m (pc + 3) ls (.int v :: rest))) : W p l e R s m args below meth c H locs cells slots Q (F0 m pc ls (.ref a :: rest)) := by
  rcases hw with ⟨fs, v, ha, hv, hw⟩ | ⟨i, hi, rfl, hw⟩
  · exact hv_get hE hI in_J6 (ci := 7) rfl 1 (by decide) hlink (fun _ h => h) ha hv hdg (kk v hw)
  · exact hv_getSc hE hI hlink hi hdg (kk _ hw)
theorem hv_wnew {C : String} {T : u_T} {N ci index : Nat} {P : Nat → HH → Prop} (ty : Nat → FieldType) (hE : hv_E p s m args meth c cc nL ret own G h0) (hI : hv_I G h0 s.heap h H locs) (hin : ∀ w ∈ u_ws C T N, w ∈ lw_all) (hty : ∀ k, k < N → parseFieldDescriptor (T k).2.2.1 = some (ty k)) (hcl : (Cond.classLink own index C).before args s = true) (hinst : (Cond.instantiable C N).before args s = true) (hini : (Cond.initialized C).before args s = true) (hc : hv_cl[ci]? = some (C, T, N)) {fs : List Value} (hfs : ∀ j, j < N → defaultValue (ty j) = vp_V fs j) (hw : w_new h (.inr (ci, fs)) P) (hcells : cells + 1 ≤ R.cells) (hslots : slots + N ≤ R.slots) (hdg : decode cc pc = .ok (.new index, 3))
    (kk : ∀ (q : Nat) (h1 : HH) (H1 : Heap), P q h1 → hv_I G h0 s.heap h1 H1 locs → W p l e R s m args below meth c H1 locs (cells + 1) (slots + N) Q (F0 m (pc + 3) ls (.ref q :: rest))) : W p l e R s m args below meth c H locs cells slots Q (F0 m pc ls rest) :=
  hv_new ty hE hI hin hty hcl hinst hini hc hfs hcells hslots hdg fun q H1 hq hI1 => kk q _ H1 (hw q hq) hI1
theorem hv_wnewa_int {n : Int32} {N' : Nat} {P : Nat → HH → Prop} (hE : hv_E p s m args meth c cc nL ret own G h0) (hI : hv_I G h0 s.heap h H locs) (harr : (Cond.arrayClass (newarray.typeOf .int)).before args s = true) (hN : n.toNatClampNeg = N') (hn : ¬ n < 0) (hbytes : N' ≤ 1000000) (hw : w_new h (.inl (G.2.1 0, N', .inl (fun _ => 0))) P) (hcells : cells + 1 ≤ R.cells) (hslots : slots + N' ≤ R.slots) (hdg : decode cc pc = .ok (.newarray .int, 2))
    (kk : ∀ (q : Nat) (h1 : HH) (H1 : Heap), P q h1 → hv_I G h0 s.heap h1 H1 locs → W p l e R s m args below meth c H1 locs (cells + 1) (slots + N') Q (F0 m (pc + 2) ls (.ref q :: rest))) : W p l e R s m args below meth c H locs cells slots Q (F0 m pc ls (.int n :: rest)) := by
  subst hN
  exact hv_newa_int hE hI harr hn hbytes hcells hslots hdg fun q H1 hq hI1 => kk q _ H1 (hw q hq) hI1
theorem hv_wnewa_byte {n : Int32} {N' : Nat} {P : Nat → HH → Prop} (hE : hv_E p s m args meth c cc nL ret own G h0) (hI : hv_I G h0 s.heap h H locs) (harr : (Cond.arrayClass (newarray.typeOf .byte)).before args s = true) (hN : n.toNatClampNeg = N') (hn : ¬ n < 0) (hbytes : N' ≤ 1000000) (hw : w_new h (.inl (G.2.1 1, N', .inl (fun _ => 0))) P) (hcells : cells + 1 ≤ R.cells) (hslots : slots + N' ≤ R.slots) (hdg : decode cc pc = .ok (.newarray .byte, 2))
    (kk : ∀ (q : Nat) (h1 : HH) (H1 : Heap), P q h1 → hv_I G h0 s.heap h1 H1 locs → W p l e R s m args below meth c H1 locs (cells + 1) (slots + N') Q (F0 m (pc + 2) ls (.ref q :: rest))) : W p l e R s m args below meth c H locs cells slots Q (F0 m pc ls (.int n :: rest)) := by
  subst hN
  exact hv_newa_byte hE hI harr hn hbytes hcells hslots hdg fun q H1 hq hI1 => kk q _ H1 (hw q hq) hI1
theorem hv_wnewa_float {n : Int32} {N' : Nat} {P : Nat → HH → Prop} (hE : hv_E p s m args meth c cc nL ret own G h0) (hI : hv_I G h0 s.heap h H locs) (harr : (Cond.arrayClass (newarray.typeOf .float)).before args s = true) (hN : n.toNatClampNeg = N') (hn : ¬ n < 0) (hbytes : N' ≤ 1000000) (hw : w_new h (.inl (G.2.1 2, N', .inr (.inr (.inl (fun _ => 0))))) P) (hcells : cells + 1 ≤ R.cells) (hslots : slots + N' ≤ R.slots) (hdg : decode cc pc = .ok (.newarray .float, 2))
    (kk : ∀ (q : Nat) (h1 : HH) (H1 : Heap), P q h1 → hv_I G h0 s.heap h1 H1 locs → W p l e R s m args below meth c H1 locs (cells + 1) (slots + N') Q (F0 m (pc + 2) ls (.ref q :: rest))) : W p l e R s m args below meth c H locs cells slots Q (F0 m pc ls (.int n :: rest)) := by
  subst hN
  exact hv_newa_float hE hI harr hn hbytes hcells hslots hdg fun q H1 hq hI1 => kk q _ H1 (hw q hq) hI1
theorem hv_wnewa_boolean {n : Int32} {N' : Nat} {P : Nat → HH → Prop} (hE : hv_E p s m args meth c cc nL ret own G h0) (hI : hv_I G h0 s.heap h H locs) (harr : (Cond.arrayClass (newarray.typeOf .boolean)).before args s = true) (hN : n.toNatClampNeg = N') (hn : ¬ n < 0) (hbytes : N' ≤ 1000000) (hw : w_new h (.inl (G.2.1 3, N', .inl (fun _ => 0))) P) (hcells : cells + 1 ≤ R.cells) (hslots : slots + N' ≤ R.slots) (hdg : decode cc pc = .ok (.newarray .boolean, 2))
    (kk : ∀ (q : Nat) (h1 : HH) (H1 : Heap), P q h1 → hv_I G h0 s.heap h1 H1 locs → W p l e R s m args below meth c H1 locs (cells + 1) (slots + N') Q (F0 m (pc + 2) ls (.ref q :: rest))) : W p l e R s m args below meth c H locs cells slots Q (F0 m pc ls (.int n :: rest)) := by
  subst hN
  exact hv_newa_boolean hE hI harr hn hbytes hcells hslots hdg fun q H1 hq hI1 => kk q _ H1 (hw q hq) hI1
theorem hv_wnewa_long {n : Int32} {N' : Nat} {P : Nat → HH → Prop} (hE : hv_E p s m args meth c cc nL ret own G h0) (hI : hv_I G h0 s.heap h H locs) (harr : (Cond.arrayClass (newarray.typeOf .long)).before args s = true) (hN : n.toNatClampNeg = N') (hn : ¬ n < 0) (hbytes : N' ≤ 1000000) (hw : w_new h (.inl (G.2.1 4, N', .inr (.inl (fun _ => 0)))) P) (hcells : cells + 1 ≤ R.cells) (hslots : slots + N' ≤ R.slots) (hdg : decode cc pc = .ok (.newarray .long, 2))
    (kk : ∀ (q : Nat) (h1 : HH) (H1 : Heap), P q h1 → hv_I G h0 s.heap h1 H1 locs → W p l e R s m args below meth c H1 locs (cells + 1) (slots + N') Q (F0 m (pc + 2) ls (.ref q :: rest))) : W p l e R s m args below meth c H locs cells slots Q (F0 m pc ls (.int n :: rest)) := by
  subst hN
  exact hv_newa_long hE hI harr hn hbytes hcells hslots hdg fun q H1 hq hI1 => kk q _ H1 (hw q hq) hI1
theorem hv_wnewa_double {n : Int32} {N' : Nat} {P : Nat → HH → Prop} (hE : hv_E p s m args meth c cc nL ret own G h0) (hI : hv_I G h0 s.heap h H locs) (harr : (Cond.arrayClass (newarray.typeOf .double)).before args s = true) (hN : n.toNatClampNeg = N') (hn : ¬ n < 0) (hbytes : N' ≤ 1000000) (hw : w_new h (.inl (G.2.1 5, N', .inr (.inr (.inr (.inl (fun _ => 0)))))) P) (hcells : cells + 1 ≤ R.cells) (hslots : slots + N' ≤ R.slots) (hdg : decode cc pc = .ok (.newarray .double, 2))
    (kk : ∀ (q : Nat) (h1 : HH) (H1 : Heap), P q h1 → hv_I G h0 s.heap h1 H1 locs → W p l e R s m args below meth c H1 locs (cells + 1) (slots + N') Q (F0 m (pc + 2) ls (.ref q :: rest))) : W p l e R s m args below meth c H locs cells slots Q (F0 m pc ls (.int n :: rest)) := by
  subst hN
  exact hv_newa_double hE hI harr hn hbytes hcells hslots hdg fun q H1 hq hI1 => kk q _ H1 (hw q hq) hI1
theorem hv_wnewq {index : Nat} {n : Int32} {N' : Nat} {P : Nat → HH → Prop} (hE : hv_E p s m args meth c cc nL ret own G h0) (hI : hv_I G h0 s.heap h H locs) (hcl : (Cond.classLink own index "java/lang/Object").before args s = true) (hN : n.toNatClampNeg = N') (hn : ¬ n < 0) (hbytes : N' ≤ 1000000) (hw : w_new h (.inl (G.2.1 6, N', .inr (.inr (.inr (.inr (fun _ => none)))))) P) (hcells : cells + 1 ≤ R.cells) (hslots : slots + N' ≤ R.slots) (hdg : decode cc pc = .ok (.anewarray index, 3))
    (kk : ∀ (q : Nat) (h1 : HH) (H1 : Heap), P q h1 → hv_I G h0 s.heap h1 H1 locs → W p l e R s m args below meth c H1 locs (cells + 1) (slots + N') Q (F0 m (pc + 3) ls (.ref q :: rest))) : W p l e R s m args below meth c H locs cells slots Q (F0 m pc ls (.int n :: rest)) := by
  subst hN
  exact hv_newq hE hI hcl hn hbytes hcells hslots hdg fun q H1 hq hI1 => kk q _ H1 (hw q hq) hI1
theorem hv_wild {i : Int32} {P : Int32 → Prop} (hE : hv_E p s m args meth c cc nL ret own G h0) (hI : hv_I G h0 s.heap h H locs) (hw : w_ild G h a i P) (hdg : decode cc pc = .ok (.iaload, 1))
    (kk : ∀ v, P v → W p l e R s m args below meth c H locs cells slots Q (F0 m (pc + 1) ls (.int v :: rest))) : W p l e R s m args below meth c H locs cells slots Q (F0 m pc ls (.int i :: .ref a :: rest)) := by
  obtain ⟨n, f, ha, hin, hw⟩ := hw
  exact hv_ild hE hI ha hin hdg (kk _ hw)
theorem hv_wist {i : Int32} {v : Int32} {P : HH → Prop} (hE : hv_E p s m args meth c cc nL ret own G h0) (hI : hv_I G h0 s.heap h H locs) (hw : w_ist G h a i v P) (hdg : decode cc pc = .ok (.iastore, 1))
    (kk : ∀ (h1 : HH) (H1 : Heap) (locs1 : List Loc), P h1 → hv_I G h0 s.heap h1 H1 locs1 → W p l e R s m args below meth c H1 locs1 cells slots Q (F0 m (pc + 1) ls rest)) : W p l e R s m args below meth c H locs cells slots Q (F0 m pc ls (.int v :: .int i :: .ref a :: rest)) := by
  obtain ⟨n, f, ha, hin, hw⟩ := hw
  exact hv_ist hE hI ha hin hdg fun H1 locs1 hI1 => kk _ H1 locs1 hw hI1
theorem hv_wbld {i : Int32} {P : Int32 → Prop} (hE : hv_E p s m args meth c cc nL ret own G h0) (hI : hv_I G h0 s.heap h H locs) (hw : w_bld G h a i P) (hdg : decode cc pc = .ok (.baload, 1))
    (kk : ∀ v, P v → W p l e R s m args below meth c H locs cells slots Q (F0 m (pc + 1) ls (.int v :: rest))) : W p l e R s m args below meth c H locs cells slots Q (F0 m pc ls (.int i :: .ref a :: rest)) := hv_bldw hE hI hw hdg kk
theorem hv_wbst {i : Int32} {v : Int32} {P : HH → Prop} (hE : hv_E p s m args meth c cc nL ret own G h0) (hI : hv_I G h0 s.heap h H locs) (hw : w_bst G h a i v P) (hdg : decode cc pc = .ok (.bastore, 1))
    (kk : ∀ (h1 : HH) (H1 : Heap) (locs1 : List Loc), P h1 → hv_I G h0 s.heap h1 H1 locs1 → W p l e R s m args below meth c H1 locs1 cells slots Q (F0 m (pc + 1) ls rest)) : W p l e R s m args below meth c H locs cells slots Q (F0 m pc ls (.int v :: .int i :: .ref a :: rest)) := by
  obtain ⟨n, f, ha, hin, hw⟩ := hw
  exact hv_bst hE hI ha hin hdg fun H1 locs1 hI1 => kk _ H1 locs1 hw hI1
theorem hv_wzld {i : Int32} {P : Int32 → Prop} (hE : hv_E p s m args meth c cc nL ret own G h0) (hI : hv_I G h0 s.heap h H locs) (hw : w_zld G h a i P) (hdg : decode cc pc = .ok (.baload, 1))
    (kk : ∀ v, P v → W p l e R s m args below meth c H locs cells slots Q (F0 m (pc + 1) ls (.int v :: rest))) : W p l e R s m args below meth c H locs cells slots Q (F0 m pc ls (.int i :: .ref a :: rest)) := by
  obtain ⟨n, f, ha, hin, hw⟩ := hw
  exact hv_zld hE hI ha hin hdg (kk _ hw)
theorem hv_wzst {i : Int32} {v : Int32} {P : HH → Prop} (hE : hv_E p s m args meth c cc nL ret own G h0) (hI : hv_I G h0 s.heap h H locs) (hw : w_zst G h a i v P) (hdg : decode cc pc = .ok (.bastore, 1))
    (kk : ∀ (h1 : HH) (H1 : Heap) (locs1 : List Loc), P h1 → hv_I G h0 s.heap h1 H1 locs1 → W p l e R s m args below meth c H1 locs1 cells slots Q (F0 m (pc + 1) ls rest)) : W p l e R s m args below meth c H locs cells slots Q (F0 m pc ls (.int v :: .int i :: .ref a :: rest)) := by
  obtain ⟨n, f, ha, hin, hw⟩ := hw
  exact hv_zst hE hI ha hin hdg fun H1 locs1 hI1 => kk _ H1 locs1 hw hI1
theorem hv_wfld {i : Int32} {P : UInt32 → Prop} (hE : hv_E p s m args meth c cc nL ret own G h0) (hI : hv_I G h0 s.heap h H locs) (hw : w_fld G h a i P) (hdg : decode cc pc = .ok (.faload, 1))
    (kk : ∀ v, P v → W p l e R s m args below meth c H locs cells slots Q (F0 m (pc + 1) ls (.float v :: rest))) : W p l e R s m args below meth c H locs cells slots Q (F0 m pc ls (.int i :: .ref a :: rest)) := by
  obtain ⟨n, f, ha, hin, hw⟩ := hw
  exact hv_fld hE hI ha hin hdg (kk _ hw)
theorem hv_wfst {i : Int32} {v : UInt32} {P : HH → Prop} (hE : hv_E p s m args meth c cc nL ret own G h0) (hI : hv_I G h0 s.heap h H locs) (hw : w_fst G h a i v P) (hdg : decode cc pc = .ok (.fastore, 1))
    (kk : ∀ (h1 : HH) (H1 : Heap) (locs1 : List Loc), P h1 → hv_I G h0 s.heap h1 H1 locs1 → W p l e R s m args below meth c H1 locs1 cells slots Q (F0 m (pc + 1) ls rest)) : W p l e R s m args below meth c H locs cells slots Q (F0 m pc ls (.float v :: .int i :: .ref a :: rest)) := by
  obtain ⟨n, f, ha, hin, hw⟩ := hw
  exact hv_fst hE hI ha hin hdg fun H1 locs1 hI1 => kk _ H1 locs1 hw hI1
theorem hv_wlld {i : Int32} {P : Int64 → Prop} (hE : hv_E p s m args meth c cc nL ret own G h0) (hI : hv_I G h0 s.heap h H locs) (hw : w_lld G h a i P) (hdg : decode cc pc = .ok (.laload, 1))
    (kk : ∀ v, P v → W p l e R s m args below meth c H locs cells slots Q (F0 m (pc + 1) ls (.long v :: rest))) : W p l e R s m args below meth c H locs cells slots Q (F0 m pc ls (.int i :: .ref a :: rest)) := by
  obtain ⟨n, f, ha, hin, hw⟩ := hw
  exact hv_lld hE hI ha hin hdg (kk _ hw)
theorem hv_wlst {i : Int32} {v : Int64} {P : HH → Prop} (hE : hv_E p s m args meth c cc nL ret own G h0) (hI : hv_I G h0 s.heap h H locs) (hw : w_lst G h a i v P) (hdg : decode cc pc = .ok (.lastore, 1))
    (kk : ∀ (h1 : HH) (H1 : Heap) (locs1 : List Loc), P h1 → hv_I G h0 s.heap h1 H1 locs1 → W p l e R s m args below meth c H1 locs1 cells slots Q (F0 m (pc + 1) ls rest)) : W p l e R s m args below meth c H locs cells slots Q (F0 m pc ls (.long v :: .int i :: .ref a :: rest)) := by
  obtain ⟨n, f, ha, hin, hw⟩ := hw
  exact hv_lst hE hI ha hin hdg fun H1 locs1 hI1 => kk _ H1 locs1 hw hI1
theorem hv_wdld {i : Int32} {P : UInt64 → Prop} (hE : hv_E p s m args meth c cc nL ret own G h0) (hI : hv_I G h0 s.heap h H locs) (hw : w_dld G h a i P) (hdg : decode cc pc = .ok (.daload, 1))
    (kk : ∀ v, P v → W p l e R s m args below meth c H locs cells slots Q (F0 m (pc + 1) ls (.double v :: rest))) : W p l e R s m args below meth c H locs cells slots Q (F0 m pc ls (.int i :: .ref a :: rest)) := by
  obtain ⟨n, f, ha, hin, hw⟩ := hw
  exact hv_dld hE hI ha hin hdg (kk _ hw)
theorem hv_wdst {i : Int32} {v : UInt64} {P : HH → Prop} (hE : hv_E p s m args meth c cc nL ret own G h0) (hI : hv_I G h0 s.heap h H locs) (hw : w_dst G h a i v P) (hdg : decode cc pc = .ok (.dastore, 1))
    (kk : ∀ (h1 : HH) (H1 : Heap) (locs1 : List Loc), P h1 → hv_I G h0 s.heap h1 H1 locs1 → W p l e R s m args below meth c H1 locs1 cells slots Q (F0 m (pc + 1) ls rest)) : W p l e R s m args below meth c H locs cells slots Q (F0 m pc ls (.double v :: .int i :: .ref a :: rest)) := by
  obtain ⟨n, f, ha, hin, hw⟩ := hw
  exact hv_dst hE hI ha hin hdg fun H1 locs1 hI1 => kk _ H1 locs1 hw hI1
theorem hv_wqld {i : Int32} {P : Option Nat → Prop} (hE : hv_E p s m args meth c cc nL ret own G h0) (hI : hv_I G h0 s.heap h H locs) (hw : w_qld G h a i P) (hdg : decode cc pc = .ok (.aaload, 1))
    (kk : ∀ v, P v → W p l e R s m args below meth c H locs cells slots Q (F0 m (pc + 1) ls (va_rf v :: rest))) : W p l e R s m args below meth c H locs cells slots Q (F0 m pc ls (.int i :: .ref a :: rest)) := by
  obtain ⟨n, f, v, ha, hin, hv, hw⟩ := hw
  exact hv_qld hE hI ha hin hv hdg (kk _ hw)
theorem hv_wqst {i : Int32} {x1 : Option Nat} {P : HH → Prop} (hE : hv_E p s m args meth c cc nL ret own G h0) (hI : hv_I G h0 s.heap h H locs) (hw : w_qst G h a i x1 P) (hdg : decode cc pc = .ok (.aastore, 1))
    (kk : ∀ (h1 : HH) (H1 : Heap) (locs1 : List Loc), P h1 → hv_I G h0 s.heap h1 H1 locs1 → W p l e R s m args below meth c H1 locs1 cells slots Q (F0 m (pc + 1) ls rest)) : W p l e R s m args below meth c H locs cells slots Q (F0 m pc ls (va_rf x1 :: .int i :: .ref a :: rest)) := by
  obtain ⟨n, f, ha, hin, hob, hw⟩ := hw
  exact hv_qst hE hI ha hin hob hdg fun H1 locs1 hI1 => kk _ H1 locs1 hw hI1
theorem hv_wcast {nm : String} {index ci : Nat} {T : u_T} {N : Nat} {P : Prop} (hE : hv_E p s m args meth c cc nL ret own G h0) (hI : hv_I G h0 s.heap h H locs) (hlink : (Cond.classLink own index nm).before args s = true) (hc : hv_cl[ci]? = some (nm, T, N)) (hw : w_cast h a ci P) (hdg : decode cc pc = .ok (.checkcast index, 3))
    (kk : P → W p l e R s m args below meth c H locs cells slots Q (F0 m (pc + 3) ls (.ref a :: rest))) : W p l e R s m args below meth c H locs cells slots Q (F0 m pc ls (.ref a :: rest)) := by
  obtain ⟨fs, ha, hw⟩ := hw
  exact hv_cast hE hI hlink hc ha hdg (kk hw)
theorem hv_wcastA {nm : String} {index t : Nat} {ty : FieldType} {P : Prop} (hE : hv_E p s m args meth c cc nL ret own G h0) (hI : hv_I G h0 s.heap h H locs) (hlink : (Cond.classLink own index nm).before args s = true) (ht : (hv_tys G)[t]? = some (G.2.1 t, ty)) (hp : refKind ty = false) (hC : "[" ++ ty.toString = nm) (hw : w_castA G h a t P) (hdg : decode cc pc = .ok (.checkcast index, 3))
    (kk : P → W p l e R s m args below meth c H locs cells slots Q (F0 m (pc + 3) ls (.ref a :: rest))) : W p l e R s m args below meth c H locs cells slots Q (F0 m pc ls (.ref a :: rest)) := by
  obtain ⟨x1, ha, hw⟩ := hw
  exact hv_castA hE hI hlink ht hp hC ha hdg (kk hw)
end HVW
def df_X4 : List Value := [.int 0, .null, .null, .null, .null, .null, .int 0, .int 0, .null, .null, .null, .null, .null, .null, .null, .null, .null, .null, .null, .null, .null, .null, .null, .int 0, .int 0, .int 0, .int 0, .int 0, .int 0, .int 0, .int 0, .int 0, .int 0, .int 0, .int 0, .int 0, .null]
theorem df_X4_ok : ∀ j, j < 37 → defaultValue (tyX4 j) = vp_V df_X4 j
  | 0, _ => rfl
  | 1, _ => rfl
  | 2, _ => rfl
  | 3, _ => rfl
  | 4, _ => rfl
  | 5, _ => rfl
  | 6, _ => rfl
  | 7, _ => rfl
  | 8, _ => rfl
  | 9, _ => rfl
  | 10, _ => rfl
  | 11, _ => rfl
  | 12, _ => rfl
  | 13, _ => rfl
  | 14, _ => rfl
  | 15, _ => rfl
  | 16, _ => rfl
  | 17, _ => rfl
  | 18, _ => rfl
  | 19, _ => rfl
  | 20, _ => rfl
  | 21, _ => rfl
  | 22, _ => rfl
  | 23, _ => rfl
  | 24, _ => rfl
  | 25, _ => rfl
  | 26, _ => rfl
  | 27, _ => rfl
  | 28, _ => rfl
  | 29, _ => rfl
  | 30, _ => rfl
  | 31, _ => rfl
  | 32, _ => rfl
  | 33, _ => rfl
  | 34, _ => rfl
  | 35, _ => rfl
  | 36, _ => rfl
  | j + 37, h => absurd h (by omega)
def df_X1 : List Value := [.null, .null, .null, .null, .null, .null, .null, .int 0, .null]
theorem df_X1_ok : ∀ j, j < 9 → defaultValue (tyX1 j) = vp_V df_X1 j
  | 0, _ => rfl
  | 1, _ => rfl
  | 2, _ => rfl
  | 3, _ => rfl
  | 4, _ => rfl
  | 5, _ => rfl
  | 6, _ => rfl
  | 7, _ => rfl
  | 8, _ => rfl
  | j + 9, h => absurd h (by omega)
def df_X2 : List Value := [.null, .null, .null, .int 0, .int 0, .int 0, .int 0]
theorem df_X2_ok : ∀ j, j < 7 → defaultValue (tyX2 j) = vp_V df_X2 j
  | 0, _ => rfl
  | 1, _ => rfl
  | 2, _ => rfl
  | 3, _ => rfl
  | 4, _ => rfl
  | 5, _ => rfl
  | 6, _ => rfl
  | j + 7, h => absurd h (by omega)
def df_X3 : List Value := [.null, .null, .null, .int 0, .int 0, .null, .int 0, .null]
theorem df_X3_ok : ∀ j, j < 8 → defaultValue (tyX3 j) = vp_V df_X3 j
  | 0, _ => rfl
  | 1, _ => rfl
  | 2, _ => rfl
  | 3, _ => rfl
  | 4, _ => rfl
  | 5, _ => rfl
  | 6, _ => rfl
  | 7, _ => rfl
  | j + 8, h => absurd h (by omega)
def df_J2 : List Value := [.int 0, .null, .int 0]
theorem df_J2_ok : ∀ j, j < 3 → defaultValue (tyJ2 j) = vp_V df_J2 j
  | 0, _ => rfl
  | 1, _ => rfl
  | 2, _ => rfl
  | j + 3, h => absurd h (by omega)
def df_J3 : List Value := [.null, .int 0, .int 0]
theorem df_J3_ok : ∀ j, j < 3 → defaultValue (tyJ3 j) = vp_V df_J3 j
  | 0, _ => rfl
  | 1, _ => rfl
  | 2, _ => rfl
  | j + 3, h => absurd h (by omega)
def df_J5 : List Value := [.null, .int 0, .int 0, .int 0]
theorem df_J5_ok : ∀ j, j < 4 → defaultValue (tyJ5 j) = vp_V df_J5 j
  | 0, _ => rfl
  | 1, _ => rfl
  | 2, _ => rfl
  | 3, _ => rfl
  | j + 4, h => absurd h (by omega)
def df_J6 : List Value := [.null, .int 0, .int 0, .int 0]
theorem df_J6_ok : ∀ j, j < 4 → defaultValue (tyJ6 j) = vp_V df_J6 j
  | 0, _ => rfl
  | 1, _ => rfl
  | 2, _ => rfl
  | 3, _ => rfl
  | j + 4, h => absurd h (by omega)
def df_X5 : List Value := [.int 0, .null, .null]
theorem df_X5_ok : ∀ j, j < 3 → defaultValue (tyX5 j) = vp_V df_X5 j
  | 0, _ => rfl
  | 1, _ => rfl
  | 2, _ => rfl
  | j + 3, h => absurd h (by omega)
def df_X6 : List Value := [.null, .int 0]
theorem df_X6_ok : ∀ j, j < 2 → defaultValue (tyX6 j) = vp_V df_X6 j
  | 0, _ => rfl
  | 1, _ => rfl
  | j + 2, h => absurd h (by omega)
def df_X7 : List Value := [.null, .null, .null, .null, .null, .int 0, .int 0]
theorem df_X7_ok : ∀ j, j < 7 → defaultValue (tyX7 j) = vp_V df_X7 j
  | 0, _ => rfl
  | 1, _ => rfl
  | 2, _ => rfl
  | 3, _ => rfl
  | 4, _ => rfl
  | 5, _ => rfl
  | 6, _ => rfl
  | j + 7, h => absurd h (by omega)
def df_X8 : List Value := [.int 0, .null]
theorem df_X8_ok : ∀ j, j < 2 → defaultValue (tyX8 j) = vp_V df_X8 j
  | 0, _ => rfl
  | 1, _ => rfl
  | j + 2, h => absurd h (by omega)
def df_X9 : List Value := [.null, .null, .int 0, .null, .int 0]
theorem df_X9_ok : ∀ j, j < 5 → defaultValue (tyX9 j) = vp_V df_X9 j
  | 0, _ => rfl
  | 1, _ => rfl
  | 2, _ => rfl
  | 3, _ => rfl
  | 4, _ => rfl
  | j + 5, h => absurd h (by omega)
def df_J15 : List Value := [.int 0, .int 0, .int 0, .null]
theorem df_J15_ok : ∀ j, j < 4 → defaultValue (tyJ15 j) = vp_V df_J15 j
  | 0, _ => rfl
  | 1, _ => rfl
  | 2, _ => rfl
  | 3, _ => rfl
  | j + 4, h => absurd h (by omega)
def df_X10 : List Value := [.int 0, .int 0, .int 0, .int 0, .float 0, .int 0, .int 0, .null, .null]
theorem df_X10_ok : ∀ j, j < 9 → defaultValue (tyX10 j) = vp_V df_X10 j
  | 0, _ => rfl
  | 1, _ => rfl
  | 2, _ => rfl
  | 3, _ => rfl
  | 4, _ => rfl
  | 5, _ => rfl
  | 6, _ => rfl
  | 7, _ => rfl
  | 8, _ => rfl
  | j + 9, h => absurd h (by omega)
def df_X11 : List Value := [.null, .null, .null, .null, .null, .int 0, .int 0, .int 0]
theorem df_X11_ok : ∀ j, j < 8 → defaultValue (tyX11 j) = vp_V df_X11 j
  | 0, _ => rfl
  | 1, _ => rfl
  | 2, _ => rfl
  | 3, _ => rfl
  | 4, _ => rfl
  | 5, _ => rfl
  | 6, _ => rfl
  | 7, _ => rfl
  | j + 8, h => absurd h (by omega)
def df_X12 : List Value := [.null, .int 0, .int 0]
theorem df_X12_ok : ∀ j, j < 3 → defaultValue (tyX12 j) = vp_V df_X12 j
  | 0, _ => rfl
  | 1, _ => rfl
  | 2, _ => rfl
  | j + 3, h => absurd h (by omega)
