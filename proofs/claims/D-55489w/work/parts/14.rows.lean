/-! THE ROWS over a world h: what an instruction asks (w_..), and the row (hv_..). By gen/mkrows.py -/
set_option maxRecDepth 100000
theorem va_rf_cat (r : Option Nat) : (va_rf r).category = 1 := by cases r <;> rfl
theorem va_rf_nar (r : Option Nat) (C : String) : narrow (.object C) (va_rf r) = va_rf r := by cases r <;> rfl
theorem va_rf_narA (r : Option Nat) (t : FieldType) : narrow (.array t) (va_rf r) = va_rf r := by cases r <;> rfl
theorem va_rf_fit (r : Option Nat) (C : String) : fits (.object C) (va_rf r) = true := by cases r <;> rfl
theorem va_rf_fitA (r : Option Nat) (t : FieldType) : fits (.array t) (va_rf r) = true := by cases r <;> rfl
/-- not null -/
def w_nn (r : Option Nat) (Q : Nat → Prop) : Prop := ∃ a, r = some a ∧ Q a
/-- an object of class ci -/
def w_is (h : HH) (a ci : Nat) (Q : Prop) : Prop := (∃ fs, h a = some (.inr (ci, fs))) ∧ Q
def w_isS (G : GG) (h : HH) (a : Nat) (Q : Prop) : Prop := ((∃ fs, h a = some (.inr (7, fs))) ∨ ∃ i, i < 2 ∧ a = G.2.2 (4 + i)) ∧ Q
def w_geti (h : HH) (a ci k : Nat) (Q : Int32 → Prop) : Prop := ∃ fs v, h a = some (.inr (ci, fs)) ∧ fs[k]? = some (.int v) ∧ Q v
def w_getf (h : HH) (a ci k : Nat) (Q : UInt32 → Prop) : Prop := ∃ fs v, h a = some (.inr (ci, fs)) ∧ fs[k]? = some (.float v) ∧ Q v
def w_getq (h : HH) (a ci k : Nat) (Q : Option Nat → Prop) : Prop := ∃ fs v, h a = some (.inr (ci, fs)) ∧ fs[k]? = some (va_rf v) ∧ Q v
/-- String.value, String.coder: of a made one, or of a constant -/
def w_getSv (G : GG) (h : HH) (a : Nat) (Q : Option Nat → Prop) : Prop := (∃ fs v, h a = some (.inr (7, fs)) ∧ fs[0]? = some (va_rf v) ∧ Q v) ∨ ∃ i, i < 2 ∧ a = G.2.2 (4 + i) ∧ Q (some (G.2.2 (6 + i)))
def w_getSc (G : GG) (h : HH) (a : Nat) (Q : Int32 → Prop) : Prop := (∃ fs v, h a = some (.inr (7, fs)) ∧ fs[1]? = some (.int v) ∧ Q v) ∨ ∃ i, i < 2 ∧ a = G.2.2 (4 + i) ∧ Q 0
def w_put (h : HH) (a ci k : Nat) (v : Value) (Q : HH → Prop) : Prop := ∃ fs, h a = some (.inr (ci, fs)) ∧ k < fs.length ∧ Q (va_up h a (some (.inr (ci, fs.set k v))))
/-- a new cell -/
def w_new (h : HH) (e : va_E) (Q : Nat → HH → Prop) : Prop := ∀ a, h a = none → Q a (va_up h a (some e))

def w_ild (G : GG) (h : HH) (a : Nat) (i : Int32) (Q : Int32 → Prop) : Prop := (∃ n f, h a = some (.inl (G.2.1 0, n, .inl f)) ∧ vp_in i n ∧ Q (f i.toNatClampNeg))
def w_ist (G : GG) (h : HH) (a : Nat) (i : Int32) (x : Int32) (Q : HH → Prop) : Prop := ∃ n f, h a = some (.inl (G.2.1 0, n, .inl f)) ∧ vp_in i n ∧ Q (va_up h a (some (.inl (G.2.1 0, n, .inl (upd f i.toNatClampNeg x)))))
def w_bld (G : GG) (h : HH) (a : Nat) (i : Int32) (Q : Int32 → Prop) : Prop := (∃ n f, h a = some (.inl (G.2.1 1, n, .inl f)) ∧ vp_in i n ∧ Q (f i.toNatClampNeg)) ∨ (a = G.2.2 1 ∧ vp_in i 100 ∧ Q (hv_tens i.toNatClampNeg)) ∨ (a = G.2.2 2 ∧ vp_in i 100 ∧ Q (hv_ones i.toNatClampNeg))
def w_bst (G : GG) (h : HH) (a : Nat) (i : Int32) (x : Int32) (Q : HH → Prop) : Prop := ∃ n f, h a = some (.inl (G.2.1 1, n, .inl f)) ∧ vp_in i n ∧ Q (va_up h a (some (.inl (G.2.1 1, n, .inl (upd f i.toNatClampNeg (vp_nar .byte x))))))
def w_zld (G : GG) (h : HH) (a : Nat) (i : Int32) (Q : Int32 → Prop) : Prop := (∃ n f, h a = some (.inl (G.2.1 3, n, .inl f)) ∧ vp_in i n ∧ Q (f i.toNatClampNeg))
def w_zst (G : GG) (h : HH) (a : Nat) (i : Int32) (x : Int32) (Q : HH → Prop) : Prop := ∃ n f, h a = some (.inl (G.2.1 3, n, .inl f)) ∧ vp_in i n ∧ Q (va_up h a (some (.inl (G.2.1 3, n, .inl (upd f i.toNatClampNeg (vp_nar .boolean x))))))
def w_fld (G : GG) (h : HH) (a : Nat) (i : Int32) (Q : UInt32 → Prop) : Prop := (∃ n f, h a = some (.inl (G.2.1 2, n, .inr (.inr (.inl f)))) ∧ vp_in i n ∧ Q (f i.toNatClampNeg))
def w_fst (G : GG) (h : HH) (a : Nat) (i : Int32) (x : UInt32) (Q : HH → Prop) : Prop := ∃ n f, h a = some (.inl (G.2.1 2, n, .inr (.inr (.inl f)))) ∧ vp_in i n ∧ Q (va_up h a (some (.inl (G.2.1 2, n, .inr (.inr (.inl (vf_upd f i.toNatClampNeg x)))))))
def w_lld (G : GG) (h : HH) (a : Nat) (i : Int32) (Q : Int64 → Prop) : Prop := (∃ n f, h a = some (.inl (G.2.1 4, n, .inr (.inl f))) ∧ vp_in i n ∧ Q (f i.toNatClampNeg))
def w_lst (G : GG) (h : HH) (a : Nat) (i : Int32) (x : Int64) (Q : HH → Prop) : Prop := ∃ n f, h a = some (.inl (G.2.1 4, n, .inr (.inl f))) ∧ vp_in i n ∧ Q (va_up h a (some (.inl (G.2.1 4, n, .inr (.inl (vp_updL f i.toNatClampNeg x))))))
def w_dld (G : GG) (h : HH) (a : Nat) (i : Int32) (Q : UInt64 → Prop) : Prop := (∃ n f, h a = some (.inl (G.2.1 5, n, .inr (.inr (.inr (.inl f))))) ∧ vp_in i n ∧ Q (f i.toNatClampNeg))
def w_dst (G : GG) (h : HH) (a : Nat) (i : Int32) (x : UInt64) (Q : HH → Prop) : Prop := ∃ n f, h a = some (.inl (G.2.1 5, n, .inr (.inr (.inr (.inl f))))) ∧ vp_in i n ∧ Q (va_up h a (some (.inl (G.2.1 5, n, .inr (.inr (.inr (.inl (vf_upd f i.toNatClampNeg x))))))))
def w_qld (G : GG) (h : HH) (a : Nat) (i : Int32) (Q : Option Nat → Prop) : Prop := ∃ n f v, h a = some (.inl (G.2.1 6, n, .inr (.inr (.inr (.inr f))))) ∧ vp_in i n ∧ f i.toNatClampNeg = v ∧ Q v
/-- a cell that may stand in an Object[] -/
def hv_ob (G : GG) (e : va_E) : Prop := (∃ ci fs, ci < 17 ∧ e = .inr (ci, fs)) ∨ (∃ n f, e = .inl (G.2.1 0, n, .inl f)) ∨ ∃ n f, e = .inl (G.2.1 2, n, .inr (.inr (.inl f)))
def w_qst (G : GG) (h : HH) (a : Nat) (i : Int32) (x : Option Nat) (Q : HH → Prop) : Prop := ∃ n f, h a = some (.inl (G.2.1 6, n, .inr (.inr (.inr (.inr f))))) ∧ vp_in i n ∧ (∀ y, x = some y → ∃ e, h y = some e ∧ hv_ob G e) ∧ Q (va_up h a (some (.inl (G.2.1 6, n, .inr (.inr (.inr (.inr (va_up f i.toNatClampNeg x))))))))
/-- arraylength: of a cell of the world, of the empty Object[], of a constant's bytes -/
def w_len (G : GG) (h : HH) (a : Nat) (Q : Int32 → Prop) : Prop := (∃ t x, t < 7 ∧ h a = some (.inl (G.2.1 t, x)) ∧ Q (Int32.ofNat x.1)) ∨ (a = G.2.2 0 ∧ Q 0) ∨ (a = G.2.2 6 ∧ Q 0) ∨ (a = G.2.2 7 ∧ Q 2)
/-- System.arraycopy -/
def w_cpi (G : GG) (t : Nat) (h : HH) (a : Nat) (sp : Int32) (b : Nat) (dp n : Int32) (Q : HH → Prop) : Prop := ∃ n0 n1 f g, h a = some (.inl (G.2.1 t, n0, .inl f)) ∧ h b = some (.inl (G.2.1 t, n1, .inl g)) ∧ ¬ sp < 0 ∧ ¬ dp < 0 ∧ ¬ n < 0 ∧ sp.toNatClampNeg + n.toNatClampNeg ≤ n0 ∧ dp.toNatClampNeg + n.toNatClampNeg ≤ n1 ∧ (t = 1 → ∀ i, i < n.toNatClampNeg → fits .byte (.int (f (sp.toNatClampNeg + i))) = true) ∧ Q (va_up h b (some (.inl (G.2.1 t, n1, .inl (va_cpy f g sp.toNatClampNeg dp.toNatClampNeg n.toNatClampNeg)))))
def w_cpf (G : GG) (h : HH) (a : Nat) (sp : Int32) (b : Nat) (dp n : Int32) (Q : HH → Prop) : Prop := ∃ n0 n1 f g, h a = some (.inl (G.2.1 2, n0, .inr (.inr (.inl f)))) ∧ h b = some (.inl (G.2.1 2, n1, .inr (.inr (.inl g)))) ∧ ¬ sp < 0 ∧ ¬ dp < 0 ∧ ¬ n < 0 ∧ sp.toNatClampNeg + n.toNatClampNeg ≤ n0 ∧ dp.toNatClampNeg + n.toNatClampNeg ≤ n1 ∧ Q (va_up h b (some (.inl (G.2.1 2, n1, .inr (.inr (.inl (va_cpy f g sp.toNatClampNeg dp.toNatClampNeg n.toNatClampNeg)))))))
def w_cpq (G : GG) (h : HH) (a : Nat) (sp : Int32) (b : Nat) (dp n : Int32) (Q : HH → Prop) : Prop := ∃ n0 n1 f g, h a = some (.inl (G.2.1 6, n0, .inr (.inr (.inr (.inr f))))) ∧ h b = some (.inl (G.2.1 6, n1, .inr (.inr (.inr (.inr g))))) ∧ ¬ sp < 0 ∧ ¬ dp < 0 ∧ ¬ n < 0 ∧ sp.toNatClampNeg + n.toNatClampNeg ≤ n0 ∧ dp.toNatClampNeg + n.toNatClampNeg ≤ n1 ∧ (∀ i, i < n.toNatClampNeg → ∀ y, f (sp.toNatClampNeg + i) = some y → ∃ e, h y = some e ∧ hv_ob G e) ∧ Q (va_up h b (some (.inl (G.2.1 6, n1, .inr (.inr (.inr (.inr (va_cpy f g sp.toNatClampNeg dp.toNatClampNeg n.toNatClampNeg))))))))
/-- a constant's bytes copied -/
def w_cpk (G : GG) (h : HH) (a : Nat) (sp : Int32) (b : Nat) (dp n : Int32) (Q : HH → Prop) : Prop := ∃ n1 g, a = G.2.2 7 ∧ h b = some (.inl (G.2.1 1, n1, .inl g)) ∧ ¬ sp < 0 ∧ ¬ dp < 0 ∧ ¬ n < 0 ∧ sp.toNatClampNeg + n.toNatClampNeg ≤ 2 ∧ dp.toNatClampNeg + n.toNatClampNeg ≤ n1 ∧ Q (va_up h b (some (.inl (G.2.1 1, n1, .inl (va_cpy (fun j => [32, 114].getD j 0) g sp.toNatClampNeg dp.toNatClampNeg n.toNatClampNeg)))))
/-- the cells that may be cloned: int[], byte[], float[] -/
def w_clone (G : GG) (h : HH) (a : Nat) (t : Nat) (mc ms c k : Nat) (Q : Nat → HH → Nat → Prop) : Prop := ∃ x, h a = some (.inl (G.2.1 t, x)) ∧ (∀ (i : Nat) (v : Value), (vp_cell (G.2.1 t) x).slots[i]? = some v → fits (if t = 0 then .int else if t = 1 then .byte else .float) v = true) ∧ c + 1 ≤ mc ∧ k + x.1 ≤ ms ∧ ∀ q, h q = none → Q q (va_up h q (some (.inl (G.2.1 t, x)))) x.1
section HVS
variable {p : Program} {l : Launch} {e : Env} {R : Room} {s : State} {m : MethodId} {args : Array Value} {below : List Frame} {meth : Method} {c : Code} {H : Heap} {locs : List Loc} {cells slots mc ms : Nat} {Q : State → Prop}
variable {cc : ByteArray} {pc : Nat} {ls : Array Slot} {rest : List Value} {G : GG} {h0 h : HH} {nL : Nat} {own : String} {ret : Option FieldType} {a : Nat}
theorem hv_one {e0 : va_E} (hI : hv_I G h0 s.heap h H locs) (ha : h a = some e0) : va_P G.1 hv_cl [(a, e0)] H := by
  intro j q hj
  match j, hj with
  | 0, hj => cases hj; exact hI.1 _ _ ha
  | j + 1, hj => simp at hj
theorem hv_setI {e0 e1 : va_E} {H1 : Heap} {locs1 : List Loc} (hI : hv_I G h0 s.heap h H locs) (ha : h a = some e0) (hP : hv_P G (va_up h a (some e1)) H1) (hS : va_S (hv_A h0 s.heap.size) s.heap H1 locs1) : hv_I G h0 s.heap (va_up h a (some e1)) H1 locs1 :=
  ⟨hP, hS, fun q hq => hv_up_dom hI.2.2 (hI.2.2 _ (by rw [ha]; exact fun z => by cases z)) hq⟩
theorem hv_newI {e1 : va_E} {H1 : Heap} {locs1 : List Loc} (hI : hv_I G h0 s.heap h H locs) (ha : hv_A h0 s.heap.size a) (hP : hv_P G (va_up h a (some e1)) H1) (hS : va_S (hv_A h0 s.heap.size) s.heap H1 locs1) : hv_I G h0 s.heap (va_up h a (some e1)) H1 locs1 :=
  ⟨hP, hS, fun q hq => hv_up_dom hI.2.2 ha hq⟩
theorem hv_DA {ws : va_W} {A : Nat → Prop} {e1 : va_E} (hD : va_D A (ws ++ [(a, e1)])) : A a := hD.2 ws.length (a, e1) (by rw [List.getElem?_append_right (Nat.le_refl _), Nat.sub_self]; rfl)
theorem hv_recv {ci : Nat} {q : vw_C} {fs : List Value} (hE : hv_E p s m args meth c cc nL ret own G h0) (hI : hv_I G h0 s.heap h H locs) (hc : hv_cl[ci]? = some q) (ha : h a = some (.inr (ci, fs))) : ∃ cell : Cell, H[a]? = some cell ∧ cell.vm.isStatics = false ∧ s.vm.findClass q.1 = some cell.cls :=
  va_recv (q0 := 0) hE.2.2.2.1 (hv_one hI ha) hc rfl
theorem hv_preV {ci : Nat} {q : vw_C} {fs : List Value} {As : List Value} (hE : hv_E p s m args meth c cc nL ret own G h0) (hI : hv_I G h0 s.heap h H locs) (hc : hv_cl[ci]? = some q) (ha : h a = some (.inr (ci, fs))) : PreV s H q.1 a (hv_Pc G h H.size (.ref a :: As)) As :=
  ⟨hv_blind, hv_recv hE hI hc ha, fun U hU hW => ⟨rfl, by rw [hU], by rw [hU]; exact hI.1, hE.2.2.2.next hI hU hW⟩⟩
theorem hv_zH (hE : hv_E p s m args meth c cc nL ret own G h0) : hv_z G (hv_A h0 s.heap.size) s s.heap := hE.2.2.2.2.2
theorem hv_preVS {As : List Value} (hE : hv_E p s m args meth c cc nL ret own G h0) (hI : hv_I G h0 s.heap h H locs) (ha : (∃ fs, h a = some (.inr (7, fs))) ∨ ∃ i, i < 2 ∧ a = G.2.2 (4 + i)) : PreV s H "java/lang/String" a (hv_Pc G h H.size (.ref a :: As)) As := by
  refine ⟨hv_blind, ?_, fun U hU hW => ⟨rfl, by rw [hU], by rw [hU]; exact hI.1, hE.2.2.2.next hI hU hW⟩⟩
  rcases ha with ⟨fs, ha⟩ | ⟨i, hi, rfl⟩
  · exact hv_recv (ci := 7) hE hI rfl ha
  · exact vk_recv (adK := fun i => G.2.2 (4 + i)) (adV := fun i => G.2.2 (6 + i)) (i := i) (hv_zH hE).2.2.2.2.2.2.2.2.2.2.2.2.2 hi hI.2.1
theorem hv_get {ref C : String} {T : u_T} {N ci index : Nat} {fs : List Value} {v : Value} (hE : hv_E p s m args meth c cc nL ret own G h0) (hI : hv_I G h0 s.heap h H locs) (hin : ∀ w ∈ u_ws C T N, w ∈ lw_all) (hc : hv_cl[ci]? = some (C, T, N)) (k : Nat) (hk : k < N) (hlink : (Cond.fieldLink own index ref (T k).2.1 (T k).2.2.1).before args s = true) (hsame : ∀ x, s.fieldFound? (T k).1 (T k).2.1 (T k).2.2.1 = some x → s.fieldFound? ref (T k).2.1 (T k).2.2.1 = some x) (ha : h a = some (.inr (ci, fs))) (hv : fs[k]? = some v) (hdg : decode cc pc = .ok (.getfield index, 3))
    (kk : W p l e R s m args below meth c H locs cells slots Q (F0 m (pc + 3) ls (v :: rest))) : W p l e R s m args below meth c H locs cells slots Q (F0 m pc ls (.ref a :: rest)) := by
  obtain ⟨⟨hx, hb, hml, hown, hts⟩, -, -, hX⟩ := hE
  exact va_get hx hb hts hin hown hX.1 (hv_one hI ha) 0 rfl hc k hk hlink hsame hv hdg kk
theorem hv_getN {ref C host : String} {T : u_T} {N ci index : Nat} {fs : List Value} {v : Value} (hE : hv_E p s m args meth c cc nL ret own G h0) (hI : hv_I G h0 s.heap h H locs) (hin : ∀ w ∈ u_ws C T N, w ∈ lw_all) (hc : hv_cl[ci]? = some (C, T, N)) (k : Nat) (hk : k < N) (hlink : (Cond.fieldLinkNest own index ref (T k).2.1 (T k).2.2.1 host).before args s = true) (hsame : ∀ x, s.fieldFound? (T k).1 (T k).2.1 (T k).2.2.1 = some x → s.fieldFound? ref (T k).2.1 (T k).2.2.1 = some x) (ha : h a = some (.inr (ci, fs))) (hv : fs[k]? = some v) (hdg : decode cc pc = .ok (.getfield index, 3))
    (kk : W p l e R s m args below meth c H locs cells slots Q (F0 m (pc + 3) ls (v :: rest))) : W p l e R s m args below meth c H locs cells slots Q (F0 m pc ls (.ref a :: rest)) := by
  obtain ⟨⟨hx, hb, hml, hown, hts⟩, -, -, hX⟩ := hE
  exact va_getN hx hb hts hin hown hX.1 (hv_one hI ha) 0 rfl hc k hk hlink hsame hv hdg kk
theorem hv_getSv {index : Nat} (hE : hv_E p s m args meth c cc nL ret own G h0) (hI : hv_I G h0 s.heap h H locs) (hlink : (Cond.fieldLink own index "java/lang/String" "value" "[B").before args s = true) {i : Nat} (hi : i < 2) (hdg : decode cc pc = .ok (.getfield index, 3))
    (kk : W p l e R s m args below meth c H locs cells slots Q (F0 m (pc + 3) ls (.ref (G.2.2 (6 + i)) :: rest))) : W p l e R s m args below meth c H locs cells slots Q (F0 m pc ls (.ref (G.2.2 (4 + i)) :: rest)) := by
  obtain ⟨⟨hx, hb, hml, hown, hts⟩, -, -, hX⟩ := hE
  exact vk_getf hx hb ((hX.2.2.2.2.2.2.2.2.2.2.2.2.2.2.2.1 i hi).2.2.1) hI.2.1 hown hlink (fun _ h => h) hdg kk
theorem hv_getSc {index : Nat} (hE : hv_E p s m args meth c cc nL ret own G h0) (hI : hv_I G h0 s.heap h H locs) (hlink : (Cond.fieldLink own index "java/lang/String" "coder" "B").before args s = true) {i : Nat} (hi : i < 2) (hdg : decode cc pc = .ok (.getfield index, 3))
    (kk : W p l e R s m args below meth c H locs cells slots Q (F0 m (pc + 3) ls (.int 0 :: rest))) : W p l e R s m args below meth c H locs cells slots Q (F0 m pc ls (.ref (G.2.2 (4 + i)) :: rest)) := by
  obtain ⟨⟨hx, hb, hml, hown, hts⟩, -, -, hX⟩ := hE
  exact vk_getf hx hb ((hX.2.2.2.2.2.2.2.2.2.2.2.2.2.2.2.1 i hi).2.1) hI.2.1 hown hlink (fun _ h => h) hdg kk

theorem hv_put {ref C : String} {T : u_T} {N ci index : Nat} {fs : List Value} {v : Value} (ty0 : Nat → FieldType) (hE : hv_E p s m args meth c cc nL ret own G h0) (hI : hv_I G h0 s.heap h H locs) (hin : ∀ w ∈ u_ws C T N, w ∈ lw_all) (hty : ∀ k, k < N → parseFieldDescriptor (T k).2.2.1 = some (ty0 k)) (hnm : ∀ a, a < N → ∀ b, b < N → a ≠ b → (T a).2.1 ≠ (T b).2.1) (hc : hv_cl[ci]? = some (C, T, N)) (k : Nat) (hk : k < N) (hlink : (Cond.fieldLink own index ref (T k).2.1 (T k).2.2.1).before args s = true) (hsame : ∀ x, s.fieldFound? (T k).1 (T k).2.1 (T k).2.2.1 = some x → s.fieldFound? ref (T k).2.1 (T k).2.2.1 = some x) (hfin : (T k).2.2.2 = false) {ty : FieldType} (hd : parseFieldDescriptor (T k).2.2.1 = some ty) (hn : narrow ty v = v) (hfit : fits ty v = true) (ha : h a = some (.inr (ci, fs))) (hl : k < fs.length) (hdg : decode cc pc = .ok (.putfield index, 3))
    (kk : ∀ (H1 : Heap) (locs1 : List Loc), hv_I G h0 s.heap (va_up h a (some (.inr (ci, fs.set k v)))) H1 locs1 → W p l e R s m args below meth c H1 locs1 cells slots Q (F0 m (pc + 3) ls rest)) : W p l e R s m args below meth c H locs cells slots Q (F0 m pc ls (v :: .ref a :: rest)) := by
  obtain ⟨⟨hx, hb, hml, hown, hts⟩, -, -, hX⟩ := hE
  obtain ⟨ws, hP, hD, hget, hset, -⟩ := hv_list hI
  obtain ⟨j, hj⟩ := hget _ _ ha
  exact va_put hx hb hts hin ty0 hty hnm hown hX.1 hP hD hI.2.1 j hj hc k hk hlink hsame hfin hd hn hfit hl hdg fun H1 locs1 hP1 _ hS1 => kk H1 locs1 (hv_setI hI ha (hset j _ _ _ H1 hj hP1) hS1)
theorem hv_putN {ref C : String} {host : String} {T : u_T} {N ci index : Nat} {fs : List Value} {v : Value} (ty0 : Nat → FieldType) (hE : hv_E p s m args meth c cc nL ret own G h0) (hI : hv_I G h0 s.heap h H locs) (hin : ∀ w ∈ u_ws C T N, w ∈ lw_all) (hty : ∀ k, k < N → parseFieldDescriptor (T k).2.2.1 = some (ty0 k)) (hnm : ∀ a, a < N → ∀ b, b < N → a ≠ b → (T a).2.1 ≠ (T b).2.1) (hc : hv_cl[ci]? = some (C, T, N)) (k : Nat) (hk : k < N) (hlink : (Cond.fieldLinkNest own index ref (T k).2.1 (T k).2.2.1 host).before args s = true) (hsame : ∀ x, s.fieldFound? (T k).1 (T k).2.1 (T k).2.2.1 = some x → s.fieldFound? ref (T k).2.1 (T k).2.2.1 = some x) (hfin : (T k).2.2.2 = false) {ty : FieldType} (hd : parseFieldDescriptor (T k).2.2.1 = some ty) (hn : narrow ty v = v) (hfit : fits ty v = true) (ha : h a = some (.inr (ci, fs))) (hl : k < fs.length) (hdg : decode cc pc = .ok (.putfield index, 3))
    (kk : ∀ (H1 : Heap) (locs1 : List Loc), hv_I G h0 s.heap (va_up h a (some (.inr (ci, fs.set k v)))) H1 locs1 → W p l e R s m args below meth c H1 locs1 cells slots Q (F0 m (pc + 3) ls rest)) : W p l e R s m args below meth c H locs cells slots Q (F0 m pc ls (v :: .ref a :: rest)) := by
  obtain ⟨⟨hx, hb, hml, hown, hts⟩, -, -, hX⟩ := hE
  obtain ⟨ws, hP, hD, hget, hset, -⟩ := hv_list hI
  obtain ⟨j, hj⟩ := hget _ _ ha
  exact va_putN hx hb hts hin ty0 hty hnm hown hX.1 hP hD hI.2.1 j hj hc k hk hlink hsame hfin hd hn hfit hl hdg fun H1 locs1 hP1 _ hS1 => kk H1 locs1 (hv_setI hI ha (hset j _ _ _ H1 hj hP1) hS1)
theorem hv_putF {ref C : String} {T : u_T} {N ci index : Nat} {fs : List Value} {v : Value} (ty0 : Nat → FieldType) (hE : hv_E p s m args meth c cc nL ret own G h0) (hI : hv_I G h0 s.heap h H locs) (hin : ∀ w ∈ u_ws C T N, w ∈ lw_all) (hty : ∀ k, k < N → parseFieldDescriptor (T k).2.2.1 = some (ty0 k)) (hnm : ∀ a, a < N → ∀ b, b < N → a ≠ b → (T a).2.1 ≠ (T b).2.1) (hc : hv_cl[ci]? = some (C, T, N)) (k : Nat) (hk : k < N) (hlink : (Cond.fieldLink own index ref (T k).2.1 (T k).2.2.1).before args s = true) (hsame : ∀ x, s.fieldFound? (T k).1 (T k).2.1 (T k).2.2.1 = some x → s.fieldFound? ref (T k).2.1 (T k).2.2.1 = some x) (hfin : (T k).2.2.2 = true) (hin2 : meth.name = "<init>") (hdecl : (T k).1 = own) {ty : FieldType} (hd : parseFieldDescriptor (T k).2.2.1 = some ty) (hn : narrow ty v = v) (hfit : fits ty v = true) (ha : h a = some (.inr (ci, fs))) (hl : k < fs.length) (hdg : decode cc pc = .ok (.putfield index, 3))
    (kk : ∀ (H1 : Heap) (locs1 : List Loc), hv_I G h0 s.heap (va_up h a (some (.inr (ci, fs.set k v)))) H1 locs1 → W p l e R s m args below meth c H1 locs1 cells slots Q (F0 m (pc + 3) ls rest)) : W p l e R s m args below meth c H locs cells slots Q (F0 m pc ls (v :: .ref a :: rest)) := by
  obtain ⟨⟨hx, hb, hml, hown, hts⟩, -, -, hX⟩ := hE
  obtain ⟨ws, hP, hD, hget, hset, -⟩ := hv_list hI
  obtain ⟨j, hj⟩ := hget _ _ ha
  exact va_putF hx hb hts hin ty0 hty hnm hown hX.1 hP hD hI.2.1 j hj hc k hk hlink hsame hfin hin2 hdecl hd hn hfit hl hdg fun H1 locs1 hP1 _ hS1 => kk H1 locs1 (hv_setI hI ha (hset j _ _ _ H1 hj hP1) hS1)
theorem hv_new {C : String} {T : u_T} {N ci index : Nat} (ty : Nat → FieldType) (hE : hv_E p s m args meth c cc nL ret own G h0) (hI : hv_I G h0 s.heap h H locs) (hin : ∀ w ∈ u_ws C T N, w ∈ lw_all) (hty : ∀ k, k < N → parseFieldDescriptor (T k).2.2.1 = some (ty k)) (hcl : (Cond.classLink own index C).before args s = true) (hinst : (Cond.instantiable C N).before args s = true) (hini : (Cond.initialized C).before args s = true) (hc : hv_cl[ci]? = some (C, T, N)) {fs : List Value} (hfs : ∀ j, j < N → defaultValue (ty j) = vp_V fs j) (hcells : cells + 1 ≤ R.cells) (hslots : slots + N ≤ R.slots) (hdg : decode cc pc = .ok (.new index, 3))
    (kk : ∀ (q : Nat) (H1 : Heap), h q = none → hv_I G h0 s.heap (va_up h q (some (.inr (ci, fs)))) H1 locs → W p l e R s m args below meth c H1 locs (cells + 1) (slots + N) Q (F0 m (pc + 3) ls (.ref q :: rest))) : W p l e R s m args below meth c H locs cells slots Q (F0 m pc ls rest) := by
  obtain ⟨⟨hx, hb, hml, hown, hts⟩, -, -, hX⟩ := hE
  obtain ⟨ws, hP, hD, hget, -, hpush⟩ := hv_list hI
  exact va_new hx hb hts hin ty hty hown hcl hinst hini hX.1 hP hD hI.2.1 (fun _ => hv_A_new) hc hfs hcells hslots hdg fun q H1 hP1 hD1 hS1 => kk q H1 (hpush q _ H1 hD1 hP1).1 (hv_newI hI (hv_DA hD1) (hpush q _ H1 hD1 hP1).2 hS1)

theorem hv_ild {n : Nat} {f : Nat → Int32} (hE : hv_E p s m args meth c cc nL ret own G h0) (hI : hv_I G h0 s.heap h H locs) (ha : h a = some (.inl (G.2.1 0, n, .inl f))) {i : Int32} (hin : vp_in i n) (hdg : decode cc pc = .ok (.iaload, 1))
    (kk : W p l e R s m args below meth c H locs cells slots Q (F0 m (pc + 1) ls (.int (f i.toNatClampNeg) :: rest))) : W p l e R s m args below meth c H locs cells slots Q (F0 m pc ls (.int i :: .ref a :: rest)) := by
  obtain ⟨⟨hx, hb, hml, hown, hts⟩, -, -, hX⟩ := hE
  exact va_iald hx hb hX.1 (hv_one hI ha) 0 0 rfl rfl hin hdg kk
theorem hv_ist {n : Nat} {f : Nat → Int32} (hE : hv_E p s m args meth c cc nL ret own G h0) (hI : hv_I G h0 s.heap h H locs) (ha : h a = some (.inl (G.2.1 0, n, .inl f))) {i : Int32} {x : Int32} (hin : vp_in i n) (hdg : decode cc pc = .ok (.iastore, 1))
    (kk : ∀ (H1 : Heap) (locs1 : List Loc), hv_I G h0 s.heap (va_up h a (some (.inl (G.2.1 0, n, .inl (upd f i.toNatClampNeg x))))) H1 locs1 → W p l e R s m args below meth c H1 locs1 cells slots Q (F0 m (pc + 1) ls rest)) : W p l e R s m args below meth c H locs cells slots Q (F0 m pc ls (.int x :: .int i :: .ref a :: rest)) := by
  obtain ⟨⟨hx, hb, hml, hown, hts⟩, -, -, hX⟩ := hE
  obtain ⟨ws, hP, hD, hget, hset, -⟩ := hv_list hI
  obtain ⟨j, hj⟩ := hget _ _ ha
  exact va_iast hx hb hX.1 hP hD hI.2.1 j 0 hj rfl hin hdg fun H1 locs1 hP1 _ hS1 => kk H1 locs1 (hv_setI hI ha (hset j _ _ _ H1 hj hP1) hS1)
theorem hv_bld {n : Nat} {f : Nat → Int32} (hE : hv_E p s m args meth c cc nL ret own G h0) (hI : hv_I G h0 s.heap h H locs) (ha : h a = some (.inl (G.2.1 1, n, .inl f))) {i : Int32} (hin : vp_in i n) (hdg : decode cc pc = .ok (.baload, 1))
    (kk : W p l e R s m args below meth c H locs cells slots Q (F0 m (pc + 1) ls (.int (f i.toNatClampNeg) :: rest))) : W p l e R s m args below meth c H locs cells slots Q (F0 m pc ls (.int i :: .ref a :: rest)) := by
  obtain ⟨⟨hx, hb, hml, hown, hts⟩, -, -, hX⟩ := hE
  exact va_bald hx hb hX.1 (hv_one hI ha) 0 1 rfl rfl hin hdg kk
theorem hv_bst {n : Nat} {f : Nat → Int32} (hE : hv_E p s m args meth c cc nL ret own G h0) (hI : hv_I G h0 s.heap h H locs) (ha : h a = some (.inl (G.2.1 1, n, .inl f))) {i : Int32} {x : Int32} (hin : vp_in i n) (hdg : decode cc pc = .ok (.bastore, 1))
    (kk : ∀ (H1 : Heap) (locs1 : List Loc), hv_I G h0 s.heap (va_up h a (some (.inl (G.2.1 1, n, .inl (upd f i.toNatClampNeg (vp_nar .byte x)))))) H1 locs1 → W p l e R s m args below meth c H1 locs1 cells slots Q (F0 m (pc + 1) ls rest)) : W p l e R s m args below meth c H locs cells slots Q (F0 m pc ls (.int x :: .int i :: .ref a :: rest)) := by
  obtain ⟨⟨hx, hb, hml, hown, hts⟩, -, -, hX⟩ := hE
  obtain ⟨ws, hP, hD, hget, hset, -⟩ := hv_list hI
  obtain ⟨j, hj⟩ := hget _ _ ha
  exact va_bast hx hb hX.1 hP hD hI.2.1 j 1 hj rfl hin hdg fun H1 locs1 hP1 _ hS1 => kk H1 locs1 (hv_setI hI ha (hset j _ _ _ H1 hj hP1) hS1)
theorem hv_zld {n : Nat} {f : Nat → Int32} (hE : hv_E p s m args meth c cc nL ret own G h0) (hI : hv_I G h0 s.heap h H locs) (ha : h a = some (.inl (G.2.1 3, n, .inl f))) {i : Int32} (hin : vp_in i n) (hdg : decode cc pc = .ok (.baload, 1))
    (kk : W p l e R s m args below meth c H locs cells slots Q (F0 m (pc + 1) ls (.int (f i.toNatClampNeg) :: rest))) : W p l e R s m args below meth c H locs cells slots Q (F0 m pc ls (.int i :: .ref a :: rest)) := by
  obtain ⟨⟨hx, hb, hml, hown, hts⟩, -, -, hX⟩ := hE
  exact va_zald hx hb hX.1 (hv_one hI ha) 0 3 rfl rfl hin hdg kk
theorem hv_zst {n : Nat} {f : Nat → Int32} (hE : hv_E p s m args meth c cc nL ret own G h0) (hI : hv_I G h0 s.heap h H locs) (ha : h a = some (.inl (G.2.1 3, n, .inl f))) {i : Int32} {x : Int32} (hin : vp_in i n) (hdg : decode cc pc = .ok (.bastore, 1))
    (kk : ∀ (H1 : Heap) (locs1 : List Loc), hv_I G h0 s.heap (va_up h a (some (.inl (G.2.1 3, n, .inl (upd f i.toNatClampNeg (vp_nar .boolean x)))))) H1 locs1 → W p l e R s m args below meth c H1 locs1 cells slots Q (F0 m (pc + 1) ls rest)) : W p l e R s m args below meth c H locs cells slots Q (F0 m pc ls (.int x :: .int i :: .ref a :: rest)) := by
  obtain ⟨⟨hx, hb, hml, hown, hts⟩, -, -, hX⟩ := hE
  obtain ⟨ws, hP, hD, hget, hset, -⟩ := hv_list hI
  obtain ⟨j, hj⟩ := hget _ _ ha
  exact va_zast hx hb hX.1 hP hD hI.2.1 j 3 hj rfl hin hdg fun H1 locs1 hP1 _ hS1 => kk H1 locs1 (hv_setI hI ha (hset j _ _ _ H1 hj hP1) hS1)
theorem hv_fld {n : Nat} {f : Nat → UInt32} (hE : hv_E p s m args meth c cc nL ret own G h0) (hI : hv_I G h0 s.heap h H locs) (ha : h a = some (.inl (G.2.1 2, n, .inr (.inr (.inl f))))) {i : Int32} (hin : vp_in i n) (hdg : decode cc pc = .ok (.faload, 1))
    (kk : W p l e R s m args below meth c H locs cells slots Q (F0 m (pc + 1) ls (.float (f i.toNatClampNeg) :: rest))) : W p l e R s m args below meth c H locs cells slots Q (F0 m pc ls (.int i :: .ref a :: rest)) := by
  obtain ⟨⟨hx, hb, hml, hown, hts⟩, -, -, hX⟩ := hE
  exact va_fald hx hb hX.1 (hv_one hI ha) 0 2 rfl rfl hin hdg kk
theorem hv_fst {n : Nat} {f : Nat → UInt32} (hE : hv_E p s m args meth c cc nL ret own G h0) (hI : hv_I G h0 s.heap h H locs) (ha : h a = some (.inl (G.2.1 2, n, .inr (.inr (.inl f))))) {i : Int32} {x : UInt32} (hin : vp_in i n) (hdg : decode cc pc = .ok (.fastore, 1))
    (kk : ∀ (H1 : Heap) (locs1 : List Loc), hv_I G h0 s.heap (va_up h a (some (.inl (G.2.1 2, n, .inr (.inr (.inl (vf_upd f i.toNatClampNeg x))))))) H1 locs1 → W p l e R s m args below meth c H1 locs1 cells slots Q (F0 m (pc + 1) ls rest)) : W p l e R s m args below meth c H locs cells slots Q (F0 m pc ls (.float x :: .int i :: .ref a :: rest)) := by
  obtain ⟨⟨hx, hb, hml, hown, hts⟩, -, -, hX⟩ := hE
  obtain ⟨ws, hP, hD, hget, hset, -⟩ := hv_list hI
  obtain ⟨j, hj⟩ := hget _ _ ha
  exact va_fast hx hb hX.1 hP hD hI.2.1 j 2 hj rfl hin hdg fun H1 locs1 hP1 _ hS1 => kk H1 locs1 (hv_setI hI ha (hset j _ _ _ H1 hj hP1) hS1)
theorem hv_lld {n : Nat} {f : Nat → Int64} (hE : hv_E p s m args meth c cc nL ret own G h0) (hI : hv_I G h0 s.heap h H locs) (ha : h a = some (.inl (G.2.1 4, n, .inr (.inl f)))) {i : Int32} (hin : vp_in i n) (hdg : decode cc pc = .ok (.laload, 1))
    (kk : W p l e R s m args below meth c H locs cells slots Q (F0 m (pc + 1) ls (.long (f i.toNatClampNeg) :: rest))) : W p l e R s m args below meth c H locs cells slots Q (F0 m pc ls (.int i :: .ref a :: rest)) := by
  obtain ⟨⟨hx, hb, hml, hown, hts⟩, -, -, hX⟩ := hE
  exact va_lald hx hb hX.1 (hv_one hI ha) 0 4 rfl rfl hin hdg kk
theorem hv_lst {n : Nat} {f : Nat → Int64} (hE : hv_E p s m args meth c cc nL ret own G h0) (hI : hv_I G h0 s.heap h H locs) (ha : h a = some (.inl (G.2.1 4, n, .inr (.inl f)))) {i : Int32} {x : Int64} (hin : vp_in i n) (hdg : decode cc pc = .ok (.lastore, 1))
    (kk : ∀ (H1 : Heap) (locs1 : List Loc), hv_I G h0 s.heap (va_up h a (some (.inl (G.2.1 4, n, .inr (.inl (vp_updL f i.toNatClampNeg x)))))) H1 locs1 → W p l e R s m args below meth c H1 locs1 cells slots Q (F0 m (pc + 1) ls rest)) : W p l e R s m args below meth c H locs cells slots Q (F0 m pc ls (.long x :: .int i :: .ref a :: rest)) := by
  obtain ⟨⟨hx, hb, hml, hown, hts⟩, -, -, hX⟩ := hE
  obtain ⟨ws, hP, hD, hget, hset, -⟩ := hv_list hI
  obtain ⟨j, hj⟩ := hget _ _ ha
  exact va_last hx hb hX.1 hP hD hI.2.1 j 4 hj rfl hin hdg fun H1 locs1 hP1 _ hS1 => kk H1 locs1 (hv_setI hI ha (hset j _ _ _ H1 hj hP1) hS1)
theorem hv_dld {n : Nat} {f : Nat → UInt64} (hE : hv_E p s m args meth c cc nL ret own G h0) (hI : hv_I G h0 s.heap h H locs) (ha : h a = some (.inl (G.2.1 5, n, .inr (.inr (.inr (.inl f)))))) {i : Int32} (hin : vp_in i n) (hdg : decode cc pc = .ok (.daload, 1))
    (kk : W p l e R s m args below meth c H locs cells slots Q (F0 m (pc + 1) ls (.double (f i.toNatClampNeg) :: rest))) : W p l e R s m args below meth c H locs cells slots Q (F0 m pc ls (.int i :: .ref a :: rest)) := by
  obtain ⟨⟨hx, hb, hml, hown, hts⟩, -, -, hX⟩ := hE
  exact va_dald hx hb hX.1 (hv_one hI ha) 0 5 rfl rfl hin hdg kk
theorem hv_dst {n : Nat} {f : Nat → UInt64} (hE : hv_E p s m args meth c cc nL ret own G h0) (hI : hv_I G h0 s.heap h H locs) (ha : h a = some (.inl (G.2.1 5, n, .inr (.inr (.inr (.inl f)))))) {i : Int32} {x : UInt64} (hin : vp_in i n) (hdg : decode cc pc = .ok (.dastore, 1))
    (kk : ∀ (H1 : Heap) (locs1 : List Loc), hv_I G h0 s.heap (va_up h a (some (.inl (G.2.1 5, n, .inr (.inr (.inr (.inl (vf_upd f i.toNatClampNeg x)))))))) H1 locs1 → W p l e R s m args below meth c H1 locs1 cells slots Q (F0 m (pc + 1) ls rest)) : W p l e R s m args below meth c H locs cells slots Q (F0 m pc ls (.double x :: .int i :: .ref a :: rest)) := by
  obtain ⟨⟨hx, hb, hml, hown, hts⟩, -, -, hX⟩ := hE
  obtain ⟨ws, hP, hD, hget, hset, -⟩ := hv_list hI
  obtain ⟨j, hj⟩ := hget _ _ ha
  exact va_dast hx hb hX.1 hP hD hI.2.1 j 5 hj rfl hin hdg fun H1 locs1 hP1 _ hS1 => kk H1 locs1 (hv_setI hI ha (hset j _ _ _ H1 hj hP1) hS1)
theorem hv_bldT {t : Nat} {f : Nat → Int32} (hE : hv_E p s m args meth c cc nL ret own G h0) (hI : hv_I G h0 s.heap h H locs) (hT : va_T .byte t 100 (fun j => .int (f j)) (hv_A h0 s.heap.size) s s.heap) {i : Int32} (hin : vp_in i 100) (hdg : decode cc pc = .ok (.baload, 1))
    (kk : W p l e R s m args below meth c H locs cells slots Q (F0 m (pc + 1) ls (.int (f i.toNatClampNeg) :: rest))) : W p l e R s m args below meth c H locs cells slots Q (F0 m pc ls (.int i :: .ref t :: rest)) := by
  obtain ⟨⟨hx, hb, hml, hown, hts⟩, -, -, hX⟩ := hE
  exact va_tb hx hb hT hI.2.1 hin rfl hdg kk
theorem hv_qld {n : Nat} {f : Nat → Option Nat} (hE : hv_E p s m args meth c cc nL ret own G h0) (hI : hv_I G h0 s.heap h H locs) (ha : h a = some (.inl (G.2.1 6, n, .inr (.inr (.inr (.inr f)))))) {i : Int32} (hin : vp_in i n) {v : Option Nat} (hv : f i.toNatClampNeg = v) (hdg : decode cc pc = .ok (.aaload, 1))
    (kk : W p l e R s m args below meth c H locs cells slots Q (F0 m (pc + 1) ls (va_rf v :: rest))) : W p l e R s m args below meth c H locs cells slots Q (F0 m pc ls (.int i :: .ref a :: rest)) := by
  subst hv
  obtain ⟨⟨hx, hb, hml, hown, hts⟩, -, -, hX⟩ := hE
  exact va_aldq hx hb hX.1 (hv_one hI ha) 0 6 rfl rfl hin hdg kk
theorem hv_asg {s : State} {C T : String} (h : va_Nw (.castable C T) s) : ∀ comp c0 : ClassId, s.vm.findClass T = some comp → s.vm.findClass C = some c0 → s.vm.assignable c0 comp = true := by
  intro comp c0 h1 h2
  obtain ⟨c3, c4, h3, h4, h5⟩ := Cond.castable_spec (h.use rfl (A := #[]))
  cases Option.some.inj (h1.symm.trans h4)
  cases Option.some.inj (h2.symm.trans h3)
  exact h5
theorem hv_nm (hX : hv_X G h0 s) {t : Nat} {ty : FieldType} (ht : (hv_tys G)[t]? = some (G.2.1 t, ty)) (hp : refKind ty = false) : s.vm.findClass ("[" ++ ty.toString) = some (G.2.1 t) := by
  have h := (hX.1.2 t _ ht).2
  cases ty <;> first | exact h | exact absurd hp (by simp [refKind])
theorem hv_anyA (hX : hv_X G h0 s) (hI : hv_I G h0 s.heap h H locs) {y t : Nat} {ty : FieldType} {x : vp_A} {C : String} (ht : (hv_tys G)[t]? = some (G.2.1 t, ty)) (hp : refKind ty = false) (hC : "[" ++ ty.toString = C) (hca : va_Nw (.castable C "java/lang/Object") s) (hy : h y = some (.inl (G.2.1 t, x))) : va_Any "java/lang/Object" s H y := by
  have h1 : H[y]? = some (vp_cell (G.2.1 t) x) := hI.1 _ _ hy
  have h2 := hv_nm hX ht hp
  rw [hC] at h2
  have h3 : (vp_cell (G.2.1 t) x).cls = G.2.1 t := by obtain ⟨n, f | f | f | f | f⟩ := x <;> rfl
  have h4 : (vp_cell (G.2.1 t) x).vm.isStatics = false := by obtain ⟨n, f | f | f | f | f⟩ := x <;> rfl
  obtain ⟨kC, hkC, -⟩ := Vm.findClass_spec h2
  exact ⟨_, h1, h4, ⟨kC, by rw [h3]; exact hkC⟩, fun comp h => by rw [h3]; exact hv_asg hca comp _ h h2⟩
theorem hv_any (hE : hv_E p s m args meth c cc nL ret own G h0) (hI : hv_I G h0 s.heap h H locs) {y : Nat} (hy : ∃ e, h y = some e ∧ hv_ob G e) : va_Any "java/lang/Object" s H y := by
  obtain ⟨e, hy, ho⟩ := hy
  have hX := hE.2.2.2
  rcases ho with ⟨ci, fs, hci, rfl⟩ | ⟨n, f, rfl⟩ | ⟨n, f, rfl⟩
  · exact (by
      match ci, hci with
      | 0, _ => exact va_rAny hX.1 (hv_one hI hy) (q0 := 0) rfl rfl (hv_asg (hX.2.1.C 9 rfl))
      | 1, _ => exact va_rAny hX.1 (hv_one hI hy) (q0 := 0) rfl rfl (hv_asg (hX.2.1.C 0 rfl))
      | 2, _ => exact va_rAny hX.1 (hv_one hI hy) (q0 := 0) rfl rfl (hv_asg (hX.2.1.C 1 rfl))
      | 3, _ => exact va_rAny hX.1 (hv_one hI hy) (q0 := 0) rfl rfl (hv_asg (hX.2.1.C 2 rfl))
      | 4, _ => exact va_rAny hX.1 (hv_one hI hy) (q0 := 0) rfl rfl (hv_asg (hX.2.1.C 3 rfl))
      | 5, _ => exact va_rAny hX.1 (hv_one hI hy) (q0 := 0) rfl rfl (hv_asg (hX.2.1.C 4 rfl))
      | 6, _ => exact va_rAny hX.1 (hv_one hI hy) (q0 := 0) rfl rfl (hv_asg (hX.2.1.C 6 rfl))
      | 7, _ => exact va_rAny hX.1 (hv_one hI hy) (q0 := 0) rfl rfl (hv_asg (hX.2.1.C 8 rfl))
      | 8, _ => exact va_rAny hX.1 (hv_one hI hy) (q0 := 0) rfl rfl (hv_asg (hX.2.1.C 10 rfl))
      | 9, _ => exact va_rAny hX.1 (hv_one hI hy) (q0 := 0) rfl rfl (hv_asg (hX.2.1.C 11 rfl))
      | 10, _ => exact va_rAny hX.1 (hv_one hI hy) (q0 := 0) rfl rfl (hv_asg (hX.2.1.C 14 rfl))
      | 11, _ => exact va_rAny hX.1 (hv_one hI hy) (q0 := 0) rfl rfl (hv_asg (hX.2.1.C 15 rfl))
      | 12, _ => exact va_rAny hX.1 (hv_one hI hy) (q0 := 0) rfl rfl (hv_asg (hX.2.1.C 16 rfl))
      | 13, _ => exact va_rAny hX.1 (hv_one hI hy) (q0 := 0) rfl rfl (hv_asg (hX.2.1.C 20 rfl))
      | 14, _ => exact va_rAny hX.1 (hv_one hI hy) (q0 := 0) rfl rfl (hv_asg (hX.2.1.C 23 rfl))
      | 15, _ => exact va_rAny hX.1 (hv_one hI hy) (q0 := 0) rfl rfl (hv_asg (hX.2.1.C 25 rfl))
      | 16, _ => exact va_rAny hX.1 (hv_one hI hy) (q0 := 0) rfl rfl (hv_asg (hX.2.1.C 32 rfl))
      | k + 17, h => exact absurd h (by omega))
  · exact hv_anyA hX hI (t := 0) rfl rfl (C := "[I") (by decide +kernel) (hX.2.1.C 43 rfl) hy
  · exact hv_anyA hX hI (t := 2) rfl rfl (C := "[F") (by decide +kernel) (hX.2.1.C 47 rfl) hy
theorem hv_qst {n : Nat} {f : Nat → Option Nat} (hE : hv_E p s m args meth c cc nL ret own G h0) (hI : hv_I G h0 s.heap h H locs) (ha : h a = some (.inl (G.2.1 6, n, .inr (.inr (.inr (.inr f)))))) {i : Int32} {x : Option Nat} (hin : vp_in i n) (hob : ∀ y, x = some y → ∃ e, h y = some e ∧ hv_ob G e) (hdg : decode cc pc = .ok (.aastore, 1))
    (kk : ∀ (H1 : Heap) (locs1 : List Loc), hv_I G h0 s.heap (va_up h a (some (.inl (G.2.1 6, n, .inr (.inr (.inr (.inr (va_up f i.toNatClampNeg x)))))))) H1 locs1 → W p l e R s m args below meth c H1 locs1 cells slots Q (F0 m (pc + 1) ls rest)) : W p l e R s m args below meth c H locs cells slots Q (F0 m pc ls (va_rf x :: .int i :: .ref a :: rest)) := by
  have hany : ∀ y, x = some y → va_Any "java/lang/Object" s H y := fun y hy => hv_any hE hI (hob y hy)
  obtain ⟨⟨hx, hb, hml, hown, hts⟩, -, -, hX⟩ := hE
  obtain ⟨ws, hP, hD, hget, hset, -⟩ := hv_list hI
  obtain ⟨j, hj⟩ := hget _ _ ha
  cases x with
  | none => exact va_astqN hx hb hX.1 hP hD hI.2.1 j 6 hj rfl hin hdg fun H1 locs1 hP1 _ hS1 => kk H1 locs1 (hv_setI hI ha (hset j _ _ _ H1 hj hP1) hS1)
  | some y => exact va_astqM hx hb hX.1 hP hD hI.2.1 j 6 hj rfl (hany y rfl) hin hdg fun H1 locs1 hP1 _ hS1 => kk H1 locs1 (hv_setI hI ha (hset j _ _ _ H1 hj hP1) hS1)
theorem hv_alen {t : Nat} {x : vp_A} (hE : hv_E p s m args meth c cc nL ret own G h0) (hI : hv_I G h0 s.heap h H locs) (ht : t < 7) (ha : h a = some (.inl (G.2.1 t, x))) (hdg : decode cc pc = .ok (.arraylength, 1))
    (kk : W p l e R s m args below meth c H locs cells slots Q (F0 m (pc + 1) ls (.int (Int32.ofNat x.1) :: rest))) : W p l e R s m args below meth c H locs cells slots Q (F0 m pc ls (.ref a :: rest)) := by
  obtain ⟨⟨hx, hb, hml, hown, hts⟩, -, -, hX⟩ := hE
  obtain ⟨ty, hty⟩ : ∃ ty, (hv_tys G)[t]? = some (G.2.1 t, ty) := by
    match t, ht with
    | 0, _ => exact ⟨_, rfl⟩
    | 1, _ => exact ⟨_, rfl⟩
    | 2, _ => exact ⟨_, rfl⟩
    | 3, _ => exact ⟨_, rfl⟩
    | 4, _ => exact ⟨_, rfl⟩
    | 5, _ => exact ⟨_, rfl⟩
    | 6, _ => exact ⟨_, rfl⟩
  exact va_alen hx hb hX.1 (hv_one hI ha) 0 t rfl hty rfl hdg kk
theorem hv_lenT {ty : FieldType} {t N : Nat} {f : Nat → Value} (hE : hv_E p s m args meth c cc nL ret own G h0) (hI : hv_I G h0 s.heap h H locs) (hT : va_T ty t N f (hv_A h0 s.heap.size) s s.heap) {v : Int32} (hv : Int32.ofNat N = v) (hdg : decode cc pc = .ok (.arraylength, 1))
    (kk : W p l e R s m args below meth c H locs cells slots Q (F0 m (pc + 1) ls (.int v :: rest))) : W p l e R s m args below meth c H locs cells slots Q (F0 m pc ls (.ref t :: rest)) := by
  obtain ⟨⟨hx, hb, hml, hown, hts⟩, -, -, hX⟩ := hE
  exact va_tlen hx hb hT hI.2.1 hv hdg kk
/-- arraylength, all its cases -/
theorem hv_len {P : Int32 → Prop} (hE : hv_E p s m args meth c cc nL ret own G h0) (hI : hv_I G h0 s.heap h H locs) (hw : w_len G h a P) (hdg : decode cc pc = .ok (.arraylength, 1))
    (kk : ∀ v, P v → W p l e R s m args below meth c H locs cells slots Q (F0 m (pc + 1) ls (.int v :: rest))) : W p l e R s m args below meth c H locs cells slots Q (F0 m pc ls (.ref a :: rest)) := by
  rcases hw with ⟨t, x, ht, ha, hw⟩ | ⟨rfl, hw⟩ | ⟨rfl, hw⟩ | ⟨rfl, hw⟩
  · exact hv_alen hE hI ht ha hdg (kk _ hw)
  · exact hv_lenT hE hI (hv_zH hE).2.1 rfl hdg (kk _ hw)
  · exact hv_lenT hE hI (((hv_zH hE).2.2.2.2.2.2.2.2.2.2.2.2.2.1 0 (by decide)).2.2.2) rfl hdg (kk _ hw)
  · exact hv_lenT hE hI (((hv_zH hE).2.2.2.2.2.2.2.2.2.2.2.2.2.1 1 (by decide)).2.2.2) rfl hdg (kk _ hw)
theorem hv_bldw {i : Int32} {P : Int32 → Prop} (hE : hv_E p s m args meth c cc nL ret own G h0) (hI : hv_I G h0 s.heap h H locs) (hw : w_bld G h a i P) (hdg : decode cc pc = .ok (.baload, 1))
    (kk : ∀ v, P v → W p l e R s m args below meth c H locs cells slots Q (F0 m (pc + 1) ls (.int v :: rest))) : W p l e R s m args below meth c H locs cells slots Q (F0 m pc ls (.int i :: .ref a :: rest)) := by
  rcases hw with ⟨n, f, ha, hin, hw⟩ | ⟨rfl, hin, hw⟩ | ⟨rfl, hin, hw⟩
  · exact hv_bld hE hI ha hin hdg (kk _ hw)
  · exact hv_bldT hE hI (hv_zH hE).2.2.2.2.1 hin hdg (kk _ hw)
  · exact hv_bldT hE hI (hv_zH hE).2.2.2.2.2.2.1 hin hdg (kk _ hw)
theorem hv_newa_int {n : Int32} (hE : hv_E p s m args meth c cc nL ret own G h0) (hI : hv_I G h0 s.heap h H locs) (harr : (Cond.arrayClass (newarray.typeOf .int)).before args s = true) (hn : ¬ n < 0) (hbytes : n.toNatClampNeg ≤ 1000000) (hcells : cells + 1 ≤ R.cells) (hslots : slots + n.toNatClampNeg ≤ R.slots) (hdg : decode cc pc = .ok (.newarray .int, 2))
    (kk : ∀ (q : Nat) (H1 : Heap), h q = none → hv_I G h0 s.heap (va_up h q (some (.inl (G.2.1 0, n.toNatClampNeg, .inl (fun _ => 0))))) H1 locs → W p l e R s m args below meth c H1 locs (cells + 1) (slots + n.toNatClampNeg) Q (F0 m (pc + 2) ls (.ref q :: rest))) : W p l e R s m args below meth c H locs cells slots Q (F0 m pc ls (.int n :: rest)) := by
  obtain ⟨⟨hx, hb, hml, hown, hts⟩, -, -, hX⟩ := hE
  obtain ⟨ws, hP, hD, hget, -, hpush⟩ := hv_list hI
  refine va_newa (atype := .int) (ty := .int) (N' := n.toNatClampNeg) (a0 := (n.toNatClampNeg, .inl (fun _ => 0))) hx hb harr rfl hX.1 hP hD hI.2.1 (fun _ => hv_A_new) (fun _ => rfl) hn rfl (by show n.toNatClampNeg * 4 ≤ 536870912; omega) hcells hslots hdg fun q cA H1 hK1 hP1 hD1 hS1 => ?_
  have e1 : s.vm.findClass ("[" ++ FieldType.int.toString) = some cA := (hK1.2 7 _ rfl).2
  have e2 : s.vm.findClass ("[" ++ FieldType.int.toString) = some (G.2.1 0) := hv_nm (t := 0) hX rfl rfl
  cases Option.some.inj (e1.symm.trans e2)
  exact kk q H1 (hpush q _ H1 hD1 hP1).1 (hv_newI hI (hv_DA hD1) (hpush q _ H1 hD1 hP1).2 hS1)
theorem hv_newa_byte {n : Int32} (hE : hv_E p s m args meth c cc nL ret own G h0) (hI : hv_I G h0 s.heap h H locs) (harr : (Cond.arrayClass (newarray.typeOf .byte)).before args s = true) (hn : ¬ n < 0) (hbytes : n.toNatClampNeg ≤ 1000000) (hcells : cells + 1 ≤ R.cells) (hslots : slots + n.toNatClampNeg ≤ R.slots) (hdg : decode cc pc = .ok (.newarray .byte, 2))
    (kk : ∀ (q : Nat) (H1 : Heap), h q = none → hv_I G h0 s.heap (va_up h q (some (.inl (G.2.1 1, n.toNatClampNeg, .inl (fun _ => 0))))) H1 locs → W p l e R s m args below meth c H1 locs (cells + 1) (slots + n.toNatClampNeg) Q (F0 m (pc + 2) ls (.ref q :: rest))) : W p l e R s m args below meth c H locs cells slots Q (F0 m pc ls (.int n :: rest)) := by
  obtain ⟨⟨hx, hb, hml, hown, hts⟩, -, -, hX⟩ := hE
  obtain ⟨ws, hP, hD, hget, -, hpush⟩ := hv_list hI
  refine va_newa (atype := .byte) (ty := .byte) (N' := n.toNatClampNeg) (a0 := (n.toNatClampNeg, .inl (fun _ => 0))) hx hb harr rfl hX.1 hP hD hI.2.1 (fun _ => hv_A_new) (fun _ => rfl) hn rfl (by show n.toNatClampNeg * 1 ≤ 536870912; omega) hcells hslots hdg fun q cA H1 hK1 hP1 hD1 hS1 => ?_
  have e1 : s.vm.findClass ("[" ++ FieldType.byte.toString) = some cA := (hK1.2 7 _ rfl).2
  have e2 : s.vm.findClass ("[" ++ FieldType.byte.toString) = some (G.2.1 1) := hv_nm (t := 1) hX rfl rfl
  cases Option.some.inj (e1.symm.trans e2)
  exact kk q H1 (hpush q _ H1 hD1 hP1).1 (hv_newI hI (hv_DA hD1) (hpush q _ H1 hD1 hP1).2 hS1)
theorem hv_newa_float {n : Int32} (hE : hv_E p s m args meth c cc nL ret own G h0) (hI : hv_I G h0 s.heap h H locs) (harr : (Cond.arrayClass (newarray.typeOf .float)).before args s = true) (hn : ¬ n < 0) (hbytes : n.toNatClampNeg ≤ 1000000) (hcells : cells + 1 ≤ R.cells) (hslots : slots + n.toNatClampNeg ≤ R.slots) (hdg : decode cc pc = .ok (.newarray .float, 2))
    (kk : ∀ (q : Nat) (H1 : Heap), h q = none → hv_I G h0 s.heap (va_up h q (some (.inl (G.2.1 2, n.toNatClampNeg, .inr (.inr (.inl (fun _ => 0))))))) H1 locs → W p l e R s m args below meth c H1 locs (cells + 1) (slots + n.toNatClampNeg) Q (F0 m (pc + 2) ls (.ref q :: rest))) : W p l e R s m args below meth c H locs cells slots Q (F0 m pc ls (.int n :: rest)) := by
  obtain ⟨⟨hx, hb, hml, hown, hts⟩, -, -, hX⟩ := hE
  obtain ⟨ws, hP, hD, hget, -, hpush⟩ := hv_list hI
  refine va_newa (atype := .float) (ty := .float) (N' := n.toNatClampNeg) (a0 := (n.toNatClampNeg, .inr (.inr (.inl (fun _ => 0))))) hx hb harr rfl hX.1 hP hD hI.2.1 (fun _ => hv_A_new) (fun _ => rfl) hn rfl (by show n.toNatClampNeg * 4 ≤ 536870912; omega) hcells hslots hdg fun q cA H1 hK1 hP1 hD1 hS1 => ?_
  have e1 : s.vm.findClass ("[" ++ FieldType.float.toString) = some cA := (hK1.2 7 _ rfl).2
  have e2 : s.vm.findClass ("[" ++ FieldType.float.toString) = some (G.2.1 2) := hv_nm (t := 2) hX rfl rfl
  cases Option.some.inj (e1.symm.trans e2)
  exact kk q H1 (hpush q _ H1 hD1 hP1).1 (hv_newI hI (hv_DA hD1) (hpush q _ H1 hD1 hP1).2 hS1)
theorem hv_newa_boolean {n : Int32} (hE : hv_E p s m args meth c cc nL ret own G h0) (hI : hv_I G h0 s.heap h H locs) (harr : (Cond.arrayClass (newarray.typeOf .boolean)).before args s = true) (hn : ¬ n < 0) (hbytes : n.toNatClampNeg ≤ 1000000) (hcells : cells + 1 ≤ R.cells) (hslots : slots + n.toNatClampNeg ≤ R.slots) (hdg : decode cc pc = .ok (.newarray .boolean, 2))
    (kk : ∀ (q : Nat) (H1 : Heap), h q = none → hv_I G h0 s.heap (va_up h q (some (.inl (G.2.1 3, n.toNatClampNeg, .inl (fun _ => 0))))) H1 locs → W p l e R s m args below meth c H1 locs (cells + 1) (slots + n.toNatClampNeg) Q (F0 m (pc + 2) ls (.ref q :: rest))) : W p l e R s m args below meth c H locs cells slots Q (F0 m pc ls (.int n :: rest)) := by
  obtain ⟨⟨hx, hb, hml, hown, hts⟩, -, -, hX⟩ := hE
  obtain ⟨ws, hP, hD, hget, -, hpush⟩ := hv_list hI
  refine va_newa (atype := .boolean) (ty := .boolean) (N' := n.toNatClampNeg) (a0 := (n.toNatClampNeg, .inl (fun _ => 0))) hx hb harr rfl hX.1 hP hD hI.2.1 (fun _ => hv_A_new) (fun _ => rfl) hn rfl (by show n.toNatClampNeg * 1 ≤ 536870912; omega) hcells hslots hdg fun q cA H1 hK1 hP1 hD1 hS1 => ?_
  have e1 : s.vm.findClass ("[" ++ FieldType.boolean.toString) = some cA := (hK1.2 7 _ rfl).2
  have e2 : s.vm.findClass ("[" ++ FieldType.boolean.toString) = some (G.2.1 3) := hv_nm (t := 3) hX rfl rfl
  cases Option.some.inj (e1.symm.trans e2)
  exact kk q H1 (hpush q _ H1 hD1 hP1).1 (hv_newI hI (hv_DA hD1) (hpush q _ H1 hD1 hP1).2 hS1)
theorem hv_newa_long {n : Int32} (hE : hv_E p s m args meth c cc nL ret own G h0) (hI : hv_I G h0 s.heap h H locs) (harr : (Cond.arrayClass (newarray.typeOf .long)).before args s = true) (hn : ¬ n < 0) (hbytes : n.toNatClampNeg ≤ 1000000) (hcells : cells + 1 ≤ R.cells) (hslots : slots + n.toNatClampNeg ≤ R.slots) (hdg : decode cc pc = .ok (.newarray .long, 2))
    (kk : ∀ (q : Nat) (H1 : Heap), h q = none → hv_I G h0 s.heap (va_up h q (some (.inl (G.2.1 4, n.toNatClampNeg, .inr (.inl (fun _ => 0)))))) H1 locs → W p l e R s m args below meth c H1 locs (cells + 1) (slots + n.toNatClampNeg) Q (F0 m (pc + 2) ls (.ref q :: rest))) : W p l e R s m args below meth c H locs cells slots Q (F0 m pc ls (.int n :: rest)) := by
  obtain ⟨⟨hx, hb, hml, hown, hts⟩, -, -, hX⟩ := hE
  obtain ⟨ws, hP, hD, hget, -, hpush⟩ := hv_list hI
  refine va_newa (atype := .long) (ty := .long) (N' := n.toNatClampNeg) (a0 := (n.toNatClampNeg, .inr (.inl (fun _ => 0)))) hx hb harr rfl hX.1 hP hD hI.2.1 (fun _ => hv_A_new) (fun _ => rfl) hn rfl (by show n.toNatClampNeg * 8 ≤ 536870912; omega) hcells hslots hdg fun q cA H1 hK1 hP1 hD1 hS1 => ?_
  have e1 : s.vm.findClass ("[" ++ FieldType.long.toString) = some cA := (hK1.2 7 _ rfl).2
  have e2 : s.vm.findClass ("[" ++ FieldType.long.toString) = some (G.2.1 4) := hv_nm (t := 4) hX rfl rfl
  cases Option.some.inj (e1.symm.trans e2)
  exact kk q H1 (hpush q _ H1 hD1 hP1).1 (hv_newI hI (hv_DA hD1) (hpush q _ H1 hD1 hP1).2 hS1)
theorem hv_newa_double {n : Int32} (hE : hv_E p s m args meth c cc nL ret own G h0) (hI : hv_I G h0 s.heap h H locs) (harr : (Cond.arrayClass (newarray.typeOf .double)).before args s = true) (hn : ¬ n < 0) (hbytes : n.toNatClampNeg ≤ 1000000) (hcells : cells + 1 ≤ R.cells) (hslots : slots + n.toNatClampNeg ≤ R.slots) (hdg : decode cc pc = .ok (.newarray .double, 2))
    (kk : ∀ (q : Nat) (H1 : Heap), h q = none → hv_I G h0 s.heap (va_up h q (some (.inl (G.2.1 5, n.toNatClampNeg, .inr (.inr (.inr (.inl (fun _ => 0)))))))) H1 locs → W p l e R s m args below meth c H1 locs (cells + 1) (slots + n.toNatClampNeg) Q (F0 m (pc + 2) ls (.ref q :: rest))) : W p l e R s m args below meth c H locs cells slots Q (F0 m pc ls (.int n :: rest)) := by
  obtain ⟨⟨hx, hb, hml, hown, hts⟩, -, -, hX⟩ := hE
  obtain ⟨ws, hP, hD, hget, -, hpush⟩ := hv_list hI
  refine va_newa (atype := .double) (ty := .double) (N' := n.toNatClampNeg) (a0 := (n.toNatClampNeg, .inr (.inr (.inr (.inl (fun _ => 0)))))) hx hb harr rfl hX.1 hP hD hI.2.1 (fun _ => hv_A_new) (fun _ => rfl) hn rfl (by show n.toNatClampNeg * 8 ≤ 536870912; omega) hcells hslots hdg fun q cA H1 hK1 hP1 hD1 hS1 => ?_
  have e1 : s.vm.findClass ("[" ++ FieldType.double.toString) = some cA := (hK1.2 7 _ rfl).2
  have e2 : s.vm.findClass ("[" ++ FieldType.double.toString) = some (G.2.1 5) := hv_nm (t := 5) hX rfl rfl
  cases Option.some.inj (e1.symm.trans e2)
  exact kk q H1 (hpush q _ H1 hD1 hP1).1 (hv_newI hI (hv_DA hD1) (hpush q _ H1 hD1 hP1).2 hS1)
theorem hv_newq {index : Nat} {n : Int32} (hE : hv_E p s m args meth c cc nL ret own G h0) (hI : hv_I G h0 s.heap h H locs) (hcl : (Cond.classLink own index "java/lang/Object").before args s = true) (hn : ¬ n < 0) (hbytes : n.toNatClampNeg ≤ 1000000) (hcells : cells + 1 ≤ R.cells) (hslots : slots + n.toNatClampNeg ≤ R.slots) (hdg : decode cc pc = .ok (.anewarray index, 3))
    (kk : ∀ (q : Nat) (H1 : Heap), h q = none → hv_I G h0 s.heap (va_up h q (some (.inl (G.2.1 6, n.toNatClampNeg, .inr (.inr (.inr (.inr (fun _ => none)))))))) H1 locs → W p l e R s m args below meth c H1 locs (cells + 1) (slots + n.toNatClampNeg) Q (F0 m (pc + 3) ls (.ref q :: rest))) : W p l e R s m args below meth c H locs cells slots Q (F0 m pc ls (.int n :: rest)) := by
  obtain ⟨⟨hx, hb, hml, hown, hts⟩, -, -, hX⟩ := hE
  obtain ⟨ws, hP, hD, hget, -, hpush⟩ := hv_list hI
  refine va_newq (C := "java/lang/Object") hx hb hown hcl hX.2.1.2.2.2.2.2.2.1 hX.1 hP hD hI.2.1 (fun _ => hv_A_new) hn rfl (by omega) hcells hslots hdg fun q cA H1 hK1 hP1 hD1 hS1 => ?_
  obtain ⟨-, -, -, -, -, e1⟩ := (hK1.2 7 _ rfl).2
  obtain ⟨-, -, -, -, -, e2⟩ := (hX.1.2 6 _ rfl).2
  cases Option.some.inj (e1.symm.trans e2)
  exact kk q H1 (hpush q _ H1 hD1 hP1).1 (hv_newI hI (hv_DA hD1) (hpush q _ H1 hD1 hP1).2 hS1)
/-- checkcast of an object of just that class; of an array; of null -/
theorem hv_cast {nm : String} {index ci : Nat} {T : u_T} {N : Nat} {fs : List Value} (hE : hv_E p s m args meth c cc nL ret own G h0) (hI : hv_I G h0 s.heap h H locs) (hlink : (Cond.classLink own index nm).before args s = true) (hc : hv_cl[ci]? = some (nm, T, N)) (ha : h a = some (.inr (ci, fs))) (hdg : decode cc pc = .ok (.checkcast index, 3))
    (kk : W p l e R s m args below meth c H locs cells slots Q (F0 m (pc + 3) ls (.ref a :: rest))) : W p l e R s m args below meth c H locs cells slots Q (F0 m pc ls (.ref a :: rest)) :=
  va_castS hE.1.1 hE.1.2.1 hE.1.2.2.2.1 hlink (hE.2.2.2.1.1 ci _ hc).2 (hv_recv hE hI hc ha) hdg kk
theorem hv_castA {nm : String} {index t : Nat} {x : vp_A} {ty : FieldType} (hE : hv_E p s m args meth c cc nL ret own G h0) (hI : hv_I G h0 s.heap h H locs) (hlink : (Cond.classLink own index nm).before args s = true) (ht : (hv_tys G)[t]? = some (G.2.1 t, ty)) (hp : refKind ty = false) (hC : "[" ++ ty.toString = nm) (ha : h a = some (.inl (G.2.1 t, x))) (hdg : decode cc pc = .ok (.checkcast index, 3))
    (kk : W p l e R s m args below meth c H locs cells slots Q (F0 m (pc + 3) ls (.ref a :: rest))) : W p l e R s m args below meth c H locs cells slots Q (F0 m pc ls (.ref a :: rest)) := by
  have h2 := hv_nm hE.2.2.2 ht hp
  rw [hC] at h2
  exact va_castA hE.1.1 hE.1.2.1 hE.1.2.2.2.1 hlink (hv_one hI ha) 0 rfl h2 hdg kk
end HVS
