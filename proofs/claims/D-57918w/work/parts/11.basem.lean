/-! BASE of the reference: its world (the object and its nine int arrays), how its methods are entered, called, left. f: the int fields by place; g: the arrays by their field's place; h 0: the object, h k: the array of field k -/
set_option maxRecDepth 100000
abbrev pc_Cl : List vw_C := [(RX4, TX4, 22), (RX1, TX1, 8), (RX2, TX2, 9), (RX3, TX3, 2), (RX19, TX19, 3), (RX12, TX12, 5), (RX14, TX14, 2), (RX6, TX6, 7), (RX27, TX27, 8), (RJ3, TJ3, 3), (RJ1, TJ1, 3), (RJ21, TJ21, 4), (RJ9, TJ9, 4), (RJ10, TJ10, 4), (RX18, TX18, 7), (RX28, TX28, 7), (RX8, TX8, 7), (RX9, TX9, 7), (RX10, TX10, 7), (RX11, TX11, 7), (RX13, TX13, 7), (RX17, TX17, 8), (RX20, TX20, 8), (RX23, TX23, 8), (RX21, TX21, 1), (RX22, TX22, 1), (RX25, TX25, 4), (RX26, TX26, 4)]
def pm_W (h : Nat → Nat) (cI : ClassId) (f : Nat → Int32) (g : Nat → Nat → Int32) : va_W :=
  [(h 0, .inr (0, [.int (f 0), .ref (h 1), .ref (h 2), .ref (h 3), .ref (h 4), .ref (h 5), .int (f 6), .int (f 7), .ref (h 8), .ref (h 9), .int (f 10), .int (f 11), .int (f 12), .int (f 13), .int (f 14), .int (f 15), .int (f 16), .int (f 17), .ref (h 18), .int (f 19), .ref (h 20), .int (f 21)])),
   (h 1, .inl (cI, 101, .inl (g 1))), (h 2, .inl (cI, 101, .inl (g 2))), (h 3, .inl (cI, 101, .inl (g 3))), (h 4, .inl (cI, 101, .inl (g 4))), (h 5, .inl (cI, 808, .inl (g 5))), (h 8, .inl (cI, 256, .inl (g 8))), (h 9, .inl (cI, 500, .inl (g 9))), (h 18, .inl (cI, 80, .inl (g 18))), (h 20, .inl (cI, 40, .inl (g 20)))]
def pm_Pre (D : va_G) (h : Nat → Nat) (cI : ClassId) (f : Nat → Int32) (g : Nat → Nat → Int32) (sz : Nat) : State → Prop := fun U =>
  U.heap.size = sz ∧ va_P D pc_Cl (pm_W h cI f g) U.heap ∧ va_K D pc_Cl [(cI, .int)] U ∧ va_D (fun _ => True) (pm_W h cI f g)
def pm_Post (D : va_G) (h : Nat → Nat) (cI : ClassId) (f : Nat → Int32) (g : Nat → Nat → Int32) (sz : Nat) (rv : Option Value) (f' : Nat → Int32) (g' : Nat → Nat → Int32) : Array Value → State → Outcome → State → Prop := fun _ st oc t =>
  (oc = .returned rv ∧ va_P D pc_Cl (pm_W h cI f' g') t.heap ∧ va_D (va_A (pm_W h cI f g) sz) (pm_W h cI f' g')) ∧ va_F (va_A (pm_W h cI f g) sz) st t
/-- the contract of a method of the reference: from the world f, g it returns rv, in the world f', g' -/
def pm_C (l : Launch) (y : MethodName) (ws : List Cond) (rm : Room) (D : va_G) (h : Nat → Nat) (cI : ClassId) (As : List Value) (f : Nat → Int32) (g : Nat → Nat → Int32) (rv : Option Value) (f' : Nat → Int32) (g' : Nat → Nat → Int32) : Prop :=
  ∀ sz : Nat, Met l y ws rm (va_Pc As (pm_Pre D h cI f g sz)) (pm_Post D h cI f g sz rv f' g') 0 0 (va_A (pm_W h cI f g) sz)
theorem pm_blind {D : va_G} {h : Nat → Nat} {cI : ClassId} {As : List Value} {f : Nat → Int32} {g : Nat → Nat → Int32} {sz : Nat} : FrameBlind (va_Pc As (pm_Pre D h cI f g sz)) :=
  fun a U g mk q => by obtain ⟨q0, q1, qP, qK, qD⟩ := q; exact ⟨q0, q1, qP, va_K.moved (u := U) (U := U.calling g mk a) (Vm.Alike.refl U.vm) qK, qD⟩
theorem pm_enter {l : Launch} {y : MethodName} {cc : ByteArray} {maxL : Nat} {ret : Option FieldType} {rm : Room} {D : va_G} {h : Nat → Nat} {cI : ClassId} {As : List Value} {f f' : Nat → Int32} {g g' : Nat → Nat → Int32} {rv : Option Value} (hy : plainName y.cls = true) (hlen : (lg_sl As).length ≤ maxL)
    (body : ∀ (p : Program) (e : Env) (s : State) (m : MethodId) (below : List Frame) (meth : Method) (c : Code) (A : Nat → Prop) (Qc : Array Value → State → Outcome → State → Prop) (ls : Array Slot), p.tables.exec = Jvm.exec → c.code = cc → c.maxLocals = maxL → s.vm.findClass y.cls = some m.cls → (∀ w ∈ lw_all, w.before As.toArray s = true) → meth.locks = false → (∀ q : Nat, s.heap.size ≤ q → A q) → va_K D pc_Cl [(cI, .int)] s → va_P D pc_Cl (pm_W h cI f g) s.heap → va_D A (pm_W h cI f g) → va_S A s.heap s.heap [] → meth.sig.returnType = ret →
      (∀ (H : Heap) (locs : List Loc), va_P D pc_Cl (pm_W h cI f' g') H → va_D A (pm_W h cI f' g') → va_S A s.heap H locs → (∀ t : State, t.heap = H → s.WarmedH t.vm → Qc As.toArray s (.returned rv) t) ∧ ∀ q ∈ locs, A q.base) → lv_has ls maxL (lv_args 0 As) →
      W p l e rm s m As.toArray below meth c s.heap [] 0 0 (MQ below Qc As.toArray s 0 0 A) (F0 m 0 ls [])) :
    pm_C l y (ws_ y cc maxL ret) rm D h cI As f g rv f' g' := by
  intro sz
  refine Met.ofW (cc := cc) (maxL := maxL) (ret := ret) hy rfl ?_
  intro p e s m args below meth c s₁ B hml hv
  obtain ⟨rfl, hsz, hP, hK, hD0⟩ := hv
  have hts := atoms_spec (ws := ws_ y cc maxL ret) B.pre
  have hts : ∀ w ∈ lw_all, w.before _ s = true := fun w h => hts w (List.mem_cons_of_mem _ h)
  subst hsz
  have hD := hD0.self (sz := s.heap.size)
  have hl := lv_entry As (n := maxL) hlen
  rw [lg_entry_eq]
  generalize (lg_sl As ++ List.replicate (maxL - (lg_sl As).length) Slot.unset).toArray = ls at hl ⊢
  exact body p e s m below meth c _ _ ls B.exec B.bytes hml (findClass_of_methodNamed B.named) hts B.notSynchronized (fun q h => Or.inr h) hK hP hD va_S.rf B.returns
    (fun H locs hP hD hS => ⟨fun t ht hW => ⟨⟨rfl, by rw [ht]; exact hP, hD⟩, hS.F ht⟩, hS.2.2⟩) hl
section PMC
variable {p : Program} {l : Launch} {e : Env} {R : Room} {s : State} {m : MethodId} {args : Array Value} {below : List Frame} {meth : Method} {c : Code} {H : Heap} {locs : List Loc} {cells slots : Nat} {Q : State → Prop}
variable {cc : ByteArray} {pc nL : Nat} {ls : Array Slot} {rest st0 : List Value} {A : Nat → Prop} {Qc : Array Value → State → Outcome → State → Prop}
variable {D : va_G} {h : Nat → Nat} {cI : ClassId} {f f' f2 : Nat → Int32} {g g' g2 : Nat → Nat → Int32} {rv : Option Value}
theorem pm_retI {v r : Int32} (hx : p.tables.exec = Jvm.exec) (hb : c.code = cc) (hlk : meth.locks = false) (hr : meth.sig.returnType = some .int)
    (hq : ∀ (H : Heap) (locs : List Loc), va_P D pc_Cl (pm_W h cI f' g') H → va_D A (pm_W h cI f' g') → va_S A s.heap H locs → (∀ t : State, t.heap = H → s.WarmedH t.vm → Qc args s (.returned (some (.int r))) t) ∧ ∀ q ∈ locs, A q.base)
    (hP : va_P D pc_Cl (pm_W h cI f2 g2) H) (hD : va_D A (pm_W h cI f2 g2)) (hS : va_S A s.heap H locs) (hdg : decode cc pc = .ok (.ireturn, 1)) (er : v = r) (ew : pm_W h cI f2 g2 = pm_W h cI f' g') :
    W p l e R s m args below meth c H locs 0 0 (MQ below Qc args s 0 0 A) (F0 m pc ls [.int v]) := by
  subst er
  rw [ew] at hP hD
  exact W.iret hx hb hr (hq H locs hP hD hS).1 (hq H locs hP hD hS).2 hdg hlk
theorem pm_retZ {v : Int32} {b : Bool} (hx : p.tables.exec = Jvm.exec) (hb : c.code = cc) (hlk : meth.locks = false) (hr : meth.sig.returnType = some .boolean)
    (hq : ∀ (H : Heap) (locs : List Loc), va_P D pc_Cl (pm_W h cI f' g') H → va_D A (pm_W h cI f' g') → va_S A s.heap H locs → (∀ t : State, t.heap = H → s.WarmedH t.vm → Qc args s (.returned (some (.int (pc_b b)))) t) ∧ ∀ q ∈ locs, A q.base)
    (hP : va_P D pc_Cl (pm_W h cI f2 g2) H) (hD : va_D A (pm_W h cI f2 g2)) (hS : va_S A s.heap H locs) (hdg : decode cc pc = .ok (.ireturn, 1)) (er : v = pc_b b) (ew : pm_W h cI f2 g2 = pm_W h cI f' g') :
    W p l e R s m args below meth c H locs 0 0 (MQ below Qc args s 0 0 A) (F0 m pc ls [.int v]) := by
  subst er
  rw [ew] at hP hD
  exact W.zret hx hb hr (pc_bz b) (hq H locs hP hD hS).1 (hq H locs hP hD hS).2 hdg hlk
theorem pm_retF {v r : UInt32} (hx : p.tables.exec = Jvm.exec) (hb : c.code = cc) (hlk : meth.locks = false) (hr : meth.sig.returnType = some .float)
    (hq : ∀ (H : Heap) (locs : List Loc), va_P D pc_Cl (pm_W h cI f' g') H → va_D A (pm_W h cI f' g') → va_S A s.heap H locs → (∀ t : State, t.heap = H → s.WarmedH t.vm → Qc args s (.returned (some (.float r))) t) ∧ ∀ q ∈ locs, A q.base)
    (hP : va_P D pc_Cl (pm_W h cI f2 g2) H) (hD : va_D A (pm_W h cI f2 g2)) (hS : va_S A s.heap H locs) (hdg : decode cc pc = .ok (.freturn, 1)) (er : v = r) (ew : pm_W h cI f2 g2 = pm_W h cI f' g') :
    W p l e R s m args below meth c H locs 0 0 (MQ below Qc args s 0 0 A) (F0 m pc ls [.float v]) := by
  subst er
  rw [ew] at hP hD
  exact W.fret hx hb hr (hq H locs hP hD hS).1 (hq H locs hP hD hS).2 hdg hlk
theorem pm_retD {v r : UInt64} (hx : p.tables.exec = Jvm.exec) (hb : c.code = cc) (hlk : meth.locks = false) (hr : meth.sig.returnType = some .double)
    (hq : ∀ (H : Heap) (locs : List Loc), va_P D pc_Cl (pm_W h cI f' g') H → va_D A (pm_W h cI f' g') → va_S A s.heap H locs → (∀ t : State, t.heap = H → s.WarmedH t.vm → Qc args s (.returned (some (.double r))) t) ∧ ∀ q ∈ locs, A q.base)
    (hP : va_P D pc_Cl (pm_W h cI f2 g2) H) (hD : va_D A (pm_W h cI f2 g2)) (hS : va_S A s.heap H locs) (hdg : decode cc pc = .ok (.dreturn, 1)) (er : v = r) (ew : pm_W h cI f2 g2 = pm_W h cI f' g') :
    W p l e R s m args below meth c H locs 0 0 (MQ below Qc args s 0 0 A) (F0 m pc ls [.double v]) := by
  subst er
  rw [ew] at hP hD
  exact W.dret hx hb hr (hq H locs hP hD hS).1 (hq H locs hP hD hS).2 hdg hlk
theorem pm_retV (hx : p.tables.exec = Jvm.exec) (hb : c.code = cc) (hlk : meth.locks = false) (hr : meth.sig.returnType = none)
    (hq : ∀ (H : Heap) (locs : List Loc), va_P D pc_Cl (pm_W h cI f' g') H → va_D A (pm_W h cI f' g') → va_S A s.heap H locs → (∀ t : State, t.heap = H → s.WarmedH t.vm → Qc args s (.returned none) t) ∧ ∀ q ∈ locs, A q.base)
    (hP : va_P D pc_Cl (pm_W h cI f2 g2) H) (hD : va_D A (pm_W h cI f2 g2)) (hS : va_S A s.heap H locs) (hdg : decode cc pc = .ok (.return_, 1)) (ew : pm_W h cI f2 g2 = pm_W h cI f' g') :
    W p l e R s m args below meth c H locs 0 0 (MQ below Qc args s 0 0 A) (F0 m pc ls []) := by
  rw [ew] at hP hD
  exact W.vret hx hb hr (hq H locs hP hD hS).1 (hq H locs hP hD hS).2 hdg hlk
theorem pm_run {index n maxL : Nat} {y : MethodName} {bytes : ByteArray} {ret : Option FieldType} {rm : Room} {As : List Value} {own : String} (hx : p.tables.exec = Jvm.exec) (hb : c.code = cc) (hml : c.maxLocals = nL) (hown : s.vm.findClass own = some m.cls) (hts : ∀ w ∈ lw_all, w.before args s = true)
    (hM : pm_C l y (ws_ y bytes maxL ret) rm D h cI (.ref (h 0) :: As) f g rv f' g') (hG : GoodIn lw_all (wsV own index RX4 y (ws_ y bytes maxL ret))) (hrc : rm.cells = 0 ∧ rm.slots = 0)
    (hd : y.cls = RX4 ∧ y.cls ≠ "java/lang/invoke/MethodHandle" ∧ y.cls ≠ "java/lang/invoke/VarHandle" ∧ (parseMethodDescriptor y.desc).map (fun d => d.parameters.length) = some n) (hR : rm.frames + 1 ≤ R.frames ∧ 8 + (maxL + 11) + rm.locals ≤ R.locals)
    (hK : va_K D pc_Cl [(cI, .int)] s) (hP : va_P D pc_Cl (pm_W h cI f g) H) (hD : va_D A (pm_W h cI f g))
    (hn : As.length = n) (hsize : ls.size = nL) (hstack : st0 = As.reverse ++ .ref (h 0) :: rest) (hW : (rest.map fun v => v.category).sum ≤ 8) (hdg : decode cc pc = .ok (.invokevirtual index, 3)) (hf : cells ≤ R.cells ∧ slots ≤ R.slots) :
    va_Run p l e R s m args below meth c H locs cells slots 0 0 (F0 m pc ls st0) rest (pm_Post D h cI f g H.size rv f' g' (Value.ref (h 0) :: As).toArray) (va_A (pm_W h cI f g) H.size) :=
  va_runV (As := As) (rest := rest) (b := h 0) ⟨hx, hb, hml, hown, hts⟩ (hM H.size) (cwV n hts hG rfl hrc.1 hrc.2 hd hR)
    ⟨pm_blind, va_recv hK hP (ci := 0) (q0 := 0) rfl rfl, fun U hU hW => ⟨rfl, by rw [hU], by rw [hU]; exact hP, va_K.moved hW.alike hK, hD.weaken (fun _ _ _ _ => trivial)⟩⟩ rfl hn hsize hstack (lv_room hW) hdg hf
theorem pm_after {As : List Value} {a : Array Value} (hr : va_Run p l e R s m args below meth c H locs cells slots 0 0 (F0 m pc ls st0) rest (pm_Post D h cI f g H.size rv f' g' a) (va_A (pm_W h cI f g) H.size))
    (hA : ∀ q : Nat, s.heap.size ≤ q → A q) (hD : va_D A (pm_W h cI f g)) (hS : va_S A s.heap H locs)
    (kk : ∀ (H1 : Heap) (locs1 : List Loc), va_P D pc_Cl (pm_W h cI f' g') H1 → va_D A (pm_W h cI f' g') → va_S A s.heap H1 locs1 → (H.size ≤ H1.size ∧ ∀ q : Nat, q < H.size → ¬ va_A (pm_W h cI f g) H.size q → H1[q]? = H[q]?) → W p l e R s m args below meth c H1 locs1 cells slots Q (F0 m (pc + 3) ls (rv.toList ++ rest))) : W p l e R s m args below meth c H locs cells slots Q (F0 m pc ls st0) := by
  have hF : ∀ q, va_A (pm_W h cI f g) H.size q → A q := fun q hq => hq.elim (fun ⟨k, e, he⟩ => hD.2 k (q, e) he) (fun h => hA q (Nat.le_trans hS.1 h))
  intro T hT X
  obtain ⟨v, st₀, t, T', L, h0, X', hL, e1, e2, ⟨⟨hv, hP1, hD1⟩, hz, hk⟩, st⟩ := hr T hT X
  cases hv
  rw [h0] at hz hk
  obtain ⟨t2, a1, b1⟩ := kk T'.heap (locs ++ L) (by rw [e1]; exact hP1) (hD1.weaken (fun k q _ h => hF q.1 h))
    ⟨Nat.le_trans hS.1 (by rw [e1]; exact hz), fun q h1 h2 => by rw [e1, hk q (Nat.lt_of_lt_of_le h1 hS.1) (fun z => h2 (hF q z))]; exact hS.2.1 q h1 h2, fun q hq => by
      rcases List.mem_append.mp hq with h | h
      · exact hS.2.2 q h
      · exact hF _ (hL q h)⟩ ⟨by rw [e1]; exact hz, fun q h1 h2 => by rw [e1]; exact hk q h1 h2⟩ T' rfl X'
  exact ⟨t2, st t2 a1, b1⟩
/-- a call within the reference that answers an int -/
theorem pm_callI {index n maxL : Nat} {y : MethodName} {bytes : ByteArray} {ret : Option FieldType} {rm : Room} {As : List Value} {r : Int32} (rest : List Value) (hx : p.tables.exec = Jvm.exec) (hb : c.code = cc) (hml : c.maxLocals = nL) (hown : s.vm.findClass RX4 = some m.cls) (hts : ∀ w ∈ lw_all, w.before args s = true) (hA : ∀ q : Nat, s.heap.size ≤ q → A q) (hK : va_K D pc_Cl [(cI, .int)] s)
    (hM : pm_C l y (ws_ y bytes maxL ret) rm D h cI (.ref (h 0) :: As) f g (some (.int r)) f' g') (hG : GoodIn lw_all (wsV RX4 index RX4 y (ws_ y bytes maxL ret))) (hrc : rm.cells = 0 ∧ rm.slots = 0)
    (hd : y.cls = RX4 ∧ y.cls ≠ "java/lang/invoke/MethodHandle" ∧ y.cls ≠ "java/lang/invoke/VarHandle" ∧ (parseMethodDescriptor y.desc).map (fun d => d.parameters.length) = some n) (hR : rm.frames + 1 ≤ R.frames ∧ 8 + (maxL + 11) + rm.locals ≤ R.locals)
    (hP : va_P D pc_Cl (pm_W h cI f g) H) (hD : va_D A (pm_W h cI f g)) (hS : va_S A s.heap H locs)
    (hn : As.length = n) (hsize : ls.size = nL) (hstack : st0 = As.reverse ++ .ref (h 0) :: rest) (hW : (rest.map fun v => v.category).sum ≤ 8) (hf : cells ≤ R.cells ∧ slots ≤ R.slots) (hdg : decode cc pc = .ok (.invokevirtual index, 3))
    (kk : ∀ (H1 : Heap) (locs1 : List Loc), va_P D pc_Cl (pm_W h cI f' g') H1 → va_D A (pm_W h cI f' g') → va_S A s.heap H1 locs1 → W p l e R s m args below meth c H1 locs1 cells slots Q (F0 m (pc + 3) ls (.int r :: rest))) : W p l e R s m args below meth c H locs cells slots Q (F0 m pc ls st0) :=
  pm_after (As := As) (pm_run hx hb hml hown hts hM hG hrc hd hR hK hP hD hn hsize hstack hW hdg hf) hA hD hS (fun H1 locs1 a b c _ => kk H1 locs1 a b c)
/-- a call within the reference that answers nothing -/
theorem pm_callV {index n maxL : Nat} {y : MethodName} {bytes : ByteArray} {ret : Option FieldType} {rm : Room} {As : List Value} (rest : List Value) (hx : p.tables.exec = Jvm.exec) (hb : c.code = cc) (hml : c.maxLocals = nL) (hown : s.vm.findClass RX4 = some m.cls) (hts : ∀ w ∈ lw_all, w.before args s = true) (hA : ∀ q : Nat, s.heap.size ≤ q → A q) (hK : va_K D pc_Cl [(cI, .int)] s)
    (hM : pm_C l y (ws_ y bytes maxL ret) rm D h cI (.ref (h 0) :: As) f g none f' g') (hG : GoodIn lw_all (wsV RX4 index RX4 y (ws_ y bytes maxL ret))) (hrc : rm.cells = 0 ∧ rm.slots = 0)
    (hd : y.cls = RX4 ∧ y.cls ≠ "java/lang/invoke/MethodHandle" ∧ y.cls ≠ "java/lang/invoke/VarHandle" ∧ (parseMethodDescriptor y.desc).map (fun d => d.parameters.length) = some n) (hR : rm.frames + 1 ≤ R.frames ∧ 8 + (maxL + 11) + rm.locals ≤ R.locals)
    (hP : va_P D pc_Cl (pm_W h cI f g) H) (hD : va_D A (pm_W h cI f g)) (hS : va_S A s.heap H locs)
    (hn : As.length = n) (hsize : ls.size = nL) (hstack : st0 = As.reverse ++ .ref (h 0) :: rest) (hW : (rest.map fun v => v.category).sum ≤ 8) (hf : cells ≤ R.cells ∧ slots ≤ R.slots) (hdg : decode cc pc = .ok (.invokevirtual index, 3))
    (kk : ∀ (H1 : Heap) (locs1 : List Loc), va_P D pc_Cl (pm_W h cI f' g') H1 → va_D A (pm_W h cI f' g') → va_S A s.heap H1 locs1 → W p l e R s m args below meth c H1 locs1 cells slots Q (F0 m (pc + 3) ls rest)) : W p l e R s m args below meth c H locs cells slots Q (F0 m pc ls st0) :=
  pm_after (As := As) (pm_run hx hb hml hown hts hM hG hrc hd hR hK hP hD hn hsize hstack hW hdg hf) hA hD hS (fun H1 locs1 a b c _ => kk H1 locs1 a b c)
/-- a static call over the reference's world that answers nothing -/
theorem pm_callS {index n maxL : Nat} {y : MethodName} {bytes : ByteArray} {ret : Option FieldType} {rm : Room} {As : List Value} {own : String} (rest : List Value) (hx : p.tables.exec = Jvm.exec) (hb : c.code = cc) (hml : c.maxLocals = nL) (hown : s.vm.findClass own = some m.cls) (hts : ∀ w ∈ lw_all, w.before args s = true) (hA : ∀ q : Nat, s.heap.size ≤ q → A q) (hK : va_K D pc_Cl [(cI, .int)] s)
    (hM : pm_C l y (ws_ y bytes maxL ret) rm D h cI As f g none f' g') (hG : GoodIn lw_all (va_wsS own index y (ws_ y bytes maxL ret))) (hrc : rm.cells = 0 ∧ rm.slots = 0)
    (hd : y.cls ≠ "java/lang/invoke/MethodHandle" ∧ y.cls ≠ "java/lang/invoke/VarHandle" ∧ (parseMethodDescriptor y.desc).map (fun d => d.parameters.length) = some n) (hR : rm.frames + 1 ≤ R.frames ∧ 8 + (maxL + 11) + rm.locals ≤ R.locals)
    (hP : va_P D pc_Cl (pm_W h cI f g) H) (hD : va_D A (pm_W h cI f g)) (hS : va_S A s.heap H locs)
    (hn : As.length = n) (hsize : ls.size = nL) (hstack : st0 = As.reverse ++ rest) (hW : (rest.map fun v => v.category).sum ≤ 8) (hf : cells ≤ R.cells ∧ slots ≤ R.slots) (hdg : decode cc pc = .ok (.invokestatic index, 3))
    (kk : ∀ (H1 : Heap) (locs1 : List Loc), va_P D pc_Cl (pm_W h cI f' g') H1 → va_D A (pm_W h cI f' g') → va_S A s.heap H1 locs1 → W p l e R s m args below meth c H1 locs1 cells slots Q (F0 m (pc + 3) ls rest)) : W p l e R s m args below meth c H locs cells slots Q (F0 m pc ls st0) :=
  pm_after (As := As) (rv := none) (va_runS (As := As) (rest := rest) ⟨hx, hb, hml, hown, hts⟩ (hM H.size) (va_cwS n hts hG rfl hrc.1 hrc.2 hd hR)
    ⟨pm_blind, fun U hU hW => ⟨rfl, by rw [hU], by rw [hU]; exact hP, va_K.moved hW.alike hK, hD.weaken (fun _ _ _ _ => trivial)⟩⟩ rfl hn hsize hstack (lv_room hW) hdg hf) hA hD hS (fun H1 locs1 a b c _ => kk H1 locs1 a b c)
end PMC
