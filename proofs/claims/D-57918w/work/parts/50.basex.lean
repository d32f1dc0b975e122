/-! BASE of the system: facts of single cells, what a step leaves alone, contracts over facts -/
set_option maxRecDepth 100000
/-- words of the tables that ride in no list -/
def pk_T (U : State) : Prop :=
  (∀ a i b n d h, Cond.fieldLinkNest a i b n d h ∈ lw_tbl → va_Nw (.fieldLinkNest a i b n d h) U) ∧
  (∀ a i x h, Cond.methodLinkNest a i x h ∈ lw_tbl → va_Nw (.methodLinkNest a i x h) U) ∧
  (∀ C T, Cond.castable C T ∈ lw_tbl → va_Nw (.castable C T) U) ∧
  (∀ C x y, Cond.declares x ∈ lw_tbl → Cond.interfaceMethod x.cls x.cls x.name x.desc ∈ lw_tbl → Cond.publicMethod y ∈ lw_tbl → Cond.unhidden C x.name x.desc ∈ lw_tbl → Cond.castable C x.cls ∈ lw_tbl → x.cls ≠ "java/lang/invoke/MethodHandle" ∧ x.cls ≠ "java/lang/invoke/VarHandle" → va_Fw C x y U) ∧
  (∀ x, Cond.declares x ∈ lw_tbl → va_Nw (.declares x) U) ∧
  (∀ C, Cond.arrayOver (.object C) ∈ lw_tbl → va_AO C U)
theorem pk_T.warm {s U : State} (hW : s.WarmedH U.vm) (h : pk_T s) : pk_T U :=
  ⟨fun a i b n d q hw => (h.1 a i b n d q hw).warmF hW, fun a i x q hw => (h.2.1 a i x q hw).warmM hW, fun C T hw => (h.2.2.1 C T hw).warmC hW, fun C x y h1 h2 h3 h4 h5 h6 => (h.2.2.2.1 C x y h1 h2 h3 h4 h5 h6).moved h6 hW.alike, fun x hw => (h.2.2.2.2.1 x hw).warmD hW, fun C hw => (h.2.2.2.2.2 C hw).moved hW.alike⟩
theorem pk_T.same {s U : State} (hv : s.vm = U.vm) (h : pk_T s) : pk_T U :=
  ⟨fun a i b n d q hw => (h.1 a i b n d q hw).same rfl hv, fun a i x q hw => (h.2.1 a i x q hw).same rfl hv, fun C T hw => (h.2.2.1 C T hw).same rfl hv, fun C x y h1 h2 h3 h4 h5 h6 => (h.2.2.2.1 C x y h1 h2 h3 h4 h5 h6).moved h6 (by rw [hv]; exact Vm.Alike.refl _), fun x hw => (h.2.2.2.2.1 x hw).same rfl hv, fun C hw => (h.2.2.2.2.2 C hw).moved (by rw [hv]; exact Vm.Alike.refl _)⟩
theorem pk_T.of {U : State} {A : Array Value} (h : ∀ w ∈ lw_tbl, w.before A U = true) : pk_T U :=
  ⟨fun a i b n d q hw => va_Nw.of rfl (h _ hw), fun a i x q hw => va_Nw.of rfl (h _ hw), fun C T hw => va_Nw.of rfl (h _ hw), fun C x y h1 h2 h3 h4 h5 h6 => va_Fw.of (h _ h1) (h _ h2) (h _ h3) (h _ h4) (h _ h5), fun x hw => va_Nw.of rfl (h _ hw), fun C hw => va_AO.of (h _ hw)⟩
/-- the array classes: int, boolean, byte, Object, long -/
abbrev pk_tys (cA : Nat → ClassId) : List (ClassId × FieldType) := [(cA 0, .int), (cA 1, .boolean), (cA 2, .byte), (cA 3, .object "java/lang/Object"), (cA 4, .long)]
def pk_E (D : va_G) (cA : Nat → ClassId) (U : State) : Prop := va_K D pc_Cl (pk_tys cA) U ∧ pk_T U
theorem pk_E.warm {D : va_G} {cA : Nat → ClassId} {s U : State} (hW : s.WarmedH U.vm) (h : pk_E D cA s) : pk_E D cA U := ⟨va_K.moved hW.alike h.1, h.2.warm hW⟩
theorem pk_E.same {D : va_G} {cA : Nat → ClassId} {s U : State} (hv : s.vm = U.vm) (h : pk_E D cA s) : pk_E D cA U := ⟨va_K.moved (by rw [hv]; exact Vm.Alike.refl _) h.1, h.2.same hv⟩
/-- a cell -/
abbrev pk_at (D : va_G) (a : Nat) (e : va_E) (H : Heap) : Prop := va_at D pc_Cl (a, e) H
abbrev pk_o (ci : Nat) (fs : List Value) : va_E := .inr (ci, fs)
abbrev pk_i (c : ClassId) (n : Nat) (f : Nat → Int32) : va_E := .inl (c, n, .inl f)
abbrev pk_r (c : ClassId) (n : Nat) (f : Nat → Option Nat) : va_E := .inl (c, n, .inr (.inr (.inr (.inr f))))
theorem pk_at.one {D : va_G} {a : Nat} {e : va_E} {H : Heap} (h : pk_at D a e H) : va_P D pc_Cl [(a, e)] H := by
  intro k q hk
  have hz : k < 1 := (List.getElem?_eq_some_iff.mp hk).1
  rw [show k = 0 by omega] at hk
  cases hk
  exact h
/-- what a step leaves alone -/
def pk_F (A : Nat → Prop) (H H1 : Heap) : Prop := H.size ≤ H1.size ∧ ∀ q : Nat, q < H.size → ¬ A q → H1[q]? = H[q]?
theorem pk_F.rf {A : Nat → Prop} {H : Heap} : pk_F A H H := ⟨Nat.le_refl _, fun _ _ _ => rfl⟩
theorem pk_F.tr {A : Nat → Prop} {H H1 H2 : Heap} (h1 : pk_F A H H1) (h2 : pk_F A H1 H2) : pk_F A H H2 :=
  ⟨Nat.le_trans h1.1 h2.1, fun q hq hn => (h2.2 q (Nat.lt_of_lt_of_le hq h1.1) hn).trans (h1.2 q hq hn)⟩
theorem pk_F.mono {A B : Nat → Prop} {H H1 : Heap} (h : pk_F A H H1) (hAB : ∀ q, q < H.size → A q → B q) : pk_F B H H1 := ⟨h.1, fun q hq hn => h.2 q hq (fun z => hn (hAB q hq z))⟩
theorem pk_at.kept {D : va_G} {a : Nat} {e : va_E} {A : Nat → Prop} {H H1 : Heap} (h : pk_at D a e H) (hF : pk_F A H H1) (hn : ¬ A a) : pk_at D a e H1 := va_at.kept h (hF.2 a (va_at.lt h) hn)
theorem pk_at.lt {D : va_G} {a : Nat} {e : va_E} {H : Heap} (h : pk_at D a e H) : a < H.size := va_at.lt h
theorem pk_congr {D : va_G} {a n : Nat} {c : ClassId} {f g : Nat → Int32} {H : Heap} (h : pk_at D a (pk_i c n f) H) (hfg : ∀ z, z < n → f z = g z) : pk_at D a (pk_i c n g) H := by
  show H[a]? = some (vp_cell c (n, .inl g))
  have h1 : H[a]? = some (vp_cell c (n, .inl f)) := h
  rw [h1, vp_cell_i, vp_cell_i]
  congr 1
  unfold arrV
  congr 1
  apply Array.ext
  · simp
  · intro i h1 h2
    simp at h1
    simp [hfg i h1]
/-- a contract that reads alone: the heap stays as it is -/
def pr_C (l : Launch) (y : MethodName) (ws : List Cond) (rm : Room) (D : va_G) (cA : Nat → ClassId) (As : List Value) (Φ : Heap → Prop) (rv : Option Value) : Prop :=
  Met l y ws rm (va_Pc As (fun U => pk_E D cA U ∧ Φ U.heap)) (fun _ st oc t => oc = .returned rv ∧ t.heap = st.heap) 0 0 (fun _ => False)
theorem pr_blind {D : va_G} {cA : Nat → ClassId} {As : List Value} {Φ : Heap → Prop} : FrameBlind (va_Pc As (fun U => pk_E D cA U ∧ Φ U.heap)) :=
  fun a U g mk q => by obtain ⟨q0, q1, q2⟩ := q; exact ⟨q0, pk_E.same (s := U) rfl q1, q2⟩
theorem pr_enter {l : Launch} {y : MethodName} {cc : ByteArray} {maxL : Nat} {ret : Option FieldType} {rm : Room} {D : va_G} {cA : Nat → ClassId} {As : List Value} {Φ : Heap → Prop} {rv : Option Value} (hy : plainName y.cls = true) (hlen : (lg_sl As).length ≤ maxL)
    (body : ∀ (p : Program) (e : Env) (s : State) (m : MethodId) (below : List Frame) (meth : Method) (c : Code) (Qc : Array Value → State → Outcome → State → Prop) (ls : Array Slot), p.tables.exec = Jvm.exec → c.code = cc → c.maxLocals = maxL → s.vm.findClass y.cls = some m.cls → (∀ w ∈ lw_all, w.before As.toArray s = true) → meth.locks = false → meth.sig.returnType = ret → pk_E D cA s → Φ s.heap →
      (∀ t : State, t.heap = s.heap → Qc As.toArray s (.returned rv) t) → lv_has ls maxL (lv_args 0 As) →
      W p l e rm s m As.toArray below meth c s.heap [] 0 0 (MQ below Qc As.toArray s 0 0 (fun _ => False)) (F0 m 0 ls [])) :
    pr_C l y (ws_ y cc maxL ret) rm D cA As Φ rv := by
  refine Met.ofW (cc := cc) (maxL := maxL) (ret := ret) hy rfl ?_
  intro p e s m args below meth c s₁ B hml hv
  obtain ⟨rfl, hE, hΦ⟩ := hv
  have hts := atoms_spec (ws := ws_ y cc maxL ret) B.pre
  have hts : ∀ w ∈ lw_all, w.before _ s = true := fun w h => hts w (List.mem_cons_of_mem _ h)
  have hl := lv_entry As (n := maxL) hlen
  rw [lg_entry_eq]
  generalize (lg_sl As ++ List.replicate (maxL - (lg_sl As).length) Slot.unset).toArray = ls at hl ⊢
  exact body p e s m below meth c _ ls B.exec B.bytes hml (findClass_of_methodNamed B.named) hts B.notSynchronized B.returns hE hΦ (fun t ht => ⟨rfl, ht⟩) hl
section PRC
variable {p : Program} {l : Launch} {e : Env} {R : Room} {s : State} {m : MethodId} {args : Array Value} {below : List Frame} {meth : Method} {c : Code} {H : Heap} {locs : List Loc} {cells slots : Nat} {Q : State → Prop}
variable {cc : ByteArray} {pc nL : Nat} {ls : Array Slot} {rest st0 : List Value} {D : va_G} {cA : Nat → ClassId} {Φ : Heap → Prop} {rv : Option Value} {Qc : Array Value → State → Outcome → State → Prop}
theorem pr_retQ {v : Value} {rt : FieldType} (hx : p.tables.exec = Jvm.exec) (hb : c.code = cc) (hlk : meth.locks = false) (hr : meth.sig.returnType = some rt) (hrt : (∃ n, rt = .object n) ∨ ∃ t, rt = .array t) (hv : v = .null ∨ ∃ a, v = .ref a) {w : Value} (hq : ∀ t : State, t.heap = s.heap → Qc args s (.returned (some w)) t) (hdg : decode cc pc = .ok (.areturn, 1)) (er : v = w) :
    W p l e R s m args below meth c s.heap [] 0 0 (MQ below Qc args s 0 0 (fun _ => False)) (F0 m pc ls [v]) := by
  subst er
  exact W.aret hx hb hr hrt hv (fun t ht _ => hq t ht) (fun _ h => absurd h List.not_mem_nil) hdg hlk
theorem pr_after {g : JFrame} {a : Array Value} (hr : va_Run p l e R s m args below meth c H locs cells slots 0 0 g rest ((fun _ st oc t => oc = .returned rv ∧ t.heap = st.heap) a) (fun _ => False))
    (kk : W p l e R s m args below meth c H locs cells slots Q { g with pc := g.pc + 3, stack := rv.toList ++ rest }) : W p l e R s m args below meth c H locs cells slots Q g := by
  intro T hT X
  obtain ⟨v, st₀, t, T', L, h0, X', hL, e1, e2, ⟨hv, hh⟩, st⟩ := hr T hT X
  cases hv
  obtain ⟨t2, a1, b1⟩ := kk T' (by rw [e1, hh, h0]) (Stand.forget X' (fun q h => (hL q h).elim))
  exact ⟨t2, st t2 a1, b1⟩
theorem pr_after5 {g : JFrame} {a : Array Value} (hr : va_Run5 p l e R s m args below meth c H locs cells slots 0 0 g rest ((fun _ st oc t => oc = .returned rv ∧ t.heap = st.heap) a) (fun _ => False))
    (kk : W p l e R s m args below meth c H locs cells slots Q { g with pc := g.pc + 5, stack := rv.toList ++ rest }) : W p l e R s m args below meth c H locs cells slots Q g := by
  intro T hT X
  obtain ⟨v, st₀, t, T', L, h0, X', hL, e1, e2, ⟨hv, hh⟩, st⟩ := hr T hT X
  cases hv
  obtain ⟨t2, a1, b1⟩ := kk T' (by rw [e1, hh, h0]) (Stand.forget X' (fun q h => (hL q h).elim))
  exact ⟨t2, st t2 a1, b1⟩
/-- a reading call: an instance method of the receiver's own class -/
theorem pr_callV {index n maxL ci : Nat} {y : MethodName} {bytes : ByteArray} {ret : Option FieldType} {rm : Room} {As : List Value} {own : String} {b : Nat} {fs : List Value} {q : vw_C} {r : Value} (rest : List Value) (hx : p.tables.exec = Jvm.exec) (hb : c.code = cc) (hml : c.maxLocals = nL) (hown : s.vm.findClass own = some m.cls) (hts : ∀ w ∈ lw_all, w.before args s = true) (hE : pk_E D cA s)
    (hM : pr_C l y (ws_ y bytes maxL ret) rm D cA (.ref b :: As) Φ (some r)) (hG : GoodIn lw_all (wsV own index q.1 y (ws_ y bytes maxL ret))) (hrc : rm.cells = 0 ∧ rm.slots = 0)
    (hd : y.cls = q.1 ∧ y.cls ≠ "java/lang/invoke/MethodHandle" ∧ y.cls ≠ "java/lang/invoke/VarHandle" ∧ (parseMethodDescriptor y.desc).map (fun d => d.parameters.length) = some n) (hR : rm.frames + 1 ≤ R.frames ∧ 8 + (maxL + 11) + rm.locals ≤ R.locals)
    (hat : pk_at D b (pk_o ci fs) H) (hc : pc_Cl[ci]? = some q) (hΦ : Φ H) (hn : As.length = n) (hsize : ls.size = nL) (hstack : st0 = As.reverse ++ .ref b :: rest) (hW : (rest.map fun v => v.category).sum ≤ 8) (hf : cells ≤ R.cells ∧ slots ≤ R.slots) (hdg : decode cc pc = .ok (.invokevirtual index, 3))
    (kk : W p l e R s m args below meth c H locs cells slots Q (F0 m (pc + 3) ls (r :: rest))) : W p l e R s m args below meth c H locs cells slots Q (F0 m pc ls st0) :=
  pr_after (a := (Value.ref b :: As).toArray) (va_runV (As := As) (rest := rest) (b := b) ⟨hx, hb, hml, hown, hts⟩ hM (cwV n hts hG rfl hrc.1 hrc.2 hd hR)
    ⟨pr_blind, va_recv hE.1 hat.one (ci := ci) (q0 := 0) hc rfl, fun U hU hW => ⟨rfl, hE.warm hW, by rw [hU]; exact hΦ⟩⟩ rfl hn hsize hstack (lv_room hW) hdg hf) kk
/-- a reading call: static -/
theorem pr_callS {index n maxL : Nat} {y : MethodName} {bytes : ByteArray} {ret : Option FieldType} {rm : Room} {As : List Value} {own : String} {r : Value} (rest : List Value) (hx : p.tables.exec = Jvm.exec) (hb : c.code = cc) (hml : c.maxLocals = nL) (hown : s.vm.findClass own = some m.cls) (hts : ∀ w ∈ lw_all, w.before args s = true) (hE : pk_E D cA s)
    (hM : pr_C l y (ws_ y bytes maxL ret) rm D cA As Φ (some r)) (hG : GoodIn lw_all (va_wsS own index y (ws_ y bytes maxL ret))) (hrc : rm.cells = 0 ∧ rm.slots = 0)
    (hd : y.cls ≠ "java/lang/invoke/MethodHandle" ∧ y.cls ≠ "java/lang/invoke/VarHandle" ∧ (parseMethodDescriptor y.desc).map (fun d => d.parameters.length) = some n) (hR : rm.frames + 1 ≤ R.frames ∧ 8 + (maxL + 11) + rm.locals ≤ R.locals)
    (hΦ : Φ H) (hn : As.length = n) (hsize : ls.size = nL) (hstack : st0 = As.reverse ++ rest) (hW : (rest.map fun v => v.category).sum ≤ 8) (hf : cells ≤ R.cells ∧ slots ≤ R.slots) (hdg : decode cc pc = .ok (.invokestatic index, 3))
    (kk : W p l e R s m args below meth c H locs cells slots Q (F0 m (pc + 3) ls (r :: rest))) : W p l e R s m args below meth c H locs cells slots Q (F0 m pc ls st0) :=
  pr_after (a := As.toArray) (va_runS (As := As) (rest := rest) ⟨hx, hb, hml, hown, hts⟩ hM (va_cwS n hts hG rfl hrc.1 hrc.2 hd hR)
    ⟨pr_blind, fun U hU hW => ⟨rfl, hE.warm hW, by rw [hU]; exact hΦ⟩⟩ rfl hn hsize hstack (lv_room hW) hdg hf) kk
/-- a reading call through an interface -/
theorem pr_callF {index n maxL ci count : Nat} {x y : MethodName} {bytes : ByteArray} {ret : Option FieldType} {rm : Room} {As : List Value} {own : String} {b : Nat} {fs : List Value} {q : vw_C} {r : Value} (rest : List Value) (hx : p.tables.exec = Jvm.exec) (hb : c.code = cc) (hml : c.maxLocals = nL) (hown : s.vm.findClass own = some m.cls) (hts : ∀ w ∈ lw_all, w.before args s = true) (hE : pk_E D cA s)
    (hM : pr_C l y (ws_ y bytes maxL ret) rm D cA (.ref b :: As) Φ (some r)) (hG : GoodIn lw_all (va_wsF own index q.1 x y (ws_ y bytes maxL ret))) (hF : va_Fw q.1 x y s) (hrc : rm.cells = 0 ∧ rm.slots = 0)
    (hd : x.cls ≠ "java/lang/invoke/MethodHandle" ∧ x.cls ≠ "java/lang/invoke/VarHandle" ∧ (parseMethodDescriptor x.desc).map (fun d => d.parameters.length) = some n) (hR : rm.frames + 1 ≤ R.frames ∧ 8 + (maxL + 11) + rm.locals ≤ R.locals)
    (hat : pk_at D b (pk_o ci fs) H) (hc : pc_Cl[ci]? = some q) (hΦ : Φ H) (hn : As.length = n) (hsize : ls.size = nL) (hstack : st0 = As.reverse ++ .ref b :: rest) (hW : (rest.map fun v => v.category).sum ≤ 8) (hf : cells ≤ R.cells ∧ slots ≤ R.slots) (hdg : decode cc pc = .ok (.invokeinterface index count, 5))
    (kk : W p l e R s m args below meth c H locs cells slots Q (F0 m (pc + 5) ls (r :: rest))) : W p l e R s m args below meth c H locs cells slots Q (F0 m pc ls st0) :=
  pr_after5 (a := (Value.ref b :: As).toArray) (va_runF (As := As) (rest := rest) (b := b) (hE.1.1 ci q hc).2 ⟨hx, hb, hml, hown, hts⟩ hM (va_cwF n hts hG rfl hrc.1 hrc.2 hF hd hR)
    ⟨pr_blind, va_recv hE.1 hat.one (ci := ci) (q0 := 0) hc rfl, fun U hU hW => ⟨rfl, hE.warm hW, by rw [hU]; exact hΦ⟩⟩ rfl hn hsize hstack (lv_room hW) hdg hf) kk
end PRC
