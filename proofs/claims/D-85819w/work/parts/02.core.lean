/-! CORE: contracts with any outcome (returned, threw), their walk, their call -/
/-- how a walk ends: outcome o, the heap holds I1, at most k cells of n slots are new, old cells are written where 'free' says alone -/
def EQ (below : List Frame) (s : State) (free : Nat → Prop) (o : Outcome) (I1 : Heap → Prop) (k n : Nat) : State → Prop := fun t =>
  t.status = .running ∧ Ended t below o ∧ I1 t.heap ∧ s.WarmedH t.vm ∧ ∃ L, s.sameButNew ({ t with vm := s.vm } : State) L k n ∧ ∀ q ∈ L, free q.base
/-- a contract: called with 'as' over a heap that holds I0, y ends with the outcome o over a heap that holds I1 -/
def Ct (l : Launch) (s0 : State) (y : MethodName) (w : Cond) (rm : Room) (free : Nat → Prop) (as : List Value) (I0 : Heap → Prop) (o : Outcome) (I1 : Heap → Prop) (k n : Nat) : Prop :=
  MetFree l y (headSpec [w] rm) (fun a U => a = as.toArray ∧ s0.WarmedH U.vm ∧ I0 U.heap) (fun _ _ _ _ _ => True)
    (fun _ st o' t => o' = o ∧ I1 t.heap ∧ st.WarmedH t.vm ∧ ∃ L, st.sameButNew ({ t with vm := st.vm } : State) L k n ∧ ∀ q ∈ L, free q.base)
theorem Ct.ofW {l : Launch} {s0 : State} {y : MethodName} {rm : Room} {free : Nat → Prop} {as : List Value} {I0 : Heap → Prop} {o : Outcome} {I1 : Heap → Prop} {k n : Nat} {cc : ByteArray} {maxL : Nat} {ret : Option FieldType}
    (hy : plainName y.cls = true)
    (body : ∀ p e s m args below meth c, p.tables.exec = Jvm.exec → c.code = cc → c.maxLocals = maxL → meth.sig.returnType = ret → meth.locks = false → c.exceptionTable.isEmpty = true → s.vm.findClass y.cls = some m.cls → meth.name = y.name → s0.WarmedH s.vm → args = as.toArray → I0 s.heap →
      W p l e rm s m args below meth c s.heap [] 0 0 (EQ below s free o I1 k n) (entryFrame m args maxL)) : Ct l s0 y (.code y cc maxL ret) rm free as I0 o I1 k n := by
  refine MetFree.of_bodyS (code := cc) (maxLocals := maxL) (ret := ret) hy ?_ ?_
  · intro args s m h hn
    obtain ⟨meth, c, h1, h2, h3, h4, h5, h6, -, -⟩ := Cond.code_spec hn (atoms_spec (ws := [Cond.code y cc maxL ret]) h _ List.mem_cons_self)
    exact ⟨meth, c, h1, h2, h3, h4, h5, h6⟩
  · intro p e s m args below meth c s₁ B hml hP _
    obtain ⟨ha, hw, hI⟩ := hP
    have hh0 : s₁.heap = s.heap := by rw [B.state]; rfl
    have hcw : (Cond.code y cc maxL ret).before args s = true := atoms_spec (ws := [Cond.code y cc maxL ret]) B.pre _ List.mem_cons_self
    obtain ⟨t, a1, b1, b2, b3, b4, b5⟩ := body p e s m args below meth c B.exec B.bytes hml B.returns B.notSynchronized (B.noHandlers hcw) (findClass_of_methodNamed B.named) (name_of_methodNamed B.named B.method).1 hw ha hI s₁ hh0 (Stand.of_body B)
    exact ⟨t, o, a1, b1, b2, rfl, b3, b4, b5⟩
/-- .. of a method with handlers; its table comes along -/
theorem Ct.ofWH {l : Launch} {s0 : State} {y : MethodName} {rm : Room} {free : Nat → Prop} {as : List Value} {I0 : Heap → Prop} {o : Outcome} {I1 : Heap → Prop} {k n : Nat} {cc : ByteArray} {maxL : Nat} {ret : Option FieldType} {hh : List (Nat × Nat × Nat × Nat)}
    (hy : plainName y.cls = true)
    (body : ∀ p e s m args below meth c, p.tables.exec = Jvm.exec → c.code = cc → c.maxLocals = maxL → meth.sig.returnType = ret → meth.locks = false → (c.exceptionTable.toList.map (fun x => (x.startPc, x.endPc, x.handlerPc, x.catchType)) = hh) → s.vm.findClass y.cls = some m.cls → meth.name = y.name → s0.WarmedH s.vm → args = as.toArray → I0 s.heap →
      W p l e rm s m args below meth c s.heap [] 0 0 (EQ below s free o I1 k n) (entryFrame m args maxL)) : Ct l s0 y (.codeWith y cc maxL ret hh) rm free as I0 o I1 k n := by
  refine MetFree.of_bodyS (code := cc) (maxLocals := maxL) (ret := ret) hy ?_ ?_
  · intro args s m h hn
    have := Cond.codeWith_spec (atoms_spec (ws := [Cond.codeWith y cc maxL ret hh]) h _ List.mem_cons_self)
    obtain ⟨m9, meth, c, hn9, h1, h2, h3, h4, -, h5, h6, -⟩ := this
    cases hn.symm.trans hn9
    exact ⟨meth, c, h1, h2, h3, h4, h5, h6⟩
  · intro p e s m args below meth c s₁ B hml hP _
    obtain ⟨ha, hw, hI⟩ := hP
    have hh0 : s₁.heap = s.heap := by rw [B.state]; rfl
    have hcw := Cond.codeWith_spec (atoms_spec (ws := [Cond.codeWith y cc maxL ret hh]) B.pre _ List.mem_cons_self)
    obtain ⟨m9, meth9, c9, hn9, h1, h2, h3, h4, h7, h5, h6, -⟩ := hcw
    cases B.named.symm.trans hn9
    cases B.method.symm.trans h1
    have hcode : meth.code = some c := (Stand.of_body B).code
    cases hcode.symm.trans h2
    obtain ⟨t, a1, b1, b2, b3, b4, b5⟩ := body p e s m args below meth c B.exec B.bytes hml B.returns B.notSynchronized h7 (findClass_of_methodNamed B.named) (name_of_methodNamed B.named B.method).1 hw ha hI s₁ hh0 (Stand.of_body B)
    exact ⟨t, o, a1, b1, b2, rfl, b3, b4, b5⟩
/-- what a method's own word says of its locals -/
def CodeW (w : Cond) (y : MethodName) (maxL : Nat) : Prop := ∀ (a : Array Value) (U : State) (mk : MethodId), w.before a U = true → U.methodNamed? y = some mk → ∃ methY cY, U.vm.method? mk = some methY ∧ methY.code = some cY ∧ cY.maxLocals = maxL
theorem codeW_code {y : MethodName} {cc : ByteArray} {maxL : Nat} {ret : Option FieldType} : CodeW (.code y cc maxL ret) y maxL := by
  intro a U mk h hn
  obtain ⟨meth, c, h1, h2, -, h4, -⟩ := Cond.code_spec hn h
  exact ⟨meth, c, h1, h2, h4⟩
theorem codeW_with {y : MethodName} {cc : ByteArray} {maxL : Nat} {ret : Option FieldType} {hh : List (Nat × Nat × Nat × Nat)} : CodeW (.codeWith y cc maxL ret hh) y maxL := by
  intro a U mk h hn
  obtain ⟨m9, meth, c, hn9, h1, h2, -, h4, -⟩ := Cond.codeWith_spec h
  cases hn.symm.trans hn9
  exact ⟨meth, c, h1, h2, h4⟩
section CORE
variable {p : Program} {l : Launch} {e : Env} {R : Room} {s : State} {m : MethodId} {args : Array Value} {below : List Frame} {meth : Method} {c : Code} {T : State} {H : Heap} {locs : List Loc} {cells slots : Nat} {Q : State → Prop}
variable {s0 : State} {y : MethodName} {w : Cond} {rm : Room} {free : Nat → Prop} {as : List Value} {I0 : Heap → Prop} {o : Outcome} {I1 : Heap → Prop} {k n maxL len : Nat}
/-- the invoking instruction at g has found its method and is about to enter it -/
def LinkS (p : Program) (l : Launch) (e : Env) (R : Room) (s : State) (m : MethodId) (args : Array Value) (below : List Frame) (meth : Method) (c : Code) (T : State) (locs : List Loc) (cells slots : Nat) (g : JFrame) (rest : List Value) (y : MethodName) (a : Array Value) : Prop :=
  ∃ (vm₁ : Vm) (mk : MethodId), s.WarmedH vm₁ ∧ Stand p l e R s m args below meth c (T.setVm vm₁) locs cells slots ∧ (T.setVm vm₁).methodNamed? y = some mk ∧
    ∀ target, Steps p.tables e below (doInvoke e ((T.setVm vm₁).setTop { g with stack := rest }) [] mk a).1 target → Steps p.tables e below (T.setTop g) target
/-- the cells that a callee left alone -/
def Kept (free : Nat → Prop) (H H1 : Heap) : Prop := H.size ≤ H1.size ∧ ∀ q : Nat, q < H.size → ¬ free q → H1[q]? = H[q]?
theorem kept_of_same {u t : State} {L : List Loc} {k n : Nat} {free : Nat → Prop} (h : u.sameButNew t L k n) (hL : ∀ q ∈ L, free q.base) : Kept free u.heap t.heap := by
  obtain ⟨-, h1, -, -, -, h6⟩ := h
  refine ⟨h1, fun q hq hf => ?_⟩
  obtain ⟨cell, hc⟩ : ∃ cell, u.heap[q]? = some cell := ⟨u.heap[q], by simp [hq]⟩
  obtain ⟨c', e1, e2, e3, e4⟩ := h6 q cell hc
  rw [hc, e1]
  congr 1
  rw [e2]
  have : c'.slots = cell.slots := by
    apply Array.ext_getElem?
    intro i
    exact e4 i (fun hm => hf (hL _ hm))
  rw [this]
/-- THE CALL -/
theorem ct_call {g : JFrame} {ig : Instr} {mk : MethodId} {a : Array Value} (X : Stand p l e R s m args below meth c T locs cells slots) (hg : g.method = m) (hsize : g.locals.size = c.maxLocals) (hdg : decode c.code g.pc = .ok (ig, len)) (hn : T.methodNamed? y = some mk)
    (hC : Ct l s0 y w rm free as I0 o I1 k n) (ha : a = as.toArray) (hwarm : s0.WarmedH T.vm) (hI : I0 T.heap) (hpre : w.before a T = true) (hcw : CodeW w y maxL) (hinit : (Cond.initialized y.cls).before a T = true)
    (hfr : rm.frames + 1 ≤ R.frames) (hlo : 2 * g.monitorRoom + (g.stack.map fun v => v.category).sum + (maxL + 11) + rm.locals ≤ R.locals) (hce : cells + rm.cells ≤ R.cells) (hsl : slots + rm.slots ≤ R.slots) :
    ∃ (T' : State) (L : List Loc), Stand p l e R s m args below meth c T' (locs ++ L) (cells + k) (slots + n) ∧ I1 T'.heap ∧ (∀ q ∈ L, free q.base) ∧ Kept free T.heap T'.heap ∧
      ∃ t, Steps p.tables e below (doInvoke e (T.setTop g) [] mk a).1 t ∧ (∀ v, o = .returned v → t = T'.setTop { g with pc := g.pc + len, stack := v.toList ++ g.stack }) ∧ (∀ x, o = .threw x → t = (T'.setTop g).pushFrame (.throwing x)) := by
  obtain ⟨methY, cY, hmY, hcY, hlY⟩ := hcw a T mk hpre hn
  obtain ⟨kY, hkY, -⟩ := className_of_methodNamed hn
  have hinitY : kY.init = .initialized := Cond.initialized_spec (findClass_of_methodNamed hn) hkY hinit
  have h : At T g.method c below := by rw [hg]; exact X.here
  have hS : (headSpec [w] rm).pre.before a T = true := atoms_intro (ws := [w]) (fun x hx => by rw [List.mem_singleton.mp hx]; exact hpre)
  have happ : (headSpec [w] rm).appliesLoose y e.platform (T.calling g mk a) = true :=
    Spec.appliesLoose_calling (g := g) h hdg hn hkY hinitY
      (X.room_calling (g := g) (R' := (headSpec [w] rm).room) hsize hmY hcY hfr (by rw [hlY]; exact hlo) hce hsl) hS
  obtain ⟨mid, hmid⟩ := h.above
  have hfr2 : (T.setTop g).frames = (.java g :: mid) ++ below := by rw [State.frames_setTop' g h.top, hmid]; rfl
  obtain ⟨o2, s₂, hsteps, -, hend, hq⟩ := Steps.callFree hC p X.admits X.cas X.clock (acts := []) hfr2 happ ⟨ha, hwarm, hI⟩ trivial
  rw [State.frames_setTop' g h.top, X.tail] at hend
  have hq' : o2 = o ∧ I1 s₂.heap ∧ (T.calling g mk a).WarmedH s₂.vm ∧ ∃ L, (T.calling g mk a).sameButNew ({ s₂ with vm := (T.calling g mk a).vm } : State) L k n ∧ ∀ q ∈ L, free q.base := hq
  obtain ⟨rfl, hI1, hW, L, hsame, hL⟩ := hq'
  have hkept0 : Kept free (T.calling g mk a).heap ({ s₂ with vm := (T.calling g mk a).vm } : State).heap := kept_of_same hsame hL
  have hkept : Kept free T.heap s₂.heap := hkept0
  cases o2 with
  | returned v =>
    obtain ⟨T', X', -, -, ht⟩ := X.outOf hg hdg hend hW hsame
    have hh : T'.heap = s₂.heap := by rw [ht]; simp [State.setTop, State.modifyTopJava, State.setFrames]
    refine ⟨T', L, X', by rw [hh]; exact hI1, hL, by rw [hh]; exact hkept, s₂, hsteps, fun v' hv => ?_, fun x hx => by cases hx⟩
    cases hv
    exact ht
  | threw x =>
    obtain ⟨T', X', -, -, ht⟩ := X.outOfThrown hg hend hW hsame
    have hh : T'.heap = s₂.heap := by rw [ht]; exact (Stand.throwing_heap T' g x).symm
    refine ⟨T', L, X', by rw [hh]; exact hI1, hL, by rw [hh]; exact hkept, s₂, hsteps, (fun v hv => by cases hv), fun x' hx => ?_⟩
    cases hx
    exact ht
end CORE
