section CALLS
variable {p : Program} {l : Launch} {e : Env} {R : Room} {s : State} {m : MethodId} {args : Array Value} {below : List Frame} {meth : Method} {c : Code} {T : State} {H : Heap} {locs : List Loc} {cells slots : Nat} {Q : State → Prop}
variable {s0 : State} {y : MethodName} {w : Cond} {rm : Room} {free : Nat → Prop} {as : List Value} {I0 : Heap → Prop} {o : Outcome} {I1 : Heap → Prop} {k n maxL len : Nat}
theorem link_V (X : Stand p l e R s m args below meth c T locs cells slots) (hexec : p.tables.exec = Jvm.exec) {own C : String} {index : Nat}
    (hown : s.vm.findClass own = some m.cls) (hlink : (Cond.methodLink own index y).before args s = true) (hinst : (Cond.instanceMethod y).before args s = true) (hsel : (Cond.selects C y y).before args s = true)
    (hy : y.cls ≠ "java/lang/invoke/MethodHandle" ∧ y.cls ≠ "java/lang/invoke/VarHandle") {b : Addr} {cellB : Cell} (hcell : T.heap[b]? = some cellB) (hobj : cellB.vm.isStatics = false) (hcls : s.vm.findClass C = some cellB.cls)
    {g : JFrame} (hg : g.method = m) {argsL rest : List Value} (hlen : ∀ sig, parseMethodDescriptor y.desc = some sig → argsL.length = sig.parameters.length) (hsig : ∀ mk methM, s.methodNamed? y = some mk → s.vm.method? mk = some methM → parseMethodDescriptor y.desc = some methM.sig)
    (hstack : g.stack = argsL.reverse ++ .ref b :: rest) (hdg : decode c.code g.pc = .ok (.invokevirtual index, 3)) :
    LinkS p l e R s m args below meth c T locs cells slots g rest y (Value.ref b :: argsL).toArray := by
  obtain ⟨mk, methM, hnamed, hmethM, hstM, habM⟩ := Cond.instanceMethod_spec hinst
  obtain ⟨c2, r2, m2, q1, q2, q3, q4, kP, hkP, hkPi⟩ := Cond.selects_spec hsel
  cases hcls.symm.trans q1
  cases (State.methodFound?_of_named hnamed hy).symm.trans q2
  cases hnamed.symm.trans q3
  have hselP : selectMethod e.platform s.vm cellB.cls mk = .method mk := by rw [Launch.admits_selectMethod X.admits]; exact q4
  obtain ⟨vm₁, X₁, hstep₁⟩ := X.invokevirtual hexec hown hlink hnamed hmethM hstM hkP hkPi hy (a := b) (cell := cellB) hcell
    (fun z h => by rw [h] at hobj; cases hobj) hselP hmethM habM hkP hkPi (g := g) hg (argsL := argsL) (rest := rest) (hlen _ (hsig _ _ hnamed hmethM)) hstack hdg
  exact ⟨vm₁, mk, X₁.warmed, X₁, X₁.named hnamed, fun target h => hstep₁ _ fun acts => by rw [doInvoke_state]; exact h⟩
theorem link_VN (X : Stand p l e R s m args below meth c T locs cells slots) (hexec : p.tables.exec = Jvm.exec) {own C host : String} {index : Nat}
    (hown : s.vm.findClass own = some m.cls) (hlink : (Cond.methodLinkNest own index y host).before args s = true) (hinst : (Cond.instanceMethod y).before args s = true) (hsel : (Cond.selects C y y).before args s = true)
    (hy : y.cls ≠ "java/lang/invoke/MethodHandle" ∧ y.cls ≠ "java/lang/invoke/VarHandle") {b : Addr} {cellB : Cell} (hcell : T.heap[b]? = some cellB) (hobj : cellB.vm.isStatics = false) (hcls : s.vm.findClass C = some cellB.cls)
    {g : JFrame} (hg : g.method = m) {argsL rest : List Value} (hlen : ∀ sig, parseMethodDescriptor y.desc = some sig → argsL.length = sig.parameters.length) (hsig : ∀ mk methM, s.methodNamed? y = some mk → s.vm.method? mk = some methM → parseMethodDescriptor y.desc = some methM.sig)
    (hstack : g.stack = argsL.reverse ++ .ref b :: rest) (hdg : decode c.code g.pc = .ok (.invokevirtual index, 3)) :
    LinkS p l e R s m args below meth c T locs cells slots g rest y (Value.ref b :: argsL).toArray := by
  obtain ⟨mk, methM, hnamed, hmethM, hstM, habM⟩ := Cond.instanceMethod_spec hinst
  obtain ⟨c2, r2, m2, q1, q2, q3, q4, kP, hkP, hkPi⟩ := Cond.selects_spec hsel
  cases hcls.symm.trans q1
  cases (State.methodFound?_of_named hnamed hy).symm.trans q2
  cases hnamed.symm.trans q3
  have hselP : selectMethod e.platform s.vm cellB.cls mk = .method mk := by rw [Launch.admits_selectMethod X.admits]; exact q4
  obtain ⟨vm₁, X₁, hstep₁⟩ := X.invokevirtualNest hexec hown hlink hnamed hmethM hstM hkP hkPi hy (a := b) (cell := cellB) hcell
    (fun z h => by rw [h] at hobj; cases hobj) hselP hmethM habM hkP hkPi (g := g) hg (argsL := argsL) (rest := rest) (hlen _ (hsig _ _ hnamed hmethM)) hstack hdg
  exact ⟨vm₁, mk, X₁.warmed, X₁, X₁.named hnamed, fun target h => hstep₁ _ fun acts => by rw [doInvoke_state]; exact h⟩
theorem link_S (X : Stand p l e R s m args below meth c T locs cells slots) (hexec : p.tables.exec = Jvm.exec) {own : String} {index : Nat}
    (hown : s.vm.findClass own = some m.cls) (hlink : (Cond.methodLink own index y).before args s = true) (hstat : (Cond.static y).before args s = true) (hinit : (Cond.initialized y.cls).before args s = true)
    (hy : y.cls ≠ "java/lang/invoke/MethodHandle" ∧ y.cls ≠ "java/lang/invoke/VarHandle")
    {g : JFrame} (hg : g.method = m) {argsL rest : List Value} (hlen : ∀ sig, parseMethodDescriptor y.desc = some sig → argsL.length = sig.parameters.length) (hsig : ∃ mk methM, s.methodNamed? y = some mk ∧ s.vm.method? mk = some methM ∧ parseMethodDescriptor y.desc = some methM.sig)
    (hstack : g.stack = argsL.reverse ++ rest) (hdg : decode c.code g.pc = .ok (.invokestatic index, 3)) :
    LinkS p l e R s m args below meth c T locs cells slots g rest y argsL.toArray := by
  obtain ⟨mk, methM, hnamed, hmethM, hs⟩ := hsig
  have hstatic : methM.isStatic = true := Cond.static_spec hnamed hmethM hstat
  obtain ⟨kP, hkP, -⟩ := className_of_methodNamed hnamed
  have hinitP : kP.init = .initialized := Cond.initialized_spec (findClass_of_methodNamed hnamed) hkP hinit
  obtain ⟨vm₁, X₁, hstep₁⟩ := X.invokestatic hexec hown hlink hnamed hmethM hstatic hkP hinitP hy (g := g) hg (argsL := argsL) (rest := rest) (hlen _ hs) hstack hdg
  exact ⟨vm₁, mk, X₁.warmed, X₁, X₁.named hnamed, fun target h => hstep₁ _ fun acts => by rw [doInvoke_state]; exact h⟩
theorem link_SN (X : Stand p l e R s m args below meth c T locs cells slots) (hexec : p.tables.exec = Jvm.exec) {own host : String} {index : Nat}
    (hown : s.vm.findClass own = some m.cls) (hlink : (Cond.methodLinkNest own index y host).before args s = true) (hstat : (Cond.static y).before args s = true) (hinit : (Cond.initialized y.cls).before args s = true)
    (hy : y.cls ≠ "java/lang/invoke/MethodHandle" ∧ y.cls ≠ "java/lang/invoke/VarHandle")
    {g : JFrame} (hg : g.method = m) {argsL rest : List Value} (hlen : ∀ sig, parseMethodDescriptor y.desc = some sig → argsL.length = sig.parameters.length) (hsig : ∃ mk methM, s.methodNamed? y = some mk ∧ s.vm.method? mk = some methM ∧ parseMethodDescriptor y.desc = some methM.sig)
    (hstack : g.stack = argsL.reverse ++ rest) (hdg : decode c.code g.pc = .ok (.invokestatic index, 3)) :
    LinkS p l e R s m args below meth c T locs cells slots g rest y argsL.toArray := by
  obtain ⟨mk, methM, hnamed, hmethM, hs⟩ := hsig
  have hstatic : methM.isStatic = true := Cond.static_spec hnamed hmethM hstat
  obtain ⟨kP, hkP, -⟩ := className_of_methodNamed hnamed
  have hinitP : kP.init = .initialized := Cond.initialized_spec (findClass_of_methodNamed hnamed) hkP hinit
  obtain ⟨vm₁, X₁, hstep₁⟩ := X.invokestaticNest hexec hown hlink hnamed hmethM hstatic hkP hinitP hy (g := g) hg (argsL := argsL) (rest := rest) (hlen _ hs) hstack hdg
  exact ⟨vm₁, mk, X₁.warmed, X₁, X₁.named hnamed, fun target h => hstep₁ _ fun acts => by rw [doInvoke_state]; exact h⟩
theorem link_I (X : Stand p l e R s m args below meth c T locs cells slots) (hexec : p.tables.exec = Jvm.exec) {own : String} {index : Nat} {bytes : ByteArray}
    (hown : s.vm.findClass own = some m.cls) (hy1 : y.name = "<init>") (hlink : (Cond.methodLink own index y).before args s = true) (hinst : (Cond.instanceMethod y).before args s = true)
    (hcode : (Cond.code y bytes maxL none).before args s = true) (hy : y.cls ≠ "java/lang/invoke/MethodHandle" ∧ y.cls ≠ "java/lang/invoke/VarHandle")
    {g : JFrame} (hg : g.method = m) {a : Addr} {argsL rest : List Value} (hlen : ∀ sig, parseMethodDescriptor y.desc = some sig → argsL.length = sig.parameters.length)
    (hstack : g.stack = argsL.reverse ++ .ref a :: rest) (hdg : decode c.code g.pc = .ok (.invokespecial index, 3)) :
    LinkS p l e R s m args below meth c T locs cells slots g rest y (Value.ref a :: argsL).toArray := by
  subst hg
  have hpl : e.platform.magicAccessors = ({} : Platform).magicAccessors := by rw [X.admits.platform]
  obtain ⟨mk, methM, cM, kP, vm₁, hnamed, hmethM, hcodeM, -, hlocalsM, -, hkP, -, hW₁, hstep₁⟩ := Steps.initColdArgs (e := e) X.here hexec X.warmed hpl hown hy1 hy hlink hinst hcode (f := g) rfl hlen hstack hdg
  have X₁ := X.noted hW₁
  exact ⟨vm₁, mk, X₁.warmed, X₁, X₁.named hnamed, fun target h => hstep₁ _ fun acts => by rw [doInvoke_state]; exact h⟩
theorem link_IN (X : Stand p l e R s m args below meth c T locs cells slots) (hexec : p.tables.exec = Jvm.exec) {own host : String} {index : Nat} {bytes : ByteArray}
    (hown : s.vm.findClass own = some m.cls) (hy1 : y.name = "<init>") (hlink : (Cond.methodLinkNest own index y host).before args s = true) (hinst : (Cond.instanceMethod y).before args s = true)
    (hcode : (Cond.code y bytes maxL none).before args s = true) (hy : y.cls ≠ "java/lang/invoke/MethodHandle" ∧ y.cls ≠ "java/lang/invoke/VarHandle")
    {g : JFrame} (hg : g.method = m) {a : Addr} {argsL rest : List Value} (hlen : ∀ sig, parseMethodDescriptor y.desc = some sig → argsL.length = sig.parameters.length)
    (hstack : g.stack = argsL.reverse ++ .ref a :: rest) (hdg : decode c.code g.pc = .ok (.invokespecial index, 3)) :
    LinkS p l e R s m args below meth c T locs cells slots g rest y (Value.ref a :: argsL).toArray := by
  subst hg
  have hpl : e.platform.magicAccessors = ({} : Platform).magicAccessors := by rw [X.admits.platform]
  obtain ⟨mk, methM, cM, kP, vm₁, hnamed, hmethM, hcodeM, -, hlocalsM, -, hkP, -, hW₁, hstep₁⟩ := Steps.initColdArgsNest (e := e) X.here hexec X.warmed hpl hown hy1 hy hlink hinst hcode (f := g) rfl hlen hstack hdg
  have X₁ := X.noted hW₁
  exact ⟨vm₁, mk, X₁.warmed, X₁, X₁.named hnamed, fun target h => hstep₁ _ fun acts => by rw [doInvoke_state]; exact h⟩
/-- the fixed part of a call: the contract, its room, its words -/
def CallC (l : Launch) (R : Room) (s : State) (s0 : State) (y : MethodName) (w : Cond) (rm : Room) (free : Nat → Prop) (as : List Value) (I0 : Heap → Prop) (o : Outcome) (I1 : Heap → Prop) (k n maxL : Nat) (cells slots : Nat) : Prop :=
  Ct l s0 y w rm free as I0 o I1 k n ∧ s0.WarmedH s.vm ∧ (∀ (a : Array Value) (U : State), s.WarmedH U.vm → w.before a U = true) ∧ CodeW w y maxL ∧ (∀ (a : Array Value) (U : State), s.WarmedH U.vm → (Cond.initialized y.cls).before a U = true) ∧
    rm.frames + 1 ≤ R.frames ∧ 8 + (maxL + 11) + rm.locals ≤ R.locals ∧ cells + rm.cells ≤ R.cells ∧ slots + rm.slots ≤ R.slots
theorem call_gen {g : JFrame} {ig : Instr} {rest : List Value} (hC : CallC l R s s0 y w rm free as I0 o I1 k n maxL cells slots) (hg : g.method = m) (hsize : g.locals.size = c.maxLocals) (hdg : decode c.code g.pc = .ok (ig, len)) (hmr : 2 * g.monitorRoom + (rest.map fun v => v.category).sum ≤ 8)
    (X : Stand p l e R s m args below meth c T locs cells slots) (hL : LinkS p l e R s m args below meth c T locs cells slots g rest y as.toArray) (hI : I0 T.heap) :
    ∃ (T' : State) (L : List Loc), Stand p l e R s m args below meth c T' (locs ++ L) (cells + k) (slots + n) ∧ I1 T'.heap ∧ (∀ q ∈ L, free q.base) ∧ Kept free T.heap T'.heap ∧
      ∃ t, Steps p.tables e below (T.setTop g) t ∧ (∀ v, o = .returned v → t = T'.setTop { g with pc := g.pc + len, stack := v.toList ++ rest }) ∧ (∀ x, o = .threw x → t = (T'.setTop { g with stack := rest }).pushFrame (.throwing x)) := by
  obtain ⟨h1, h2, h3, h4, h5, h6, h7, h8, h9⟩ := hC
  obtain ⟨vm₁, mk, hW₁, X₁, hn, hst⟩ := hL
  obtain ⟨T', L, X', hI1, hL', hK', t, st, r1, r2⟩ := ct_call (g := { g with stack := rest }) X₁ hg hsize hdg hn h1 rfl (State.WarmedH.trans h2 hW₁) hI (h3 _ _ hW₁) h4 (h5 _ _ hW₁) h6 (by
    show 2 * g.monitorRoom + (rest.map fun v => v.category).sum + (maxL + 11) + rm.locals ≤ R.locals
    omega) h8 h9
  exact ⟨T', L, X', hI1, hL', hK', t, hst _ st, r1, r2⟩
/-- a call that comes back -/
theorem w_callR {g : JFrame} {ig : Instr} {rest : List Value} {v : Option Value} (hC : CallC l R s s0 y w rm free as I0 (.returned v) I1 k n maxL cells slots) (hg : g.method = m) (hsize : g.locals.size = c.maxLocals) (hdg : decode c.code g.pc = .ok (ig, len)) (hmr : 2 * g.monitorRoom + (rest.map fun v => v.category).sum ≤ 8)
    (hL : ∀ T : State, T.heap = H → Stand p l e R s m args below meth c T locs cells slots → LinkS p l e R s m args below meth c T locs cells slots g rest y as.toArray) (hI : I0 H)
    (kk : ∀ (H1 : Heap) (L : List Loc), I1 H1 → (∀ q ∈ L, free q.base) → Kept free H H1 → W p l e R s m args below meth c H1 (locs ++ L) (cells + k) (slots + n) Q { g with pc := g.pc + len, stack := v.toList ++ rest }) : W p l e R s m args below meth c H locs cells slots Q g := by
  intro T hT X
  subst hT
  obtain ⟨T', L, X', hI1, hL', hK', t, st, r1, r2⟩ := call_gen hC hg hsize hdg hmr X (hL T rfl X) hI
  obtain ⟨t2, a1, b1⟩ := kk T'.heap L hI1 hL' hK' T' rfl X'
  rw [r1 v rfl] at st
  exact ⟨t2, st.trans a1, b1⟩
/-- a call that throws x, and no handler here covers the place -/
theorem w_callT {g : JFrame} {ig : Instr} {rest : List Value} {x : Addr} {freeS : Nat → Prop} {I2 : Heap → Prop} {k2 n2 : Nat} (hC : CallC l R s s0 y w rm free as I0 (.threw x) I1 k n maxL cells slots) (hg : g.method = m) (hsize : g.locals.size = c.maxLocals) (hdg : decode c.code g.pc = .ok (ig, len)) (hmr : 2 * g.monitorRoom + (rest.map fun v => v.category).sum ≤ 8)
    (hL : ∀ T : State, T.heap = H → Stand p l e R s m args below meth c T locs cells slots → LinkS p l e R s m args below meth c T locs cells slots g rest y as.toArray) (hI : I0 H)
    (hlk : g.locked = none) (hen : g.entered = []) (hlocks : meth.locks = false) (hout : ∀ x ∈ c.exceptionTable.toList, covers x g.pc = false)
    (h1 : ∀ H1 : Heap, I1 H1 → Kept free H H1 → I2 H1) (h2 : ∀ q ∈ locs, freeS q.base) (h3 : ∀ q, free q → freeS q) (h4 : cells + k ≤ k2) (h5 : slots + n ≤ n2) : W p l e R s m args below meth c H locs cells slots (EQ below s freeS (.threw x) I2 k2 n2) g := by
  intro T hT X
  subst hT
  obtain ⟨T', L, X', hI1, hL', hK', t, st, r1, r2⟩ := call_gen hC hg hsize hdg hmr X (hL T rfl X) hI
  rw [r2 x rfl] at st
  obtain ⟨s1, s2, s3, s4, s5⟩ := X'.leaveThrown x (g := { g with stack := rest }) hg hlk hen hout
  refine ⟨_, st.trans s1, s2, s3, h1 _ hI1 hK', s4, _, s5.mono h4 h5, fun q hq => ?_⟩
  rcases List.mem_append.mp hq with h | h
  · exact h2 q h
  · exact h3 _ (hL' q h)
end CALLS
