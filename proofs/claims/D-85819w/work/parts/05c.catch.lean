/-! an exception of a callee is caught here: the catch class may be resolved for the first time -/
def FindsTo (e : Env) (s : State) (f : JFrame) (a : Addr) (h : Handler) (vm' : Vm) : Prop :=
  ∀ (Q : Handler → Pre) (E : CtlPost) (d : Bool) (acts : List Action), wp (findHandler f a) Q E e d acts s ↔ Q h d acts (s.setVm vm')
section CATCH
variable {e : Env} {s : State} {f g : JFrame} {a : Addr} {c : ClassId} {cell : Cell} {vm' : Vm}
theorem go_classCold {Q : Handler → Pre} {E : CtlPost} {d : Bool} {acts : List Action} {x : ExceptionTableEntry} {t : List ExceptionTableEntry} (hx : covers x f.pc = true) (h0 : x.catchType ≠ 0) (hg : (Jvm.resolveClass f.method.cls x.catchType).Gives e.toSetting s.vm (.ok c) vm') (hsz : vm'.classes.size ≤ s.vm.classes.size)
    (hcell : s.heap[a]? = some cell) (hobj : ∀ k, cell.vm ≠ .statics k) (hk : ∃ k, vm'.classes[cell.cls]? = some k) (hc : ∃ k, vm'.classes[c]? = some k) (hfit : vm'.assignable cell.cls c = true) :
    wp (findHandler.go f a (x :: t)) Q E e d acts s ↔ Q (.found x.handlerPc) d acts (s.setVm vm') := by
  simp only [covers] at hx
  obtain ⟨ha, ht⟩ := hg.op (op := VmOp.resolveClass f.method.cls x.catchType) rfl
  simp [findHandler.go, hx, h0, ha, ht, hsz, hcell, hobj, hk, hc, hfit, VmOp.dirties, VmOp.acts]
theorem stepThrowing_catchTo {r : List Frame} {pc : Nat} (hfind : FindsTo e s f a (.found pc) vm') :
    (stepThrowing e s a (.java f :: r)).Is ((s.setVm vm').setFrames (.java { f with pc := pc, stack := [.ref a] } :: r)) [] := by
  simp only [stepThrowing, searchFrame, vmDo]
  generalize hr : Sem.go _ e false [] s = res
  obtain ⟨as, rfl, ha⟩ := Sem.eq_ok_of hr (a := Handler.found pc) (s' := s.setVm vm') (acts' := []) (by simp [hfind _ _ _ _])
  exact ⟨rfl, ha⟩
theorem caughtTo {tb : Tables} {target : State} {cd : Code} {below : List Frame} (h : At s g.method cd below) {pc : Nat} (hfind : FindsTo e ((s.setTop g).pushFrame (.throwing a)) g a (.found pc) vm')
    (hrest : Steps tb e below ((s.setVm vm').setTop { g with pc := pc, stack := [.ref a] }) target) : Steps tb e below ((s.setTop g).pushFrame (.throwing a)) target := by
  obtain ⟨hgo, hw⟩ := h.throwing a
  refine Steps.head hgo hw ?_
  rw [stepThread_throwing (frames_entered h.top _), (stepThrowing_catchTo (s := (s.setTop g).pushFrame (.throwing a)) hfind).1]
  obtain ⟨g₀, hg⟩ := Option.isSome_iff_exists.mp h.top
  obtain ⟨r, hr⟩ := State.topJava?_eq_some.mp hg
  have hr' : (s.setVm vm').frames = .java g₀ :: r := hr
  rw [State.setTop_of_frames _ hr'] at hrest
  have e1 : (((s.setTop g).pushFrame (.throwing a)).setVm vm').setFrames (.java { g with pc := pc, stack := [.ref a] } :: s.frames.tail) = (s.setVm vm').setFrames (.java { g with pc := pc, stack := [.ref a] } :: r) := by
    rw [hr]
    have e2 : ((s.setTop g).pushFrame (.throwing a)).setVm vm' = (s.setVm vm').setFrames (.throwing a :: .java g :: r) := by
      rw [State.pushFrame, State.setTop_of_frames _ hr, State.setFrames_setFrames, State.frames_setFrames _ (by
        have := h.top
        exact State.cur_lt_of_frames hr)]
      rfl
    rw [e2, State.setFrames_setFrames]
    rfl
  rw [e1]
  exact hrest
end CATCH
section CATCH2
variable {p : Program} {l : Launch} {e : Env} {R : Room} {s : State} {m : MethodId} {args : Array Value} {below : List Frame} {meth : Method} {c : Code} {T : State} {H : Heap} {locs : List Loc} {cells slots : Nat} {Q : State → Prop}
variable {s0 : State} {y : MethodName} {w : Cond} {rm : Room} {free : Nat → Prop} {as : List Value} {I0 : Heap → Prop} {o : Outcome} {I1 : Heap → Prop} {k n maxL len : Nat}
theorem catchCold (X : Stand p l e R s m args below meth c T locs cells slots) {g : JFrame} (hg : g.method = m) {a : Addr} {x : ExceptionTableEntry} {own nm : String} (htab : c.exceptionTable.toList = [x]) (hx : covers x g.pc = true) (h0 : x.catchType ≠ 0)
    (hown : s.vm.findClass own = some m.cls) (hlink : (Cond.classLink own x.catchType nm).before args s = true) (hr : ∃ cell : Cell, T.heap[a]? = some cell ∧ cell.vm.isStatics = false ∧ s.vm.findClass nm = some cell.cls) :
    ∃ vm', Stand p l e R s m args below meth c (T.setVm vm') locs cells slots ∧ ∀ target, Steps p.tables e below ((T.setVm vm').setTop { g with pc := x.handlerPc, stack := [.ref a] }) target → Steps p.tables e below ((T.setTop g).pushFrame (.throwing a)) target := by
  obtain ⟨cell, h1, hobj, hnm⟩ := hr
  have hpl : e.platform.magicAccessors = ({} : Platform).magicAccessors := by rw [X.admits.platform]
  obtain ⟨cT, hcc, hcl⟩ := Cond.classLink_spec hown hlink e.platform hpl
  cases hnm.symm.trans hcc
  obtain ⟨dk, _, _, kt, hd, _, _, _, _, hkt, _, hopen⟩ := hcl.here
  have hcl₀ := X.warmed.classLinks hcl
  have hW' : s.WarmedH (T.vm.noted m.cls x.catchType (.cls cell.cls)) := X.warmed.noted hd hopen (State.rightAt_cls hcl)
  obtain ⟨kt', hkt', -⟩ := hW'.alike.2.2 _ _ hkt
  refine ⟨_, X.noted hW', fun target hrest => ?_⟩
  subst hg
  have e1 : ((T.setTop g).pushFrame (.throwing a)).vm = T.vm := Stand.throwing_vm T g a
  have e2 : ((T.setTop g).pushFrame (.throwing a)).heap = T.heap := Stand.throwing_heap T g a
  refine caughtTo X.here (vm' := T.vm.noted g.method.cls x.catchType (.cls cell.cls)) (fun Q E d acts => ?_) hrest
  rw [W.findHandler_eq (meth := meth) (code := c) (by rw [e1]; exact X.method') X.code, htab]
  refine go_classCold (cell := cell) (c := cell.cls) hx h0 (by rw [e1]; exact resolveClass_links e.toSetting hcl₀) ?_ (by rw [e2]; exact h1) (VmData.ne_statics_of hobj) ⟨kt', hkt'⟩ ⟨kt', hkt'⟩ (by show Vm.assignableAux _ (255 + 1) _ _ = true; rw [Vm.assignableAux]; simp)
  rw [e1, hW'.2.1, X.warmed.2.1]
  exact Nat.le_refl _
/-- a call that throws x, which is caught here -/
theorem w_callH {g : JFrame} {ig : Instr} {rest : List Value} {a : Addr} {x : ExceptionTableEntry} {own nm : String} (hC : CallC l R s s0 y w rm free as I0 (.threw a) I1 k n maxL cells slots) (hg : g.method = m) (hsize : g.locals.size = c.maxLocals) (hdg : decode c.code g.pc = .ok (ig, len)) (hmr : 2 * g.monitorRoom + (rest.map fun v => v.category).sum ≤ 8)
    (hL : ∀ T : State, T.heap = H → Stand p l e R s m args below meth c T locs cells slots → LinkS p l e R s m args below meth c T locs cells slots g rest y as.toArray) (hI : I0 H)
    (htab : c.exceptionTable.toList = [x]) (hx : covers x g.pc = true) (h0 : x.catchType ≠ 0) (hown : s.vm.findClass own = some m.cls) (hlink : (Cond.classLink own x.catchType nm).before args s = true)
    (hr : ∀ H1, I1 H1 → ∃ cell : Cell, H1[a]? = some cell ∧ cell.vm.isStatics = false ∧ s.vm.findClass nm = some cell.cls)
    (kk : ∀ (H1 : Heap) (L : List Loc), I1 H1 → (∀ q ∈ L, free q.base) → Kept free H H1 → W p l e R s m args below meth c H1 (locs ++ L) (cells + k) (slots + n) Q { g with pc := x.handlerPc, stack := [.ref a] }) : W p l e R s m args below meth c H locs cells slots Q g := by
  intro T hT X
  subst hT
  obtain ⟨T', L, X', hI1, hL', hK', t, st, r1, r2⟩ := call_gen hC hg hsize hdg hmr X (hL T rfl X) hI
  obtain ⟨vm', X2, st2⟩ := catchCold X' (g := { g with stack := rest }) hg (a := a) htab hx h0 hown hlink (hr _ hI1)
  obtain ⟨t2, a1, b1⟩ := kk T'.heap L hI1 hL' hK' (T'.setVm vm') rfl X2
  rw [r2 a rfl] at st
  exact ⟨t2, st.trans (st2 _ a1), b1⟩
end CATCH2
section JCALLH
variable {S : Type} {w : Wd S} {md mdc : MD} {lev : Nat} {st0 st : S} {pc len : Nat} {lv : List (Option Value)} {stk rest : List Value} {Q : Outcome → S → Prop} {as : List Value}
/-- the object at a is of the class nm -/
def isOb (w : Wd S) (t : S) (a : Nat) (nm : String) : Prop := ∀ (s : State) (H : Heap), okT w → w.s0.WarmedH s.vm → w.rp t H → ∃ cell : Cell, H[a]? = some cell ∧ cell.vm.isStatics = false ∧ s.vm.findClass nm = some cell.cls
/-- how a call goes on: returned, at the next place; thrown, at the handler -/
def afterH (w : Wd S) (md : MD) (lev : Nat) (st0 : S) (pc hp : Nat) (nm : String) (lv : List (Option Value)) (rest : List Value) (Q : Outcome → S → Prop) : Outcome → S → Prop := fun o t => match o with
  | .returned v => JQ w md lev st0 pc lv (v.toList ++ rest) t Q
  | .threw x => isOb w t x nm ∧ JQ w md lev st0 hp lv [.ref x] t Q
theorem JQ.callH {ig : Instr} {a b hp ct : Nat} {nm : String} (hlk : Lk w md st pc lv stk rest mdc.y as) (hcw : Cw mdc) (h1 : 1 ≤ lev) (hrm : (rest.map fun v => v.category).sum ≤ 8) (hh : md.hh = [(a, b, hp, ct)]) (hcov : a ≤ pc ∧ pc < b) (hct : ct ≠ 0) (hq : Cond.classLink md.y.cls ct nm ∈ lw_all) (hd : decode md.cc pc = .ok (ig, len))
    (hC : CQ w mdc (lev - 1) as st (fun o t => lec w st t → afterH w md lev st0 (pc + len) hp nm lv rest Q o t)) : JQ w md lev st0 pc lv stk st Q := by
  intro hle hok
  obtain ⟨o, t, q, r1, r2, r3⟩ := hC hok
  cases o with
  | returned v =>
    obtain ⟨o', t', q', p1, p2, p3⟩ := q r1 (hle.tr r1) r2
    refine ⟨o', t', q', r1.tr p1, p2, fun ht ℓ hℓ p e s m args below meth c H locs ls C hR hL hl => ?_⟩
    have hl1 : lev - 1 ≤ ℓ - 1 := by omega
    refine w_callR (callC_of (st0 := st0) ht C.2.2.2.2.2.2.2.2.1 hcw rfl rfl rfl hle hok (by omega) (r3 ht (ℓ - 1) hl1)) rfl (hl.1.trans C.2.2.1.symm) (by rw [C.2.1]; exact hd) (lv_room hrm) (fun T hT X => hlk ht p e _ s m args below meth c H locs _ _ ls C hR hl T hT X) hR (fun H1 L h1 h2 h3 => ?_)
    have := p3 ht ℓ hℓ p e s m args below meth c H1 (locs ++ L) ls C h1 (t_lL hL h2) hl
    refine W.cs ?_ ?_ this
    · have := hle.1.1; have := r1.1.1; omega
    · have := hle.1.2; have := r1.1.2; omega
  | threw x =>
    obtain ⟨q1, q2⟩ := q r1
    obtain ⟨o', t', q', p1, p2, p3⟩ := q2 (hle.tr r1) r2
    refine ⟨o', t', q', r1.tr p1, p2, fun ht ℓ hℓ p e s m args below meth c H locs ls C hR hL hl => ?_⟩
    have hl1 : lev - 1 ≤ ℓ - 1 := by omega
    have htb := C.2.2.2.2.2.1
    rw [hh] at htb
    obtain ⟨x0, hx0⟩ : ∃ x0, c.exceptionTable.toList = [x0] := by
      match hz : c.exceptionTable.toList with
      | [] => rw [hz] at htb; simp at htb
      | [x0] => exact ⟨x0, rfl⟩
      | x0 :: x1 :: r => rw [hz] at htb; simp at htb
    rw [hx0] at htb
    simp only [List.map_cons, List.map_nil, List.cons.injEq, Prod.mk.injEq, and_true] at htb
    obtain ⟨e1, e2, e3, e4⟩ := htb
    refine w_callH (callC_of (st0 := st0) ht C.2.2.2.2.2.2.2.2.1 hcw rfl rfl rfl hle hok (by omega) (r3 ht (ℓ - 1) hl1)) rfl (hl.1.trans C.2.2.1.symm) (by rw [C.2.1]; exact hd) (lv_room hrm) (fun T hT X => hlk ht p e _ s m args below meth c H locs _ _ ls C hR hl T hT X) hR hx0 (by simp only [covers, e1, e2]; simp; exact hcov) (by rw [e4]; exact hct) C.2.2.2.2.2.2.1 (by rw [e4]; exact C.2.2.2.2.2.2.2.2.2 _ hq) (fun H1 h => q1 s H1 ht C.2.2.2.2.2.2.2.2.1 h) (fun H1 L h1 h2 h3 => ?_)
    rw [e3]
    have := p3 ht ℓ hℓ p e s m args below meth c H1 (locs ++ L) ls C h1 (t_lL hL h2) hl
    refine W.cs ?_ ?_ this
    · have := hle.1.1; have := r1.1.1; omega
    · have := hle.1.2; have := r1.1.2; omega
end JCALLH
