/-! Throwable's constructor: the whole of it, as one row (no stack traces are kept) -/
theorem thr_at {s0 s : State} (ht : ∀ w ∈ lw_tbl, w.before #[] s0 = true) (hW : s0.WarmedH s.vm) : ∀ c ∈ Bundle.throwableAtoms, c.before #[] (s0.setVm s.vm) = true :=
  List.forall_mem_cons.mpr ⟨Cond.pureAt_warm hW _ (by decide +kernel) (ht _ (lw_all_tbl q125)), List.forall_mem_cons.mpr ⟨Cond.pureAt_warm hW _ (by decide +kernel) (ht _ (lw_all_tbl q401)), List.forall_mem_cons.mpr ⟨Cond.pureAt_warm hW _ (by decide +kernel) (ht _ (lw_all_tbl q410)), List.forall_mem_cons.mpr ⟨Cond.pureAt_warm hW _ (by decide +kernel) (ht _ (lw_all_tbl q415)), List.forall_mem_cons.mpr ⟨Cond.pureAt_warm hW _ (by decide +kernel) (ht _ (lw_all_tbl q418)), List.forall_mem_cons.mpr ⟨Cond.pureAt_warm hW _ (by decide +kernel) (ht _ (lw_all_tbl q420)), List.forall_mem_cons.mpr ⟨Cond.pureAt_warm hW _ (by decide +kernel) (ht _ (lw_all_tbl q402)), List.forall_mem_cons.mpr ⟨Cond.pureAt_warm hW _ (by decide +kernel) (ht _ (lw_all_tbl q403)), List.forall_mem_cons.mpr ⟨Cond.pureAt_warm hW _ (by decide +kernel) (ht _ (lw_all_tbl q168)), List.forall_mem_cons.mpr ⟨Cond.pureAt_warm hW _ (by decide +kernel) (ht _ (lw_all_tbl q169)), List.forall_mem_cons.mpr ⟨Cond.pureAt_warm hW _ (by decide +kernel) (ht _ (lw_all_tbl q404)), List.forall_mem_cons.mpr ⟨Cond.pureAt_warm hW _ (by decide +kernel) (ht _ (lw_all_tbl q409)), List.forall_mem_cons.mpr ⟨Cond.pureAt_warm hW _ (by decide +kernel) (ht _ (lw_all_tbl q416)), List.forall_mem_cons.mpr ⟨Cond.pureAt_warm hW _ (by decide +kernel) (ht _ (lw_all_tbl q433)), List.forall_mem_cons.mpr ⟨Cond.pureAt_warm hW _ (by decide +kernel) (ht _ (lw_all_tbl q391)), List.forall_mem_cons.mpr ⟨Cond.pureAt_warm hW _ (by decide +kernel) (ht _ (lw_all_tbl q434)), List.forall_mem_cons.mpr ⟨Cond.pureAt_warm hW _ (by decide +kernel) (ht _ (lw_all_tbl q393)), List.forall_mem_cons.mpr ⟨Cond.pureAt_warm hW _ (by decide +kernel) (ht _ (lw_all_tbl q435)), List.forall_mem_cons.mpr ⟨Cond.pureAt_warm hW _ (by decide +kernel) (ht _ (lw_all_tbl q395)), List.forall_mem_cons.mpr ⟨Cond.pureAt_warm hW _ (by decide +kernel) (ht _ (lw_all_tbl q405)), List.forall_mem_cons.mpr ⟨Cond.laysStatic_setVm hW.alike (ht _ q406), List.forall_mem_cons.mpr ⟨Cond.pureAt_warm hW _ (by decide +kernel) (ht _ (lw_all_tbl q407)), List.forall_mem_cons.mpr ⟨Cond.laysStatic_setVm hW.alike (ht _ q408), List.forall_mem_cons.mpr ⟨Cond.pureAt_warm hW _ (by decide +kernel) (ht _ (lw_all_tbl q397)), (fun _ h => nomatch h)⟩⟩⟩⟩⟩⟩⟩⟩⟩⟩⟩⟩⟩⟩⟩⟩⟩⟩⟩⟩⟩⟩⟩⟩
theorem thr_links {T : ThrowableC} {pl : Platform} {s0 s : State} (L1 : T.Links pl (s0.setVm s.vm)) : T.Links pl s :=
  ⟨L1.owns, L1.noFinalization, L1.cls, L1.name, L1.boot, L1.notInterface, L1.initialized, L1.statics, L1.fillAt, L1.fillCode, L1.fillBytes, L1.fillLocals, L1.fillLocks, L1.fillStatic, L1.fillAbstract, L1.fillReturns, L1.fillParams, L1.fill0At, L1.fill0Name, L1.fill0Desc, L1.fill0Params, L1.fill0Static, L1.fill0Native, L1.fill0Code, L1.fill0Locks, L1.fill0Abstract, L1.stackInstance, L1.stackNotFinal, L1.unassignedStatic, L1.objClass, L1.objClassName, L1.objMethod, L1.objName, L1.objStatic, L1.objAbstract, L1.objFound, L1.objParams, L1.objCode, L1.objBytes, L1.objLocks, L1.causeInstance, L1.causeNotFinal, L1.sentinelStatic, L1.suppInstance, L1.suppNotFinal, L1.msgInstance, L1.msgNotFinal, L1.stackApartSupp, L1.file, L1.mlink1, L1.mright1, L1.pool1, L1.mlink27, L1.mright27, L1.pool27, L1.mlink202, L1.mright202, L1.pool202, L1.link7, L1.right7, L1.at7, L1.link13, L1.right13, L1.at13, L1.link17, L1.right17, L1.at17, L1.link20, L1.right20, L1.at20, L1.link24, L1.right24, L1.at24⟩
/-- the classes of throwables -/
def thC : List Nat := [6, 24, 25, 26]
theorem thSel {c : Nat} (h : c ∈ thC) : Cond.selects (gQ c).1 Bundle.tFill0 Bundle.tFill0 ∈ lw_all ∧ Cond.selects (gQ c).1 Bundle.tFill Bundle.tFill ∈ lw_all := by
  simp only [thC, List.mem_cons, List.not_mem_nil, or_false] at h
  rcases h with rfl | rfl | rfl | rfl
  · exact ⟨q991, q412⟩
  · exact ⟨q388, q389⟩
  · exact ⟨q1845, q414⟩
  · exact ⟨q1957, q413⟩
theorem thF {c : Nat} (h : c ∈ thC) : c < 28 ∧ c ≠ 22 ∧ 5 ≤ (gQ c).2.2 ∧ (gQ c).2.1 0 = ("java/lang/Throwable", "cause", "Ljava/lang/Throwable;", false) ∧ (gQ c).2.1 1 = ("java/lang/Throwable", "stackTrace", "[Ljava/lang/StackTraceElement;", false) ∧ (gQ c).2.1 2 = ("java/lang/Throwable", "suppressedExceptions", "Ljava/util/List;", false) ∧ (gQ c).2.1 4 = ("java/lang/Throwable", "backtrace", "Ljava/lang/Object;", false) ∧
    gK c 0 = 1 ∧ gK c 1 = 1 ∧ gK c 2 = 1 ∧ gK c 4 = 1 ∧ gty c 0 = .object "java/lang/Throwable" ∧ gty c 1 = .array (.object "java/lang/StackTraceElement") ∧ gty c 2 = .object "java/util/List" := by
  simp only [thC, List.mem_cons, List.not_mem_nil, or_false] at h
  rcases h with rfl | rfl | rfl | rfl <;> exact ⟨by decide, by decide, by decide, rfl, rfl, rfl, rfl, rfl, rfl, rfl, rfl, rfl, rfl, rfl⟩
/-- one slot of references is written -/
theorem RepG.slotR {s0 : State} {G : GPl} {σ : GSt} {H : Heap} {a c j : Nat} {r : Option Nat} {cell : Cell} (hR : RepG s0 G σ H) (hk : gk σ a = c + 1) (h27 : c < 28) (hj : j < (gQ c).2.2) (hkd : gK c j = 1)
    (hap : ∀ x y, x < (gQ c).2.2 → y < (gQ c).2.2 → x ≠ y → G.dI c x ≠ G.dI c y) (ha : G.h0.size ≤ a) (g1 : H[a]? = some cell) : RepG s0 G (gpr a j r σ) (H.setIfInBounds a (cell.setSlot (G.dI c j) (va_rf r))) := by
  have hq := gQ_get h27
  obtain ⟨g0, cell', g1', g2, g3, g4, g5, g6⟩ := (hR.2.2.2.2 a).1 c _ hk hq
  cases g1.symm.trans g1'
  have hal : a < H.size := (Array.getElem?_eq_some_iff.mp g1).1
  refine hR.upd (by simp) (fun q hq => by simp [Array.getElem?_setIfInBounds, Ne.symm hq]) ha rfl (fun _ _ => rfl) (fun b h => va_up_ne _ _ h) rfl rfl ?_
  refine ⟨fun c2 q2 hc2 hq2 => ?_, fun h => ?_, fun h => ?_, fun h => ?_, fun h => ?_⟩
  · have hcc : c2 = c := by omega
    subst hcc
    have hqq : gQ c2 = q2 := Option.some.inj (hq.symm.trans hq2)
    subst hqq
    refine ⟨g0, cell.setSlot (G.dI c2 j) (va_rf r), by simp [Array.getElem?_setIfInBounds, hal], g2, g3, g4, g5, fun i hi2 => ?_⟩
    have := t_set (V := gval c2 (σ.2.1 a) (σ.2.2.1 a)) g6 hap hj (va_rf r) i hi2
    rw [this]
    unfold updV
    have e2 : (gpr a j r σ).2.2.1 a = fun i => if i = j then r else σ.2.2.1 a i := by
      funext i
      show va_up σ.2.2.1 a (va_up (σ.2.2.1 a) j r) a i = _
      rw [va_up_self]; rfl
    rw [e2]
    by_cases hij : i = j
    · subst hij; rw [if_pos rfl, gval_r hkd]; simp
    · rw [if_neg hij]; unfold gval; simp [hij]; rfl
  all_goals (exfalso; omega)
section GTHR
variable {G : GPl} {s0 : State} {l : Launch} {K : Nat → Option Nat} {T : Nat → Nat} {md : MD} {lev : Nat} {st0 σ : GSt} {pc idx : Nat} {lv : List (Option Value)} {stk : List Value} {Q : Outcome → GSt → Prop} {a : Nat}
/-- a row that writes one cell, with room for three frames -/
theorem jg_doR3 {pc' : Nat} {stk' : List Value} {σ' : GSt} (h1 : 3 ≤ lev) (h0 : σ'.1 = σ.1) (h4 : gn σ' = gn σ) (h5 : gm σ' = gm σ) (hka : gk σ a ≠ 0) (hba : ∀ H, RepG s0 G σ H → G.h0.size ≤ a)
    (h : ∀ (p : Program) (e : Env) (R : Room) (s : State) (m : MethodId) (args : Array Value) (below : List Frame) (meth : Method) (c : Code) (H : Heap) (locs : List Loc) (cells slots : Nat) (QQ : State → Prop) (ls : Array Slot), okT (wP G s0 l K T) → Cx (wP G s0 l K T) md p s m args meth c → RepG s0 G σ H → ls.size = md.nL → 3 ≤ R.frames → 192 ≤ R.locals →
      (∀ (H' : Heap) (L : List Loc), (∀ q ∈ L, q.base = a) → RepG s0 G σ' H' → W p l e R s m args below meth c H' (locs ++ L) cells slots QQ (F0 m pc' ls stk')) → W p l e R s m args below meth c H locs cells slots QQ (F0 m pc ls stk))
    (kk : JQ (wP G s0 l K T) md lev st0 pc' lv stk' σ' Q) : JQ (wP G s0 l K T) md lev st0 pc lv stk σ Q := by
  intro a0 b0
  have a1 : lec (wP G s0 l K T) st0 σ' := ⟨⟨by show gn st0 ≤ gn σ'; rw [h4]; exact a0.1.1, by show gm st0 ≤ gm σ'; rw [h5]; exact a0.1.2⟩, by show ∀ x, st0.1 x ≠ 0 → σ'.1 x = st0.1 x; rw [h0]; exact a0.2⟩
  have b1 : okc (wP G s0 l K T) σ' := ⟨by show gn σ' ≤ _; rw [h4]; exact b0.1, by show gm σ' ≤ _; rw [h5]; exact b0.2⟩
  obtain ⟨o, t, q, r1, r2, r3⟩ := kk a1 b1
  refine ⟨o, t, q, ⟨⟨by have := r1.1.1; change gn σ' ≤ _ at this; rw [h4] at this; exact this, by have := r1.1.2; change gm σ' ≤ _ at this; rw [h5] at this; exact this⟩, by have := r1.2; change ∀ x, σ'.1 x ≠ 0 → t.1 x = σ'.1 x at this; rw [h0] at this; exact this⟩, r2, fun ht ℓ hℓ p e s m args below meth c' H locs ls C hR hL hl => ?_⟩
  refine h p e _ s m args below meth c' H locs _ _ _ ls ht C hR hl.1 (by show 3 ≤ ℓ; omega) (by show 192 ≤ 64 * ℓ; omega) (fun H' L hLa hR' => ?_)
  have := r3 ht ℓ hℓ p e s m args below meth c' H' (locs ++ L) ls C hR' (fun q hq => by
    rcases List.mem_append.mp hq with h | h
    · exact hL q h
    · rw [hLa q h]; exact ⟨hba _ hR, (hR.2.2.1 a hka).2⟩) hl
  refine W.cs ?_ ?_ this
  · show gn σ - gn st0 = gn σ' - gn st0; rw [h4]
  · show gm σ - gm st0 = gm σ' - gm st0; rw [h5]
/-- what Throwable's constructor leaves -/
def gthr (K : Nat → Option Nat) (a : Nat) (σ : GSt) : GSt := gpr a 1 (K 17) (gpr a 2 (K 18) (gpr a 1 (K 17) (gpr a 0 (some a) σ)))
def rfV (r : Option Nat) : RefV := ⟨va_rf r, by cases r <;> rfl⟩
theorem jg_thr {c : Nat} (h3 : 3 ≤ lev) (hc : c ∈ thC) (hk : gk σ a = c + 1) (hbt : gr σ a 4 = none) (hq : Cond.methodLink md.y.cls idx Bundle.tInit0 ∈ lw_all) (hrm : (stk.map fun v => v.category).sum ≤ 8) (hd : decode md.cc pc = .ok (.invokespecial idx, 3))
    (kk : JQ (wP G s0 l K T) md lev st0 (pc + 3) lv stk (gthr K a σ) Q) : JQ (wP G s0 l K T) md lev st0 pc lv (va_rf (some a) :: stk) σ Q := by
  obtain ⟨h27, h22, h5, F0', F1', F2', F4', k0, k1, k2, k4, y0, y1, y2⟩ := thF hc
  refine jg_doR3 (a := a) (σ' := gthr K a σ) h3 rfl rfl rfl (by omega) (fun H hR => ((hR.2.2.2.2 a).1 c _ hk (gQ_get h27)).1 h22) (fun p e R s m args below meth c' H locs cells slots QQ ls ht C hR hz q1 q2 kw => ?_) kk
  have hq0 := gQ_get h27
  have hW := C.2.2.2.2.2.2.2.2.1
  have hts := C.2.2.2.2.2.2.2.2.2
  have hown := C.2.2.2.2.2.2.1
  obtain ⟨g0, cell, g1, g2, g3, g4, g5, g6⟩ := (hR.2.2.2.2 a).1 c _ hk hq0
  have ha := g0 h22
  obtain ⟨hvm, hmon⟩ := g5 ha
  have hKn := u_Kn_moved hW.alike (ht.2.1.1 c _ hq0)
  have hap := g_apart hq0 hts hKn
  obtain ⟨hS, hfc, kC, hkC, hkind⟩ := hKn
  intro Ts hT X
  have htr : e.platform.stackTraces = false := (congrArg Platform.stackTraces X.admits.2.2.2.2.1).trans ht.2.2.2.2.2.2.2.2
  have hpl : e.platform.magicAccessors = ({} : Platform).magicAccessors := by
    have h9 := congrArg Platform.magicAccessors X.admits.2.2.2.2.1
    exact h9
  obtain ⟨TT, Z, L1, LZ, Y⟩ := ThrowableC.of_atoms (args := #[]) (s := s0.setVm s.vm) (Launch.admits_frameOwnsMonitors X.admits) (Launch.admits_finalization X.admits) hpl (thr_at ht.1 hW)
  have L := thr_links (s0 := s0) (s := s) L1
  have hF : ∀ j (f' : Field) (z : ClassId × Class × Nat), j < 5 → s.fieldFound? ((gQ c).2.1 j).1 ((gQ c).2.1 j).2.1 ((gQ c).2.1 j).2.2.1 = some (z.1, z.2.1, z.2.2, f') → f'.slot = G.dI c j ∧ ∀ v, narrow (gty c j) v = v → fits (gty c j) v = true → Takes s cell f' v := by
    intro j f' z hj hi
    obtain ⟨cf, kf, fi, f, hi0, e0⟩ := hS j (by omega)
    have hff : f' = f := by have := hi.symm.trans hi0; simp at this; exact this.2.2.2
    subst hff
    refine ⟨e0, fun v hn hv => ⟨by rw [e0]; exact k2_hasslot (g6 j (by omega)), ?_⟩⟩
    have h6 := u_fits hfc hkC hkind (u_lays hts (gin hq0) (show j < _ by omega)) hi0 (gtyok hq0 j (by omega)) hn hv
    rw [hvm, g2]; exact h6.2
  obtain ⟨s0', t0'⟩ := hF 0 TT.fCause (TT.cT, TT.kT, TT.i7) (by omega) (by rw [F0']; exact Y.cause)
  obtain ⟨s1', t1'⟩ := hF 1 TT.fStack (TT.cT, TT.kT, TT.i17) (by omega) (by rw [F1']; exact Y.stack)
  obtain ⟨s2', t2'⟩ := hF 2 TT.fSupp (TT.cT, TT.kT, TT.i24) (by omega) (by rw [F2']; exact Y.supp)
  obtain ⟨ci198, i198, fB, hk198, hg198, ha198, hsB, -, hnB, htB, hffB⟩ := Cond.ownField (t := .object "java/lang/Object") Y.found L1.cls (by decide +kernel) (Cond.pureAt_warm hW _ (by decide +kernel) (ht.1 _ (lw_all_tbl q400))) (Cond.pureAt_warm hW _ (by decide +kernel) (ht.1 _ (lw_all_tbl q399))) e.platform hpl
  obtain ⟨s4', -⟩ := hF 4 fB (TT.cT, TT.kT, i198) (by omega) (by rw [F4']; exact hffB)
  have hsel0 : selectMethod e.platform s.vm cell.cls TT.fill0 = .method TT.fill0 := by
    obtain ⟨c2, r2, m2, z1, z2, z3, z4, -⟩ := Cond.selects_spec (hts _ (thSel hc).1)
    cases Option.some.inj (z1.symm.trans hfc)
    cases Option.some.inj (z2.symm.trans (State.methodFound?_of_named (s := s) Y.fill0 (by decide)))
    cases Option.some.inj (z3.symm.trans Y.fill0)
    rw [Launch.admits_selectMethod X.admits, g2]; exact z4
  have hselF : selectMethod e.platform s.vm cell.cls TT.fill = .method TT.fill := by
    obtain ⟨c2, r2, m2, z1, z2, z3, z4, -⟩ := Cond.selects_spec (hts _ (thSel hc).2)
    cases Option.some.inj (z1.symm.trans hfc)
    cases Option.some.inj (z2.symm.trans (State.methodFound?_of_named (s := s) Y.fill (by decide)))
    cases Option.some.inj (z3.symm.trans Y.fill)
    rw [Launch.admits_selectMethod X.admits, g2]; exact z4
  obtain ⟨cf, kf, fi, f, aS, cellS, w1, w2, w3, w4, w5, w6, w7, -⟩ := va_Z.moved hW.alike (ht.2.2.2.1 17 _ rfl)
  have e1 := w1.symm.trans Y.unassigned
  simp only [Option.some.injEq, Prod.mk.injEq] at e1
  obtain ⟨rfl, rfl, rfl, rfl⟩ := e1
  obtain ⟨cf', kf', fi', f', aS', cellS', v1, v2, v3, v4, v5, v6, v7, -⟩ := va_Z.moved hW.alike (ht.2.2.2.1 18 _ rfl)
  have e1' := v1.symm.trans Y.sentinel
  simp only [Option.some.injEq, Prod.mk.injEq] at e1'
  obtain ⟨rfl, rfl, rfl, rfl⟩ := e1'
  cases Option.some.inj (w4.symm.trans L.statics)
  cases Option.some.inj (v4.symm.trans L.statics)
  cases Option.some.inj (w5.symm.trans v5)
  have hlS : TT.aS < G.h0.size := (Array.getElem?_eq_some_iff.mp w5).1
  have hcellS : H[TT.aS]? = some cellS := by rw [hR.1.2 _ hlS]; exact w5
  obtain ⟨tm, methC, cdC, kC', vm₁, hnC, -, -, -, -, -, -, -, hW₁, st1⟩ := Steps.initCold (tb := p.tables) (e := e) (below := below) (s := s) (U := Ts) X.here C.1 X.warmed hpl hown (t := Bundle.tInit0) rfl rfl (by decide) (hts _ hq) (hts _ q402) (maxL := 1) (hts _ q403) (f := F0 m pc ls (.ref a :: stk)) rfl (a := a) (rest := stk) rfl (by rw [C.2.1]; exact hd)
  cases Option.some.inj (hnC.symm.trans Y.init0)
  have X₁ := X.noted hW₁
  have hs01 : G.dI c 0 ≠ G.dI c 4 := hap 0 4 (by omega) (by omega) (by omega)
  have hs14 : G.dI c 1 ≠ G.dI c 4 := hap 1 4 (by omega) (by omega) (by omega)
  have hs24 : G.dI c 2 ≠ G.dI c 4 := hap 2 4 (by omega) (by omega) (by omega)
  have hb4 : cell.slots[G.dI c 4]? = some .null := by
    rw [g6 4 (by omega), gval_r k4]; show some (va_rf (gr σ a 4)) = _; rw [hbt]; rfl
  have hskip : SkipFacts TT e.platform s (fun u => u) (rfV (K 17)) ((preparedCellV TT.toThrowableT cell a (rfV (K 17)) (rfV (K 18))).withEntry (Ts.setVm vm₁).cur) := by
    refine ⟨{ ci198 := ci198, i198 := i198, fBack := fB }, ⟨hk198, hg198, ha198, hsB⟩, ?_, fun _ _ => rfl⟩
    show ((preparedCellV TT.toThrowableT cell a (rfV (K 17)) (rfV (K 18))).withEntry (Ts.setVm vm₁).cur).slots[fB.slot]? = some .null
    rw [s4']
    simp [preparedCellV, Cell.setSlot, Cell.withEntry, Array.getElem?_setIfInBounds, s0', s1', s2', hs01, hs14, hs24, hb4]
  obtain ⟨vm₂, X₂, st2⟩ := X₁.ctorPlainOffV C.1 (g := F0 m pc ls stk) rfl (by rw [C.2.2.1]; exact hz) TT L Z LZ [] (fun P hP => nomatch hP) trivial (u0 := rfV (K 17)) (sen := rfV (K 18)) (self := a) (cell := cell) (cellS := cellS)
    (show Ts.heap[a]? = some cell by rw [hT]; exact g1) (fun k h => by rw [hvm] at h; cases h) (by rw [hvm]; exact fun h => by cases h) (by rw [hmon]) (by rw [hmon]) hsel0 hselF (show Ts.heap[TT.aS]? = some cellS by rw [hT]; exact hcellS) (Nat.ne_of_lt (Nat.lt_of_lt_of_le hlS ha)) (fun h => by rw [h] at w6; cases w6) w7 v7
    (t0' _ (by rw [y0]; rfl) (by rw [y0]; rfl)) (t1' _ (by rw [y1]; exact narrow_refV _ _) (by rw [y1]; exact fits_refV_array _ _)) (t2' _ (by rw [y2]; exact narrow_refV _ _) (by rw [y2]; exact fits_refV_object _ _)) Y.objLocals hskip htr (ig := .invokespecial idx) (len := 3) [] (by rw [C.2.1]; exact hd) (by show 0 + 2 < R.frames; omega) (by show 2 * 0 + (stk.map fun v => v.category).sum + 41 ≤ _; omega)
  have r1 := hR.slotR (r := some a) (j := 0) hk h27 (by omega) k0 hap ha g1
  have hal : a < H.size := (Array.getElem?_eq_some_iff.mp g1).1
  have r2 := r1.slotR (r := K 17) (j := 1) (cell := cell.setSlot (G.dI c 0) (va_rf (some a))) hk h27 (by omega) k1 hap ha (by simp [Array.getElem?_setIfInBounds, hal])
  have r3 := r2.slotR (r := K 18) (j := 2) (cell := (cell.setSlot (G.dI c 0) (va_rf (some a))).setSlot (G.dI c 1) (va_rf (K 17))) hk h27 (by omega) k2 hap ha (by simp [Array.getElem?_setIfInBounds, hal])
  have r4 := r3.slotR (r := K 17) (j := 1) (cell := ((cell.setSlot (G.dI c 0) (va_rf (some a))).setSlot (G.dI c 1) (va_rf (K 17))).setSlot (G.dI c 2) (va_rf (K 18))) hk h27 (by omega) k1 hap ha (by simp [Array.getElem?_setIfInBounds, hal])
  rw [Array.setIfInBounds_setIfInBounds, Array.setIfInBounds_setIfInBounds, Array.setIfInBounds_setIfInBounds, ← s0', ← s1', ← s2'] at r4
  obtain ⟨t, b1, b2⟩ := kw _ _ (fun q hq => by
    simp only [List.mem_cons, List.not_mem_nil, or_false] at hq
    rcases hq with rfl | rfl | rfl | rfl <;> rfl) r4 (((Ts.setVm vm₁).setVm vm₂).setCell a ((preparedCellV TT.toThrowableT cell a (rfV (K 17)) (rfV (K 18))).setSlot TT.fStack.slot (rfV (K 17)).v)) (by rw [← hT]; rfl) X₂
  exact ⟨t, st1 t (fun acts => by rw [doInvoke_state]; exact st2 t b1), b2⟩
end GTHR
