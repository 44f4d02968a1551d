/-! THE HOUSE's WORLD: calls -/
section UPLINK
variable {p : Program} {l : Launch} {e : Env} {R : Room} {s : State} {m : MethodId} {args : Array Value} {below : List Frame} {meth : Method} {c : Code} {T : State} {locs : List Loc} {cells slots : Nat}
theorem link_U (X : Stand p l e R s m args below meth c T locs cells slots) (hexec : p.tables.exec = Jvm.exec) {own C owner : String} {index : Nat} {x y : MethodName}
    (hown : s.vm.findClass own = some m.cls) (hlink : (Cond.methodLink own index x).before args s = true) (hsame : (Cond.sameMethod x.cls owner x.name x.desc).before args s = true)
    (hd0 : va_Decl s ⟨owner, x.name, x.desc⟩) (howner : owner ≠ "java/lang/invoke/MethodHandle" ∧ owner ≠ "java/lang/invoke/VarHandle")
    (hsel : (Cond.selects C x y).before args s = true) (hinst : (Cond.instanceMethod y).before args s = true) 
    {b : Addr} {cellB : Cell} (hcell : T.heap[b]? = some cellB) (hobj : cellB.vm.isStatics = false) (hcls : s.vm.findClass C = some cellB.cls)
    {g : JFrame} (hg : g.method = m) {argsL rest : List Value} (hlen : ∀ sig, parseMethodDescriptor x.desc = some sig → argsL.length = sig.parameters.length)
    (hstack : g.stack = argsL.reverse ++ .ref b :: rest) (hdg : decode c.code g.pc = .ok (.invokevirtual index, 3)) : LinkS p l e R s m args below meth c T locs cells slots g rest y (Value.ref b :: argsL).toArray := by
  obtain ⟨r0, r, hn, hrm, hstR, hsigR⟩ := hd0
  obtain ⟨cn, ck, r1, hcn, hck, hni, hf, hn1⟩ := Cond.sameMethod_found hsame
  cases hn.symm.trans hn1
  obtain ⟨mk, methM, hnamed, hmethM, -, habM⟩ := Cond.instanceMethod_spec hinst
  obtain ⟨c2, r2, m2, q1, q2, q3, q4, kP, hkP, hkPi⟩ := Cond.selects_spec hsel
  cases hcls.symm.trans q1
  cases hf.symm.trans q2
  cases hnamed.symm.trans q3
  have hselP : selectMethod e.platform s.vm cellB.cls r0 = .method mk := by rw [Launch.admits_selectMethod X.admits]; exact q4
  obtain ⟨vm₁, X₁, hstep₁⟩ := X.invokevirtualUp hexec hown hlink hsame howner hn hrm hstR (a := b) (cell := cellB) hcell
    (fun z h => by rw [h] at hobj; cases hobj) hselP hmethM habM hkP hkPi (g := g) hg (argsL := argsL) (rest := rest) (hlen _ hsigR) hstack hdg
  exact ⟨vm₁, mk, X₁.warmed, X₁, X₁.named hnamed, fun target h => hstep₁ _ fun acts => by rw [doInvoke_state]; exact h⟩
end UPLINK
section GCALL
variable {S : Type} {w : Wd S} {st0' st' : S} {md mdc : MD} {lev pc idx : Nat} {lv : List (Option Value)} {stk rest : List Value} {as : List Value} {QQ : Outcome → S → Prop}
theorem lg_len : ∀ as : List Value, (∀ v ∈ as, v.category = 1) → (lg_sl as).length = as.length := by
  intro as
  induction as with
  | nil => intro _; rfl
  | cons a t ih =>
    intro h
    have h1 : a.category = 1 := h a List.mem_cons_self
    have := ih (fun v hv => h v (List.mem_cons_of_mem _ hv))
    show (List.flatMap _ (a :: t)).length = _
    rw [List.flatMap_cons, List.length_append, List.length_cons]
    have e : (List.flatMap (fun v : Value => if v.category = 2 then [Slot.val v, .second] else [Slot.val v]) t).length = t.length := this
    rw [e, if_neg (by omega)]
    simp [Nat.add_comm]
theorem CQ.of3 (k : Nat) {lv : List (Option Value)} (hy : plainName md.y.cls = true) (hn : as.length ≤ md.nL) (h1 : ∀ v ∈ as, v.category = 1) (hlv : as.map some ++ List.replicate k none = lv) (kk : JQ w md lev st' 0 lv [] st' QQ) : CQ w md lev as st' QQ := by
  refine CQ.of hy (by rw [lg_len as h1]; exact hn) h1 ?_
  exact JQ.go (fun p l e R s m args below meth c H locs cells slots QQ ls hx hb hown hts hl kk => kk ls (hlv ▸ hl.pad k)) kk
/-- a constructor; the entry may be a nest mate's -/
theorem lk_I {n b : Nat} {As : List Value} (hcw : Cw mdc) (hh : mdc.hh = []) (hret : mdc.ret = none) (hq : Cond.methodLink md.y.cls idx mdc.y ∈ lw_all ∨ ∃ host, Cond.methodLinkNest md.y.cls idx mdc.y host ∈ lw_tbl) (hi : Cond.instanceMethod mdc.y ∈ lw_all) (hy1 : mdc.y.name = "<init>") (hy : mdc.y.cls ≠ "java/lang/invoke/MethodHandle" ∧ mdc.y.cls ≠ "java/lang/invoke/VarHandle") (hp : parLen mdc.y n) (hn : As.length = n)
    (hst : stk = As.reverse ++ .ref b :: rest) (hd : decode md.cc pc = .ok (.invokespecial idx, 3)) : Lk w md st' pc lv stk rest mdc.y (.ref b :: As) := by
  intro ht p e R s m args below meth c H locs cells slots ls Cc hR hl T hT X
  obtain ⟨hx, hbc, -, -, -, -, hown, -, hW, hts⟩ := Cc
  obtain ⟨y, cc, nL, ret, hh0⟩ := mdc
  change hh0 = [] at hh
  change ret = none at hret
  subst hh hret
  have hcode : (Cond.code y cc nL none).before args s = true := hts _ hcw.1
  rcases hq with hq | ⟨host, hq⟩
  · exact link_I X hx hown hy1 (hts _ hq) (hts _ hi) hcode hy rfl (argsL := As) (rest := rest) (fun sig h => hn.trans (hp sig h)) hst (by rw [hbc]; exact hd)
  · exact link_IN X hx hown hy1 (va_Nw.use rfl (va_Nw.warmM hW (ht.1 _ hq))) (hts _ hi) hcode hy rfl (argsL := As) (rest := rest) (fun sig h => hn.trans (hp sig h)) hst (by rw [hbc]; exact hd)
theorem lk_SN {idx n : Nat} {host : String} {As : List Value} (hcw : Cw mdc) (hq : Cond.methodLinkNest md.y.cls idx mdc.y host ∈ lw_tbl) (hs : Cond.static mdc.y ∈ lw_all) (hy : mdc.y.cls ≠ "java/lang/invoke/MethodHandle" ∧ mdc.y.cls ≠ "java/lang/invoke/VarHandle") (hp : parLen mdc.y n) (hn : As.length = n)
    (hst : stk = As.reverse ++ rest) (hd : decode md.cc pc = .ok (.invokestatic idx, 3)) : Lk w md st' pc lv stk rest mdc.y As := by
  intro ht p e R s m args below meth c H locs cells slots ls Cc hR hl T hT X
  obtain ⟨hx, hbc, -, -, -, -, hown, -, hW, hts⟩ := Cc
  have hsg : ∃ mk methM, s.methodNamed? mdc.y = some mk ∧ s.vm.method? mk = some methM ∧ parseMethodDescriptor mdc.y.desc = some methM.sig := by
    obtain ⟨y, cc, nL, ret, hh⟩ := mdc
    have hw := hts _ hcw.1
    cases hh with
    | nil =>
      obtain ⟨mk, hnamed⟩ := Cond.code_named hw
      obtain ⟨methM, cM, hmethM, -, -, -, -, -, -, hsigM⟩ := Cond.code_spec hnamed hw
      exact ⟨mk, methM, hnamed, hmethM, hsigM⟩
    | cons a t =>
      obtain ⟨m9, meth, c, hn9, g1, g2, g3, g4, g5, g6, g7, g8⟩ := Cond.codeWith_spec hw
      exact ⟨m9, meth, hn9, g1, g8⟩
  exact link_SN X hx hown (va_Nw.use rfl (va_Nw.warmM hW (ht.1 _ hq))) (hts _ hs) (hts _ hcw.2.1) hy rfl (argsL := As) (rest := rest) (fun sig h => hn.trans (hp sig h)) hsg hst (by rw [hbc]; exact hd)
/-- virtual: named x, found in the owner, the receiver's class C has y -/
theorem lk_U {C owner : String} {x : MethodName} {n b : Nat} {As : List Value} (hq : Cond.methodLink md.y.cls idx x ∈ lw_all) (hsame : Cond.sameMethod x.cls owner x.name x.desc ∈ lw_all) (hdc : Cond.declares ⟨owner, x.name, x.desc⟩ ∈ lw_tbl ∨ (Cond.instanceMethod ⟨owner, x.name, x.desc⟩ ∈ lw_all ∧ ∃ bb ml rt, Cond.code ⟨owner, x.name, x.desc⟩ bb ml rt ∈ lw_all)) (hsel : Cond.selects C x mdc.y ∈ lw_all) (hi : Cond.instanceMethod mdc.y ∈ lw_all) (hy : owner ≠ "java/lang/invoke/MethodHandle" ∧ owner ≠ "java/lang/invoke/VarHandle") (hp : parLen x n) (hn : As.length = n)
    (hst : stk = As.reverse ++ .ref b :: rest) (hb : ∀ (s : State) (H : Heap), okT w → w.s0.WarmedH s.vm → w.rp st' H → ∃ cell : Cell, H[b]? = some cell ∧ cell.vm.isStatics = false ∧ s.vm.findClass C = some cell.cls) (hd : decode md.cc pc = .ok (.invokevirtual idx, 3)) : Lk w md st' pc lv stk rest mdc.y (.ref b :: As) := by
  intro ht p e R s m args below meth c H locs cells slots ls Cc hR hl T hT X
  obtain ⟨hx, hbc, -, -, -, -, hown, -, hW, hts⟩ := Cc
  obtain ⟨cell, q1, q2, q3⟩ := hb s H ht hW hR
  have hdecl : va_Decl s ⟨owner, x.name, x.desc⟩ := by
    rcases hdc with h | ⟨h1, bb, ml, rt, h2⟩
    · exact va_Decl.abs (va_Nw.warmD hW (ht.1 _ h))
    · exact va_Decl.of (hts _ h1) (hts _ h2)
  exact link_U X hx hown (hts _ hq) (hts _ hsame) hdecl hy (hts _ hsel) (hts _ hi) (by rw [hT]; exact q1) q2 q3 rfl (argsL := As) (rest := rest) (fun sig h => hn.trans (hp sig h)) hst (by rw [hbc]; exact hd)
end GCALL
/-- the state grew: cells, slots; the tags stay -/
def gle (σ t : GSt) : Prop := (gn σ ≤ gn t ∧ gm σ ≤ gm t) ∧ ∀ x, gk σ x ≠ 0 → gk t x = gk σ x
theorem gle.tag {σ t : GSt} {a k : Nat} (h : gle σ t) (hk : gk σ a = k) (h0 : k ≠ 0) : gk t a = k := by
  rw [h.2 a (by rw [hk]; exact h0)]; exact hk
theorem gle.rf {σ : GSt} : gle σ σ := ⟨⟨Nat.le_refl _, Nat.le_refl _⟩, fun _ _ => rfl⟩
theorem gle.tr {a b c : GSt} (h : gle a b) (k : gle b c) : gle a c := ⟨⟨Nat.le_trans h.1.1 k.1.1, Nat.le_trans h.1.2 k.1.2⟩, fun x hx => by have := h.2 x hx; rw [k.2 x (by rw [this]; exact hx), this]⟩
section GCALL2
variable {G : GPl} {s0 : State} {l : Launch} {X : Prop} {md mdc : MD} {lev : Nat} {st0 σ : GSt} {pc idx : Nat} {lv : List (Option Value)} {stk rest : List Value} {Q : Outcome → GSt → Prop}
/-- on an object of the class c, whose method it is -/
theorem jg_lkV {c n b : Nat} {As : List Value} (h27 : c < 28) (hk : gk σ b = c + 1) (hcw : Cw mdc) (hq : Cond.methodLink md.y.cls idx mdc.y ∈ lw_all) (hi : Cond.instanceMethod mdc.y ∈ lw_all) (hs : Cond.selects (gQ c).1 mdc.y mdc.y ∈ lw_all) (hy : mdc.y.cls ≠ "java/lang/invoke/MethodHandle" ∧ mdc.y.cls ≠ "java/lang/invoke/VarHandle") (hp : parLen mdc.y n) (hn : As.length = n) (hst : stk = As.reverse ++ va_rf (some b) :: rest) (hd : decode md.cc pc = .ok (.invokevirtual idx, 3)) : Lk (wG G s0 l X) md σ pc lv stk rest mdc.y (.ref b :: As) :=
  lk_V (C := (gQ c).1) hcw hq hi hs hy hp hn hst (fun s H ht hW hR => g_recv ht hW hR hk h27) hd
theorem jg_lkU {c n b : Nat} {owner : String} {x : MethodName} {As : List Value} (h27 : c < 28) (hk : gk σ b = c + 1) (hq : Cond.methodLink md.y.cls idx x ∈ lw_all) (hsame : Cond.sameMethod x.cls owner x.name x.desc ∈ lw_all) (hdc : Cond.declares ⟨owner, x.name, x.desc⟩ ∈ lw_tbl ∨ (Cond.instanceMethod ⟨owner, x.name, x.desc⟩ ∈ lw_all ∧ ∃ bb ml rt, Cond.code ⟨owner, x.name, x.desc⟩ bb ml rt ∈ lw_all)) (hsel : Cond.selects (gQ c).1 x mdc.y ∈ lw_all) (hi : Cond.instanceMethod mdc.y ∈ lw_all) (hy : owner ≠ "java/lang/invoke/MethodHandle" ∧ owner ≠ "java/lang/invoke/VarHandle") (hp : parLen x n) (hn : As.length = n) (hst : stk = As.reverse ++ va_rf (some b) :: rest) (hd : decode md.cc pc = .ok (.invokevirtual idx, 3)) : Lk (wG G s0 l X) md σ pc lv stk rest mdc.y (.ref b :: As) :=
  lk_U hq hsame hdc hsel hi hy hp hn hst (fun s H ht hW hR => g_recv ht hW hR hk h27) hd
variable {as : List Value} {len : Nat} {ig : Instr}
theorem jg_calli (hlk : Lk (wG G s0 l X) md σ pc lv stk rest mdc.y as) (hcw : Cw mdc) (hrm : (rest.map fun v => v.category).sum ≤ 8) (hu : uncov md.hh pc = true) (hd : decode md.cc pc = .ok (ig, len)) (h1 : 1 ≤ lev)
    (hC : CQ (wG G s0 l X) mdc (lev - 1) as σ (onI (fun r t => gle σ t → JQ (wG G s0 l X) md lev st0 (pc + len) lv (.int r :: rest) t Q) (fun x t => gle σ t → Q (.threw x) t))) : JQ (wG G s0 l X) md lev st0 pc lv stk σ Q := by
  refine JQ.call hlk hcw h1 hrm hu hd (hC.mono (fun o t q hl => ?_))
  unfold onI at q
  split at q
  · exact q hl
  · exact q hl
  · exact q.elim
theorem jg_callv (hlk : Lk (wG G s0 l X) md σ pc lv stk rest mdc.y as) (hcw : Cw mdc) (hrm : (rest.map fun v => v.category).sum ≤ 8) (hu : uncov md.hh pc = true) (hd : decode md.cc pc = .ok (ig, len)) (h1 : 1 ≤ lev)
    (hC : CQ (wG G s0 l X) mdc (lev - 1) as σ (onV (fun t => gle σ t → JQ (wG G s0 l X) md lev st0 (pc + len) lv rest t Q) (fun x t => gle σ t → Q (.threw x) t))) : JQ (wG G s0 l X) md lev st0 pc lv stk σ Q := by
  refine JQ.call hlk hcw h1 hrm hu hd (hC.mono (fun o t q hl => ?_))
  unfold onV at q
  split at q
  · exact q hl
  · exact q hl
  · exact q.elim
theorem jg_callr (hlk : Lk (wG G s0 l X) md σ pc lv stk rest mdc.y as) (hcw : Cw mdc) (hrm : (rest.map fun v => v.category).sum ≤ 8) (hu : uncov md.hh pc = true) (hd : decode md.cc pc = .ok (ig, len)) (h1 : 1 ≤ lev)
    (hC : CQ (wG G s0 l X) mdc (lev - 1) as σ (onR (fun r t => gle σ t → JQ (wG G s0 l X) md lev st0 (pc + len) lv (va_rf r :: rest) t Q) (fun x t => gle σ t → Q (.threw x) t))) : JQ (wG G s0 l X) md lev st0 pc lv stk σ Q := by
  refine JQ.call hlk hcw h1 hrm hu hd (hC.mono (fun o t q hl => ?_))
  unfold onR at q
  split at q
  · exact q hl
  · exact q hl
  · exact q hl
  · exact q.elim
/-- Object's own constructor -/
theorem jg_objI {b : Nat} (hq : Cond.methodLink md.y.cls idx Lib.objectInit ∈ lw_all) (hi : Cond.instanceMethod Lib.objectInit ∈ lw_all) (hc : Cond.code Lib.objectInit ⟨#[0xb1]⟩ 1 none ∈ lw_all) (h1 : 1 ≤ lev) (hrm : (stk.map fun v => v.category).sum ≤ 8) (hd : decode md.cc pc = .ok (.invokespecial idx, 3)) (kk : JQ (wG G s0 l X) md lev st0 (pc + 3) lv stk σ Q) : JQ (wG G s0 l X) md lev st0 pc lv (va_rf (some b) :: stk) σ Q := by
  intro a0 b0
  obtain ⟨o, t, q, r1, r2, r3⟩ := kk a0 b0
  refine ⟨o, t, q, r1, r2, fun ht ℓ hℓ p e s m args below meth c' H locs ls C hR hL hl => ?_⟩
  have hts := C.2.2.2.2.2.2.2.2.2
  exact W.objInit C.1 C.2.1 C.2.2.2.2.2.2.1 (hts _ hq) (hts _ hi) (hts _ hc) rfl (by rw [C.2.2.1]; exact hl.1) rfl hd (by show 1 ≤ ℓ; omega) (by
    have := lv_room (m := m) (pc := pc) (ls := ls) (rest := va_rf (some b) :: stk) hrm
    show 2 * (F0 m pc ls (va_rf (some b) :: stk)).monitorRoom + (stk.map fun v => v.category).sum + 12 ≤ 64 * ℓ
    omega) (r3 ht ℓ hℓ p e s m args below meth c' H locs ls C hR hL hl)
end GCALL2
