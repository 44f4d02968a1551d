/-! super.m(..), and a private method on an object of a subclass -/
section GSUP
variable {G : GPl} {s0 : State} {l : Launch} {X : Prop} {md mdc : MD} {lev : Nat} {st0 σ : GSt} {pc idx : Nat} {lv : List (Option Value)} {stk rest : List Value} {Q : Outcome → GSt → Prop} {a : Nat}
theorem lk_sup {c n : Nat} {As : List Value} (h27 : c < 28) (hk : gk σ a = c + 1) (hh : mdc.hh = []) (hcw : Cw mdc) (hq : Cond.methodLink md.y.cls idx mdc.y ∈ lw_all) (hsame : Cond.sameMethod mdc.y.cls mdc.y.cls mdc.y.name mdc.y.desc ∈ lw_all) (hsup : Cond.superclass md.y.cls mdc.y.cls ∈ lw_all) (hi : Cond.instanceMethod mdc.y ∈ lw_all) (hno : mdc.y.name ≠ "<init>") (hp : parLen mdc.y n) (hn : As.length = n) (hst : stk = As.reverse ++ va_rf (some a) :: rest) (hd : decode md.cc pc = .ok (.invokespecial idx, 3)) : Lk (wG G s0 l X) md σ pc lv stk rest mdc.y (.ref a :: As) := by
  intro ht p e R s m args below meth c' H locs cells slots ls Cc hR hl T hT X
  obtain ⟨hx, hbc, -, -, -, -, hown, -, hW, hts⟩ := Cc
  obtain ⟨cellB, q1, q2, q3⟩ := g_recv ht hW hR hk h27
  obtain ⟨kB, hkB, -⟩ := Vm.findClass_spec q3
  obtain ⟨y, cc, nL, ret, hh0⟩ := mdc
  change hh0 = [] at hh
  subst hh
  have hcode : (Cond.code y cc nL ret).before args s = true := hts _ hcw.1
  obtain ⟨mk, methM, hnamed, hmethM, hstM, habM⟩ := Cond.instanceMethod_spec (hts _ hi)
  obtain ⟨methM', cM, hmethM', -, -, -, -, -, -, hsigM⟩ := Cond.code_spec hnamed hcode
  cases hmethM.symm.trans hmethM'
  obtain ⟨ps, dk, kp, hps, hdk, hkp, hsuper, -, -, hnid⟩ := Cond.superclass_spec hown (hts _ hsup)
  have hn9 : s.methodNamed? ⟨y.cls, y.name, y.desc⟩ = some mk := hnamed
  have hpm : ps = mk.cls := Option.some.inj (hps.symm.trans (findClass_of_methodNamed hnamed))
  have hsub : s.vm.isSubclass ps mk.cls = true := by rw [hpm]; simp [Vm.isSubclass, Vm.isSubclassAux]
  obtain ⟨vm₁, X₁, hstep₁⟩ := X.invokespecialUp hx hown (hts _ hq) (hts _ hsame) hn9 hmethM hstM habM hno hdk hnid hps hsuper hsub (a := a) (cell := cellB) (by rw [hT]; exact q1)
    (fun z h => by rw [h] at q2; cases q2) hkB (g := F0 m pc ls stk) rfl (argsL := As) (rest := rest) (hn.trans (hp _ hsigM)) hst (by rw [hbc]; exact hd)
  exact ⟨vm₁, mk, X₁.warmed, X₁, X₁.named hnamed, fun target h => hstep₁ _ (by rw [doInvoke_state]; exact h)⟩
theorem lk_priv {c n : Nat} {As : List Value} {C : String} {yA : MethodName} (hsel : Cond.selects C yA yA ∈ lw_all) (hyA : yA.cls = mdc.y.cls) (h27 : c < 28) (hk : gk σ a = c + 1) (hh : mdc.hh = []) (hcw : Cw mdc) (hq : Cond.methodLink md.y.cls idx mdc.y ∈ lw_all) (hpr : Cond.privateMethod mdc.y ∈ lw_tbl) (hi : Cond.instanceMethod mdc.y ∈ lw_all) (hy : mdc.y.cls ≠ "java/lang/invoke/MethodHandle" ∧ mdc.y.cls ≠ "java/lang/invoke/VarHandle") (hp : parLen mdc.y n) (hn : As.length = n) (hst : stk = As.reverse ++ va_rf (some a) :: rest) (hd : decode md.cc pc = .ok (.invokevirtual idx, 3)) : Lk (wG G s0 l X) md σ pc lv stk rest mdc.y (.ref a :: As) := by
  intro ht p e R s m args below meth c' H locs cells slots ls Cc hR hl T hT X
  obtain ⟨hx, hbc, -, -, -, -, hown, -, hW, hts⟩ := Cc
  obtain ⟨cellB, q1, q2, q3⟩ := g_recv ht hW hR hk h27
  obtain ⟨y, cc, nL, ret, hh0⟩ := mdc
  change hh0 = [] at hh
  subst hh
  have hcode : (Cond.code y cc nL ret).before args s = true := hts _ hcw.1
  obtain ⟨mk, methM, hnamed, hmethM, hstM, habM⟩ := Cond.instanceMethod_spec (hts _ hi)
  obtain ⟨methM', cM, hmethM', -, -, -, -, -, -, hsigM⟩ := Cond.code_spec hnamed hcode
  cases hmethM.symm.trans hmethM'
  obtain ⟨c2, r2, m2, -, -, q3', -, kP, hkP, hkPi⟩ := Cond.selects_spec (hts _ hsel)
  have hc2 : m2.cls = mk.cls := Option.some.inj ((findClass_of_methodNamed q3').symm.trans (hyA ▸ findClass_of_methodNamed hnamed))
  rw [hc2] at hkP
  have hpriv : s.PrivateAt y := by
    have h0 : (Cond.privateMethod y).before #[] (s0.setVm s.vm) = true := by rw [Cond.privateMethod_setVm hW.alike]; exact ht.1 _ hpr
    exact Cond.privateMethod_at (args := #[]) (s := s0.setVm s.vm) h0
  have hselP : selectMethod e.platform s.vm cellB.cls mk = .method mk := selectMethod_private hmethM (hpriv mk methM hnamed hmethM)
  obtain ⟨vm₁, X₁, hstep₁⟩ := X.invokevirtual hx hown (hts _ hq) hnamed hmethM hstM hkP hkPi hy (a := a) (cell := cellB) (by rw [hT]; exact q1)
    (fun z h => by rw [h] at q2; cases q2) hselP hmethM habM hkP hkPi (g := F0 m pc ls stk) rfl (argsL := As) (rest := rest) (hn.trans (hp _ hsigM)) hst (by rw [hbc]; exact hd)
  exact ⟨vm₁, mk, X₁.warmed, X₁, X₁.named hnamed, fun target h => hstep₁ _ (fun acts => by rw [doInvoke_state]; exact h)⟩
end GSUP
section GCASTB
variable {G : GPl} {s0 : State} {l : Launch} {K : Nat → Option Nat} {T : Nat → Nat} {md : MD} {lev : Nat} {st0 σ : GSt} {pc idx : Nat} {lv : List (Option Value)} {stk : List Value} {Q : Outcome → GSt → Prop}
/-- a cast to byte[] -/
theorem jg_castB {r : Option Nat} {a : Nat} (hr : r = some a) (hk : gk σ a = 102) (hb : G.h0.size ≤ a) (q1 : Cond.classLink md.y.cls idx "[B" ∈ lw_all) (hd : decode md.cc pc = .ok (.checkcast idx, 3))
    (kt : JQ (wP G s0 l K T) md lev st0 (pc + 3) lv (va_rf r :: stk) σ Q) : JQ (wP G s0 l K T) md lev st0 pc lv (va_rf r :: stk) σ Q := by
  subst hr
  refine jg_see (fun p e R s m args below meth c' H locs cells slots QQ ls ht C hR kw => ?_) kt
  have hW := C.2.2.2.2.2.2.2.2.1
  obtain ⟨cell, g1, g2, g3, g5, g6, g7, g8⟩ := (hR.2.2.2.2 a).2.2.1 hk
  have hnm : s.vm.findClass "[B" = some cell.cls := by rw [g7 hb, Vm.Alike.findClass hW.alike]; exact ht.2.1.2.2.2
  have hst : cell.vm.isStatics = false := by
    cases hv : cell.vm with
    | statics k => exact absurd hv (g2.1 k)
    | _ => rfl
  exact va_castE C.1 C.2.1 C.2.2.2.2.2.2.1 (C.2.2.2.2.2.2.2.2.2 _ q1) ⟨cell, g1, hst, hnm⟩ hd kw
end GCASTB
