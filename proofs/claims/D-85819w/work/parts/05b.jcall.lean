/-! JQ: calls -/
section JCALL
variable {S : Type} {w : Wd S} {md mdc : MD} {lev : Nat} {st0 st : S} {pc len : Nat} {lv : List (Option Value)} {stk rest : List Value} {Q : Outcome → S → Prop} {as : List Value}
/-- the invoking instruction finds its method -/
def Lk (w : Wd S) (md : MD) (st : S) (pc : Nat) (lv : List (Option Value)) (stk rest : List Value) (y : MethodName) (as : List Value) : Prop :=
  okT w → ∀ (p : Program) (e : Env) (R : Room) (s : State) (m : MethodId) (args : Array Value) (below : List Frame) (meth : Method) (c : Code) (H : Heap) (locs : List Loc) (cells slots : Nat) (ls : Array Slot), Cx w md p s m args meth c → w.rp st H → lvok ls md.nL lv →
    ∀ T : State, T.heap = H → Stand p w.l e R s m args below meth c T locs cells slots → LinkS p w.l e R s m args below meth c T locs cells slots (F0 m pc ls stk) rest y as.toArray
theorem codeW_md (d : MD) : CodeW d.w d.y d.nL := by
  obtain ⟨y, cc, nL, ret, hh⟩ := d
  cases hh with
  | nil => exact codeW_code
  | cons a t => exact codeW_with
/-- what every call asks of the callee's own words -/
def Cw (d : MD) : Prop := d.w ∈ lw_all ∧ Cond.initialized d.y.cls ∈ lw_all ∧ d.nL ≤ 45
theorem callC_of {st' : S} {o : Outcome} {s : State} {R : Room} {cells slots ℓ : Nat} (ht : okT w) (hW : w.s0.WarmedH s.vm) (hcw : Cw mdc) (hR : R = RM w ℓ st0) (hce : cells = w.sz st - w.sz st0) (hsl : slots = w.sl st - w.sl st0) (hle : lec w st0 st) (hok : okc w st) (hℓ : 1 ≤ ℓ)
    (hC : Ct w.l w.s0 mdc.y mdc.w (RM w (ℓ - 1) st) w.fr as (w.rp st) o (w.rp st') (w.sz st' - w.sz st) (w.sl st' - w.sl st)) :
    CallC w.l R s w.s0 mdc.y mdc.w (RM w (ℓ - 1) st) w.fr as (w.rp st) o (w.rp st') (w.sz st' - w.sz st) (w.sl st' - w.sl st) mdc.nL cells slots := by
  subst hR hce hsl
  obtain ⟨c1, c2, c3⟩ := hcw
  obtain ⟨⟨l1, l2⟩, -⟩ := hle
  obtain ⟨o1, o2⟩ := hok
  refine ⟨hC, hW, fun a U hU => hts_of ht.1 (State.WarmedH.trans hW hU) _ c1, codeW_md mdc, fun a U hU => hts_of ht.1 (State.WarmedH.trans hW hU) _ c2, ?_, ?_, ?_, ?_⟩
  · show ℓ - 1 + 1 ≤ ℓ; omega
  · show 8 + (mdc.nL + 11) + 64 * (ℓ - 1) ≤ 64 * ℓ; omega
  · show w.sz st - w.sz st0 + (w.cc - w.sz st) ≤ w.cc - w.sz st0; omega
  · show w.sl st - w.sl st0 + (w.cs - w.sl st) ≤ w.cs - w.sl st0; omega
/-- how a call goes on: returned, at the next place; thrown, out of the method -/
def after (w : Wd S) (md : MD) (lev : Nat) (st0 : S) (pc : Nat) (lv : List (Option Value)) (rest : List Value) (Q : Outcome → S → Prop) : Outcome → S → Prop := fun o t => match o with
  | .returned v => JQ w md lev st0 pc lv (v.toList ++ rest) t Q
  | .threw x => Q (.threw x) t
theorem JQ.call {ig : Instr} (hlk : Lk w md st pc lv stk rest mdc.y as) (hcw : Cw mdc) (h1 : 1 ≤ lev) (hrm : (rest.map fun v => v.category).sum ≤ 8) (hu : uncov md.hh pc = true) (hd : decode md.cc pc = .ok (ig, len))
    (hC : CQ w mdc (lev - 1) as st (fun o t => lec w st t → after w md lev st0 (pc + len) lv rest Q o t)) : JQ w md lev st0 pc lv stk st Q := by
  intro hle hok
  obtain ⟨o, t, q, r1, r2, r3⟩ := hC hok
  cases o with
  | returned v =>
    obtain ⟨o', t', q', p1, p2, p3⟩ := q r1 (hle.tr r1) r2
    refine ⟨o', t', q', r1.tr p1, p2, fun ht ℓ hℓ p e s m args below meth c H locs ls C hR hL hl => ?_⟩
    have hl1 : lev - 1 ≤ ℓ - 1 := by omega
    refine w_callR (callC_of (st0 := st0) ht C.2.2.2.2.2.2.2.2.1 hcw rfl rfl rfl hle hok (by omega) (r3 ht (ℓ - 1) hl1)) rfl (hl.1.trans C.2.2.1.symm) (by rw [C.2.1]; exact hd) (lv_room hrm) (fun T hT X => hlk ht p e _ s m args below meth c H locs _ _ ls C hR hl T hT X) hR (fun H1 L h1 h2 h3 => ?_)
    have := p3 ht ℓ hℓ p e s m args below meth c H1 (locs ++ L) ls C h1 (t_lL hL h2) hl
    refine W.cs ?_ ?_ this
    · have := hle.1.1; have := r1.1.1; omega
    · have := hle.1.2; have := r1.1.2; omega
  | threw x =>
    refine ⟨.threw x, t, q r1, r1, r2, fun ht ℓ hℓ p e s m args below meth c H locs ls C hR hL hl => ?_⟩
    have hl1 : lev - 1 ≤ ℓ - 1 := by omega
    refine w_callT (callC_of (st0 := st0) ht C.2.2.2.2.2.2.2.2.1 hcw rfl rfl rfl hle hok (by omega) (r3 ht (ℓ - 1) hl1)) rfl (hl.1.trans C.2.2.1.symm) (by rw [C.2.1]; exact hd) (lv_room hrm) (fun T hT X => hlk ht p e _ s m args below meth c H locs _ _ ls C hR hl T hT X) hR rfl rfl C.2.2.2.2.1 (uncov_spec C.2.2.2.2.2.1 hu) (fun H1 h1 _ => h1) hL (fun q h => h) ?_ ?_
    · have := hle.1.1; have := r1.1.1; omega
    · have := hle.1.2; have := r1.1.2; omega
/-- the caller may use that the state grew -/
theorem CQ.le (h : CQ w md lev as st Q) : CQ w md lev as st (fun o t => Q o t ∧ lec w st t) := fun b => by
  obtain ⟨o, t, q, r1, r2⟩ := h b
  exact ⟨o, t, ⟨q, r1⟩, r1, r2⟩
theorem afterI {K : Int32 → S → Prop} (h : ∀ r t, K r t → JQ w md lev st0 pc lv (.int r :: rest) t Q) : ∀ o t, onI K (fun x t => Q (.threw x) t) o t → after w md lev st0 pc lv rest Q o t := by
  intro o t q
  unfold onI at q
  split at q
  · exact h _ _ q
  · exact q
  · exact q.elim
theorem afterV {K : S → Prop} (h : ∀ t, K t → JQ w md lev st0 pc lv rest t Q) : ∀ o t, onV K (fun x t => Q (.threw x) t) o t → after w md lev st0 pc lv rest Q o t := by
  intro o t q
  unfold onV at q
  split at q
  · exact h _ q
  · exact q
  · exact q.elim
theorem afterR {K : Option Nat → S → Prop} (h : ∀ r t, K r t → JQ w md lev st0 pc lv (va_rf r :: rest) t Q) : ∀ o t, onR K (fun x t => Q (.threw x) t) o t → after w md lev st0 pc lv rest Q o t := by
  intro o t q
  unfold onR at q
  split at q
  · exact h _ _ q
  · exact h _ _ q
  · exact q
  · exact q.elim
def parLen (y : MethodName) (n : Nat) : Prop := ∀ sig, parseMethodDescriptor y.desc = some sig → n = sig.parameters.length
theorem parLen_of {y : MethodName} {n : Nat} (h : (parseMethodDescriptor y.desc).map (fun q => q.parameters.length) = some n) : parLen y n := by
  intro sig hs
  rw [hs] at h
  simpa using h.symm
theorem md_sig {d : MD} (hcw : Cw d) {args : Array Value} {s : State} (hts : ∀ x ∈ lw_all, x.before args s = true) {mk : MethodId} {methM : Method} (h1 : s.methodNamed? d.y = some mk) (h2 : s.vm.method? mk = some methM) : parseMethodDescriptor d.y.desc = some methM.sig := by
  obtain ⟨y, cc, nL, ret, hh⟩ := d
  have hw := hts _ hcw.1
  cases hh with
  | nil =>
    obtain ⟨methM', cM, hmethM', -, -, -, -, -, -, hsigM⟩ := Cond.code_spec h1 hw
    cases h2.symm.trans hmethM'
    exact hsigM
  | cons a t =>
    obtain ⟨m9, meth, c, hn9, g1, g2, g3, g4, g5, g6, g7, g8⟩ := Cond.codeWith_spec hw
    cases h1.symm.trans hn9
    cases h2.symm.trans g1
    exact g8
/-- virtual, the receiver of the class C; the method found is y itself -/
theorem lk_V {C : String} {idx n b : Nat} {As : List Value} (hcw : Cw mdc) (hq : Cond.methodLink md.y.cls idx mdc.y ∈ lw_all) (hi : Cond.instanceMethod mdc.y ∈ lw_all) (hs : Cond.selects C mdc.y mdc.y ∈ lw_all) (hy : mdc.y.cls ≠ "java/lang/invoke/MethodHandle" ∧ mdc.y.cls ≠ "java/lang/invoke/VarHandle") (hp : parLen mdc.y n) (hn : As.length = n)
    (hst : stk = As.reverse ++ .ref b :: rest) (hb : ∀ (s : State) (H : Heap), okT w → w.s0.WarmedH s.vm → w.rp st H → ∃ cell : Cell, H[b]? = some cell ∧ cell.vm.isStatics = false ∧ s.vm.findClass C = some cell.cls) (hd : decode md.cc pc = .ok (.invokevirtual idx, 3)) : Lk w md st pc lv stk rest mdc.y (.ref b :: As) := by
  intro ht p e R s m args below meth c H locs cells slots ls Cc hR hl T hT X
  obtain ⟨hx, hbc, -, -, -, -, hown, -, hW, hts⟩ := Cc
  obtain ⟨cell, q1, q2, q3⟩ := hb s H ht hW hR
  exact link_V X hx hown (hts _ hq) (hts _ hi) (hts _ hs) hy (by rw [hT]; exact q1) q2 q3 rfl (argsL := As) (rest := rest) (fun sig h => hn.trans (hp sig h)) (fun mk methM h1 h2 => md_sig hcw hts h1 h2) hst (by rw [hbc]; exact hd)
theorem lk_S {idx n : Nat} {As : List Value} (hcw : Cw mdc) (hq : Cond.methodLink md.y.cls idx mdc.y ∈ lw_all) (hs : Cond.static mdc.y ∈ lw_all) (hy : mdc.y.cls ≠ "java/lang/invoke/MethodHandle" ∧ mdc.y.cls ≠ "java/lang/invoke/VarHandle") (hp : parLen mdc.y n) (hn : As.length = n)
    (hst : stk = As.reverse ++ rest) (hd : decode md.cc pc = .ok (.invokestatic idx, 3)) : Lk w md st pc lv stk rest mdc.y As := by
  intro ht p e R s m args below meth c H locs cells slots ls Cc hR hl T hT X
  obtain ⟨hx, hbc, -, -, -, -, hown, -, hW, hts⟩ := Cc
  have hsg : ∃ mk methM, s.methodNamed? mdc.y = some mk ∧ s.vm.method? mk = some methM ∧ parseMethodDescriptor mdc.y.desc = some methM.sig := by
    obtain ⟨y, cc, nL, ret, hh⟩ := mdc
    have hw := hts _ hcw.1
    cases hh with
    | nil =>
      obtain ⟨mk, hnamed⟩ := Cond.code_named hw
      obtain ⟨methM, cM, hmethM, -, -, -, -, -, -, hsigM⟩ := Cond.code_spec hnamed hw
      exact ⟨mk, methM, hnamed, hmethM, hsigM⟩
    | cons a t =>
      obtain ⟨m9, meth, c, hn9, g1, g2, g3, g4, g5, g6, g7, g8⟩ := Cond.codeWith_spec hw
      exact ⟨m9, meth, hn9, g1, g8⟩
  exact link_S X hx hown (hts _ hq) (hts _ hs) (hts _ hcw.2.1) hy rfl (argsL := As) (rest := rest) (fun sig h => hn.trans (hp sig h)) hsg hst (by rw [hbc]; exact hd)
theorem lvok.pad {ls : Array Slot} {nL : Nat} {lv : List (Option Value)} (h : lvok ls nL lv) (k : Nat) : lvok ls nL (lv ++ List.replicate k none) := by
  refine ⟨h.1, h.2.1, fun i v hi => ?_⟩
  rw [List.getElem?_append] at hi
  split at hi
  · exact h.2.2 i v hi
  · rw [List.getElem?_replicate] at hi
    split at hi
    · cases hi
    · cases hi
theorem CQ.of2 (k : Nat) {lv : List (Option Value)} (hy : plainName md.y.cls = true) (hn : (lg_sl as).length ≤ md.nL) (h1 : as.all (fun v => v.category == 1) = true) (hlv : as.map some ++ List.replicate k none = lv) (kk : JQ w md lev st 0 lv [] st Q) : CQ w md lev as st Q := by
  refine CQ.of hy hn (fun v hv => by simpa using List.all_eq_true.mp h1 v hv) ?_
  exact JQ.go (fun p l e R s m args below meth c H locs cells slots QQ ls hx hb hown hts hl kk => kk ls (hlv ▸ hl.pad k)) kk
theorem rf_cat (r : Option Nat) : (va_rf r).category = 1 := by cases r <;> rfl
/-- ints as integers -/
def iI (z : Int) : Int32 := Int32.ofInt z
/-- a place within an array -/
def inr (i : Int32) (n : Nat) : Prop := 0 ≤ i.toInt ∧ i.toInt < n
def isZ (x : Int32) : Prop := x = 0 ∨ x = 1
theorem isZ0 : isZ (iI 0) := Or.inl rfl
theorem isZ1 : isZ (iI 1) := Or.inr rfl
theorem nz {x : Int32} (h : isZ x) : narrow .boolean (.int x) = .int x := by rcases h with rfl | rfl <;> rfl
/-- out of a table's range -/
def tout (x : Int32) (lo hi : Int) : Prop := x.toInt < lo ∨ hi < x.toInt
theorem tb_case (n : Nat) (lo : Int) (x : Int32) : (∃ j : Nat, j < n ∧ x = iI (lo + j)) ∨ (x.toInt < lo ∨ lo + n - 1 < x.toInt) := by
  by_cases h : x.toInt < lo ∨ lo + n - 1 < x.toInt
  · exact Or.inr h
  · refine Or.inl ⟨(x.toInt - lo).toNat, by omega, ?_⟩
    rw [show lo + ((x.toInt - lo).toNat : Int) = x.toInt by omega]
    exact (Int32.ofInt_toInt x).symm
end JCALL
