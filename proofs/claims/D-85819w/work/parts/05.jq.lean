/-! JQ: the judgement of a walk over a world (made by gen/mkjq.py) -/
/-- a world: what a state says of the heap; the cells that may be written; cells and slots made so far; their bounds; the start; the launch; what more is known of the tables; the tags of addresses, which stay -/
abbrev Wd (S : Type) : Type := (S → Heap → Prop) × (Nat → Prop) × (S → Nat) × (S → Nat) × Nat × Nat × State × Launch × Prop × (S → Nat → Nat)
abbrev Wd.rp {S : Type} (w : Wd S) : S → Heap → Prop := w.1
abbrev Wd.fr {S : Type} (w : Wd S) : Nat → Prop := w.2.1
abbrev Wd.sz {S : Type} (w : Wd S) : S → Nat := w.2.2.1
abbrev Wd.sl {S : Type} (w : Wd S) : S → Nat := w.2.2.2.1
abbrev Wd.cc {S : Type} (w : Wd S) : Nat := w.2.2.2.2.1
abbrev Wd.cs {S : Type} (w : Wd S) : Nat := w.2.2.2.2.2.1
abbrev Wd.s0 {S : Type} (w : Wd S) : State := w.2.2.2.2.2.2.1
abbrev Wd.l {S : Type} (w : Wd S) : Launch := w.2.2.2.2.2.2.2.1
abbrev Wd.tb {S : Type} (w : Wd S) : Prop := w.2.2.2.2.2.2.2.2.1
abbrev Wd.tg {S : Type} (w : Wd S) : S → Nat → Nat := w.2.2.2.2.2.2.2.2.2
/-- what is known of the tables at the start -/
def okT {S : Type} (w : Wd S) : Prop := (∀ x ∈ lw_tbl, va_Nw x w.s0) ∧ w.tb
/-- a method: its name, code, locals, answer, handlers -/
abbrev MD : Type := MethodName × ByteArray × Nat × Option FieldType × List (Nat × Nat × Nat × Nat)
abbrev MD.y (d : MD) : MethodName := d.1
abbrev MD.cc (d : MD) : ByteArray := d.2.1
abbrev MD.nL (d : MD) : Nat := d.2.2.1
abbrev MD.ret (d : MD) : Option FieldType := d.2.2.2.1
abbrev MD.hh (d : MD) : List (Nat × Nat × Nat × Nat) := d.2.2.2.2
def MD.w (d : MD) : Cond := match d.2.2.2.2 with
  | [] => .code d.y d.cc d.nL d.ret
  | h :: t => .codeWith d.y d.cc d.nL d.ret (h :: t)
/-- what a walk of the method knows of the machine -/
def Cx {S : Type} (w : Wd S) (md : MD) (p : Program) (s : State) (m : MethodId) (args : Array Value) (meth : Method) (c : Code) : Prop :=
  p.tables.exec = Jvm.exec ∧ c.code = md.cc ∧ c.maxLocals = md.nL ∧ meth.sig.returnType = md.ret ∧ meth.locks = false ∧ (c.exceptionTable.toList.map (fun x => (x.startPc, x.endPc, x.handlerPc, x.catchType)) = md.hh) ∧ s.vm.findClass md.y.cls = some m.cls ∧ meth.name = md.y.name ∧ w.s0.WarmedH s.vm ∧ (∀ x ∈ lw_all, x.before args s = true)
/-- the locals: place by place, none where nothing is said -/
def lvok (ls : Array Slot) (nL : Nat) (lv : List (Option Value)) : Prop := ls.size = nL ∧ lv_wf ls ∧ ∀ (i : Nat) (v : Value), lv[i]? = some (some v) → ls[i]? = some (.val v) ∧ v.category = 1
def lvp : Nat → List (Option Value) → List (Nat × Value)
  | _, [] => []
  | i, none :: r => lvp (i + 1) r
  | i, some v :: r => (i, v) :: lvp (i + 1) r
theorem lvp_mem : ∀ (lv : List (Option Value)) (k i : Nat) (v : Value), (i, v) ∈ lvp k lv ↔ k ≤ i ∧ lv[i - k]? = some (some v) := by
  intro lv
  induction lv with
  | nil => intro k i v; simp [lvp]
  | cons a r ih =>
    intro k i v
    cases a with
    | none =>
      simp only [lvp, ih]
      constructor
      · rintro ⟨h1, h2⟩
        refine ⟨by omega, ?_⟩
        rw [show i - k = (i - (k + 1)) + 1 by omega, List.getElem?_cons_succ]
        exact h2
      · rintro ⟨h1, h2⟩
        rcases Nat.eq_or_lt_of_le h1 with h | h
        · subst h
          simp at h2
        · refine ⟨h, ?_⟩
          rw [show i - k = (i - (k + 1)) + 1 by omega, List.getElem?_cons_succ] at h2
          exact h2
    | some u =>
      simp only [lvp, List.mem_cons, ih, Prod.mk.injEq]
      constructor
      · rintro (⟨rfl, rfl⟩ | ⟨h1, h2⟩)
        · simp
        · refine ⟨by omega, ?_⟩
          rw [show i - k = (i - (k + 1)) + 1 by omega, List.getElem?_cons_succ]
          exact h2
      · rintro ⟨h1, h2⟩
        rcases Nat.eq_or_lt_of_le h1 with h | h
        · subst h
          simp at h2
          exact Or.inl ⟨rfl, h2.symm⟩
        · refine Or.inr ⟨h, ?_⟩
          rw [show i - k = (i - (k + 1)) + 1 by omega, List.getElem?_cons_succ] at h2
          exact h2
theorem lvok.has {ls : Array Slot} {nL : Nat} {lv : List (Option Value)} (h : lvok ls nL lv) : lv_has ls nL (lvp 0 lv) := by
  refine ⟨h.1, h.2.1, ?_⟩
  rintro ⟨i, v⟩ hq
  exact (h.2.2 i v ((lvp_mem lv 0 i v).mp hq).2).1
theorem lvok.get {ls : Array Slot} {nL : Nat} {lv : List (Option Value)} (h : lvok ls nL lv) {i : Nat} {v : Value} (hi : lv[i]? = some (some v)) : ls[i]? = some (.val v) := (h.2.2 i v hi).1
theorem lvok.stored {ls ls' : Array Slot} {nL i : Nat} {v : Value} {lv : List (Option Value)} (h : lvok ls nL lv) (hc : v.category = 1) (h2 : lv_has ls' nL ((i, v) :: (lvp 0 lv).filter (fun q => !(q.1 == i) && !(q.1 + 1 == i && q.2.category == 2)))) : lvok ls' nL (lv.set i (some v)) := by
  refine ⟨h2.1, h2.2.1, ?_⟩
  intro j u hj
  rw [List.getElem?_set] at hj
  split at hj
  · rename_i e
    split at hj
    · cases hj
      subst e
      exact ⟨h2.2.2 (i, v) List.mem_cons_self, hc⟩
    · cases hj
  · rename_i e
    have hu := (h.2.2 j u hj).2
    refine ⟨h2.2.2 (j, u) (List.mem_cons_of_mem _ (List.mem_filter.mpr ⟨(lvp_mem lv 0 j u).mpr ⟨Nat.zero_le _, hj⟩, ?_⟩)), hu⟩
    have e1 : (j == i) = false := by simp; exact fun q => e q.symm
    rw [hu, e1]
    simp
/-- fewer places are known -/
def lvmask : List Bool → List (Option Value) → List (Option Value)
  | [], _ => []
  | _ :: _, [] => []
  | true :: b, x :: r => x :: lvmask b r
  | false :: b, _ :: r => none :: lvmask b r
theorem lvmask_get : ∀ (b : List Bool) (lv : List (Option Value)) (i : Nat) (v : Value), (lvmask b lv)[i]? = some (some v) → lv[i]? = some (some v) := by
  intro b
  induction b with
  | nil => intro lv i v h; simp [lvmask] at h
  | cons x b ih =>
    intro lv i v h
    cases lv with
    | nil => cases x <;> simp [lvmask] at h
    | cons y r =>
      cases x <;> cases i <;> simp only [lvmask, List.getElem?_cons_zero, List.getElem?_cons_succ] at h ⊢
      · cases h
      · exact ih r _ v h
      · exact h
      · exact ih r _ v h
theorem lvok.mask {ls : Array Slot} {nL : Nat} {lv : List (Option Value)} (h : lvok ls nL lv) (b : List Bool) : lvok ls nL (lvmask b lv) :=
  ⟨h.1, h.2.1, fun i v hi => h.2.2 i v (lvmask_get b lv i v hi)⟩
/-- at a call: the arguments, all of one word -/
theorem lvok.entry {ls : Array Slot} {nL : Nat} {as : List Value} (h : lv_has ls nL (lv_args 0 as)) (h1 : ∀ v ∈ as, v.category = 1) : lvok ls nL (as.map some) := by
  refine ⟨h.1, h.2.1, ?_⟩
  have key : ∀ (as : List Value) (k : Nat), (∀ v ∈ as, v.category = 1) → ∀ (i : Nat) (v : Value), as[i]? = some v → (k + i, v) ∈ lv_args k as := by
    intro as
    induction as with
    | nil => intro k _ i v h; simp at h
    | cons a r ih =>
      intro k hc i v hi
      have ha : a.category = 1 := hc a List.mem_cons_self
      simp only [lv_args, ha]
      cases i with
      | zero => simp at hi; subst hi; exact List.mem_cons_self
      | succ i =>
        simp only [List.getElem?_cons_succ] at hi
        have := ih (k + 1) (fun v hv => hc v (List.mem_cons_of_mem _ hv)) i v hi
        refine List.mem_cons_of_mem _ ?_
        rw [show k + (i + 1) = k + 1 + i by omega]
        exact this
  intro i v hi
  rw [List.getElem?_map] at hi
  cases hv : as[i]? with
  | none => rw [hv] at hi; cases hi
  | some u =>
    rw [hv] at hi
    simp at hi
    subst hi
    have := key as 0 h1 i u hv
    rw [Nat.zero_add] at this
    exact ⟨h.2.2 _ this, h1 u (List.mem_of_getElem? hv)⟩
def okc {S : Type} (w : Wd S) (st : S) : Prop := w.sz st ≤ w.cc ∧ w.sl st ≤ w.cs
def lec {S : Type} (w : Wd S) (a b : S) : Prop := (w.sz a ≤ w.sz b ∧ w.sl a ≤ w.sl b) ∧ ∀ x, w.tg a x ≠ 0 → w.tg b x = w.tg a x
theorem lec.rf {S : Type} {w : Wd S} {a : S} : lec w a a := ⟨⟨Nat.le_refl _, Nat.le_refl _⟩, fun _ _ => rfl⟩
theorem lec.tr {S : Type} {w : Wd S} {a b c : S} (h : lec w a b) (k : lec w b c) : lec w a c := ⟨⟨Nat.le_trans h.1.1 k.1.1, Nat.le_trans h.1.2 k.1.2⟩, fun x hx => by have := h.2 x hx; rw [k.2 x (by rw [this]; exact hx), this]⟩
def RM {S : Type} (w : Wd S) (ℓ : Nat) (st0 : S) : Room := { frames := ℓ, cells := w.cc - w.sz st0, slots := w.cs - w.sl st0, locals := 64 * ℓ }
/-- the walk itself: outcome o, state st' -/
def JW {S : Type} (w : Wd S) (md : MD) (lev : Nat) (st0 : S) (pc : Nat) (lv : List (Option Value)) (stk : List Value) (st : S) (o : Outcome) (st' : S) : Prop :=
  okT w → ∀ ℓ, lev ≤ ℓ → ∀ (p : Program) (e : Env) (s : State) (m : MethodId) (args : Array Value) (below : List Frame) (meth : Method) (c : Code) (H : Heap) (locs : List Loc) (ls : Array Slot),
    Cx w md p s m args meth c → w.rp st H → (∀ q ∈ locs, w.fr q.base) → lvok ls md.nL lv →
    W p w.l e (RM w ℓ st0) s m args below meth c H locs (w.sz st - w.sz st0) (w.sl st - w.sl st0) (EQ below s w.fr o (w.rp st') (w.sz st' - w.sz st0) (w.sl st' - w.sl st0)) (F0 m pc ls stk)
/-- from here the method ends, with an outcome and a state as Q says -/
def JQ {S : Type} (w : Wd S) (md : MD) (lev : Nat) (st0 : S) (pc : Nat) (lv : List (Option Value)) (stk : List Value) (st : S) (Q : Outcome → S → Prop) : Prop :=
  lec w st0 st → okc w st → ∃ o st', Q o st' ∧ lec w st st' ∧ okc w st' ∧ JW w md lev st0 pc lv stk st o st'
/-- a contract: called with 'as' in the state st the method ends as Q says -/
def CQ {S : Type} (w : Wd S) (md : MD) (lev : Nat) (as : List Value) (st : S) (Q : Outcome → S → Prop) : Prop :=
  okc w st → ∃ o st', Q o st' ∧ lec w st st' ∧ okc w st' ∧ (okT w → ∀ ℓ, lev ≤ ℓ → Ct w.l w.s0 md.y md.w (RM w ℓ st) w.fr as (w.rp st) o (w.rp st') (w.sz st' - w.sz st) (w.sl st' - w.sl st))
theorem goodW_tab {w : Cond} (h : w ∈ lw_all) : (w.onTables && w.keeps) = true ∨ ∃ ty, w = .arrayClass ty := good_of_word (List.mem_filter.mp h).2
theorem hts_of {s0 s : State} (h0 : ∀ w ∈ lw_tbl, va_Nw w s0) (hW : s0.WarmedH s.vm) {args : Array Value} : ∀ w ∈ lw_all, w.before args s = true :=
  fun w hw => word_at hW (goodW_tab hw) (h0 w (lw_all_tbl hw))
section JGEN
variable {S : Type} {w : Wd S} {md : MD} {lev : Nat} {st0 st st1 : S} {pc : Nat} {lv lv' : List (Option Value)} {stk stk' : List Value} {Q Q' : Outcome → S → Prop}
theorem JQ.mono (h : ∀ o t, Q o t → Q' o t) (k : JQ w md lev st0 pc lv stk st Q) : JQ w md lev st0 pc lv stk st Q' := fun a b => by
  obtain ⟨o, t, q, r⟩ := k a b
  exact ⟨o, t, h o t q, r⟩
theorem CQ.mono {as : List Value} (h : ∀ o t, Q o t → Q' o t) (k : CQ w md lev as st Q) : CQ w md lev as st Q' := fun b => by
  obtain ⟨o, t, q, r⟩ := k b
  exact ⟨o, t, h o t q, r⟩
theorem CQ.up {as : List Value} {lev' : Nat} (h : lev ≤ lev') (k : CQ w md lev as st Q) : CQ w md lev' as st Q := fun b => by
  obtain ⟨o, t, q, r1, r2, r3⟩ := k b
  exact ⟨o, t, q, r1, r2, fun ht ℓ hℓ => r3 ht ℓ (Nat.le_trans h hℓ)⟩
theorem JQ.up {lev' : Nat} (h : lev ≤ lev') (k : JQ w md lev st0 pc lv stk st Q) : JQ w md lev' st0 pc lv stk st Q := fun a b => by
  obtain ⟨o, t, q, r1, r2, r3⟩ := k a b
  exact ⟨o, t, q, r1, r2, fun ht ℓ hℓ => r3 ht ℓ (Nat.le_trans h hℓ)⟩
/-- the entry of a method -/
theorem CQ.of {as : List Value} (hy : plainName md.y.cls = true) (hn : (lg_sl as).length ≤ md.nL) (h1 : ∀ v ∈ as, v.category = 1) (k : JQ w md lev st 0 (as.map some) [] st Q) : CQ w md lev as st Q := by
  intro hc
  obtain ⟨o, st', hq, r1, r2, r3⟩ := k lec.rf hc
  refine ⟨o, st', hq, r1, r2, fun ht ℓ hℓ => ?_⟩
  obtain ⟨y, cc, nL, ret, hh⟩ := md
  cases hh with
  | nil =>
    refine Ct.ofW hy ?_
    intro p e s m args below meth c g1 g2 g3 g4 g5 g6 g7 g8 g9 g10 g11
    have hX : Cx w (y, cc, nL, ret, []) p s m args meth c := ⟨g1, g2, g3, g4, g5, by rw [Array.isEmpty_iff.mp g6]; rfl, g7, g8, g9, hts_of ht.1 g9⟩
    have := r3 ht ℓ hℓ p e s m args below meth c s.heap [] ((lg_sl as ++ List.replicate (nL - (lg_sl as).length) Slot.unset).toArray) hX g11 t_nil (lvok.entry (lv_entry as hn) h1)
    rw [Nat.sub_self, Nat.sub_self] at this
    subst g10
    rw [lg_entry_eq]
    exact this
  | cons h0 t0 =>
    refine Ct.ofWH hy ?_
    intro p e s m args below meth c g1 g2 g3 g4 g5 g6 g7 g8 g9 g10 g11
    have hX : Cx w (y, cc, nL, ret, h0 :: t0) p s m args meth c := ⟨g1, g2, g3, g4, g5, g6, g7, g8, g9, hts_of ht.1 g9⟩
    have := r3 ht ℓ hℓ p e s m args below meth c s.heap [] ((lg_sl as ++ List.replicate (nL - (lg_sl as).length) Slot.unset).toArray) hX g11 t_nil (lvok.entry (lv_entry as hn) h1)
    rw [Nat.sub_self, Nat.sub_self] at this
    subst g10
    rw [lg_entry_eq]
    exact this
/-- an instruction that leaves the world alone -/
def Go (md : MD) (lv lv' : List (Option Value)) (pc pc' : Nat) (stk stk' : List Value) : Prop :=
  ∀ (p : Program) (l : Launch) (e : Env) (R : Room) (s : State) (m : MethodId) (args : Array Value) (below : List Frame) (meth : Method) (c : Code) (H : Heap) (locs : List Loc) (cells slots : Nat) (QQ : State → Prop) (ls : Array Slot), p.tables.exec = Jvm.exec → c.code = md.cc → s.vm.findClass md.y.cls = some m.cls → (∀ x ∈ lw_all, x.before args s = true) → lvok ls md.nL lv →
    (∀ ls' : Array Slot, lvok ls' md.nL lv' → W p l e R s m args below meth c H locs cells slots QQ (F0 m pc' ls' stk')) → W p l e R s m args below meth c H locs cells slots QQ (F0 m pc ls stk)
theorem JQ.go {pc' : Nat} (h : Go md lv lv' pc pc' stk stk') (k : JQ w md lev st0 pc' lv' stk' st Q) : JQ w md lev st0 pc lv stk st Q := fun a b => by
  obtain ⟨o, t, q, r1, r2, r3⟩ := k a b
  refine ⟨o, t, q, r1, r2, fun ht ℓ hℓ p e s m args below meth c H locs ls C hR hL hl => ?_⟩
  exact h p w.l e _ s m args below meth c H locs _ _ _ ls C.1 C.2.1 C.2.2.2.2.2.2.1 C.2.2.2.2.2.2.2.2.2 hl (fun ls' hl' => r3 ht ℓ hℓ p e s m args below meth c H locs ls' C hR hL hl')
theorem j_mask (b : List Bool) (h : lvmask b lv = lv') (k : JQ w md lev st0 pc lv' stk st Q) : JQ w md lev st0 pc lv stk st Q :=
  JQ.go (fun p l e R s m args below meth c H locs cells slots QQ ls hx hb hown hts hl kk => kk ls (h ▸ hl.mask b)) k
theorem j_eq {pc' : Nat} (h1 : pc = pc') (h2 : lv = lv') (h3 : stk = stk') (k : JQ w md lev st0 pc' lv' stk' st Q) : JQ w md lev st0 pc lv stk st Q := by
  subst h1 h2 h3; exact k
theorem j_st (h : st = st1) (k : JQ w md lev st0 pc lv stk st1 Q) : JQ w md lev st0 pc lv stk st Q := by subst h; exact k
theorem j_iconst {n : Int} {v : Int32} (hd : decode md.cc pc = .ok (.iconst n, 1)) (hv : Int32.ofInt n = v) (k : JQ w md lev st0 (pc + 1) lv (.int v :: stk) st Q) : JQ w md lev st0 pc lv stk st Q :=
  JQ.go (fun p l e R s m args below meth c H locs cells slots QQ ls hx hb hown hts hl kk => lv_iconst hx hb hd hv (kk ls hl)) k
theorem j_bipush {n : Int} {v : Int32} (hd : decode md.cc pc = .ok (.bipush n, 2)) (hv : (Int8.ofInt n).toInt32 = v) (k : JQ w md lev st0 (pc + 2) lv (.int v :: stk) st Q) : JQ w md lev st0 pc lv stk st Q :=
  JQ.go (fun p l e R s m args below meth c H locs cells slots QQ ls hx hb hown hts hl kk => lv_bipush hx hb hd hv (kk ls hl)) k
theorem j_sipush {n : Int} {v : Int32} (hd : decode md.cc pc = .ok (.sipush n, 3)) (hv : (Int16.ofInt n).toInt32 = v) (k : JQ w md lev st0 (pc + 3) lv (.int v :: stk) st Q) : JQ w md lev st0 pc lv stk st Q :=
  JQ.go (fun p l e R s m args below meth c H locs cells slots QQ ls hx hb hown hts hl kk => lv_sipush hx hb hd hv (kk ls hl)) k
theorem j_ldc {idx : Nat} {u v : Int32} (hq : Cond.constant md.y.cls idx u ∈ lw_all) (hd : decode md.cc pc = .ok (.ldc idx, 2)) (hv : u = v) (k : JQ w md lev st0 (pc + 2) lv (.int v :: stk) st Q) : JQ w md lev st0 pc lv stk st Q :=
  JQ.go (fun p l e R s m args below meth c H locs cells slots QQ ls hx hb hown hts hl kk => by subst hv; exact lv_ldc hx hb hown (hts _ hq) hd (kk ls hl)) k
theorem j_ldcw {idx : Nat} {u v : Int32} (hq : Cond.constant md.y.cls idx u ∈ lw_all) (hd : decode md.cc pc = .ok (.ldc_w idx, 3)) (hv : u = v) (k : JQ w md lev st0 (pc + 3) lv (.int v :: stk) st Q) : JQ w md lev st0 pc lv stk st Q :=
  JQ.go (fun p l e R s m args below meth c H locs cells slots QQ ls hx hb hown hts hl kk => by subst hv; exact lv_ldcw hx hb hown (hts _ hq) hd (kk ls hl)) k
theorem j_iload_n {k0 : Fin 4} {x : Int32} (hd : decode md.cc pc = .ok (.iload_n k0, 1)) (hl0 : lv[(k0 : Nat)]? = some (some (.int x))) (k : JQ w md lev st0 (pc + 1) lv (.int x :: stk) st Q) : JQ w md lev st0 pc lv stk st Q :=
  JQ.go (fun p l e R s m args below meth c H locs cells slots QQ ls hx hb hown hts hl kk => lv_iload_n hx hb hd rfl (hl.get hl0) (kk ls hl)) k
theorem j_iload {i : Nat} {x : Int32} (hd : decode md.cc pc = .ok (.iload i, 2)) (hl0 : lv[i]? = some (some (.int x))) (k : JQ w md lev st0 (pc + 2) lv (.int x :: stk) st Q) : JQ w md lev st0 pc lv stk st Q :=
  JQ.go (fun p l e R s m args below meth c H locs cells slots QQ ls hx hb hown hts hl kk => lv_iload hx hb hd (hl.get hl0) (kk ls hl)) k
theorem j_aload_n {k0 : Fin 4} {r : Option Nat} (hd : decode md.cc pc = .ok (.aload_n k0, 1)) (hl0 : lv[(k0 : Nat)]? = some (some (va_rf r))) (k : JQ w md lev st0 (pc + 1) lv (va_rf r :: stk) st Q) : JQ w md lev st0 pc lv stk st Q :=
  JQ.go (fun p l e R s m args below meth c H locs cells slots QQ ls hx hb hown hts hl kk => by cases r with | none => exact lv_aload_nN hx hb hd rfl (hl.get hl0) (kk ls hl) | some a => exact lv_aload_n hx hb hd rfl (hl.get hl0) (kk ls hl)) k
theorem j_aload {i : Nat} {r : Option Nat} (hd : decode md.cc pc = .ok (.aload i, 2)) (hl0 : lv[i]? = some (some (va_rf r))) (k : JQ w md lev st0 (pc + 2) lv (va_rf r :: stk) st Q) : JQ w md lev st0 pc lv stk st Q :=
  JQ.go (fun p l e R s m args below meth c H locs cells slots QQ ls hx hb hown hts hl kk => by cases r with | none => exact lv_aloadN hx hb hd (hl.get hl0) (kk ls hl) | some a => exact lv_aload hx hb hd (hl.get hl0) (kk ls hl)) k
theorem j_istore_n {k0 : Fin 4} {x : Int32} (hd : decode md.cc pc = .ok (.istore_n k0, 1)) (hn : (k0 : Nat) < md.nL) (he : lv.set (k0 : Nat) (some (.int x)) = lv') (k : JQ w md lev st0 (pc + 1) lv' stk st Q) : JQ w md lev st0 pc lv (.int x :: stk) st Q :=
  JQ.go (fun p l e R s m args below meth c H locs cells slots QQ ls hx hb hown hts hl kk => lv_istore_n hx hb hd rfl hl.has hn rfl (fun ls' hl' => kk ls' (he ▸ hl.stored rfl hl'))) k
theorem j_istore {i : Nat} {x : Int32} (hd : decode md.cc pc = .ok (.istore i, 2)) (hn : i < md.nL) (he : lv.set i (some (.int x)) = lv') (k : JQ w md lev st0 (pc + 2) lv' stk st Q) : JQ w md lev st0 pc lv (.int x :: stk) st Q :=
  JQ.go (fun p l e R s m args below meth c H locs cells slots QQ ls hx hb hown hts hl kk => lv_istore hx hb hd hl.has hn rfl (fun ls' hl' => kk ls' (he ▸ hl.stored rfl hl'))) k
theorem j_astore_n {k0 : Fin 4} {r : Option Nat} (hd : decode md.cc pc = .ok (.astore_n k0, 1)) (hn : (k0 : Nat) < md.nL) (he : lv.set (k0 : Nat) (some (va_rf r)) = lv') (k : JQ w md lev st0 (pc + 1) lv' stk st Q) : JQ w md lev st0 pc lv (va_rf r :: stk) st Q :=
  JQ.go (fun p l e R s m args below meth c H locs cells slots QQ ls hx hb hown hts hl kk => match r, he with | none, he => lv_astore_nN hx hb hd rfl hl.has hn rfl (fun ls' hl' => kk ls' (he ▸ hl.stored rfl hl')) | some a, he => lv_astore_n hx hb hd rfl hl.has hn rfl (fun ls' hl' => kk ls' (he ▸ hl.stored rfl hl'))) k
theorem j_astore {i : Nat} {r : Option Nat} (hd : decode md.cc pc = .ok (.astore i, 2)) (hn : i < md.nL) (he : lv.set i (some (va_rf r)) = lv') (k : JQ w md lev st0 (pc + 2) lv' stk st Q) : JQ w md lev st0 pc lv (va_rf r :: stk) st Q :=
  JQ.go (fun p l e R s m args below meth c H locs cells slots QQ ls hx hb hown hts hl kk => match r, he with | none, he => lv_astoreN hx hb hd hl.has hn rfl (fun ls' hl' => kk ls' (he ▸ hl.stored rfl hl')) | some a, he => lv_astore hx hb hd hl.has hn rfl (fun ls' hl' => kk ls' (he ▸ hl.stored rfl hl'))) k
theorem lvp_at {lv : List (Option Value)} {i : Nat} {v : Value} (h : lv[i]? = some (some v)) : ∃ k : Nat, (lvp 0 lv)[k]? = some (i, v) := List.getElem?_of_mem ((lvp_mem lv 0 i v).mpr ⟨Nat.zero_le _, h⟩)
theorem j_iinc {i : Nat} {n : Int} {x : Int32} (hd : decode md.cc pc = .ok (.iinc i n, 3)) (hl0 : lv[i]? = some (some (.int x))) (hn : i < md.nL) (he : lv.set i (some (.int (x + Int32.ofInt n))) = lv') (k : JQ w md lev st0 (pc + 3) lv' stk st Q) : JQ w md lev st0 pc lv stk st Q :=
  JQ.go (fun p l e R s m args below meth c H locs cells slots QQ ls hx hb hown hts hl kk => (lvp_at hl0).elim (fun k0 hk0 => lv_iinc hx hb hd hl.has hk0 rfl hn rfl (fun ls' hl' => kk ls' (he ▸ hl.stored rfl hl')))) k
theorem j_iadd {x y : Int32} (hd : decode md.cc pc = .ok (.iadd, 1)) (k : JQ w md lev st0 (pc + 1) lv (.int (x + y) :: stk) st Q) : JQ w md lev st0 pc lv (.int y :: .int x :: stk) st Q :=
  JQ.go (fun p l e R s m args below meth c H locs cells slots QQ ls hx hb hown hts hl kk => lv_iadd hx hb hd (kk ls hl)) k
theorem j_isub {x y : Int32} (hd : decode md.cc pc = .ok (.isub, 1)) (k : JQ w md lev st0 (pc + 1) lv (.int (x - y) :: stk) st Q) : JQ w md lev st0 pc lv (.int y :: .int x :: stk) st Q :=
  JQ.go (fun p l e R s m args below meth c H locs cells slots QQ ls hx hb hown hts hl kk => lv_isub hx hb hd (kk ls hl)) k
theorem j_imul {x y : Int32} (hd : decode md.cc pc = .ok (.imul, 1)) (k : JQ w md lev st0 (pc + 1) lv (.int (x * y) :: stk) st Q) : JQ w md lev st0 pc lv (.int y :: .int x :: stk) st Q :=
  JQ.go (fun p l e R s m args below meth c H locs cells slots QQ ls hx hb hown hts hl kk => lv_imul hx hb hd (kk ls hl)) k
theorem j_iand {x y : Int32} (hd : decode md.cc pc = .ok (.iand, 1)) (k : JQ w md lev st0 (pc + 1) lv (.int (x &&& y) :: stk) st Q) : JQ w md lev st0 pc lv (.int y :: .int x :: stk) st Q :=
  JQ.go (fun p l e R s m args below meth c H locs cells slots QQ ls hx hb hown hts hl kk => lv_iand hx hb hd (kk ls hl)) k
theorem j_ior {x y : Int32} (hd : decode md.cc pc = .ok (.ior, 1)) (k : JQ w md lev st0 (pc + 1) lv (.int (x ||| y) :: stk) st Q) : JQ w md lev st0 pc lv (.int y :: .int x :: stk) st Q :=
  JQ.go (fun p l e R s m args below meth c H locs cells slots QQ ls hx hb hown hts hl kk => lv_ior hx hb hd (kk ls hl)) k
theorem j_ixor {x y : Int32} (hd : decode md.cc pc = .ok (.ixor, 1)) (k : JQ w md lev st0 (pc + 1) lv (.int (x ^^^ y) :: stk) st Q) : JQ w md lev st0 pc lv (.int y :: .int x :: stk) st Q :=
  JQ.go (fun p l e R s m args below meth c H locs cells slots QQ ls hx hb hown hts hl kk => lv_ixor hx hb hd (kk ls hl)) k
theorem j_ishl {x y : Int32} (hd : decode md.cc pc = .ok (.ishl, 1)) (k : JQ w md lev st0 (pc + 1) lv (.int (x <<< (y &&& 31)) :: stk) st Q) : JQ w md lev st0 pc lv (.int y :: .int x :: stk) st Q :=
  JQ.go (fun p l e R s m args below meth c H locs cells slots QQ ls hx hb hown hts hl kk => lv_ishl hx hb hd (kk ls hl)) k
theorem j_ishr {x y : Int32} (hd : decode md.cc pc = .ok (.ishr, 1)) (k : JQ w md lev st0 (pc + 1) lv (.int (x >>> (y &&& 31)) :: stk) st Q) : JQ w md lev st0 pc lv (.int y :: .int x :: stk) st Q :=
  JQ.go (fun p l e R s m args below meth c H locs cells slots QQ ls hx hb hown hts hl kk => lv_ishr hx hb hd (kk ls hl)) k
theorem j_idiv {x y : Int32} (hd : decode md.cc pc = .ok (.idiv, 1)) (hne : ¬ y = 0) (k : JQ w md lev st0 (pc + 1) lv (.int (x / y) :: stk) st Q) : JQ w md lev st0 pc lv (.int y :: .int x :: stk) st Q :=
  JQ.go (fun p l e R s m args below meth c H locs cells slots QQ ls hx hb hown hts hl kk => lv_idiv hx hb hd hne (kk ls hl)) k
theorem j_irem {x y : Int32} (hd : decode md.cc pc = .ok (.irem, 1)) (hne : ¬ y = 0) (k : JQ w md lev st0 (pc + 1) lv (.int (x - x / y * y) :: stk) st Q) : JQ w md lev st0 pc lv (.int y :: .int x :: stk) st Q :=
  JQ.go (fun p l e R s m args below meth c H locs cells slots QQ ls hx hb hown hts hl kk => lv_irem hx hb hd hne (kk ls hl)) k
theorem j_iushr {x y : Int32} (hd : decode md.cc pc = .ok (.iushr, 1)) (k : JQ w md lev st0 (pc + 1) lv (.int ((x.toUInt32 >>> (y.toUInt32 &&& Int32.toUInt32 31)).toInt32) :: stk) st Q) : JQ w md lev st0 pc lv (.int y :: .int x :: stk) st Q :=
  JQ.go (fun p l e R s m args below meth c H locs cells slots QQ ls hx hb hown hts hl kk => lv_iushr hx hb hd rfl (kk ls hl)) k
theorem j_ineg {x : Int32} (hd : decode md.cc pc = .ok (.ineg, 1)) (k : JQ w md lev st0 (pc + 1) lv (.int (-x) :: stk) st Q) : JQ w md lev st0 pc lv (.int x :: stk) st Q :=
  JQ.go (fun p l e R s m args below meth c H locs cells slots QQ ls hx hb hown hts hl kk => lv_ineg hx hb hd (kk ls hl)) k
theorem j_i2l {x : Int32} (hd : decode md.cc pc = .ok (.i2l, 1)) (k : JQ w md lev st0 (pc + 1) lv (.long x.toInt64 :: stk) st Q) : JQ w md lev st0 pc lv (.int x :: stk) st Q :=
  JQ.go (fun p l e R s m args below meth c H locs cells slots QQ ls hx hb hown hts hl kk => lv_i2l hx hb hd rfl (kk ls hl)) k
theorem j_i2b {x : Int32} (hd : decode md.cc pc = .ok (.i2b, 1)) (k : JQ w md lev st0 (pc + 1) lv (.int x.toInt8.toInt32 :: stk) st Q) : JQ w md lev st0 pc lv (.int x :: stk) st Q :=
  JQ.go (fun p l e R s m args below meth c H locs cells slots QQ ls hx hb hown hts hl kk => lv_i2b hx hb hd rfl (kk ls hl)) k
theorem j_i2c {x : Int32} (hd : decode md.cc pc = .ok (.i2c, 1)) (k : JQ w md lev st0 (pc + 1) lv (.int (x.toUInt32 % 65536).toInt32 :: stk) st Q) : JQ w md lev st0 pc lv (.int x :: stk) st Q :=
  JQ.go (fun p l e R s m args below meth c H locs cells slots QQ ls hx hb hown hts hl kk => lv_i2c hx hb hd rfl (kk ls hl)) k
theorem j_dup {v : Value} (hd : decode md.cc pc = .ok (.dup, 1)) (hv : v.category = 1) (k : JQ w md lev st0 (pc + 1) lv (v :: v :: stk) st Q) : JQ w md lev st0 pc lv (v :: stk) st Q :=
  JQ.go (fun p l e R s m args below meth c H locs cells slots QQ ls hx hb hown hts hl kk => lv_dup hx hb hd hv (kk ls hl)) k
theorem j_pop {v : Value} (hd : decode md.cc pc = .ok (.pop, 1)) (hv : v.category = 1) (k : JQ w md lev st0 (pc + 1) lv stk st Q) : JQ w md lev st0 pc lv (v :: stk) st Q :=
  JQ.go (fun p l e R s m args below meth c H locs cells slots QQ ls hx hb hown hts hl kk => lv_pop hx hb hd hv (kk ls hl)) k
theorem j_dup_x1 {v u : Value} (hd : decode md.cc pc = .ok (.dup_x1, 1)) (hv : v.category = 1) (hu : u.category = 1) (k : JQ w md lev st0 (pc + 1) lv (v :: u :: v :: stk) st Q) : JQ w md lev st0 pc lv (v :: u :: stk) st Q :=
  JQ.go (fun p l e R s m args below meth c H locs cells slots QQ ls hx hb hown hts hl kk => lv_dup_x1 hx hb hd hv hu (kk ls hl)) k
theorem j_dup_x2 {v u z : Value} (hd : decode md.cc pc = .ok (.dup_x2, 1)) (hv : v.category = 1) (hu : u.category = 1) (hz : z.category = 1) (k : JQ w md lev st0 (pc + 1) lv (v :: u :: z :: v :: stk) st Q) : JQ w md lev st0 pc lv (v :: u :: z :: stk) st Q :=
  JQ.go (fun p l e R s m args below meth c H locs cells slots QQ ls hx hb hown hts hl kk => lv_dup_x2 hx hb hd hv hu hz (kk ls hl)) k
theorem j_dup2 {v u : Value} (hd : decode md.cc pc = .ok (.dup2, 1)) (hv : v.category = 1) (hu : u.category = 1) (k : JQ w md lev st0 (pc + 1) lv (v :: u :: v :: u :: stk) st Q) : JQ w md lev st0 pc lv (v :: u :: stk) st Q :=
  JQ.go (fun p l e R s m args below meth c H locs cells slots QQ ls hx hb hown hts hl kk => lv_dup2_11 hx hb hd hv hu (kk ls hl)) k
theorem j_null (hd : decode md.cc pc = .ok (.aconst_null, 1)) (k : JQ w md lev st0 (pc + 1) lv (va_rf none :: stk) st Q) : JQ w md lev st0 pc lv stk st Q :=
  JQ.go (fun p l e R s m args below meth c H locs cells slots QQ ls hx hb hown hts hl kk => lv_null hx hb hd (kk ls hl)) k
theorem j_goto {off : Int} (tgt : Nat) (hd : decode md.cc pc = .ok (.goto off, 3)) (ht : (pc : Int) + off = (tgt : Int)) (k : JQ w md lev st0 tgt lv stk st Q) : JQ w md lev st0 pc lv stk st Q :=
  JQ.go (fun p l e R s m args below meth c H locs cells slots QQ ls hx hb hown hts hl kk => lv_goto hx hb hd ht (kk ls hl)) k
theorem j_if_eq {x : Int32} {off : Int} (tgt : Nat) (hd : decode md.cc pc = .ok (.ifCond .eq off, 3)) (ht : (pc : Int) + off = (tgt : Int)) (kt : x = 0 → JQ w md lev st0 tgt lv stk st Q) (kf : ¬ x = 0 → JQ w md lev st0 (pc + 3) lv stk st Q) : JQ w md lev st0 pc lv (.int x :: stk) st Q := by
  by_cases h : x = 0
  · exact JQ.go (fun p l e R s m args below meth c H locs cells slots QQ ls hx hb hown hts hl kk => lv_if_eq hx hb hd ht (fun _ => kk ls hl) (fun q => absurd h q)) (kt h)
  · exact JQ.go (fun p l e R s m args below meth c H locs cells slots QQ ls hx hb hown hts hl kk => lv_if_eq hx hb hd ht (fun q => absurd q h) (fun _ => kk ls hl)) (kf h)
theorem j_icmp_eq {x y : Int32} {off : Int} (tgt : Nat) (hd : decode md.cc pc = .ok (.if_icmp .eq off, 3)) (ht : (pc : Int) + off = (tgt : Int)) (kt : x = y → JQ w md lev st0 tgt lv stk st Q) (kf : ¬ x = y → JQ w md lev st0 (pc + 3) lv stk st Q) : JQ w md lev st0 pc lv (.int y :: .int x :: stk) st Q := by
  by_cases h : x = y
  · exact JQ.go (fun p l e R s m args below meth c H locs cells slots QQ ls hx hb hown hts hl kk => lv_icmp_eq hx hb hd ht (fun _ => kk ls hl) (fun q => absurd h q)) (kt h)
  · exact JQ.go (fun p l e R s m args below meth c H locs cells slots QQ ls hx hb hown hts hl kk => lv_icmp_eq hx hb hd ht (fun q => absurd q h) (fun _ => kk ls hl)) (kf h)
theorem j_if_ne {x : Int32} {off : Int} (tgt : Nat) (hd : decode md.cc pc = .ok (.ifCond .ne off, 3)) (ht : (pc : Int) + off = (tgt : Int)) (kt : ¬ x = 0 → JQ w md lev st0 tgt lv stk st Q) (kf : x = 0 → JQ w md lev st0 (pc + 3) lv stk st Q) : JQ w md lev st0 pc lv (.int x :: stk) st Q := by
  by_cases h : x = 0
  · exact JQ.go (fun p l e R s m args below meth c H locs cells slots QQ ls hx hb hown hts hl kk => lv_if_ne hx hb hd ht (fun q => absurd h q) (fun _ => kk ls hl)) (kf h)
  · exact JQ.go (fun p l e R s m args below meth c H locs cells slots QQ ls hx hb hown hts hl kk => lv_if_ne hx hb hd ht (fun _ => kk ls hl) (fun q => absurd q h)) (kt h)
theorem j_icmp_ne {x y : Int32} {off : Int} (tgt : Nat) (hd : decode md.cc pc = .ok (.if_icmp .ne off, 3)) (ht : (pc : Int) + off = (tgt : Int)) (kt : ¬ x = y → JQ w md lev st0 tgt lv stk st Q) (kf : x = y → JQ w md lev st0 (pc + 3) lv stk st Q) : JQ w md lev st0 pc lv (.int y :: .int x :: stk) st Q := by
  by_cases h : x = y
  · exact JQ.go (fun p l e R s m args below meth c H locs cells slots QQ ls hx hb hown hts hl kk => lv_icmp_ne hx hb hd ht (fun q => absurd h q) (fun _ => kk ls hl)) (kf h)
  · exact JQ.go (fun p l e R s m args below meth c H locs cells slots QQ ls hx hb hown hts hl kk => lv_icmp_ne hx hb hd ht (fun _ => kk ls hl) (fun q => absurd q h)) (kt h)
theorem j_if_lt {x : Int32} {off : Int} (tgt : Nat) (hd : decode md.cc pc = .ok (.ifCond .lt off, 3)) (ht : (pc : Int) + off = (tgt : Int)) (kt : x < 0 → JQ w md lev st0 tgt lv stk st Q) (kf : ¬ x < 0 → JQ w md lev st0 (pc + 3) lv stk st Q) : JQ w md lev st0 pc lv (.int x :: stk) st Q := by
  by_cases h : x < 0
  · exact JQ.go (fun p l e R s m args below meth c H locs cells slots QQ ls hx hb hown hts hl kk => lv_if_lt hx hb hd ht (fun _ => kk ls hl) (fun q => absurd h q)) (kt h)
  · exact JQ.go (fun p l e R s m args below meth c H locs cells slots QQ ls hx hb hown hts hl kk => lv_if_lt hx hb hd ht (fun q => absurd q h) (fun _ => kk ls hl)) (kf h)
theorem j_icmp_lt {x y : Int32} {off : Int} (tgt : Nat) (hd : decode md.cc pc = .ok (.if_icmp .lt off, 3)) (ht : (pc : Int) + off = (tgt : Int)) (kt : x < y → JQ w md lev st0 tgt lv stk st Q) (kf : ¬ x < y → JQ w md lev st0 (pc + 3) lv stk st Q) : JQ w md lev st0 pc lv (.int y :: .int x :: stk) st Q := by
  by_cases h : x < y
  · exact JQ.go (fun p l e R s m args below meth c H locs cells slots QQ ls hx hb hown hts hl kk => lv_icmp_lt hx hb hd ht (fun _ => kk ls hl) (fun q => absurd h q)) (kt h)
  · exact JQ.go (fun p l e R s m args below meth c H locs cells slots QQ ls hx hb hown hts hl kk => lv_icmp_lt hx hb hd ht (fun q => absurd q h) (fun _ => kk ls hl)) (kf h)
theorem j_if_ge {x : Int32} {off : Int} (tgt : Nat) (hd : decode md.cc pc = .ok (.ifCond .ge off, 3)) (ht : (pc : Int) + off = (tgt : Int)) (kt : 0 ≤ x → JQ w md lev st0 tgt lv stk st Q) (kf : ¬ 0 ≤ x → JQ w md lev st0 (pc + 3) lv stk st Q) : JQ w md lev st0 pc lv (.int x :: stk) st Q := by
  by_cases h : 0 ≤ x
  · exact JQ.go (fun p l e R s m args below meth c H locs cells slots QQ ls hx hb hown hts hl kk => lv_if_ge hx hb hd ht (fun _ => kk ls hl) (fun q => absurd h q)) (kt h)
  · exact JQ.go (fun p l e R s m args below meth c H locs cells slots QQ ls hx hb hown hts hl kk => lv_if_ge hx hb hd ht (fun q => absurd q h) (fun _ => kk ls hl)) (kf h)
theorem j_icmp_ge {x y : Int32} {off : Int} (tgt : Nat) (hd : decode md.cc pc = .ok (.if_icmp .ge off, 3)) (ht : (pc : Int) + off = (tgt : Int)) (kt : y ≤ x → JQ w md lev st0 tgt lv stk st Q) (kf : ¬ y ≤ x → JQ w md lev st0 (pc + 3) lv stk st Q) : JQ w md lev st0 pc lv (.int y :: .int x :: stk) st Q := by
  by_cases h : y ≤ x
  · exact JQ.go (fun p l e R s m args below meth c H locs cells slots QQ ls hx hb hown hts hl kk => lv_icmp_ge hx hb hd ht (fun _ => kk ls hl) (fun q => absurd h q)) (kt h)
  · exact JQ.go (fun p l e R s m args below meth c H locs cells slots QQ ls hx hb hown hts hl kk => lv_icmp_ge hx hb hd ht (fun q => absurd q h) (fun _ => kk ls hl)) (kf h)
theorem j_if_gt {x : Int32} {off : Int} (tgt : Nat) (hd : decode md.cc pc = .ok (.ifCond .gt off, 3)) (ht : (pc : Int) + off = (tgt : Int)) (kt : 0 < x → JQ w md lev st0 tgt lv stk st Q) (kf : ¬ 0 < x → JQ w md lev st0 (pc + 3) lv stk st Q) : JQ w md lev st0 pc lv (.int x :: stk) st Q := by
  by_cases h : 0 < x
  · exact JQ.go (fun p l e R s m args below meth c H locs cells slots QQ ls hx hb hown hts hl kk => lv_if_gt hx hb hd ht (fun _ => kk ls hl) (fun q => absurd h q)) (kt h)
  · exact JQ.go (fun p l e R s m args below meth c H locs cells slots QQ ls hx hb hown hts hl kk => lv_if_gt hx hb hd ht (fun q => absurd q h) (fun _ => kk ls hl)) (kf h)
theorem j_icmp_gt {x y : Int32} {off : Int} (tgt : Nat) (hd : decode md.cc pc = .ok (.if_icmp .gt off, 3)) (ht : (pc : Int) + off = (tgt : Int)) (kt : y < x → JQ w md lev st0 tgt lv stk st Q) (kf : ¬ y < x → JQ w md lev st0 (pc + 3) lv stk st Q) : JQ w md lev st0 pc lv (.int y :: .int x :: stk) st Q := by
  by_cases h : y < x
  · exact JQ.go (fun p l e R s m args below meth c H locs cells slots QQ ls hx hb hown hts hl kk => lv_icmp_gt hx hb hd ht (fun _ => kk ls hl) (fun q => absurd h q)) (kt h)
  · exact JQ.go (fun p l e R s m args below meth c H locs cells slots QQ ls hx hb hown hts hl kk => lv_icmp_gt hx hb hd ht (fun q => absurd q h) (fun _ => kk ls hl)) (kf h)
theorem j_if_le {x : Int32} {off : Int} (tgt : Nat) (hd : decode md.cc pc = .ok (.ifCond .le off, 3)) (ht : (pc : Int) + off = (tgt : Int)) (kt : x ≤ 0 → JQ w md lev st0 tgt lv stk st Q) (kf : ¬ x ≤ 0 → JQ w md lev st0 (pc + 3) lv stk st Q) : JQ w md lev st0 pc lv (.int x :: stk) st Q := by
  by_cases h : x ≤ 0
  · exact JQ.go (fun p l e R s m args below meth c H locs cells slots QQ ls hx hb hown hts hl kk => lv_if_le hx hb hd ht (fun _ => kk ls hl) (fun q => absurd h q)) (kt h)
  · exact JQ.go (fun p l e R s m args below meth c H locs cells slots QQ ls hx hb hown hts hl kk => lv_if_le hx hb hd ht (fun q => absurd q h) (fun _ => kk ls hl)) (kf h)
theorem j_icmp_le {x y : Int32} {off : Int} (tgt : Nat) (hd : decode md.cc pc = .ok (.if_icmp .le off, 3)) (ht : (pc : Int) + off = (tgt : Int)) (kt : x ≤ y → JQ w md lev st0 tgt lv stk st Q) (kf : ¬ x ≤ y → JQ w md lev st0 (pc + 3) lv stk st Q) : JQ w md lev st0 pc lv (.int y :: .int x :: stk) st Q := by
  by_cases h : x ≤ y
  · exact JQ.go (fun p l e R s m args below meth c H locs cells slots QQ ls hx hb hown hts hl kk => lv_icmp_le hx hb hd ht (fun _ => kk ls hl) (fun q => absurd h q)) (kt h)
  · exact JQ.go (fun p l e R s m args below meth c H locs cells slots QQ ls hx hb hown hts hl kk => lv_icmp_le hx hb hd ht (fun q => absurd q h) (fun _ => kk ls hl)) (kf h)
theorem j_acmp_eq {x y : Option Nat} {off : Int} (tgt : Nat) (hd : decode md.cc pc = .ok (.if_acmp .eq off, 3)) (ht : (pc : Int) + off = (tgt : Int)) (kt : x = y → JQ w md lev st0 tgt lv stk st Q) (kf : ¬ x = y → JQ w md lev st0 (pc + 3) lv stk st Q) : JQ w md lev st0 pc lv (va_rf y :: va_rf x :: stk) st Q := by
  by_cases h : x = y
  · exact JQ.go (fun p l e R s m args below meth c H locs cells slots QQ ls hx hb hown hts hl kk => lv_acmp_eq hx hb hd ht (fun _ => kk ls hl) (fun q => absurd h q)) (kt h)
  · exact JQ.go (fun p l e R s m args below meth c H locs cells slots QQ ls hx hb hown hts hl kk => lv_acmp_eq hx hb hd ht (fun q => absurd q h) (fun _ => kk ls hl)) (kf h)
theorem j_acmp_ne {x y : Option Nat} {off : Int} (tgt : Nat) (hd : decode md.cc pc = .ok (.if_acmp .ne off, 3)) (ht : (pc : Int) + off = (tgt : Int)) (kt : ¬ x = y → JQ w md lev st0 tgt lv stk st Q) (kf : x = y → JQ w md lev st0 (pc + 3) lv stk st Q) : JQ w md lev st0 pc lv (va_rf y :: va_rf x :: stk) st Q := by
  by_cases h : x = y
  · exact JQ.go (fun p l e R s m args below meth c H locs cells slots QQ ls hx hb hown hts hl kk => lv_acmp_ne hx hb hd ht (fun q => absurd h q) (fun _ => kk ls hl)) (kf h)
  · exact JQ.go (fun p l e R s m args below meth c H locs cells slots QQ ls hx hb hown hts hl kk => lv_acmp_ne hx hb hd ht (fun _ => kk ls hl) (fun q => absurd q h)) (kt h)
theorem j_ifnull {r : Option Nat} {off : Int} (tgt : Nat) (hd : decode md.cc pc = .ok (.ifnull off, 3)) (ht : (pc : Int) + off = (tgt : Int)) (kt : r = none → JQ w md lev st0 tgt lv stk st Q) (kf : ∀ a, r = some a → JQ w md lev st0 (pc + 3) lv stk st Q) : JQ w md lev st0 pc lv (va_rf r :: stk) st Q := by
  cases r with
  | none => exact JQ.go (fun p l e R s m args below meth c H locs cells slots QQ ls hx hb hown hts hl kk => lv_ifnullN hx hb hd ht (kk ls hl)) (kt rfl)
  | some a => exact JQ.go (fun p l e R s m args below meth c H locs cells slots QQ ls hx hb hown hts hl kk => lv_ifnull hx hb hd (kk ls hl)) (kf a rfl)
theorem j_ifnonnull {r : Option Nat} {off : Int} (tgt : Nat) (hd : decode md.cc pc = .ok (.ifnonnull off, 3)) (ht : (pc : Int) + off = (tgt : Int)) (kt : ∀ a, r = some a → JQ w md lev st0 tgt lv stk st Q) (kf : r = none → JQ w md lev st0 (pc + 3) lv stk st Q) : JQ w md lev st0 pc lv (va_rf r :: stk) st Q := by
  cases r with
  | none => exact JQ.go (fun p l e R s m args below meth c H locs cells slots QQ ls hx hb hown hts hl kk => lv_ifnonnullN hx hb hd (kk ls hl)) (kf rfl)
  | some a => exact JQ.go (fun p l e R s m args below meth c H locs cells slots QQ ls hx hb hown hts hl kk => lv_ifnonnull hx hb hd ht (kk ls hl)) (kt a rfl)
/-- a switch over a table: the place of x in it, or none -/
theorem j_tableIn {dflt lo hi : Int} {offs : Array Int} {len : Nat} {x : Int32} {off : Int} (tgt : Nat) (hd : decode md.cc pc = .ok (.tableswitch dflt lo hi offs, len)) (h1 : ¬ x.toInt < lo) (h2 : ¬ hi < x.toInt) (ho : offs[(x.toInt - lo).toNat]? = some off) (ht : (pc : Int) + off = (tgt : Int)) (k : JQ w md lev st0 tgt lv stk st Q) : JQ w md lev st0 pc lv (.int x :: stk) st Q :=
  JQ.go (fun p l e R s m args below meth c H locs cells slots QQ ls hx hb hown hts hl kk => lv_tableIn hx hb hd h1 h2 ho ht (kk ls hl)) k
theorem j_tableOut {dflt lo hi : Int} {offs : Array Int} {len : Nat} {x : Int32} (tgt : Nat) (hd : decode md.cc pc = .ok (.tableswitch dflt lo hi offs, len)) (h : x.toInt < lo ∨ hi < x.toInt) (ht : (pc : Int) + dflt = (tgt : Int)) (k : JQ w md lev st0 tgt lv stk st Q) : JQ w md lev st0 pc lv (.int x :: stk) st Q :=
  JQ.go (fun p l e R s m args below meth c H locs cells slots QQ ls hx hb hown hts hl kk => lv_tableOut hx hb hd h ht (kk ls hl)) k
theorem j_lookup {dflt : Int} {ps : Array (Int × Int)} {len : Nat} {x : Int32} {off : Int} (tgt : Nat) (hd : decode md.cc pc = .ok (.lookupswitch dflt ps, len)) (hp : (ps.toList.zip (ps.toList.drop 1)).all (fun (a, next) => a.1 < next.1) = true) (ho : Op.lookupswitch.offset ps.toList dflt x.toInt = off) (ht : (pc : Int) + off = (tgt : Int)) (k : JQ w md lev st0 tgt lv stk st Q) : JQ w md lev st0 pc lv (.int x :: stk) st Q :=
  JQ.go (fun p l e R s m args below meth c H locs cells slots QQ ls hx hb hown hts hl kk => lv_lookup hx hb hd hp ho ht (kk ls hl)) k
/-- ends -/
theorem j_ireturn {v : Int32} {ty : FieldType} (hr : md.ret = some ty) (hn : narrow ty (.int v) = .int v) (hd : decode md.cc pc = .ok (.ireturn, 1)) (hq : Q (.returned (some (.int v))) st) : JQ w md lev st0 pc lv (.int v :: stk) st Q := fun a b =>
  ⟨_, st, hq, lec.rf, b, fun ht ℓ hℓ p e s m args below meth c H locs ls C hR hL hl => e_iret C.1 C.2.1 (C.2.2.2.1.trans hr) C.2.2.2.2.1 hn hR hL (Nat.le_refl _) (Nat.le_refl _) hd⟩
theorem j_return (hr : md.ret = none) (hd : decode md.cc pc = .ok (.return_, 1)) (hq : Q (.returned none) st) : JQ w md lev st0 pc lv stk st Q := fun a b =>
  ⟨_, st, hq, lec.rf, b, fun ht ℓ hℓ p e s m args below meth c H locs ls C hR hL hl => e_vret C.1 C.2.1 (C.2.2.2.1.trans hr) C.2.2.2.2.1 hR hL (Nat.le_refl _) (Nat.le_refl _) hd⟩
theorem j_areturn {r : Option Nat} {ty : FieldType} (hr : md.ret = some ty) (hrt : (∃ n, ty = .object n) ∨ ∃ t, ty = .array t) (hd : decode md.cc pc = .ok (.areturn, 1)) (hq : Q (.returned (some (va_rf r))) st) : JQ w md lev st0 pc lv (va_rf r :: stk) st Q := fun a b =>
  ⟨_, st, hq, lec.rf, b, fun ht ℓ hℓ p e s m args below meth c H locs ls C hR hL hl => e_aret C.1 C.2.1 (C.2.2.2.1.trans hr) hrt C.2.2.2.2.1 hR hL (Nat.le_refl _) (Nat.le_refl _) hd⟩
/-- no handler of the list covers the place -/
def uncov (hh : List (Nat × Nat × Nat × Nat)) (pc : Nat) : Bool := hh.all (fun x => !(decide (x.1 ≤ pc) && decide (pc < x.2.1)))
theorem uncov_spec {c : Code} {hh : List (Nat × Nat × Nat × Nat)} (h : c.exceptionTable.toList.map (fun x => (x.startPc, x.endPc, x.handlerPc, x.catchType)) = hh) (hu : uncov hh pc = true) : ∀ x ∈ c.exceptionTable.toList, covers x pc = false := by
  intro x hx
  have hm : (x.startPc, x.endPc, x.handlerPc, x.catchType) ∈ hh := by rw [← h]; exact List.mem_map.mpr ⟨x, hx, rfl⟩
  have := List.all_eq_true.mp hu _ hm
  simp only [Bool.not_eq_true', Bool.and_eq_false_iff, decide_eq_false_iff_not] at this
  simp only [covers, Bool.and_eq_false_iff, decide_eq_false_iff_not]
  exact this
theorem j_athrow {x : Nat} (hu : uncov md.hh pc = true) (hd : decode md.cc pc = .ok (.athrow, 1)) (hq : Q (.threw x) st) : JQ w md lev st0 pc lv (va_rf (some x) :: stk) st Q := fun a b =>
  ⟨_, st, hq, lec.rf, b, fun ht ℓ hℓ p e s m args below meth c H locs ls C hR hL hl => e_athrow C.1 C.2.1 C.2.2.2.2.1 (uncov_spec C.2.2.2.2.2.1 hu) hR hL (Nat.le_refl _) (Nat.le_refl _) hd⟩
/-- outcomes: an int, nothing, a reference; or thrown -/
def onI (K : Int32 → S → Prop) (T : Nat → S → Prop) : Outcome → S → Prop := fun o t => match o with
  | .returned (some (.int r)) => K r t
  | .threw x => T x t
  | _ => False
def onV (K : S → Prop) (T : Nat → S → Prop) : Outcome → S → Prop := fun o t => match o with
  | .returned none => K t
  | .threw x => T x t
  | _ => False
def onR (K : Option Nat → S → Prop) (T : Nat → S → Prop) : Outcome → S → Prop := fun o t => match o with
  | .returned (some (.ref a)) => K (some a) t
  | .returned (some .null) => K none t
  | .threw x => T x t
  | _ => False
theorem onI_ret {K : Int32 → S → Prop} {T : Nat → S → Prop} {r : Int32} (h : K r st) : onI K T (.returned (some (.int r))) st := h
theorem onV_ret {K : S → Prop} {T : Nat → S → Prop} (h : K st) : onV K T (.returned none) st := h
theorem onR_ret {K : Option Nat → S → Prop} {T : Nat → S → Prop} {r : Option Nat} (h : K r st) : onR K T (.returned (some (va_rf r))) st := by cases r <;> exact h
theorem onI_mono {K K' : Int32 → S → Prop} {T T' : Nat → S → Prop} (h : ∀ r t, K r t → K' r t) (g : ∀ x t, T x t → T' x t) : ∀ o t, onI K T o t → onI K' T' o t := by
  intro o t q
  unfold onI at q ⊢
  split at q
  · exact h _ _ q
  · exact g _ _ q
  · exact q.elim
theorem onV_mono {K K' : S → Prop} {T T' : Nat → S → Prop} (h : ∀ t, K t → K' t) (g : ∀ x t, T x t → T' x t) : ∀ o t, onV K T o t → onV K' T' o t := by
  intro o t q
  unfold onV at q ⊢
  split at q
  · exact h _ q
  · exact g _ _ q
  · exact q.elim
theorem onR_mono {K K' : Option Nat → S → Prop} {T T' : Nat → S → Prop} (h : ∀ r t, K r t → K' r t) (g : ∀ x t, T x t → T' x t) : ∀ o t, onR K T o t → onR K' T' o t := by
  intro o t q
  unfold onR at q ⊢
  split at q
  · exact h _ _ q
  · exact h _ _ q
  · exact g _ _ q
  · exact q.elim
end JGEN
