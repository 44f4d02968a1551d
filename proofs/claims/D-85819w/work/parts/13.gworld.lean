/-! THE HOUSE's WORLD: objects and arrays by address -/
/-- its state: what stands at an address (0 nothing known, c + 1 an object of the class c, 101 int[], 102 byte[], 103 Object[], 104 String[]); ints and references by place; lengths; cells and slots made so far -/
abbrev GSt : Type := (Nat → Nat) × (Nat → Nat → Int32) × (Nat → Nat → Option Nat) × (Nat → Nat) × Nat × Nat
abbrev gk (σ : GSt) (a : Nat) : Nat := σ.1 a
abbrev gi (σ : GSt) (a j : Nat) : Int32 := σ.2.1 a j
abbrev gr (σ : GSt) (a j : Nat) : Option Nat := σ.2.2.1 a j
abbrev gl (σ : GSt) (a : Nat) : Nat := σ.2.2.2.1 a
abbrev gn (σ : GSt) : Nat := σ.2.2.2.2.1
abbrev gm (σ : GSt) : Nat := σ.2.2.2.2.2
def gpi (a j : Nat) (v : Int32) (σ : GSt) : GSt := (σ.1, va_up σ.2.1 a (va_up (σ.2.1 a) j v), σ.2.2)
def gpr (a j : Nat) (r : Option Nat) (σ : GSt) : GSt := (σ.1, σ.2.1, va_up σ.2.2.1 a (va_up (σ.2.2.1 a) j r), σ.2.2.2)
def gmk (t n : Nat) (σ : GSt) : GSt := (fun a => if σ.1 a = 0 ∧ a = σ.2.2.2.2.1 then t else σ.1 a, va_up σ.2.1 (gn σ) (fun _ => 0), va_up σ.2.2.1 (gn σ) (fun _ => none), va_up σ.2.2.2.1 (gn σ) n, gn σ + 1, gm σ + n)
def gval (c : Nat) (I : Nat → Int32) (R : Nat → Option Nat) (j : Nat) : Value := if gK c j = 1 then va_rf (R j) else .int (I j)
/-- the place: the old heap; classes and slots; Object[] and String[]; cells of others; the bounds -/
abbrev GPl : Type := Heap × (Nat → ClassId) × (Nat → Nat → Nat) × ClassId × ClassId × (Nat → Prop) × Nat × Nat × ClassId
abbrev GPl.h0 (G : GPl) : Heap := G.1
abbrev GPl.dC (G : GPl) : Nat → ClassId := G.2.1
abbrev GPl.dI (G : GPl) : Nat → Nat → Nat := G.2.2.1
abbrev GPl.dO (G : GPl) : ClassId := G.2.2.2.1
abbrev GPl.dS (G : GPl) : ClassId := G.2.2.2.2.1
abbrev GPl.mc (G : GPl) : Nat → Prop := G.2.2.2.2.2.1
abbrev GPl.cc (G : GPl) : Nat := G.2.2.2.2.2.2.1
abbrev GPl.cs (G : GPl) : Nat := G.2.2.2.2.2.2.2.1
abbrev GPl.dB (G : GPl) : ClassId := G.2.2.2.2.2.2.2.2
def gOld (H0 H : Heap) : Prop := H0.size ≤ H.size ∧ ∀ q : Nat, q < H0.size → H[q]? = H0[q]?
def gob (G : GPl) (H : Heap) (a c N : Nat) (V : Nat → Value) : Prop :=
  ∃ cell : Cell, H[a]? = some cell ∧ cell.cls = G.dC c ∧ cell.vm ≠ .unknown ∧ cell.vm.isStatics = false ∧ (G.h0.size ≤ a → cell.vm = .none ∧ cell.monitor = {}) ∧ ∀ j, j < N → cell.slots[G.dI c j]? = some (V j)
/-- an array of numbers -/
def gar (s0 : State) (H : Heap) (a : Nat) (ty : FieldType) (n : Nat) (f : Nat → Value) : Prop :=
  ∃ cell : Cell, H[a]? = some cell ∧ s0.isArrayOf cell ty ∧ cell.vm ≠ .unknown ∧ cell.slots.size = n ∧ ∀ j, j < n → cell.slots[j]? = some (f j)
/-- an array of bytes; a new one is of the class dB -/
def gab (s0 : State) (G : GPl) (H : Heap) (a : Nat) (n : Nat) (I : Nat → Int32) : Prop :=
  ∃ cell : Cell, H[a]? = some cell ∧ s0.isArrayOf cell .byte ∧ cell.vm ≠ .unknown ∧ cell.slots.size = n ∧ (∀ j, j < n → cell.slots[j]? = some (.int (I j))) ∧ (G.h0.size ≤ a → cell.cls = G.dB) ∧ ∀ j, j < n → fits .byte (.int (I j)) = true
/-- an array of references, of the class d -/
def gaq (H : Heap) (a : Nat) (d : ClassId) (n : Nat) (f : Nat → Value) : Prop :=
  ∃ cell : Cell, H[a]? = some cell ∧ cell.cls = d ∧ cell.vm ≠ .unknown ∧ cell.vm.isStatics = false ∧ cell.slots.size = n ∧ ∀ j, j < n → cell.slots[j]? = some (f j)
/-- what stands at the address a -/
def gAt (s0 : State) (G : GPl) (k : Nat) (I : Nat → Int32) (R : Nat → Option Nat) (n : Nat) (H : Heap) (a : Nat) : Prop :=
  (∀ c q, k = c + 1 → gcl[c]? = some q → (c ≠ 22 → G.h0.size ≤ a) ∧ gob G H a c q.2.2 (gval c I R)) ∧
  (k = 101 → G.h0.size ≤ a ∧ gar s0 H a .int n (fun j => .int (I j))) ∧
  (k = 102 → gab s0 G H a n I) ∧
  (k = 103 → (n ≠ 0 → G.h0.size ≤ a) ∧ gaq H a G.dO n (fun j => va_rf (R j))) ∧
  (k = 104 → G.h0.size ≤ a ∧ gaq H a G.dS n (fun j => va_rf (R j)))
def RepG (s0 : State) (G : GPl) (σ : GSt) (H : Heap) : Prop :=
  gOld G.h0 H ∧ H.size = gn σ ∧ (∀ a, gk σ a ≠ 0 → a < gn σ ∧ ¬ G.mc a) ∧ (∀ q, G.mc q → q < gn σ) ∧ ∀ a, gAt s0 G (gk σ a) (σ.2.1 a) (σ.2.2.1 a) (gl σ a) H a
def frG (G : GPl) (q : Nat) : Prop := G.h0.size ≤ q ∧ ¬ G.mc q
/-- an array class over the class C -/
def gAC (s : State) (d : ClassId) (C : String) : Prop := ∃ (k : Class) (comp : ClassId) (kc : Class), s.vm.classes[d]? = some k ∧ k.kind = .array comp (.object C) ∧ s.vm.findClass C = some comp ∧ s.vm.classes[comp]? = some kc ∧ kc.kind = .ordinary ∧ s.vm.findClass ("[" ++ (FieldType.object C).toString) = some d
def tbG (s0 : State) (G : GPl) : Prop := (∀ c q, gcl[c]? = some q → u_Kn s0 q.1 q.2.1 q.2.2 (G.dC c) (G.dI c)) ∧ gAC s0 G.dO "java/lang/Object" ∧ gAC s0 G.dS "java/lang/String" ∧ s0.vm.findClass "[B" = some G.dB
abbrev wG (G : GPl) (s0 : State) (l : Launch) (X : Prop) : Wd GSt := (RepG s0 G, frG G, (fun σ => gn σ), (fun σ => gm σ), G.cc, G.cs, s0, l, tbG s0 G ∧ X, (fun σ => σ.1))
theorem gAC_moved {u U : State} {d : ClassId} {C : String} (h : u.vm.Alike U.vm) (k : gAC u d C) : gAC U d C := by
  obtain ⟨k, comp, kc, h1, h2, h3, h4, h5, h6⟩ := k
  obtain ⟨k', g1, g2⟩ := h.2.2 _ _ h1
  obtain ⟨kc', g3, g4⟩ := h.2.2 _ _ h4
  exact ⟨k', comp, kc', g1, by rw [g2]; exact h2, by rw [Vm.Alike.findClass h]; exact h3, g3, by rw [g4]; exact h5, by rw [Vm.Alike.findClass h]; exact h6⟩
theorem gAt.kept {s0 : State} {G : GPl} {k n a : Nat} {I : Nat → Int32} {R : Nat → Option Nat} {H H' : Heap} (h : gAt s0 G k I R n H a) (e : H'[a]? = H[a]?) : gAt s0 G k I R n H' a := by
  unfold gAt gob gar gaq gab at h ⊢
  rw [e]
  exact h
/-- one cell changes -/
theorem RepG.upd {s0 : State} {G : GPl} {σ σ' : GSt} {H H' : Heap} {a : Nat} (hR : RepG s0 G σ H) (hz : H'.size = H.size) (ho : ∀ q, q ≠ a → H'[q]? = H[q]?) (ha : G.h0.size ≤ a) (h1 : σ'.1 = σ.1) (h2 : ∀ b, b ≠ a → σ'.2.1 b = σ.2.1 b) (h3 : ∀ b, b ≠ a → σ'.2.2.1 b = σ.2.2.1 b) (h4 : σ'.2.2.2.1 = σ.2.2.2.1) (h5 : gn σ' = gn σ)
    (hs : gAt s0 G (gk σ a) (σ'.2.1 a) (σ'.2.2.1 a) (gl σ a) H' a) : RepG s0 G σ' H' := by
  obtain ⟨⟨o1, o2⟩, r1, r2, r3, r4⟩ := hR
  refine ⟨⟨by rw [hz]; exact o1, fun q hq => ?_⟩, by rw [hz, r1, h5], fun b hb => ?_, fun q hq => by rw [h5]; exact r3 q hq, fun b => ?_⟩
  · rw [ho q (by omega)]; exact o2 q hq
  · rw [h5]; exact r2 b (by rw [show gk σ b = gk σ' b from (congrFun h1 b).symm]; exact hb)
  · by_cases hb : b = a
    · subst hb
      rw [show gk σ' b = gk σ b from congrFun h1 b, show gl σ' b = gl σ b from congrFun h4 b]
      exact hs
    · rw [show gk σ' b = gk σ b from congrFun h1 b, show gl σ' b = gl σ b from congrFun h4 b, h2 b hb, h3 b hb]
      exact (r4 b).kept (ho b hb)
/-- a cell is made -/
theorem RepG.made {s0 : State} {G : GPl} {σ : GSt} {H H' : Heap} {t n : Nat} (hR : RepG s0 G σ H) (hz : H'.size = H.size + 1) (ho : ∀ q, q < H.size → H'[q]? = H[q]?) 
    (hs : gAt s0 G t (fun _ => 0) (fun _ => none) n H' H.size) : RepG s0 G (gmk t n σ) H' := by
  obtain ⟨⟨o1, o2⟩, r1, r2, r3, r4⟩ := hR
  have hk0 : σ.1 (gn σ) = 0 := by
    by_cases h : σ.1 (gn σ) = 0
    · exact h
    · exact absurd (r2 _ h).1 (Nat.lt_irrefl _)
  refine ⟨⟨by rw [hz]; omega, fun q hq => ?_⟩, by rw [hz, r1]; rfl, fun b hb => ?_, fun q hq => Nat.lt_succ_of_lt (r3 q hq), fun b => ?_⟩
  · rw [ho q (by omega)]; exact o2 q hq
  · by_cases hbn : b = gn σ
    · subst hbn
      refine ⟨Nat.lt_succ_self _, fun hm => ?_⟩
      exact absurd (r3 _ hm) (Nat.lt_irrefl _)
    · have e : gk (gmk t n σ) b = gk σ b := by
        show (if σ.1 b = 0 ∧ b = σ.2.2.2.2.1 then t else σ.1 b) = σ.1 b
        rw [if_neg (fun h => hbn h.2)]
      rw [e] at hb
      exact ⟨Nat.lt_succ_of_lt (r2 b hb).1, (r2 b hb).2⟩
  · by_cases hbn : b = gn σ
    · subst hbn
      have e : gk (gmk t n σ) (gn σ) = t := by
        show (if σ.1 (gn σ) = 0 ∧ gn σ = gn σ then t else σ.1 (gn σ)) = t
        rw [if_pos ⟨hk0, rfl⟩]
      rw [e]
      show gAt s0 G t (va_up σ.2.1 (gn σ) (fun _ => 0) (gn σ)) (va_up σ.2.2.1 (gn σ) (fun _ => none) (gn σ)) (va_up σ.2.2.2.1 (gn σ) n (gn σ)) H' (gn σ)
      rw [va_up_self, va_up_self, va_up_self, ← r1]
      exact hs
    · have e : gk (gmk t n σ) b = gk σ b := by
        show (if σ.1 b = 0 ∧ b = σ.2.2.2.2.1 then t else σ.1 b) = σ.1 b
        rw [if_neg (fun h => hbn h.2)]
      rw [e]
      show gAt s0 G (gk σ b) (va_up σ.2.1 (gn σ) (fun _ => 0) b) (va_up σ.2.2.1 (gn σ) (fun _ => none) b) (va_up σ.2.2.2.1 (gn σ) n b) H' b
      rw [va_up_ne _ _ hbn, va_up_ne _ _ hbn, va_up_ne _ _ hbn]
      by_cases hb0 : gk σ b = 0
      · rw [hb0]
        exact ⟨fun c q h => by omega, fun h => by omega, fun h => by omega, fun h => by omega, fun h => by omega⟩
      · exact (r4 b).kept (ho b (by rw [r1]; exact (r2 b hb0).1))
/-- the link of a field's entry -/
def FL (own : String) (idx : Nat) (O nm ds : String) : Prop := ∀ (s0 s : State) (args : Array Value), (∀ x ∈ lw_tbl, va_Nw x s0) → s0.WarmedH s.vm →
  ∃ ref, (∀ x, s.fieldFound? O nm ds = some x → s.fieldFound? ref nm ds = some x) ∧ ((Cond.fieldLink own idx ref nm ds).before args s = true ∨ ∃ host, (Cond.fieldLinkNest own idx ref nm ds host).before args s = true)
theorem FL.of {own O nm ds : String} {idx : Nat} (h : Cond.fieldLink own idx O nm ds ∈ lw_all) : FL own idx O nm ds := fun s0 s args ht hW => ⟨O, fun _ h => h, Or.inl (hts_of ht hW _ h)⟩
theorem FL.same {own O nm ds ref : String} {idx : Nat} (h : Cond.fieldLink own idx ref nm ds ∈ lw_all) (h2 : Cond.sameField ref O nm ds ∈ lw_all) : FL own idx O nm ds := fun s0 s args ht hW => ⟨ref, u_same (hts_of (args := args) ht hW _ h2), Or.inl (hts_of ht hW _ h)⟩
theorem FL.nest {own O nm ds host : String} {idx : Nat} (h : Cond.fieldLinkNest own idx O nm ds host ∈ lw_tbl) : FL own idx O nm ds := fun s0 s args ht hW => ⟨O, fun _ h => h, Or.inr ⟨host, va_Nw.use rfl (va_Nw.warmF hW (ht _ h))⟩⟩
theorem FL.nestSame {own O nm ds ref host : String} {idx : Nat} (h : Cond.fieldLinkNest own idx ref nm ds host ∈ lw_tbl) (h2 : Cond.sameField ref O nm ds ∈ lw_all) : FL own idx O nm ds := fun s0 s args ht hW => ⟨ref, u_same (hts_of (args := args) ht hW _ h2), Or.inr ⟨host, va_Nw.use rfl (va_Nw.warmF hW (ht _ h))⟩⟩
/-- a field of a class of the table -/
def gQ (c : Nat) : vw_C := gcl.getD c (RX1, TX1, 10)
theorem gQ_get {c : Nat} (h : c < 28) : gcl[c]? = some (gQ c) := by
  unfold gQ
  rw [List.getD_eq_getElem?_getD]
  have : ∃ q, gcl[c]? = some q := ⟨gcl[c]'h, List.getElem?_eq_getElem h⟩
  obtain ⟨q, hq⟩ := this
  rw [hq]
  rfl
/-- the entry idx of the class own names the field j of the class c, which is of the kind kd -/
def GF (own : String) (idx c j kd : Nat) : Prop := c < 28 ∧ j < (gQ c).2.2 ∧ gK c j = kd ∧ FL own idx ((gQ c).2.1 j).1 ((gQ c).2.1 j).2.1 ((gQ c).2.1 j).2.2.1
section GROWS
variable {G : GPl} {s0 : State} {l : Launch} {X : Prop} {md mdc : MD} {lev : Nat} {st0 σ : GSt} {pc idx : Nat} {lv : List (Option Value)} {stk rest : List Value} {Q : Outcome → GSt → Prop}
/-- a field is read -/
theorem jg_getv {a c j kd : Nat} (hF : GF md.y.cls idx c j kd) (hk : gk σ a = c + 1) (hd : decode md.cc pc = .ok (.getfield idx, 3)) (kk : JQ (wG G s0 l X) md lev st0 (pc + 3) lv (gval c (σ.2.1 a) (σ.2.2.1 a) j :: stk) σ Q) : JQ (wG G s0 l X) md lev st0 pc lv (va_rf (some a) :: stk) σ Q := by
  intro a0 b0
  obtain ⟨o, t, q, r1, r2, r3⟩ := kk a0 b0
  refine ⟨o, t, q, r1, r2, fun ht ℓ hℓ p e s m args below meth c' H locs ls C hR hL hl => ?_⟩
  obtain ⟨h27, hj, -, hFL⟩ := hF
  have hq := gQ_get h27
  have hW := C.2.2.2.2.2.2.2.2.1
  have hts := C.2.2.2.2.2.2.2.2.2
  obtain ⟨-, cell, g1, g2, g3, g4, g5, g6⟩ := (hR.2.2.2.2 a).1 c _ hk hq
  obtain ⟨hS, hfc, kC, hkC, hkind⟩ := u_Kn_moved hW.alike (ht.2.1.1 c _ hq)
  obtain ⟨cf, kf, fi, f, hi, hsl⟩ := hS j hj
  have hst := (u_facts hfc hkC (u_lays hts (gin hq) hj) hi).1
  obtain ⟨ref, e1, e2⟩ := hFL s0 s args ht.1 hW
  have hv : cell.slots[f.slot]? = some (gval c (σ.2.1 a) (σ.2.2.1 a) j) := by rw [hsl]; exact g6 j hj
  have kw := r3 ht ℓ hℓ p e s m args below meth c' H locs ls C hR hL hl
  rcases e2 with e2 | ⟨host, e2⟩
  · exact W.getf C.1 C.2.1 C.2.2.2.2.2.2.1 e2 (e1 _ hi) hst g1 g3 hv rfl rfl hd kw
  · exact va_Wgetf C.1 C.2.1 C.2.2.2.2.2.2.1 e2 (e1 _ hi) hst g1 g3 hv rfl rfl hd kw
theorem gval_i {c j kd : Nat} {I : Nat → Int32} {R : Nat → Option Nat} (h : gK c j = kd) (hk : kd ≠ 1) : gval c I R j = .int (I j) := by unfold gval; rw [h, if_neg hk]
theorem gval_r {c j : Nat} {I : Nat → Int32} {R : Nat → Option Nat} (h : gK c j = 1) : gval c I R j = va_rf (R j) := by unfold gval; rw [if_pos h]
theorem jg_geti {a c j kd : Nat} (hF : GF md.y.cls idx c j kd) (hkd : kd ≠ 1) (hk : gk σ a = c + 1) (hd : decode md.cc pc = .ok (.getfield idx, 3)) (kk : JQ (wG G s0 l X) md lev st0 (pc + 3) lv (.int (gi σ a j) :: stk) σ Q) : JQ (wG G s0 l X) md lev st0 pc lv (va_rf (some a) :: stk) σ Q :=
  jg_getv hF hk hd (by rw [gval_i hF.2.2.1 hkd]; exact kk)
theorem jg_getr {a c j : Nat} (hF : GF md.y.cls idx c j 1) (hk : gk σ a = c + 1) (hd : decode md.cc pc = .ok (.getfield idx, 3)) (kk : JQ (wG G s0 l X) md lev st0 (pc + 3) lv (va_rf (gr σ a j) :: stk) σ Q) : JQ (wG G s0 l X) md lev st0 pc lv (va_rf (some a) :: stk) σ Q :=
  jg_getv hF hk hd (by rw [gval_r hF.2.2.1]; exact kk)
/-- the slots of a class's fields are apart -/
theorem g_apart {c : Nat} {q : vw_C} {s : State} {args : Array Value} {dC : ClassId} {dI : Nat → Nat} (hq : gcl[c]? = some q) (hts : ∀ x ∈ lw_all, x.before args s = true) (hK : u_Kn s q.1 q.2.1 q.2.2 dC dI) : ∀ x y, x < q.2.2 → y < q.2.2 → x ≠ y → dI x ≠ dI y := by
  intro x y hx hy hne
  obtain ⟨hS, -⟩ := hK
  obtain ⟨_, _, _, fa, hia, ea⟩ := hS x hx
  obtain ⟨_, _, _, fb, hib, eb⟩ := hS y hy
  rw [← ea, ← eb]
  refine u_apart (u_lays hts (gin hq) hx) (u_lays hts (gin hq) hy) hia hib ?_
  rw [(State.fieldFound?_type hia (gtyok hq x hx)).1, (State.fieldFound?_type hib (gtyok hq y hy)).1]
  exact gnm hq x hx y hy hne
/-- a field is written: the value v, which is that of the new state -/
theorem jg_putv {a c j kd : Nat} {v : Value} {σ' : GSt} (hF : GF md.y.cls idx c j kd) (hfin : ((gQ c).2.1 j).2.2.2 = false ∨ (md.y.name = "<init>" ∧ ((gQ c).2.1 j).1 = md.y.cls)) (hk : gk σ a = c + 1) (hb0 : c ≠ 22 ∨ G.h0.size ≤ a) (hn : narrow (gty c j) v = v) (hfit : fits (gty c j) v = true)
    (h1 : σ'.1 = σ.1) (h2 : ∀ b, b ≠ a → σ'.2.1 b = σ.2.1 b) (h3 : ∀ b, b ≠ a → σ'.2.2.1 b = σ.2.2.1 b) (h4 : σ'.2.2.2 = σ.2.2.2) (hv1 : gval c (σ'.2.1 a) (σ'.2.2.1 a) j = v) (hv2 : ∀ i, i ≠ j → gval c (σ'.2.1 a) (σ'.2.2.1 a) i = gval c (σ.2.1 a) (σ.2.2.1 a) i)
    (hd : decode md.cc pc = .ok (.putfield idx, 3)) (kk : JQ (wG G s0 l X) md lev st0 (pc + 3) lv stk σ' Q) : JQ (wG G s0 l X) md lev st0 pc lv (v :: va_rf (some a) :: stk) σ Q := by
  intro a0 b0
  have e5 : gn σ' = gn σ := by show σ'.2.2.2.2.1 = _; rw [h4]
  have e6 : gm σ' = gm σ := by show σ'.2.2.2.2.2 = _; rw [h4]
  have a1 : lec (wG G s0 l X) st0 σ' := ⟨⟨by show gn st0 ≤ gn σ'; rw [e5]; exact a0.1.1, by show gm st0 ≤ gm σ'; rw [e6]; exact a0.1.2⟩, by show ∀ x, st0.1 x ≠ 0 → σ'.1 x = st0.1 x; rw [h1]; exact a0.2⟩
  have b1 : okc (wG G s0 l X) σ' := ⟨by show gn σ' ≤ _; rw [e5]; exact b0.1, by show gm σ' ≤ _; rw [e6]; exact b0.2⟩
  obtain ⟨o, t, q, r1, r2, r3⟩ := kk a1 b1
  refine ⟨o, t, q, ⟨⟨by have := r1.1.1; change gn σ' ≤ _ at this; rw [e5] at this; exact this, by have := r1.1.2; change gm σ' ≤ _ at this; rw [e6] at this; exact this⟩, by have := r1.2; change ∀ x, σ'.1 x ≠ 0 → t.1 x = σ'.1 x at this; rw [h1] at this; exact this⟩, r2, fun ht ℓ hℓ p e s m args below meth c' H locs ls C hR hL hl => ?_⟩
  obtain ⟨h27, hj, hkd, hFL⟩ := hF
  have hq := gQ_get h27
  have hW := C.2.2.2.2.2.2.2.2.1
  have hts := C.2.2.2.2.2.2.2.2.2
  have hown := C.2.2.2.2.2.2.1
  obtain ⟨g0, cell, g1, g2, g3, g4, g5, g6⟩ := (hR.2.2.2.2 a).1 c _ hk hq
  have ha : G.h0.size ≤ a := by rcases hb0 with h | h
                                · exact g0 h
                                · exact h
  have hvm := (g5 ha).1
  have hKn := u_Kn_moved hW.alike (ht.2.1.1 c _ hq)
  have hap := g_apart hq hts hKn
  obtain ⟨hS, hfc, kC, hkC, hkind⟩ := hKn
  obtain ⟨cf, kf, fi, f, hi, hsl⟩ := hS j hj
  have hst := (u_facts hfc hkC (u_lays hts (gin hq) hj) hi).1
  obtain ⟨ref, e1, e2⟩ := hFL s0 s args ht.1 hW
  have h6 := u_fits hfc hkC hkind (u_lays hts (gin hq) hj) hi (gtyok hq j hj) hn hfit
  have hflag : hasFlag f.accessFlags Acc.final = false ∨ (m.cls = cf ∧ meth.name = "<init>") := by
    have hlay := hts _ (gin hq _ (u_in_lay hj))
    unfold u_lay at hlay
    rcases hfin with hf | ⟨hf1, hf2⟩
    · rw [if_neg (by rw [hf]; decide)] at hlay
      exact Or.inl (u_store hfc hkC hkind hlay hi (gtyok hq j hj) hn hfit).1
    · by_cases hff : ((gQ c).2.1 j).2.2.2 = true
      · rw [if_pos hff] at hlay
        refine Or.inr ⟨?_, by rw [C.2.2.2.2.2.2.2.1]; exact hf1⟩
        obtain ⟨_, _, c'', _, _, _, -, -, hf', -, -, -, hown2, -⟩ := Cond.laysFinal_spec hlay
        have e1 : c'' = cf := by have := hi.symm.trans hf'; simp at this; exact this.1.symm
        rw [hf2] at hown2
        rw [← e1]; exact Option.some.inj (hown.symm.trans hown2)
      · rw [if_neg hff] at hlay
        exact Or.inl (u_store hfc hkC hkind hlay hi (gtyok hq j hj) hn hfit).1
  have hal : a < H.size := (Array.getElem?_eq_some_iff.mp g1).1
  have hlt : f.slot < cell.slots.size := by rw [hsl]; exact k2_hasslot (g6 j hj)
  have kw : ∀ H' : Heap, H' = H.setIfInBounds a (cell.setSlot f.slot v) → W p l e (RM (wG G s0 l X) ℓ st0) s m args below meth c' H' (locs ++ [⟨a, f.slot⟩]) ((wG G s0 l X).sz σ - (wG G s0 l X).sz st0) ((wG G s0 l X).sl σ - (wG G s0 l X).sl st0) (EQ below s (frG G) o (RepG s0 G t) ((wG G s0 l X).sz t - (wG G s0 l X).sz st0) ((wG G s0 l X).sl t - (wG G s0 l X).sl st0)) (F0 m (pc + 3) ls stk) := by
    intro H' hH'
    have z1 : H'[a]? = some (cell.setSlot f.slot v) := by rw [hH']; simp [Array.getElem?_setIfInBounds, hal]
    have z2 : H'.size = H.size := by rw [hH']; simp
    have z3 : ∀ q, q ≠ a → H'[q]? = H[q]? := by intro q hq; rw [hH']; simp [Array.getElem?_setIfInBounds, Ne.symm hq]
    have hR' : RepG s0 G σ' H' := by
      refine hR.upd z2 z3 ha h1 h2 h3 (by rw [h4]) e5 ?_
      refine ⟨fun c2 q2 hc2 hq2 => ?_, fun h => ?_, fun h => ?_, fun h => ?_, fun h => ?_⟩
      · have hcc : c2 = c := by omega
        subst hcc
        have hqq : gQ c2 = q2 := Option.some.inj (hq.symm.trans hq2)
        subst hqq
        refine ⟨g0, cell.setSlot f.slot v, z1, g2, g3, g4, g5, fun i hi2 => ?_⟩
        have := t_set (V := gval c2 (σ.2.1 a) (σ.2.2.1 a)) g6 hap hj v i hi2
        rw [hsl, this]
        unfold updV
        by_cases hij : i = j
        · subst hij; rw [if_pos rfl, hv1]
        · rw [if_neg hij, hv2 i hij]
      all_goals (exfalso; omega)
    have := r3 ht ℓ hℓ p e s m args below meth c' H' (locs ++ [⟨a, f.slot⟩]) ls C hR' (t_lc hL ⟨ha, (hR.2.2.1 a (by omega)).2⟩) hl
    refine W.cs ?_ ?_ this
    · show gn σ - gn st0 = gn σ' - gn st0; rw [e5]
    · show gm σ - gm st0 = gm σ' - gm st0; rw [e6]
  rcases e2 with e2 | ⟨host, e2⟩
  · exact W.putf C.1 C.2.1 hown e2 (e1 _ hi) hst hflag g1 g3 hlt h6.1 (by rw [hvm, g2]; exact h6.2) rfl rfl hd (kw _ rfl)
  · exact va_Wputf C.1 C.2.1 hown e2 (e1 _ hi) hst hflag g1 g3 hlt h6.1 (by rw [hvm, g2]; exact h6.2) rfl rfl hd (kw _ rfl)
end GROWS
