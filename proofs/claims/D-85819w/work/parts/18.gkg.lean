/-! rows by an equation of the reference (for gen/geng.py) -/
section GKG
variable {G : GPl} {s0 : State} {l : Launch} {K : Nat → Option Nat} {T : Nat → Nat} {md mdc : MD} {lev : Nat} {st0 σ : GSt} {pc idx : Nat} {lv : List (Option Value)} {stk rest : List Value} {Q : Outcome → GSt → Prop} {r : Option Nat} {a : Nat}
abbrev wP (G : GPl) (s0 : State) (l : Launch) (K : Nat → Option Nat) (T : Nat → Nat) : Wd GSt := wG G s0 l (XG s0 l G K T)
theorem kg_geti {c j kd : Nat} (hr : r = some a) (hF : GF md.y.cls idx c j kd) (hkd : kd ≠ 1) (hk : gk σ a = c + 1) (hd : decode md.cc pc = .ok (.getfield idx, 3)) (kk : JQ (wP G s0 l K T) md lev st0 (pc + 3) lv (.int (gi σ a j) :: stk) σ Q) : JQ (wP G s0 l K T) md lev st0 pc lv (va_rf r :: stk) σ Q := by subst hr; exact jg_geti hF hkd hk hd kk
theorem kg_getr {c j : Nat} (hr : r = some a) (hF : GF md.y.cls idx c j 1) (hk : gk σ a = c + 1) (hd : decode md.cc pc = .ok (.getfield idx, 3)) (kk : JQ (wP G s0 l K T) md lev st0 (pc + 3) lv (va_rf (gr σ a j) :: stk) σ Q) : JQ (wP G s0 l K T) md lev st0 pc lv (va_rf r :: stk) σ Q := by subst hr; exact jg_getr hF hk hd kk
theorem kg_puti {c j : Nat} {v : Int32} (hr : r = some a) (hF : GF md.y.cls idx c j 0) (hfin : GW md c j) (hk : gk σ a = c + 1) (hb0 : c ≠ 22 ∨ G.h0.size ≤ a) (hd : decode md.cc pc = .ok (.putfield idx, 3)) (kk : JQ (wP G s0 l K T) md lev st0 (pc + 3) lv stk (gpi a j v σ) Q) : JQ (wP G s0 l K T) md lev st0 pc lv (.int v :: va_rf r :: stk) σ Q := by subst hr; exact jg_puti hF hfin hk hb0 hd kk
theorem kg_putz {c j : Nat} {v : Int32} (hr : r = some a) (hF : GF md.y.cls idx c j 3) (hz : isZ v) (hfin : GW md c j) (hk : gk σ a = c + 1) (hb0 : c ≠ 22 ∨ G.h0.size ≤ a) (hd : decode md.cc pc = .ok (.putfield idx, 3)) (kk : JQ (wP G s0 l K T) md lev st0 (pc + 3) lv stk (gpi a j v σ) Q) : JQ (wP G s0 l K T) md lev st0 pc lv (.int v :: va_rf r :: stk) σ Q := by subst hr; exact jg_putz hF hz hfin hk hb0 hd kk
theorem kg_putb {c j : Nat} {v : Int32} (hr : r = some a) (hF : GF md.y.cls idx c j 2) (hz : isZ v) (hfin : GW md c j) (hk : gk σ a = c + 1) (hb0 : c ≠ 22 ∨ G.h0.size ≤ a) (hd : decode md.cc pc = .ok (.putfield idx, 3)) (kk : JQ (wP G s0 l K T) md lev st0 (pc + 3) lv stk (gpi a j v σ) Q) : JQ (wP G s0 l K T) md lev st0 pc lv (.int v :: va_rf r :: stk) σ Q := by subst hr; exact jg_putb hF hz hfin hk hb0 hd kk
theorem kg_putr {c j : Nat} {x : Option Nat} (hr : r = some a) (hF : GF md.y.cls idx c j 1) (hfin : GW md c j) (hk : gk σ a = c + 1) (hb0 : c ≠ 22 ∨ G.h0.size ≤ a) (hd : decode md.cc pc = .ok (.putfield idx, 3)) (kk : JQ (wP G s0 l K T) md lev st0 (pc + 3) lv stk (gpr a j x σ) Q) : JQ (wP G s0 l K T) md lev st0 pc lv (va_rf x :: va_rf r :: stk) σ Q := by subst hr; exact jg_putr hF hfin hk hb0 hd kk
/-- a term at a: of one of the classes of terms -/
def isTmA (σ : GSt) (a : Nat) : Prop := ∃ c, c ∈ tmC ∧ gk σ a = c + 1
theorem isTmA.mk {t n : Nat} (h : isTmA σ a) : isTmA (gmk t n σ) a := by
  obtain ⟨c, h1, h2⟩ := h; exact ⟨c, h1, gk_mk h2 (by omega)⟩
theorem isTmA.le {t : GSt} (h : isTmA σ a) (hl : gle σ t) : isTmA t a := by
  obtain ⟨c, h1, h2⟩ := h; exact ⟨c, h1, hl.tag h2 (by omega)⟩
theorem isTmA.tm (h : isTmA σ a) (hr : r = some a) : isTm σ r := by
  obtain ⟨c, h1, h2⟩ := h; exact ⟨a, c, hr, h2, h1⟩
/-- Term's own two fields: 0 at, 1 from -/
theorem tm_fld {j : Nat} (hj : j < 2) : ∀ c, c ∈ tmC → c < 28 ∧ j < (gQ c).2.2 ∧ gK c j = 0 ∧ (gQ c).2.1 j = ("PureHouse$Term", (if j = 0 then "at" else "from"), "I", false) := by
  have all : ∀ j, j < 2 → ∀ c, c ∈ tmC → c < 28 ∧ j < (gQ c).2.2 ∧ gK c j = 0 ∧ (gQ c).2.1 j = ("PureHouse$Term", (if j = 0 then "at" else "from"), "I", false) := by decide +kernel
  exact all j hj
theorem kg_getT {j : Nat} (hj : j < 2) (hr : r = some a) (hF : FL md.y.cls idx "PureHouse$Term" (if j = 0 then "at" else "from") "I") (h : isTmA σ a) (hd : decode md.cc pc = .ok (.getfield idx, 3)) (kk : JQ (wP G s0 l K T) md lev st0 (pc + 3) lv (.int (gi σ a j) :: stk) σ Q) : JQ (wP G s0 l K T) md lev st0 pc lv (va_rf r :: stk) σ Q := by
  subst hr
  obtain ⟨c, h1, h2⟩ := h
  obtain ⟨e1, e2, e3, e4⟩ := tm_fld hj c h1
  exact jg_geti (c := c) (kd := 0) ⟨e1, e2, e3, by rw [e4]; exact hF⟩ (by decide) h2 hd kk
theorem kg_putT {j : Nat} {v : Int32} (hj : j < 2) (hr : r = some a) (hF : FL md.y.cls idx "PureHouse$Term" (if j = 0 then "at" else "from") "I") (h : isTmA σ a) (hd : decode md.cc pc = .ok (.putfield idx, 3)) (kk : JQ (wP G s0 l K T) md lev st0 (pc + 3) lv stk (gpi a j v σ) Q) : JQ (wP G s0 l K T) md lev st0 pc lv (.int v :: va_rf r :: stk) σ Q := by
  subst hr
  obtain ⟨c, h1, h2⟩ := h
  obtain ⟨e1, e2, e3, e4⟩ := tm_fld hj c h1
  exact jg_puti (c := c) ⟨e1, e2, e3, by rw [e4]; exact hF⟩ (Or.inl (by rw [e4])) h2 (Or.inl (by intro q; subst q; revert h1; decide)) hd kk
theorem kg_ald {i : Int32} (hr : r = some a) (hk : gk σ a = 101) (hi : inr i (gl σ a)) (hd : decode md.cc pc = .ok (.iaload, 1)) (kk : JQ (wP G s0 l K T) md lev st0 (pc + 1) lv (.int (gi σ a (ix i)) :: stk) σ Q) : JQ (wP G s0 l K T) md lev st0 pc lv (.int i :: va_rf r :: stk) σ Q := by subst hr; exact jg_ald hk hi hd kk
theorem kg_bald {i : Int32} (hr : r = some a) (hk : gk σ a = 102) (hi : inr i (gl σ a)) (hd : decode md.cc pc = .ok (.baload, 1)) (kk : JQ (wP G s0 l K T) md lev st0 (pc + 1) lv (.int (gi σ a (ix i)) :: stk) σ Q) : JQ (wP G s0 l K T) md lev st0 pc lv (.int i :: va_rf r :: stk) σ Q := by subst hr; exact jg_bald hk hi hd kk
theorem kg_aald {i : Int32} {tg : Nat} (hr : r = some a) (hk : gk σ a = tg) (htg : tg = 103 ∨ tg = 104) (hi : inr i (gl σ a)) (hd : decode md.cc pc = .ok (.aaload, 1)) (kk : JQ (wP G s0 l K T) md lev st0 (pc + 1) lv (va_rf (gr σ a (ix i)) :: stk) σ Q) : JQ (wP G s0 l K T) md lev st0 pc lv (.int i :: va_rf r :: stk) σ Q := by subst hr; exact jg_aald hk htg hi hd kk
theorem kg_alen {tg : Nat} (hr : r = some a) (hk : gk σ a = tg) (htg : tg = 101 ∨ tg = 102 ∨ tg = 103 ∨ tg = 104) (hd : decode md.cc pc = .ok (.arraylength, 1)) (kk : JQ (wP G s0 l K T) md lev st0 (pc + 1) lv (.int (iI (gl σ a : Int)) :: stk) σ Q) : JQ (wP G s0 l K T) md lev st0 pc lv (va_rf r :: stk) σ Q := by subst hr; exact jg_alen hk htg hd kk
theorem kg_ast {i x : Int32} (hr : r = some a) (hk : gk σ a = 101) (hi : inr i (gl σ a)) (hd : decode md.cc pc = .ok (.iastore, 1)) (kk : JQ (wP G s0 l K T) md lev st0 (pc + 1) lv stk (gpi a (ix i) x σ) Q) : JQ (wP G s0 l K T) md lev st0 pc lv (.int x :: .int i :: va_rf r :: stk) σ Q := by subst hr; exact jg_ast hk hi hd kk
theorem kg_bast {i x : Int32} (hr : r = some a) (hk : gk σ a = 102) (hb : G.h0.size ≤ a) (hi : inr i (gl σ a)) (hd : decode md.cc pc = .ok (.bastore, 1)) (kk : JQ (wP G s0 l K T) md lev st0 (pc + 1) lv stk (gpi a (ix i) x.toInt8.toInt32 σ) Q) : JQ (wP G s0 l K T) md lev st0 pc lv (.int x :: .int i :: va_rf r :: stk) σ Q := by subst hr; exact jg_bast hk hb hi hd kk
theorem kg_aast {i : Int32} {tg : Nat} {C : String} {x : Option Nat} (hr : r = some a) (hk : gk σ a = tg) (htg : (tg = 103 ∧ C = "java/lang/Object") ∨ (tg = 104 ∧ C = "java/lang/String")) (hi : inr i (gl σ a)) (hs : stOK σ x C) (hd : decode md.cc pc = .ok (.aastore, 1)) (kk : JQ (wP G s0 l K T) md lev st0 (pc + 1) lv stk (gpr a (ix i) x σ) Q) : JQ (wP G s0 l K T) md lev st0 pc lv (va_rf x :: .int i :: va_rf r :: stk) σ Q := by subst hr; exact jg_aast hk htg hi hs hd kk
theorem kg_athrow (hr : r = some a) (hu : uncov md.hh pc = true) (hd : decode md.cc pc = .ok (.athrow, 1)) (hq : Q (.threw a) σ) : JQ (wP G s0 l K T) md lev st0 pc lv (va_rf r :: stk) σ Q := by subst hr; exact j_athrow hu hd hq
/-- the method's own words for a call: on an object, static -/
def McG (d : MD) (C : String) (n : Nat) : Prop := Cw d ∧ Cond.instanceMethod d.y ∈ lw_all ∧ Cond.selects C d.y d.y ∈ lw_all ∧ parLen d.y n ∧ (d.y.cls ≠ "java/lang/invoke/MethodHandle" ∧ d.y.cls ≠ "java/lang/invoke/VarHandle")
def McT (d : MD) (n : Nat) : Prop := Cw d ∧ Cond.static d.y ∈ lw_all ∧ parLen d.y n ∧ (d.y.cls ≠ "java/lang/invoke/MethodHandle" ∧ d.y.cls ≠ "java/lang/invoke/VarHandle")
def McI (d : MD) (n : Nat) : Prop := Cw d ∧ Cond.instanceMethod d.y ∈ lw_all ∧ d.hh = [] ∧ d.ret = none ∧ d.y.name = "<init>" ∧ parLen d.y n ∧ (d.y.cls ≠ "java/lang/invoke/MethodHandle" ∧ d.y.cls ≠ "java/lang/invoke/VarHandle")
theorem kg_lkV {c n : Nat} {C : String} {As : List Value} (M : McG mdc C n) (h27 : c < 28) (hC : (gQ c).1 = C) (hk : gk σ a = c + 1) (hq : Cond.methodLink md.y.cls idx mdc.y ∈ lw_all) (hn : As.length = n) (hst : stk = As.reverse ++ va_rf (some a) :: rest) (hd : decode md.cc pc = .ok (.invokevirtual idx, 3)) : Lk (wP G s0 l K T) md σ pc lv stk rest mdc.y (.ref a :: As) :=
  jg_lkV h27 hk M.1 hq M.2.1 (by rw [hC]; exact M.2.2.1) M.2.2.2.2 M.2.2.2.1 hn hst hd
theorem kg_lkS {n : Nat} {As : List Value} (M : McT mdc n) (hq : Cond.methodLink md.y.cls idx mdc.y ∈ lw_all) (hn : As.length = n) (hst : stk = As.reverse ++ rest) (hd : decode md.cc pc = .ok (.invokestatic idx, 3)) : Lk (wP G s0 l K T) md σ pc lv stk rest mdc.y As :=
  lk_S M.1 hq M.2.1 M.2.2.2 M.2.2.1 hn hst hd
theorem kg_lkSN {n : Nat} {host : String} {As : List Value} (M : McT mdc n) (hq : Cond.methodLinkNest md.y.cls idx mdc.y host ∈ lw_tbl) (hn : As.length = n) (hst : stk = As.reverse ++ rest) (hd : decode md.cc pc = .ok (.invokestatic idx, 3)) : Lk (wP G s0 l K T) md σ pc lv stk rest mdc.y As :=
  lk_SN M.1 hq M.2.1 M.2.2.2 M.2.2.1 hn hst hd
theorem kg_lkI {n : Nat} {As : List Value} (M : McI mdc n) (hq : Cond.methodLink md.y.cls idx mdc.y ∈ lw_all ∨ ∃ host, Cond.methodLinkNest md.y.cls idx mdc.y host ∈ lw_tbl) (hn : As.length = n) (hst : stk = As.reverse ++ va_rf (some a) :: rest) (hd : decode md.cc pc = .ok (.invokespecial idx, 3)) : Lk (wP G s0 l K T) md σ pc lv stk rest mdc.y (.ref a :: As) :=
  lk_I M.1 M.2.2.1 M.2.2.2.1 hq M.2.1 M.2.2.2.2.1 M.2.2.2.2.2.2 M.2.2.2.2.2.1 hn hst hd
theorem cat1_cons {v : Value} {as : List Value} (h : v.category = 1) (t : ∀ u ∈ as, u.category = 1) : ∀ u ∈ v :: as, u.category = 1 := by
  intro u hu
  rcases List.mem_cons.mp hu with rfl | h2
  · exact h
  · exact t u h2
theorem cat1_nil : ∀ u ∈ ([] : List Value), u.category = 1 := fun u h => by cases h
end GKG
