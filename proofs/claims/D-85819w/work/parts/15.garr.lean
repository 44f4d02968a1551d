/-! THE HOUSE's WORLD: arrays, classes of objects -/
abbrev ix (i : Int32) : Nat := i.toNatClampNeg
theorem inr_vp {i : Int32} {n : Nat} (h : inr i n) : ¬ (i < 0 ∨ n ≤ i.toNatClampNeg) := vp_in_iff.mpr h
theorem inr_lt {i : Int32} {n : Nat} (h : inr i n) : ix i < n := Nat.not_le.mp fun q => inr_vp h (Or.inr q)
section GARR
variable {G : GPl} {s0 : State} {l : Launch} {X : Prop} {md mdc : MD} {lev : Nat} {st0 σ : GSt} {pc idx : Nat} {lv : List (Option Value)} {stk rest : List Value} {Q : Outcome → GSt → Prop}
/-- a row that only looks -/
theorem jg_see {pc' : Nat} {stk' : List Value}
    (h : ∀ (p : Program) (e : Env) (R : Room) (s : State) (m : MethodId) (args : Array Value) (below : List Frame) (meth : Method) (c : Code) (H : Heap) (locs : List Loc) (cells slots : Nat) (QQ : State → Prop) (ls : Array Slot), okT (wG G s0 l X) → Cx (wG G s0 l X) md p s m args meth c → RepG s0 G σ H →
      W p l e R s m args below meth c H locs cells slots QQ (F0 m pc' ls stk') → W p l e R s m args below meth c H locs cells slots QQ (F0 m pc ls stk))
    (kk : JQ (wG G s0 l X) md lev st0 pc' lv stk' σ Q) : JQ (wG G s0 l X) md lev st0 pc lv stk σ Q := by
  intro a0 b0
  obtain ⟨o, t, q, r1, r2, r3⟩ := kk a0 b0
  exact ⟨o, t, q, r1, r2, fun ht ℓ hℓ p e s m args below meth c' H locs ls C hR hL hl => h p e _ s m args below meth c' H locs _ _ _ ls ht C hR (r3 ht ℓ hℓ p e s m args below meth c' H locs ls C hR hL hl)⟩
/-- a row that writes one cell -/
theorem jg_do {a pc' : Nat} {stk' : List Value} {σ' : GSt} (h0 : σ'.1 = σ.1) (h4 : gn σ' = gn σ) (h5 : gm σ' = gm σ) (hka : gk σ a ≠ 0) (hba : ∀ H : Heap, RepG s0 G σ H → G.h0.size ≤ a)
    (h : ∀ (p : Program) (e : Env) (R : Room) (s : State) (m : MethodId) (args : Array Value) (below : List Frame) (meth : Method) (c : Code) (H : Heap) (locs : List Loc) (cells slots : Nat) (QQ : State → Prop) (ls : Array Slot), okT (wG G s0 l X) → Cx (wG G s0 l X) md p s m args meth c → RepG s0 G σ H →
      (∀ (H' : Heap) (i : Nat), RepG s0 G σ' H' → W p l e R s m args below meth c H' (locs ++ [⟨a, i⟩]) cells slots QQ (F0 m pc' ls stk')) → W p l e R s m args below meth c H locs cells slots QQ (F0 m pc ls stk))
    (kk : JQ (wG G s0 l X) md lev st0 pc' lv stk' σ' Q) : JQ (wG G s0 l X) md lev st0 pc lv stk σ Q := by
  intro a0 b0
  have a1 : lec (wG G s0 l X) st0 σ' := ⟨⟨by show gn st0 ≤ gn σ'; rw [h4]; exact a0.1.1, by show gm st0 ≤ gm σ'; rw [h5]; exact a0.1.2⟩, by show ∀ x, st0.1 x ≠ 0 → σ'.1 x = st0.1 x; rw [h0]; exact a0.2⟩
  have b1 : okc (wG G s0 l X) σ' := ⟨by show gn σ' ≤ _; rw [h4]; exact b0.1, by show gm σ' ≤ _; rw [h5]; exact b0.2⟩
  obtain ⟨o, t, q, r1, r2, r3⟩ := kk a1 b1
  refine ⟨o, t, q, ⟨⟨by have := r1.1.1; change gn σ' ≤ _ at this; rw [h4] at this; exact this, by have := r1.1.2; change gm σ' ≤ _ at this; rw [h5] at this; exact this⟩, by have := r1.2; change ∀ x, σ'.1 x ≠ 0 → t.1 x = σ'.1 x at this; rw [h0] at this; exact this⟩, r2, fun ht ℓ hℓ p e s m args below meth c' H locs ls C hR hL hl => ?_⟩
  refine h p e _ s m args below meth c' H locs _ _ _ ls ht C hR (fun H' i hR' => ?_)
  have := r3 ht ℓ hℓ p e s m args below meth c' H' (locs ++ [⟨a, i⟩]) ls C hR' (t_lc hL ⟨hba H hR, (hR.2.2.1 a hka).2⟩) hl
  refine W.cs ?_ ?_ this
  · show gn σ - gn st0 = gn σ' - gn st0; rw [h4]
  · show gm σ - gm st0 = gm σ' - gm st0; rw [h5]
theorem isArr_s {s : State} {cell : Cell} {ty : FieldType} (hW : s0.WarmedH s.vm) (h : s0.isArrayOf cell ty) : s.isArrayOf cell ty := State.isArrayOf_alike hW.alike h
theorem jg_ald {a : Nat} {i : Int32} (hk : gk σ a = 101) (hi : inr i (gl σ a)) (hd : decode md.cc pc = .ok (.iaload, 1)) (kk : JQ (wG G s0 l X) md lev st0 (pc + 1) lv (.int (gi σ a (ix i)) :: stk) σ Q) : JQ (wG G s0 l X) md lev st0 pc lv (.int i :: va_rf (some a) :: stk) σ Q := by
  refine jg_see (fun p e R s m args below meth c H locs cells slots QQ ls ht C hR kw => ?_) kk
  obtain ⟨cell, g1, g2, g3, g4, g5⟩ := ((hR.2.2.2.2 a).2.1 hk).2
  exact W.iald (v := .int (gi σ a (ix i))) C.1 C.2.1 g1 (isArr_s C.2.2.2.2.2.2.2.2.1 g2) g3 (by rw [g4]; exact inr_vp hi) (g5 _ (inr_lt hi)) rfl rfl hd kw
theorem jg_bald {a : Nat} {i : Int32} (hk : gk σ a = 102) (hi : inr i (gl σ a)) (hd : decode md.cc pc = .ok (.baload, 1)) (kk : JQ (wG G s0 l X) md lev st0 (pc + 1) lv (.int (gi σ a (ix i)) :: stk) σ Q) : JQ (wG G s0 l X) md lev st0 pc lv (.int i :: va_rf (some a) :: stk) σ Q := by
  refine jg_see (fun p e R s m args below meth c H locs cells slots QQ ls ht C hR kw => ?_) kk
  obtain ⟨cell, g1, g2, g3, g4, g5, g6, g7⟩ := (hR.2.2.2.2 a).2.2.1 hk
  exact W.bald (v := .int (gi σ a (ix i))) C.1 C.2.1 g1 (isArr_s C.2.2.2.2.2.2.2.2.1 g2) g3 (by rw [g4]; exact inr_vp hi) (g5 _ (inr_lt hi)) rfl rfl hd kw
theorem gaq_arr {s : State} {cell : Cell} {d : ClassId} {C : String} (h : gAC s d C) (h1 : cell.cls = d) (h2 : cell.vm.isStatics = false) : s.isArrayOf cell (.object C) := by
  obtain ⟨k, comp, kc, k1, k2, -⟩ := h
  exact ⟨(fun q hq => by rw [hq] at h2; cases h2), k, (by rw [h1]; exact k1), comp, k2⟩
theorem jg_aald {a tg : Nat} {i : Int32} (hk : gk σ a = tg) (htg : tg = 103 ∨ tg = 104) (hi : inr i (gl σ a)) (hd : decode md.cc pc = .ok (.aaload, 1)) (kk : JQ (wG G s0 l X) md lev st0 (pc + 1) lv (va_rf (gr σ a (ix i)) :: stk) σ Q) : JQ (wG G s0 l X) md lev st0 pc lv (.int i :: va_rf (some a) :: stk) σ Q := by
  refine jg_see (fun p e R s m args below meth c H locs cells slots QQ ls ht C hR kw => ?_) kk
  have hW := C.2.2.2.2.2.2.2.2.1
  subst hk
  rcases htg with h | h
  · obtain ⟨cell, g1, g2, g3, g4, g5, g6⟩ := ((hR.2.2.2.2 a).2.2.2.1 h).2
    exact W.aald (v := va_rf (gr σ a (ix i))) (ty := .object "java/lang/Object") C.1 C.2.1 g1 (gaq_arr (gAC_moved hW.alike ht.2.1.2.1) g2 g4) rfl g3 (by rw [g5]; exact inr_vp hi) (g6 _ (inr_lt hi)) rfl rfl hd kw
  · obtain ⟨cell, g1, g2, g3, g4, g5, g6⟩ := ((hR.2.2.2.2 a).2.2.2.2 h).2
    exact W.aald (v := va_rf (gr σ a (ix i))) (ty := .object "java/lang/String") C.1 C.2.1 g1 (gaq_arr (gAC_moved hW.alike ht.2.1.2.2.1) g2 g4) rfl g3 (by rw [g5]; exact inr_vp hi) (g6 _ (inr_lt hi)) rfl rfl hd kw
theorem jg_alen {a tg : Nat} (hk : gk σ a = tg) (htg : tg = 101 ∨ tg = 102 ∨ tg = 103 ∨ tg = 104) (hd : decode md.cc pc = .ok (.arraylength, 1)) (kk : JQ (wG G s0 l X) md lev st0 (pc + 1) lv (.int (iI (gl σ a : Int)) :: stk) σ Q) : JQ (wG G s0 l X) md lev st0 pc lv (va_rf (some a) :: stk) σ Q := by
  refine jg_see (fun p e R s m args below meth c H locs cells slots QQ ls ht C hR kw => ?_) kk
  have hW := C.2.2.2.2.2.2.2.2.1
  have hi : ∀ n : Nat, n.toInt32 = iI (n : Int) := fun n => (Int32.ofInt_eq_ofNat).symm
  subst hk
  rcases htg with h | h | h | h
  · obtain ⟨cell, g1, g2, g3, g4, g5⟩ := ((hR.2.2.2.2 a).2.1 h).2
    exact W.alen C.1 C.2.1 g1 (isArr_s hW g2) (by rw [g4]; exact hi _) rfl rfl hd kw
  · obtain ⟨cell, g1, g2, g3, g4, g5, -, -⟩ := (hR.2.2.2.2 a).2.2.1 h
    exact W.alen C.1 C.2.1 g1 (isArr_s hW g2) (by rw [g4]; exact hi _) rfl rfl hd kw
  · obtain ⟨cell, g1, g2, g3, g4, g5, g6⟩ := ((hR.2.2.2.2 a).2.2.2.1 h).2
    exact W.alen C.1 C.2.1 g1 (gaq_arr (gAC_moved hW.alike ht.2.1.2.1) g2 g4) (by rw [g5]; exact hi _) rfl rfl hd kw
  · obtain ⟨cell, g1, g2, g3, g4, g5, g6⟩ := ((hR.2.2.2.2 a).2.2.2.2 h).2
    exact W.alen C.1 C.2.1 g1 (gaq_arr (gAC_moved hW.alike ht.2.1.2.2.1) g2 g4) (by rw [g5]; exact hi _) rfl rfl hd kw
theorem setSlot_get {cell : Cell} {i : Nat} {v : Value} (j : Nat) : (cell.setSlot i v).slots[j]? = if j = i ∧ i < cell.slots.size then some v else cell.slots[j]? := by
  simp only [Cell.setSlot]
  rw [Array.getElem?_setIfInBounds]
  by_cases h : j = i
  · subst h
    by_cases h2 : j < cell.slots.size
    · simp [h2]
    · simp [h2]
  · simp [h, Ne.symm h]
theorem setSlot_size {cell : Cell} {i : Nat} {v : Value} : (cell.setSlot i v).slots.size = cell.slots.size := by simp [Cell.setSlot]
theorem jg_ast {a : Nat} {i x : Int32} (hk : gk σ a = 101) (hi : inr i (gl σ a)) (hd : decode md.cc pc = .ok (.iastore, 1)) (kk : JQ (wG G s0 l X) md lev st0 (pc + 1) lv stk (gpi a (ix i) x σ) Q) : JQ (wG G s0 l X) md lev st0 pc lv (.int x :: .int i :: va_rf (some a) :: stk) σ Q := by
  refine jg_do (a := a) (σ' := gpi a (ix i) x σ) rfl rfl rfl (by omega) (fun H hR => ((hR.2.2.2.2 a).2.1 hk).1) (fun p e R s m args below meth c H locs cells slots QQ ls ht C hR kw => ?_) kk
  obtain ⟨hb, cell, g1, g2, g3, g4, g5⟩ := (hR.2.2.2.2 a).2.1 hk
  refine W.iast C.1 C.2.1 g1 (isArr_s C.2.2.2.2.2.2.2.2.1 g2) g3 (by rw [g4]; exact inr_vp hi) rfl rfl hd fun H1 e1 z oq => kw H1 _ ?_
  refine hR.upd z oq hb rfl (fun b h => va_up_ne _ _ h) (fun _ _ => rfl) rfl rfl ⟨fun c2 q9 hc2 hq9 => by have := gcl_lt hq9; omega, fun _ => ⟨hb, _, e1, g2, g3, by rw [setSlot_size]; exact g4, fun j hj => ?_⟩, fun h => by omega, fun h => by omega, fun h => by omega⟩
  rw [setSlot_get]
  show _ = some (Value.int (va_up σ.2.1 a (va_up (σ.2.1 a) (ix i) x) a j))
  rw [va_up_self]
  by_cases hj2 : j = ix i
  · subst hj2; rw [if_pos ⟨rfl, by rw [g4]; exact hj⟩, va_up_self]
  · rw [if_neg (fun h => hj2 h.1), va_up_ne _ _ hj2]; exact g5 j hj
theorem jg_bast {a : Nat} {i x : Int32} (hk : gk σ a = 102) (hb : G.h0.size ≤ a) (hi : inr i (gl σ a)) (hd : decode md.cc pc = .ok (.bastore, 1)) (kk : JQ (wG G s0 l X) md lev st0 (pc + 1) lv stk (gpi a (ix i) x.toInt8.toInt32 σ) Q) : JQ (wG G s0 l X) md lev st0 pc lv (.int x :: .int i :: va_rf (some a) :: stk) σ Q := by
  refine jg_do (a := a) (σ' := gpi a (ix i) x.toInt8.toInt32 σ) rfl rfl rfl (by omega) (fun H hR => hb) (fun p e R s m args below meth c H locs cells slots QQ ls ht C hR kw => ?_) kk
  obtain ⟨cell, g1, g2, g3, g4, g5, g6, g7⟩ := (hR.2.2.2.2 a).2.2.1 hk
  refine W.bast C.1 C.2.1 g1 (isArr_s C.2.2.2.2.2.2.2.2.1 g2) g3 (by rw [g4]; exact inr_vp hi) rfl rfl hd fun H1 e1 z oq => kw H1 _ ?_
  rw [narrow_byte] at e1
  refine hR.upd z oq hb rfl (fun b h => va_up_ne _ _ h) (fun _ _ => rfl) rfl rfl ⟨fun c2 q9 hc2 hq9 => by have := gcl_lt hq9; omega, fun h => by omega, fun _ => ⟨_, e1, g2, g3, by rw [setSlot_size]; exact g4, fun j hj => ?_, g6, fun j hj => ?_⟩, fun h => by omega, fun h => by omega⟩
  · rw [setSlot_get]
    show _ = some (Value.int (va_up σ.2.1 a (va_up (σ.2.1 a) (ix i) _) a j))
    rw [va_up_self]
    by_cases hj2 : j = ix i
    · subst hj2; rw [if_pos ⟨rfl, by rw [g4]; exact hj⟩, va_up_self]
    · rw [if_neg (fun h => hj2 h.1), va_up_ne _ _ hj2]; exact g5 j hj
  · show fits .byte (Value.int (va_up σ.2.1 a (va_up (σ.2.1 a) (ix i) _) a j)) = true
    rw [va_up_self]
    by_cases hj2 : j = ix i
    · subst hj2; rw [va_up_self]; exact pk_fb x
    · rw [va_up_ne _ _ hj2]; exact g7 j hj
/-- what may be laid into an array of C -/
def stOK (σ : GSt) (r : Option Nat) (C : String) : Prop := r = none ∨ ∃ b c, r = some b ∧ gk σ b = c + 1 ∧ c < 28 ∧ (Cond.castable (gQ c).1 C ∈ lw_tbl ∨ (gQ c).1 = C)
theorem g_recv {b c : Nat} {H : Heap} {s : State} (ht : okT (wG G s0 l X)) (hW : s0.WarmedH s.vm) (hR : RepG s0 G σ H) (hk : gk σ b = c + 1) (h27 : c < 28) : ∃ cell : Cell, H[b]? = some cell ∧ cell.vm.isStatics = false ∧ s.vm.findClass (gQ c).1 = some cell.cls := by
  have hq := gQ_get h27
  obtain ⟨-, cell, g1, g2, g3, g4, g5, g6⟩ := (hR.2.2.2.2 b).1 c _ hk hq
  obtain ⟨hS, hfc, -⟩ := u_Kn_moved hW.alike (ht.2.1.1 c _ hq)
  exact ⟨cell, g1, g4, by rw [g2]; exact hfc⟩
theorem g_castable {C D : String} {s : State} (ht : okT (wG G s0 l X)) (hW : s0.WarmedH s.vm) (h : Cond.castable C D ∈ lw_tbl) : va_Nw (.castable C D) s := va_Nw.warmC hW (ht.1 _ h)
theorem as_self (vm : Vm) (c : ClassId) : vm.assignable c c = true := by
  show vm.assignableAux (255 + 1) c c = true
  rw [Vm.assignableAux]
  simp only [beq_self_eq_true, Bool.true_or]
theorem g_stc {C D : String} {s : State} {A : Array Value} {c t : ClassId} (ht : okT (wG G s0 l X)) (hW : s0.WarmedH s.vm) (h : Cond.castable C D ∈ lw_tbl ∨ C = D) (h1 : s.vm.findClass C = some c) (h2 : s.vm.findClass D = some t) : s.vm.assignable c t = true := by
  rcases h with h | h
  · obtain ⟨c0, t1, f1, f2, f3⟩ := Cond.castable_spec (va_Nw.use (A := A) rfl (g_castable ht hW h))
    cases h1.symm.trans f1
    cases h2.symm.trans f2
    exact f3
  · subst h
    cases h1.symm.trans h2
    exact as_self _ _
theorem jg_aast {a tg : Nat} {C : String} {i : Int32} {r : Option Nat} (hk : gk σ a = tg) (htg : (tg = 103 ∧ C = "java/lang/Object") ∨ (tg = 104 ∧ C = "java/lang/String")) (hi : inr i (gl σ a)) (hs : stOK σ r C) (hd : decode md.cc pc = .ok (.aastore, 1)) (kk : JQ (wG G s0 l X) md lev st0 (pc + 1) lv stk (gpr a (ix i) r σ) Q) : JQ (wG G s0 l X) md lev st0 pc lv (va_rf r :: .int i :: va_rf (some a) :: stk) σ Q := by
  subst hk
  have hne : gl σ a ≠ 0 := by have := inr_lt hi; omega
  have hb : ∀ H : Heap, RepG s0 G σ H → G.h0.size ≤ a := fun H hR => by
    rcases htg with h | h
    · exact ((hR.2.2.2.2 a).2.2.2.1 h.1).1 hne
    · exact ((hR.2.2.2.2 a).2.2.2.2 h.1).1
  refine jg_do (a := a) (σ' := gpr a (ix i) r σ) rfl rfl rfl (by omega) hb (fun p e R s m args below meth c H locs cells slots QQ ls ht Cx hR kw => ?_) kk
  have hW := Cx.2.2.2.2.2.2.2.2.1
  have main : ∀ d, gAC s0 d C → gaq H a d (gl σ a) (fun j => va_rf (gr σ a j)) → (∀ H1 : Heap, gaq H1 a d (gl σ a) (fun j => va_rf (gr (gpr a (ix i) r σ) a j)) → gAt s0 G (gk σ a) ((gpr a (ix i) r σ).2.1 a) ((gpr a (ix i) r σ).2.2.1 a) (gl σ a) H1 a) → W p l e R s m args below meth c H locs cells slots QQ (F0 m pc ls (va_rf r :: .int i :: va_rf (some a) :: stk)) := by
    intro d hAC hq hback
    obtain ⟨cell, g1, g2, g3, g4, g5, g6⟩ := hq
    have hACs := gAC_moved hW.alike hAC
    have hfin : ∀ H1 : Heap, H1[a]? = some (cell.setSlot (ix i) (va_rf r)) → H1.size = H.size → (∀ q, q ≠ a → H1[q]? = H[q]?) → RepG s0 G (gpr a (ix i) r σ) H1 := by
      intro H1 e1 z oq
      refine hR.upd z oq (hb H hR) rfl (fun _ _ => rfl) (fun b h => va_up_ne _ _ h) rfl rfl (hback H1 ⟨_, e1, g2, g3, g4, by rw [setSlot_size]; exact g5, fun j hj => ?_⟩)
      rw [setSlot_get]
      show _ = some (va_rf (va_up σ.2.2.1 a (va_up (σ.2.2.1 a) (ix i) r) a j))
      rw [va_up_self]
      by_cases hj2 : j = ix i
      · subst hj2; rw [if_pos ⟨rfl, by rw [g5]; exact hj⟩, va_up_self]
      · rw [if_neg (fun h => hj2 h.1), va_up_ne _ _ hj2]; exact g6 j hj
    rcases hs with rfl | ⟨b, c1, rfl, hkb, h27, hcast⟩
    · exact va_WaastN (C := C) Cx.1 Cx.2.1 g1 (gaq_arr hACs g2 g4) g3 (by rw [g5]; exact inr_vp hi) rfl rfl hd fun H1 e1 z oq => kw H1 _ (hfin H1 e1 z oq)
    · obtain ⟨cellV, v1, v2, v3⟩ := g_recv ht hW hR hkb h27
      obtain ⟨k, comp, kc, k1, k2, k3, k4, k5, k6⟩ := hACs
      have f3 := g_stc (A := args) ht hW hcast v3 k3
      obtain ⟨kV, hkV, -⟩ := Vm.findClass_spec v3
      exact W.aast Cx.1 Cx.2.1 g1 (fun q h => by rw [h] at g4; cases g4) g3 (by rw [g2]; exact k1) k2 rfl k4 ⟨fun q => inr_vp hi (Or.inl q), by rw [g5]; exact inr_lt hi⟩ v1 (fun q h => by rw [h] at v2; cases v2) hkV f3 rfl rfl hd fun H1 e1 z oq => kw H1 _ (hfin H1 e1 z oq)
  rcases htg with ⟨h, rfl⟩ | ⟨h, rfl⟩
  · have h3 := (hR.2.2.2.2 a).2.2.2.1 h
    exact main G.dO ht.2.1.2.1 h3.2 (fun H1 hq => ⟨fun c2 q9 hc2 hq9 => by have := gcl_lt hq9; omega, fun h => by omega, fun h => by omega, fun _ => ⟨h3.1, hq⟩, fun h => by omega⟩)
  · have h3 := (hR.2.2.2.2 a).2.2.2.2 h
    exact main G.dS ht.2.1.2.2.1 h3.2 (fun H1 hq => ⟨fun c2 q9 hc2 hq9 => by have := gcl_lt hq9; omega, fun h => by omega, fun h => by omega, fun h => by omega, fun _ => ⟨h3.1, hq⟩⟩)
end GARR
