/-! THE HOUSE's WORLD: natives and what the model keeps for itself (Math.max, min; getClass; arraycopy; clone) -/
section GNAT
variable {G : GPl} {s0 : State} {l : Launch} {K : Nat → Option Nat} {T : Nat → Nat} {md mdc : MD} {lev : Nat} {st0 σ : GSt} {pc idx : Nat} {lv : List (Option Value)} {stk rest : List Value} {Q : Outcome → GSt → Prop} {r : Option Nat} {a : Nat}
/-- a row that only looks, with its room -/
theorem jg_seeR {pc' : Nat} {stk' : List Value} (h1 : 1 ≤ lev)
    (h : ∀ (p : Program) (e : Env) (R : Room) (s : State) (m : MethodId) (args : Array Value) (below : List Frame) (meth : Method) (c : Code) (H : Heap) (locs : List Loc) (cells slots : Nat) (QQ : State → Prop) (ls : Array Slot), okT (wP G s0 l K T) → Cx (wP G s0 l K T) md p s m args meth c → RepG s0 G σ H → ls.size = md.nL → 1 ≤ R.frames → 64 ≤ R.locals → cells ≤ R.cells → slots ≤ R.slots →
      W p l e R s m args below meth c H locs cells slots QQ (F0 m pc' ls stk') → W p l e R s m args below meth c H locs cells slots QQ (F0 m pc ls stk))
    (kk : JQ (wP G s0 l K T) md lev st0 pc' lv stk' σ Q) : JQ (wP G s0 l K T) md lev st0 pc lv stk σ Q := by
  intro a0 b0
  obtain ⟨o, t, q, r1, r2, r3⟩ := kk a0 b0
  refine ⟨o, t, q, r1, r2, fun ht ℓ hℓ p e s m args below meth c' H locs ls C hR hL hl => h p e _ s m args below meth c' H locs _ _ _ ls ht C hR hl.1 ?_ ?_ ?_ ?_ (r3 ht ℓ hℓ p e s m args below meth c' H locs ls C hR hL hl)⟩
  · show 1 ≤ ℓ; omega
  · show 64 ≤ 64 * ℓ; omega
  · have := a0.1.1; have := b0.1; show gn σ - gn st0 ≤ G.cc - gn st0; have h5 : gn σ ≤ G.cc := b0.1; omega
  · show gm σ - gm st0 ≤ G.cs - gm st0; have h5 : gm σ ≤ G.cs := b0.2; omega
theorem jg_mmax {x y : Int32} (h1 : 1 ≤ lev) (hq : Cond.methodLink md.y.cls idx Lib.Math.max.name ∈ lw_all) (hs : Cond.static Lib.Math.max.name ∈ lw_all) (hi : Cond.initialized "java/lang/Math" ∈ lw_all) (hc : Cond.code Lib.Math.max.name Lib.Math.max.code 2 (some .int) ∈ lw_all) (hrm : (stk.map fun v => v.category).sum ≤ 8) (hd : decode md.cc pc = .ok (.invokestatic idx, 3)) (kk : JQ (wP G s0 l K T) md lev st0 (pc + 3) lv (.int (if x < y then y else x) :: stk) σ Q) : JQ (wP G s0 l K T) md lev st0 pc lv (.int y :: .int x :: stk) σ Q := by
  refine jg_seeR h1 (fun p e R s m args below meth c' H locs cells slots QQ ls ht C hR hz r1 r2 r3 r4 kw => ?_) kk
  have hts := C.2.2.2.2.2.2.2.2.2
  exact va_mmax C.1 C.2.1 (C.2.2.1.trans hz.symm) C.2.2.2.2.2.2.1 (hts _ hq) (hts _ hs) (hts _ hi) (hts _ hc) r1 (by omega) r3 r4 hd kw
theorem jg_mmin {x y : Int32} (h1 : 1 ≤ lev) (hq : Cond.methodLink md.y.cls idx Lib.Math.min.name ∈ lw_all) (hs : Cond.static Lib.Math.min.name ∈ lw_all) (hi : Cond.initialized "java/lang/Math" ∈ lw_all) (hc : Cond.code Lib.Math.min.name Lib.Math.min.code 2 (some .int) ∈ lw_all) (hrm : (stk.map fun v => v.category).sum ≤ 8) (hd : decode md.cc pc = .ok (.invokestatic idx, 3)) (kk : JQ (wP G s0 l K T) md lev st0 (pc + 3) lv (.int (if y < x then y else x) :: stk) σ Q) : JQ (wP G s0 l K T) md lev st0 pc lv (.int y :: .int x :: stk) σ Q := by
  refine jg_seeR h1 (fun p e R s m args below meth c' H locs cells slots QQ ls ht C hR hz r1 r2 r3 r4 kw => ?_) kk
  have hts := C.2.2.2.2.2.2.2.2.2
  exact va_mmin C.1 C.2.1 (C.2.2.1.trans hz.symm) C.2.2.2.2.2.2.1 (hts _ hq) (hts _ hs) (hts _ hi) (hts _ hc) r1 (by omega) r3 r4 hd kw
/-- the class object of Object[] -/
theorem jg_ldcM (hq : Cond.classLink md.y.cls idx "[Ljava/lang/Object;" ∈ lw_all) (hd : decode md.cc pc = .ok (.ldc idx, 2)) (kk : JQ (wP G s0 l K T) md lev st0 (pc + 2) lv (va_rf (K 19) :: stk) σ Q) : JQ (wP G s0 l K T) md lev st0 pc lv stk σ Q := by
  refine jg_see (fun p e R s m args below meth c' H locs cells slots QQ ls ht C hR kw => ?_) kk
  obtain ⟨mi, e1, e2⟩ := ht.2.2.2.2.2.2.2.1
  rw [e1] at kw
  exact va_ldcM C.1 C.2.1 C.2.2.2.2.2.2.1 (C.2.2.2.2.2.2.2.2.2 _ hq) (va_Mi.moved C.2.2.2.2.2.2.2.2.1.alike e2) hd kw
theorem jg_getC (h1 : 1 ≤ lev) (hr : r = some a) (hk : gk σ a = 103) (hq : Cond.methodLink md.y.cls idx ⟨"java/lang/Object", "getClass", "()Ljava/lang/Class;"⟩ ∈ lw_all) (hrm : (stk.map fun v => v.category).sum ≤ 8) (hd : decode md.cc pc = .ok (.invokevirtual idx, 3)) (kk : JQ (wP G s0 l K T) md lev st0 (pc + 3) lv (va_rf (K 19) :: stk) σ Q) : JQ (wP G s0 l K T) md lev st0 pc lv (va_rf r :: stk) σ Q := by
  subst hr
  refine jg_seeR h1 (fun p e R s m args below meth c' H locs cells slots QQ ls ht C hR hz r1 r2 r3 r4 kw => ?_) kk
  have hts := C.2.2.2.2.2.2.2.2.2
  have hW := C.2.2.2.2.2.2.2.2.1
  obtain ⟨mi, e1, e2⟩ := ht.2.2.2.2.2.2.2.1
  rw [e1] at kw
  obtain ⟨cell, g1, g2, g3, g4, g5, g6⟩ := ((hR.2.2.2.2 a).2.2.2.1 hk).2
  obtain ⟨_, _, _, _, _, _, _, _, hn⟩ := gAC_moved hW.alike ht.2.1.2.1
  have hdecl : (Cond.declares ⟨"java/lang/Object", "getClass", "()Ljava/lang/Class;"⟩).before args s = true := va_Dc.use (va_Dc.moved hW.alike (va_Dc.of (ht.1 _ q2606)))
  exact va_getC (C := "[Ljava/lang/Object;") C.1 C.2.1 (C.2.2.1.trans hz.symm) C.2.2.2.2.2.2.1 (hts _ hq) hdecl (hts _ q2605) (hts _ q1100) (hts _ q1133) (va_Mi.moved hW.alike e2) ⟨cell, g1, g4, by rw [g2]; exact hn⟩ r1 (by omega) hd kw
/-- a stretch is copied: references -/
def gcr (d s sp dp n : Nat) (σ : GSt) : GSt := (σ.1, σ.2.1, va_up σ.2.2.1 d (va_cpy (σ.2.2.1 s) (σ.2.2.1 d) sp dp n), σ.2.2.2)
def gci (d s sp dp n : Nat) (σ : GSt) : GSt := (σ.1, va_up σ.2.1 d (va_cpy (σ.2.1 s) (σ.2.1 d) sp dp n), σ.2.2)
/-- the stretches lie in their arrays -/
def cpok (σ : GSt) (s d : Nat) (sp dp n : Int32) : Prop := 0 ≤ sp.toInt ∧ 0 ≤ dp.toInt ∧ 0 ≤ n.toInt ∧ sp.toInt + n.toInt ≤ gl σ s ∧ dp.toInt + n.toInt ≤ gl σ d
theorem nneg {x : Int32} (h : 0 ≤ x.toInt) : ¬ x < 0 := fun q => by have := Int32.lt_iff_toInt_lt.mp q; simp at this; omega
theorem stretch_get {cs : Cell} {sp n : Nat} {f : Nat → Value} {N : Nat} (hcs : ∀ j, j < N → cs.slots[j]? = some (f j)) (hs : sp + n ≤ N) : cs.stretch sp n = (List.range n).map (fun i => f (sp + i)) := by
  unfold Cell.stretch
  apply List.map_congr_left
  intro i hi
  have hi' := List.mem_range.mp hi
  rw [Array.getD_eq_getD_getElem?, hcs _ (by omega)]
  rfl
theorem stored_get {cs cd : Cell} {sp dp n N0 N1 : Nat} {f g : Nat → Value} (hcs : ∀ j, j < N0 → cs.slots[j]? = some (f j)) (hcd : ∀ j, j < N1 → cd.slots[j]? = some (g j)) (hz : cd.slots.size = N1) (h0 : sp + n ≤ N0) (h1 : dp + n ≤ N1) {j : Nat} (hj : j < N1) :
    (cd.storeRun dp (cs.stretch sp n)).slots[j]? = some (va_cpy f g sp dp n j) := by
  have hlen : (cs.stretch sp n).length = n := by rw [stretch_get hcs h0]; simp
  rw [Cell.storeRun_get _ _ _ _ (by rw [hlen, hz]; exact h1), hlen]
  unfold va_cpy
  by_cases hin : dp ≤ j ∧ j < dp + n
  · rw [if_pos hin, if_pos hin, stretch_get hcs h0]
    have hlt : j - dp < n := by omega
    simp [hlt]
  · rw [if_neg hin, if_neg hin]
    exact hcd j hj
theorem nfw : nativeFrameWords "java/lang/System" "arraycopy" 5 + 11 ≤ 50 := by decide
/-- a row that writes one cell, with its room -/
theorem jg_doR {pc' : Nat} {stk' : List Value} {σ' : GSt} (h1 : 1 ≤ lev) (h0 : σ'.1 = σ.1) (h4 : gn σ' = gn σ) (h5 : gm σ' = gm σ) (hka : gk σ a ≠ 0) (hba : G.h0.size ≤ a)
    (h : ∀ (p : Program) (e : Env) (R : Room) (s : State) (m : MethodId) (args : Array Value) (below : List Frame) (meth : Method) (c : Code) (H : Heap) (locs : List Loc) (cells slots : Nat) (QQ : State → Prop) (ls : Array Slot), okT (wP G s0 l K T) → Cx (wP G s0 l K T) md p s m args meth c → RepG s0 G σ H → ls.size = md.nL → 1 ≤ R.frames → 64 ≤ R.locals →
      (∀ (H' : Heap) (L : List Loc), (∀ q ∈ L, q.base = a) → RepG s0 G σ' H' → W p l e R s m args below meth c H' (locs ++ L) cells slots QQ (F0 m pc' ls stk')) → W p l e R s m args below meth c H locs cells slots QQ (F0 m pc ls stk))
    (kk : JQ (wP G s0 l K T) md lev st0 pc' lv stk' σ' Q) : JQ (wP G s0 l K T) md lev st0 pc lv stk σ Q := by
  intro a0 b0
  have a1 : lec (wP G s0 l K T) st0 σ' := ⟨⟨by show gn st0 ≤ gn σ'; rw [h4]; exact a0.1.1, by show gm st0 ≤ gm σ'; rw [h5]; exact a0.1.2⟩, by show ∀ x, st0.1 x ≠ 0 → σ'.1 x = st0.1 x; rw [h0]; exact a0.2⟩
  have b1 : okc (wP G s0 l K T) σ' := ⟨by show gn σ' ≤ _; rw [h4]; exact b0.1, by show gm σ' ≤ _; rw [h5]; exact b0.2⟩
  obtain ⟨o, t, q, r1, r2, r3⟩ := kk a1 b1
  refine ⟨o, t, q, ⟨⟨by have := r1.1.1; change gn σ' ≤ _ at this; rw [h4] at this; exact this, by have := r1.1.2; change gm σ' ≤ _ at this; rw [h5] at this; exact this⟩, by have := r1.2; change ∀ x, σ'.1 x ≠ 0 → t.1 x = σ'.1 x at this; rw [h0] at this; exact this⟩, r2, fun ht ℓ hℓ p e s m args below meth c' H locs ls C hR hL hl => ?_⟩
  refine h p e _ s m args below meth c' H locs _ _ _ ls ht C hR hl.1 (by show 1 ≤ ℓ; omega) (by show 64 ≤ 64 * ℓ; omega) (fun H' L hLa hR' => ?_)
  have := r3 ht ℓ hℓ p e s m args below meth c' H' (locs ++ L) ls C hR' (fun q hq => by
    rcases List.mem_append.mp hq with h | h
    · exact hL q h
    · rw [hLa q h]; exact ⟨hba, (hR.2.2.1 a hka).2⟩) hl
  refine W.cs ?_ ?_ this
  · show gn σ - gn st0 = gn σ' - gn st0; rw [h4]
  · show gm σ - gm st0 = gm σ' - gm st0; rw [h5]
theorem jg_copyr {b : Nat} {r2 : Option Nat} {sp dp n : Int32} (h1 : 1 ≤ lev) (hr : r = some a) (hr2 : r2 = some b) (hk : gk σ a = 103) (hk2 : gk σ b = 103) (hb : G.h0.size ≤ a) (hc : cpok σ b a sp dp n) (hs : ∀ i, i < ix n → stOK σ (gr σ b (ix sp + i)) "java/lang/Object")
    (hq : Cond.methodLink md.y.cls idx arraycopyName ∈ lw_all) (hrm : (stk.map fun v => v.category).sum ≤ 8) (hd : decode md.cc pc = .ok (.invokestatic idx, 3)) (kk : JQ (wP G s0 l K T) md lev st0 (pc + 3) lv stk (gcr a b (ix sp) (ix dp) (ix n) σ) Q) : JQ (wP G s0 l K T) md lev st0 pc lv (.int n :: .int dp :: va_rf r :: .int sp :: va_rf r2 :: stk) σ Q := by
  subst hr hr2
  obtain ⟨c1, c2, c3, c4, c5⟩ := hc
  have i1 : (ix sp : Int) = sp.toInt := by show ((sp.toInt.toNat : Nat) : Int) = _; omega
  have i2 : (ix dp : Int) = dp.toInt := by show ((dp.toInt.toNat : Nat) : Int) = _; omega
  have i3 : (ix n : Int) = n.toInt := by show ((n.toInt.toNat : Nat) : Int) = _; omega
  refine jg_doR (a := a) (σ' := gcr a b (ix sp) (ix dp) (ix n) σ) h1 rfl rfl rfl (by omega) hb (fun p e R s m args below meth c' H locs cells slots QQ ls ht C hR hz q1 q2 kw => ?_) kk
  have hts := C.2.2.2.2.2.2.2.2.2
  have hW := C.2.2.2.2.2.2.2.2.1
  obtain ⟨d0, cd, g1, g2, g3, g4, g5, g6⟩ := (hR.2.2.2.2 a).2.2.2.1 hk
  obtain ⟨-, cs, f1, f2, f3, f4, f5, f6⟩ := (hR.2.2.2.2 b).2.2.2.1 hk2
  obtain ⟨k, comp, kc, k1, k2, k3, k4, k5, k6⟩ := gAC_moved hW.alike ht.2.1.2.1
  intro Ts hT X
  obtain ⟨vm', X', step⟩ := X.arraycopy C.1 C.2.2.2.2.2.2.1 (hts _ hq) (hts _ q592) (hts _ q591) (hts _ q137) (src := b) (dst := a) (cs := cs) (cd := cd) (srcPos := sp) (destPos := dp) (n := n) (by rw [hT]; exact f1) (by rw [hT]; exact g1)
    (fun _ h => by rw [h] at f4; cases f4) (fun _ h => by rw [h] at g4; cases g4) f3 g3 (by rw [f2]; exact k1) (by rw [g2]; exact k1) k2 k2 rfl (nneg c1) (nneg c2) (nneg c3) (by rw [f5]; omega) (by rw [g5]; omega)
    (fun vm₁ hal i hi => by
      have hlt : ix sp + i < gl σ b := by have : i < ix n := hi; omega
      have e1 : cs.slots.getD (sp.toNatClampNeg + i) .null = va_rf (gr σ b (ix sp + i)) := by
        rw [Array.getD_eq_getD_getElem?, f6 _ hlt]; rfl
      rw [e1]
      rcases hs i hi with h | ⟨y, c9, h, hky, h27, hcast⟩
      · rw [h]; exact ⟨rfl, trivial⟩
      · rw [h]
        obtain ⟨cellV, v1, v2, v3⟩ := g_recv ht hW hR hky h27
        have w3 := g_stc (A := args) ht hW hcast v3 k3
        obtain ⟨kV, hkV, -⟩ := Vm.findClass_spec v3
        obtain ⟨kV', hkV', -⟩ := hal.2.2 _ _ hkV
        obtain ⟨kE', hkE', -⟩ := hal.2.2 _ _ k4
        refine ⟨rfl, cellV, (show Ts.heap[y]? = some cellV by rw [hT]; exact v1), (fun q h => by rw [h] at v2; cases v2), ⟨kV', hkV'⟩, ⟨kE', hkE'⟩, ?_⟩
        show vm₁.assignable _ _ = true
        rw [hal.assignable]
        exact w3)
    (g := F0 m pc ls (.int n :: .int dp :: .ref a :: .int sp :: .ref b :: stk)) rfl (by rw [C.2.2.1]; exact hz) (rest := stk) rfl (by rw [C.2.1]; exact hd) q1 (by have h9 := nfw; show 2 * 0 + _ + _ ≤ _; omega)
  have hal : a < H.size := (Array.getElem?_eq_some_iff.mp g1).1
  have hfa := Cell.storeRun_facts cd dp.toNatClampNeg (cs.stretch sp.toNatClampNeg n.toNatClampNeg)
  have hR' : RepG s0 G (gcr a b (ix sp) (ix dp) (ix n) σ) (H.setIfInBounds a (copied cs cd sp dp n)) := by
    refine hR.upd (by simp) (fun q hq => by simp [Array.getElem?_setIfInBounds, Ne.symm hq]) hb rfl (fun _ _ => rfl) (fun b h => va_up_ne _ _ h) rfl rfl ⟨fun c2 q9 hc2 hq9 => by have := gcl_lt hq9; omega, fun h => by omega, fun h => by omega, fun _ => ⟨d0, _, by simp [Array.getElem?_setIfInBounds, hal], hfa.1.trans g2, by rw [hfa.2.1]; exact g3, by rw [hfa.2.1]; exact g4, by rw [hfa.2.2.1]; exact g5, fun j hj => ?_⟩, fun h => by omega⟩
    rw [stored_get f6 g6 g5 (by show ix sp + ix n ≤ _; omega) (by show ix dp + ix n ≤ _; omega) hj]
    show some (va_cpy (fun j => va_rf (gr σ b j)) (fun j => va_rf (gr σ a j)) (ix sp) (ix dp) (ix n) j) = some (va_rf (va_up σ.2.2.1 a (va_cpy (σ.2.2.1 b) (σ.2.2.1 a) (ix sp) (ix dp) (ix n)) a j))
    rw [va_up_self]
    unfold va_cpy
    split <;> rfl
  obtain ⟨t, b1, b2⟩ := kw _ _ (fun q hq => by
    obtain ⟨z, -, hz⟩ := List.mem_map.mp hq
    rw [← hz]) hR' ((Ts.setVm vm').setCell a (copied cs cd sp dp n)) (by rw [← hT]; rfl) X'
  exact ⟨t, step t b1, b2⟩
theorem jg_copyb {b : Nat} {r2 : Option Nat} {sp dp n : Int32} (h1 : 1 ≤ lev) (hr : r = some a) (hr2 : r2 = some b) (hk : gk σ a = 102) (hk2 : gk σ b = 102) (hb : G.h0.size ≤ a) (hc : cpok σ b a sp dp n)
    (hq : Cond.methodLink md.y.cls idx arraycopyName ∈ lw_all) (hrm : (stk.map fun v => v.category).sum ≤ 8) (hd : decode md.cc pc = .ok (.invokestatic idx, 3)) (kk : JQ (wP G s0 l K T) md lev st0 (pc + 3) lv stk (gci a b (ix sp) (ix dp) (ix n) σ) Q) : JQ (wP G s0 l K T) md lev st0 pc lv (.int n :: .int dp :: va_rf r :: .int sp :: va_rf r2 :: stk) σ Q := by
  subst hr hr2
  obtain ⟨c1, c2, c3, c4, c5⟩ := hc
  have i1 : (ix sp : Int) = sp.toInt := by show ((sp.toInt.toNat : Nat) : Int) = _; omega
  have i2 : (ix dp : Int) = dp.toInt := by show ((dp.toInt.toNat : Nat) : Int) = _; omega
  have i3 : (ix n : Int) = n.toInt := by show ((n.toInt.toNat : Nat) : Int) = _; omega
  refine jg_doR (a := a) (σ' := gci a b (ix sp) (ix dp) (ix n) σ) h1 rfl rfl rfl (by omega) hb (fun p e R s m args below meth c' H locs cells slots QQ ls ht C hR hz q1 q2 kw => ?_) kk
  have hts := C.2.2.2.2.2.2.2.2.2
  have hW := C.2.2.2.2.2.2.2.2.1
  obtain ⟨cd, g1, g2, g3, g5, g6, g7, g8⟩ := (hR.2.2.2.2 a).2.2.1 hk
  obtain ⟨cs, f1, f2, f3, f5, f6, f7, f8⟩ := (hR.2.2.2.2 b).2.2.1 hk2
  obtain ⟨ga, kd, gk1, cpd, gk2⟩ := isArr_s hW g2
  obtain ⟨fa, ks, fk1, cps, fk2⟩ := isArr_s hW f2
  intro Ts hT X
  obtain ⟨vm', X', step⟩ := X.arraycopy C.1 C.2.2.2.2.2.2.1 (hts _ hq) (hts _ q592) (hts _ q591) (hts _ q137) (src := b) (dst := a) (cs := cs) (cd := cd) (srcPos := sp) (destPos := dp) (n := n) (by rw [hT]; exact f1) (by rw [hT]; exact g1)
    fa ga f3 g3 fk1 gk1 fk2 gk2 rfl (nneg c1) (nneg c2) (nneg c3) (by rw [f5]; omega) (by rw [g5]; omega)
    (fun vm₁ hal i hi => by
      have hlt : ix sp + i < gl σ b := by have : i < ix n := hi; omega
      have e1 : cs.slots.getD (sp.toNatClampNeg + i) .null = .int (gi σ b (ix sp + i)) := by
        rw [Array.getD_eq_getD_getElem?, f6 _ hlt]; rfl
      rw [e1]
      exact ⟨f8 _ hlt, trivial⟩)
    (g := F0 m pc ls (.int n :: .int dp :: .ref a :: .int sp :: .ref b :: stk)) rfl (by rw [C.2.2.1]; exact hz) (rest := stk) rfl (by rw [C.2.1]; exact hd) q1 (by have h9 := nfw; show 2 * 0 + _ + _ ≤ _; omega)
  have hal : a < H.size := (Array.getElem?_eq_some_iff.mp g1).1
  have hfa := Cell.storeRun_facts cd dp.toNatClampNeg (cs.stretch sp.toNatClampNeg n.toNatClampNeg)
  have hia : s0.isArrayOf (copied cs cd sp dp n) .byte := by
    obtain ⟨u1, u2, u3, u4, u5⟩ := g2
    exact ⟨fun k hk => u1 k (hfa.2.1.symm.trans hk), u2, by rw [hfa.1]; exact u3, u4, u5⟩
  have hR' : RepG s0 G (gci a b (ix sp) (ix dp) (ix n) σ) (H.setIfInBounds a (copied cs cd sp dp n)) := by
    refine hR.upd (by simp) (fun q hq => by simp [Array.getElem?_setIfInBounds, Ne.symm hq]) hb rfl (fun b h => va_up_ne _ _ h) (fun _ _ => rfl) rfl rfl ⟨fun c2 q9 hc2 hq9 => by have := gcl_lt hq9; omega, fun h => by omega, fun _ => ⟨_, by simp [Array.getElem?_setIfInBounds, hal], hia, by rw [hfa.2.1]; exact g3, by rw [hfa.2.2.1]; exact g5, fun j hj => ?_, fun h => hfa.1.trans (g7 h), fun j hj => ?_⟩, fun h => by omega, fun h => by omega⟩
    · rw [stored_get f6 g6 g5 (by show ix sp + ix n ≤ _; omega) (by show ix dp + ix n ≤ _; omega) hj]
      show some (va_cpy (fun j => Value.int (gi σ b j)) (fun j => Value.int (gi σ a j)) (ix sp) (ix dp) (ix n) j) = some (Value.int (va_up σ.2.1 a (va_cpy (σ.2.1 b) (σ.2.1 a) (ix sp) (ix dp) (ix n)) a j))
      rw [va_up_self]
      unfold va_cpy
      split <;> rfl
    · show fits .byte (Value.int (va_up σ.2.1 a (va_cpy (σ.2.1 b) (σ.2.1 a) (ix sp) (ix dp) (ix n)) a j)) = true
      rw [va_up_self]
      unfold va_cpy
      split
      · exact f8 _ (by omega)
      · exact g8 _ hj
  obtain ⟨t, b1, b2⟩ := kw _ _ (fun q hq => by
    obtain ⟨z, -, hz⟩ := List.mem_map.mp hq
    rw [← hz]) hR' ((Ts.setVm vm').setCell a (copied cs cd sp dp n)) (by rw [← hT]; rfl) X'
  exact ⟨t, step t b1, b2⟩
/-- a byte array's clone -/
def gcl8 (b : Nat) (σ : GSt) : GSt := gci (gn σ) b 0 0 (gl σ b) (gmk 102 (gl σ b) σ)
theorem jg_clone {b : Nat} (h1 : 1 ≤ lev) (hr : r = some b) (hk : gk σ b = 102) (hb : G.h0.size ≤ b) (hg : groom G (gl σ b) σ) (hq : Cond.methodLink md.y.cls idx ⟨"[B", "clone", "()Ljava/lang/Object;"⟩ ∈ lw_all) (hrm : (stk.map fun v => v.category).sum ≤ 8) (hd : decode md.cc pc = .ok (.invokevirtual idx, 3))
    (kk : JQ (wP G s0 l K T) md lev st0 (pc + 3) lv (va_rf (some (gn σ)) :: stk) (gcl8 b σ) Q) : JQ (wP G s0 l K T) md lev st0 pc lv (va_rf r :: stk) σ Q := by
  subst hr
  intro a0 b0
  have hmk : ∀ x, σ.1 x ≠ 0 → (gcl8 b σ).1 x = σ.1 x := fun x hx => gk_mk (σ := σ) (n := gl σ b) rfl hx
  have a1 : lec (wP G s0 l K T) st0 (gcl8 b σ) := ⟨⟨Nat.le_succ_of_le a0.1.1, Nat.le_trans a0.1.2 (Nat.le_add_right _ _)⟩, fun x hx => by have := a0.2 x hx; exact (hmk x (by have h9 : σ.1 x = st0.1 x := this; rw [h9]; exact hx)).trans this⟩
  have b1 : okc (wP G s0 l K T) (gcl8 b σ) := ⟨hg.1, hg.2.1⟩
  obtain ⟨o, t1, q, r1, r2, r3⟩ := kk a1 b1
  have r1a : gn σ + 1 ≤ gn t1 := r1.1.1
  have r1b : gm σ + gl σ b ≤ gm t1 := r1.1.2
  refine ⟨o, t1, q, ⟨⟨by show gn σ ≤ gn t1; omega, by show gm σ ≤ gm t1; omega⟩, fun x hx => by have h8 := hmk x hx; have := r1.2 x (by show (gcl8 b σ).1 x ≠ 0; rw [h8]; exact hx); exact this.trans h8⟩, r2, fun ht ℓ hℓ p e s m args below meth c' H locs ls C hR hL hl => ?_⟩
  have a0a : gn st0 ≤ gn σ := a0.1.1
  have a0b : gm st0 ≤ gm σ := a0.1.2
  have hts := C.2.2.2.2.2.2.2.2.2
  have hW := C.2.2.2.2.2.2.2.2.1
  obtain ⟨cell, g1, g2, g3, g5, g6, g7, g8⟩ := (hR.2.2.2.2 b).2.2.1 hk
  have hnm : s.vm.findClass "[B" = some cell.cls := by rw [g7 hb, Vm.Alike.findClass hW.alike]; exact ht.2.1.2.2.2
  obtain ⟨c0, t0', f1, f2, f3⟩ := Cond.castable_spec (va_Nw.use (A := args) rfl (g_castable ht hW q585))
  cases hnm.symm.trans f1
  obtain ⟨ga, kd, gk1, cpd, gk2⟩ := isArr_s hW g2
  intro Ts hT X
  obtain ⟨kd', gk1', gke⟩ := X.warmed.alike.2.2 _ _ gk1
  obtain ⟨vm', X', st⟩ := X.cloneArray C.1 C.2.2.2.2.2.2.1 (hts _ hq) (hts _ q581) (hts _ q582) (hts _ q583) (hts _ q584) (a := b) (cell := cell) (by rw [hT]; exact g1) ga g3 hnm f2 f3
    (fun i v hv => by
      have hlt : i < gl σ b := by rw [← g5]; exact (Array.getElem?_eq_some_iff.mp hv).1
      have hv2 := g6 i hlt
      rw [hv] at hv2
      cases hv2
      have hk' : Ts.vm.classes[cell.cls]? = some kd' := gk1'
      have hkind : kd'.kind = .array cpd .byte := by rw [gke]; exact gk2
      simpa [State.fitsSlot, State.slotType?, hk', hkind] using g8 i hlt)
    (g := F0 m pc ls (.ref b :: stk)) rfl (by rw [C.2.2.1]; exact hl.1) rfl (by rw [C.2.1]; exact hd) (by show 1 ≤ ℓ; omega) (by show 2 * 0 + _ + 14 ≤ 64 * ℓ; omega)
    (by show gn σ - gn st0 + 1 ≤ G.cc - gn st0; have := hg.1; omega) (by show gm σ - gm st0 + cell.slots.size ≤ G.cs - gm st0; have := hg.2.1; omega) (hloader := Vm.clonesLoader_of_array gk1 gk2)
  have hn : H.size = gn σ := hR.2.1
  have hR' : RepG s0 G (gcl8 b σ) (H.push { cls := cell.cls, slots := cell.slots }) := by
    have hbn : b ≠ gn σ := fun e => by have := (hR.2.2.1 b (by omega)).1; omega
    have hA := hR.made (t := 0) (n := gl σ b) (H' := H.push { cls := cell.cls, slots := cell.slots }) (by simp) (fun q hq => by rw [Array.getElem?_push, if_neg (Nat.ne_of_lt hq)]) ⟨fun c q h => by omega, fun h => by omega, fun h => by omega, fun h => by omega, fun h => by omega⟩
    obtain ⟨A1, A2, A3, A4, A5⟩ := hA
    refine ⟨A1, A2, fun x hx => ?_, A4, fun x => ?_⟩
    · by_cases hx2 : x = gn σ
      · subst hx2; exact ⟨Nat.lt_succ_self _, fun hm => absurd (hR.2.2.2.1 _ hm) (Nat.lt_irrefl _)⟩
      · refine A3 x ?_
        have e1 : gk (gcl8 b σ) x = gk (gmk 0 (gl σ b) σ) x := by
          show (if σ.1 x = 0 ∧ x = σ.2.2.2.2.1 then 102 else σ.1 x) = (if σ.1 x = 0 ∧ x = σ.2.2.2.2.1 then 0 else σ.1 x)
          rw [if_neg (fun h => hx2 h.2), if_neg (fun h => hx2 h.2)]
        rw [← e1]; exact hx
    · by_cases hx2 : x = gn σ
      · subst hx2
        have e0 : gk (gcl8 b σ) (gn σ) = 102 := gk_new (σ := σ) (n := gl σ b) hg.2.2
        rw [e0]
        refine ⟨fun c q h hq => by have := gcl_lt hq; omega, fun h => by omega, fun _ => ⟨{ cls := cell.cls, slots := cell.slots }, ?_, ?_, (fun h => by cases h), ?_, fun j hj => ?_, fun _ => g7 hb, fun j hj => ?_⟩, fun h => by omega, fun h => by omega⟩
        · rw [← hn]; simp
        · obtain ⟨u1, u2, u3, u4, u5⟩ := g2
          exact ⟨(fun k hk => by cases hk), u2, u3, u4, u5⟩
        · show cell.slots.size = va_up σ.2.2.2.1 (gn σ) (gl σ b) (gn σ)
          rw [va_up_self]; exact g5
        · have hj2 : j < gl σ b := by have : j < va_up σ.2.2.2.1 (gn σ) (gl σ b) (gn σ) := hj; rw [va_up_self] at this; exact this
          show cell.slots[j]? = some (Value.int (va_up (va_up σ.2.1 (gn σ) fun _ => 0) (gn σ) (va_cpy (va_up σ.2.1 (gn σ) (fun _ => 0) b) (va_up σ.2.1 (gn σ) (fun _ => 0) (gn σ)) 0 0 (gl σ b)) (gn σ) j))
          rw [va_up_self, g6 j hj2, va_up_ne _ _ hbn]
          unfold va_cpy
          rw [if_pos ⟨Nat.zero_le _, by omega⟩]
          simp
        · have hj2 : j < gl σ b := by have : j < va_up σ.2.2.2.1 (gn σ) (gl σ b) (gn σ) := hj; rw [va_up_self] at this; exact this
          show fits .byte (Value.int (va_up (va_up σ.2.1 (gn σ) fun _ => 0) (gn σ) (va_cpy (va_up σ.2.1 (gn σ) (fun _ => 0) b) (va_up σ.2.1 (gn σ) (fun _ => 0) (gn σ)) 0 0 (gl σ b)) (gn σ) j)) = true
          rw [va_up_self, va_up_ne _ _ hbn]
          unfold va_cpy
          rw [if_pos ⟨Nat.zero_le _, by omega⟩]
          have := g8 j hj2
          simpa using this
      · have h5 := A5 x
        have e1 : gk (gmk 0 (gl σ b) σ) x = gk (gcl8 b σ) x := by
          show (if σ.1 x = 0 ∧ x = σ.2.2.2.2.1 then 0 else σ.1 x) = (if σ.1 x = 0 ∧ x = σ.2.2.2.2.1 then 102 else σ.1 x)
          rw [if_neg (fun h => hx2 h.2), if_neg (fun h => hx2 h.2)]
        rw [e1] at h5
        have e2 : (gcl8 b σ).2.1 x = (gmk 0 (gl σ b) σ).2.1 x := va_up_ne _ _ hx2
        rw [e2]
        exact h5
  obtain ⟨t, c1, c2⟩ := r3 ht ℓ hℓ p e s m args below meth c' _ locs ls C hR' hL hl ((Ts.setVm vm').pushCell { cls := cell.cls, slots := cell.slots }) (by rw [← hT]; rfl) (by
    have e1 : gn (gcl8 b σ) - gn st0 = gn σ - gn st0 + 1 := by show gn σ + 1 - gn st0 = _; omega
    have e2 : gm (gcl8 b σ) - gm st0 = gm σ - gm st0 + cell.slots.size := by show gm σ + gl σ b - gm st0 = _; omega
    show Stand p l e _ s m args below meth c' _ locs (gn (gcl8 b σ) - gn st0) (gm (gcl8 b σ) - gm st0)
    rw [e1, e2]; exact X')
  refine ⟨t, st t ?_, c2⟩
  rw [hT, hn]
  exact c1
end GNAT
