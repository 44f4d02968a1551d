/-! THE HOUSE's WORLD: rows -/
section GROWS2
variable {G : GPl} {s0 : State} {l : Launch} {X : Prop} {md mdc : MD} {lev : Nat} {st0 σ : GSt} {pc idx : Nat} {lv : List (Option Value)} {stk rest : List Value} {Q : Outcome → GSt → Prop}
theorem gty_of {c j kd : Nat} (h27 : c < 28) (hj : j < (gQ c).2.2) (hk : gK c j = kd) : gkOf (gty c j) = kd := by
  rw [← hk]; exact (gkok (gQ_get h27) j hj).1
theorem gty_int {c j : Nat} (h27 : c < 28) (hj : j < (gQ c).2.2) (hk : gK c j = 0) : gty c j = .int := by
  have := gty_of h27 hj hk
  revert this
  cases gty c j <;> simp [gkOf]
theorem gty_bool {c j : Nat} (h27 : c < 28) (hj : j < (gQ c).2.2) (hk : gK c j = 3) : gty c j = .boolean := by
  have := gty_of h27 hj hk
  revert this
  cases gty c j <;> simp [gkOf]
theorem gty_byte {c j : Nat} (h27 : c < 28) (hj : j < (gQ c).2.2) (hk : gK c j = 2) : gty c j = .byte := by
  have := gty_of h27 hj hk
  revert this
  cases gty c j <;> simp [gkOf]
theorem gty_ref {c j : Nat} (h27 : c < 28) (hj : j < (gQ c).2.2) (hk : gK c j = 1) : (∃ n, gty c j = .object n) ∨ ∃ t, gty c j = .array t := by
  have := gty_of h27 hj hk
  revert this
  cases gty c j <;> simp [gkOf]
theorem ref_narrow {ty : FieldType} (h : (∃ n, ty = .object n) ∨ ∃ t, ty = .array t) (r : Option Nat) : narrow ty (va_rf r) = va_rf r ∧ fits ty (va_rf r) = true := by
  rcases h with ⟨n, rfl⟩ | ⟨t, rfl⟩ <;> cases r <;> exact ⟨rfl, rfl⟩
/-- may the field be written here -/
def GW (md : MD) (c j : Nat) : Prop := ((gQ c).2.1 j).2.2.2 = false ∨ (md.y.name = "<init>" ∧ ((gQ c).2.1 j).1 = md.y.cls)
theorem gpi_val {c j a kd : Nat} {v : Int32} (hk : gK c j = kd) (hkd : kd ≠ 1) : gval c ((gpi a j v σ).2.1 a) ((gpi a j v σ).2.2.1 a) j = .int v := by
  rw [gval_i hk hkd]
  show Value.int (va_up σ.2.1 a (va_up (σ.2.1 a) j v) a j) = _
  rw [va_up_self, va_up_self]
theorem gpi_oth {c j a i : Nat} {v : Int32} (h : i ≠ j) : gval c ((gpi a j v σ).2.1 a) ((gpi a j v σ).2.2.1 a) i = gval c (σ.2.1 a) (σ.2.2.1 a) i := by
  show gval c (va_up σ.2.1 a (va_up (σ.2.1 a) j v) a) (σ.2.2.1 a) i = _
  unfold gval
  rw [va_up_self, va_up_ne _ _ h]
theorem gpr_val {c j a : Nat} {r : Option Nat} (hk : gK c j = 1) : gval c ((gpr a j r σ).2.1 a) ((gpr a j r σ).2.2.1 a) j = va_rf r := by
  rw [gval_r hk]
  show va_rf (va_up σ.2.2.1 a (va_up (σ.2.2.1 a) j r) a j) = _
  rw [va_up_self, va_up_self]
theorem gpr_oth {c j a i : Nat} {r : Option Nat} (h : i ≠ j) : gval c ((gpr a j r σ).2.1 a) ((gpr a j r σ).2.2.1 a) i = gval c (σ.2.1 a) (σ.2.2.1 a) i := by
  show gval c (σ.2.1 a) (va_up σ.2.2.1 a (va_up (σ.2.2.1 a) j r) a) i = _
  unfold gval
  rw [va_up_self, va_up_ne _ _ h]
theorem jg_puti {a c j : Nat} {v : Int32} (hF : GF md.y.cls idx c j 0) (hfin : GW md c j) (hk : gk σ a = c + 1) (hb0 : c ≠ 22 ∨ G.h0.size ≤ a) (hd : decode md.cc pc = .ok (.putfield idx, 3)) (kk : JQ (wG G s0 l X) md lev st0 (pc + 3) lv stk (gpi a j v σ) Q) : JQ (wG G s0 l X) md lev st0 pc lv (.int v :: va_rf (some a) :: stk) σ Q :=
  jg_putv (σ' := gpi a j v σ) hF hfin hk hb0 (by rw [gty_int hF.1 hF.2.1 hF.2.2.1]; rfl) (by rw [gty_int hF.1 hF.2.1 hF.2.2.1]; rfl) rfl (fun b h => va_up_ne _ _ h) (fun _ _ => rfl) rfl (gpi_val hF.2.2.1 (by decide)) (fun i h => gpi_oth h) hd kk
theorem jg_putz {a c j : Nat} {v : Int32} (hF : GF md.y.cls idx c j 3) (hz : isZ v) (hfin : GW md c j) (hk : gk σ a = c + 1) (hb0 : c ≠ 22 ∨ G.h0.size ≤ a) (hd : decode md.cc pc = .ok (.putfield idx, 3)) (kk : JQ (wG G s0 l X) md lev st0 (pc + 3) lv stk (gpi a j v σ) Q) : JQ (wG G s0 l X) md lev st0 pc lv (.int v :: va_rf (some a) :: stk) σ Q :=
  jg_putv (σ' := gpi a j v σ) hF hfin hk hb0 (by rw [gty_bool hF.1 hF.2.1 hF.2.2.1]; exact nz hz) (by rw [gty_bool hF.1 hF.2.1 hF.2.2.1]; rcases hz with rfl | rfl <;> rfl) rfl (fun b h => va_up_ne _ _ h) (fun _ _ => rfl) rfl (gpi_val hF.2.2.1 (by decide)) (fun i h => gpi_oth h) hd kk
theorem jg_putb {a c j : Nat} {v : Int32} (hF : GF md.y.cls idx c j 2) (hz : isZ v) (hfin : GW md c j) (hk : gk σ a = c + 1) (hb0 : c ≠ 22 ∨ G.h0.size ≤ a) (hd : decode md.cc pc = .ok (.putfield idx, 3)) (kk : JQ (wG G s0 l X) md lev st0 (pc + 3) lv stk (gpi a j v σ) Q) : JQ (wG G s0 l X) md lev st0 pc lv (.int v :: va_rf (some a) :: stk) σ Q :=
  jg_putv (σ' := gpi a j v σ) hF hfin hk hb0 (by rw [gty_byte hF.1 hF.2.1 hF.2.2.1]; rcases hz with rfl | rfl <;> rfl) (by rw [gty_byte hF.1 hF.2.1 hF.2.2.1]; rcases hz with rfl | rfl <;> rfl) rfl (fun b h => va_up_ne _ _ h) (fun _ _ => rfl) rfl (gpi_val hF.2.2.1 (by decide)) (fun i h => gpi_oth h) hd kk
theorem jg_putr {a c j : Nat} {r : Option Nat} (hF : GF md.y.cls idx c j 1) (hfin : GW md c j) (hk : gk σ a = c + 1) (hb0 : c ≠ 22 ∨ G.h0.size ≤ a) (hd : decode md.cc pc = .ok (.putfield idx, 3)) (kk : JQ (wG G s0 l X) md lev st0 (pc + 3) lv stk (gpr a j r σ) Q) : JQ (wG G s0 l X) md lev st0 pc lv (va_rf r :: va_rf (some a) :: stk) σ Q :=
  jg_putv (σ' := gpr a j r σ) hF hfin hk hb0 (ref_narrow (gty_ref hF.1 hF.2.1 hF.2.2.1) r).1 (ref_narrow (gty_ref hF.1 hF.2.1 hF.2.2.1) r).2 rfl (fun _ _ => rfl) (fun b h => va_up_ne _ _ h) rfl (gpr_val hF.2.2.1) (fun i h => gpr_oth h) hd kk
/-- room for a cell of n slots -/
def groom (G : GPl) (n : Nat) (σ : GSt) : Prop := gn σ + 1 ≤ G.cc ∧ gm σ + n ≤ G.cs ∧ gk σ (gn σ) = 0
theorem gk_mk {t n a k : Nat} (h : gk σ a = k) (hk : k ≠ 0) : gk (gmk t n σ) a = k := by
  show (if σ.1 a = 0 ∧ a = σ.2.2.2.2.1 then t else σ.1 a) = k
  rw [if_neg (fun q => hk (h.symm.trans q.1))]; exact h
theorem gk_new {t n : Nat} (h : gk σ (gn σ) = 0) : gk (gmk t n σ) (gn σ) = t := if_pos ⟨h, rfl⟩
/-- a row that makes a cell -/
theorem jg_mk {t n pc' : Nat} {stk' : List Value} (hr : groom G n σ)
    (h : ∀ (p : Program) (e : Env) (R : Room) (s : State) (m : MethodId) (args : Array Value) (below : List Frame) (meth : Method) (c : Code) (H : Heap) (locs : List Loc) (cells slots : Nat) (QQ : State → Prop) (ls : Array Slot), okT (wG G s0 l X) → Cx (wG G s0 l X) md p s m args meth c → RepG s0 G σ H → cells + 1 ≤ R.cells → slots + n ≤ R.slots →
      (∀ H' : Heap, H'.size = H.size + 1 → (∀ q, q < H.size → H'[q]? = H[q]?) → gAt s0 G t (fun _ => 0) (fun _ => none) n H' H.size → W p l e R s m args below meth c H' locs (cells + 1) (slots + n) QQ (F0 m pc' ls stk')) → W p l e R s m args below meth c H locs cells slots QQ (F0 m pc ls stk))
    (kk : JQ (wG G s0 l X) md lev st0 pc' lv stk' (gmk t n σ) Q) : JQ (wG G s0 l X) md lev st0 pc lv stk σ Q := by
  intro a0 b0
  have hmk : ∀ x, σ.1 x ≠ 0 → (gmk t n σ).1 x = σ.1 x := fun x hx => gk_mk rfl hx
  have a1 : lec (wG G s0 l X) st0 (gmk t n σ) := ⟨⟨Nat.le_succ_of_le a0.1.1, Nat.le_trans a0.1.2 (Nat.le_add_right _ _)⟩, fun x hx => by have := a0.2 x hx; exact (hmk x (by have h9 : σ.1 x = st0.1 x := this; rw [h9]; exact hx)).trans this⟩
  have b1 : okc (wG G s0 l X) (gmk t n σ) := ⟨hr.1, hr.2.1⟩
  obtain ⟨o, t1, q, r1, r2, r3⟩ := kk a1 b1
  have r1a : gn σ + 1 ≤ gn t1 := r1.1.1
  have r1b : gm σ + n ≤ gm t1 := r1.1.2
  refine ⟨o, t1, q, ⟨⟨by show gn σ ≤ gn t1; omega, by show gm σ ≤ gm t1; omega⟩, fun x hx => by have h8 := hmk x hx; have := r1.2 x (by show (gmk t n σ).1 x ≠ 0; rw [h8]; exact hx); exact this.trans h8⟩, r2, fun ht ℓ hℓ p e s m args below meth c H locs ls C hR hL hl => ?_⟩
  have a0a : gn st0 ≤ gn σ := a0.1.1
  have a0b : gm st0 ≤ gm σ := a0.1.2
  refine h p e _ s m args below meth c H locs _ _ _ ls ht C hR ?_ ?_ (fun H' z1 z2 z3 => ?_)
  · show gn σ - gn st0 + 1 ≤ G.cc - gn st0; have := hr.1; omega
  · show gm σ - gm st0 + n ≤ G.cs - gm st0; have := hr.2.1; omega
  · have := r3 ht ℓ hℓ p e s m args below meth c H' locs ls C (hR.made z1 z2 z3) hL hl
    refine W.cs ?_ ?_ this
    · show gn σ - gn st0 + 1 = gn σ + 1 - gn st0; omega
    · show gm σ - gm st0 + n = gm σ + n - gm st0; omega
theorem g_blank {c j : Nat} {q : vw_C} (hq : gcl[c]? = some q) (hj : j < q.2.2) : defaultValue (gty c j) = gval c (fun _ => 0) (fun _ => none) j := by
  obtain ⟨h1, h2⟩ := gkok hq j hj
  unfold gval
  revert h1 h2
  generalize gK c j = k
  cases gty c j <;> intro h1 h2 <;> subst h1 <;> first | rfl | (exfalso; revert h2; decide)
theorem jg_new {c N : Nat} {C : String} (h27 : c < 28) (hC : (gQ c).1 = C ∧ (gQ c).2.2 = N) (q1 : Cond.classLink md.y.cls idx C ∈ lw_all) (q2 : Cond.instantiable C N ∈ lw_all) (q3 : Cond.initialized C ∈ lw_all) (hr : groom G N σ) (hd : decode md.cc pc = .ok (.new idx, 3)) (kk : JQ (wG G s0 l X) md lev st0 (pc + 3) lv (va_rf (some (gn σ)) :: stk) (gmk (c + 1) N σ) Q) : JQ (wG G s0 l X) md lev st0 pc lv stk σ Q := by
  refine jg_mk hr (fun p e R s m args below meth c' H locs cells slots QQ ls ht Cc hR hce hsl kw => ?_) kk
  have hq := gQ_get h27
  have hW := Cc.2.2.2.2.2.2.2.2.1
  have hts := Cc.2.2.2.2.2.2.2.2.2
  have hKn := u_Kn_moved hW.alike (ht.2.1.1 c _ hq)
  obtain ⟨e1, e2⟩ := hC
  subst e1 e2
  refine W.newcK Cc.1 Cc.2.1 Cc.2.2.2.2.2.2.1 (hts _ q1) (hts _ q2) (hts _ q3) rfl hd hce hsl hKn.2.1 rfl fun H1 kC hkC z1 z2 z3 => ?_
  have hn : H.size = gn σ := hR.2.1
  have hb := u_born (fun k => gty c k) hts (gin hq) hKn hkC z1 (gtyok hq)
  obtain ⟨cell, w1, w2, w3, w4⟩ := hb
  have := kw H1 z2 z3 ⟨fun c2 q9 hc2 hq9 => ?_, fun h => by omega, fun h => by omega, fun h => by omega, fun h => by omega⟩
  · show W p l e R s m args below meth c' H1 locs (cells + 1) (slots + (gQ c).2.2) QQ (F0 m (pc + 3) ls (.ref H.size :: stk))
    rw [hn]; exact this
  · have hcc : c2 = c := by omega
    subst hcc
    have hqq : gQ c2 = q9 := Option.some.inj (hq.symm.trans hq9)
    subst hqq
    exact ⟨fun _ => hR.1.1, cell, w1, w2, (by rw [w3]; exact (fun h => by cases h)), (by rw [w3]; rfl), (fun _ => ⟨w3, by have h9 := Option.some.inj (w1.symm.trans z1); rw [h9]; rfl⟩), (fun j hj => by rw [w4 j hj]; exact congrArg some (g_blank hq hj))⟩
theorem gar_new {cA : ClassId} {s : State} {H : Heap} {a n : Nat} {ty : FieldType} {v : Value} (hW : s0.WarmedH s.vm) (hA : ArrOfT s cA ty) (h : H[a]? = some (arrV cA n (fun _ => v))) : gar s0 H a ty n (fun _ => v) :=
  ⟨_, h, arrOfT_moved (Vm.Alike.symm hW.alike) hA n _, (fun h => by cases h), arrV_size _ _ _, fun j hj => arrV_read _ _ hj⟩
theorem jg_newarr {ty : FieldType} {at_ : ArrayType} {tg n0 : Nat} {n : Int32} (hty : (at_ = .int ∧ ty = .int ∧ tg = 101) ∨ (at_ = .byte ∧ ty = .byte ∧ tg = 102)) (q1 : Cond.arrayClass ty ∈ lw_all) (hn : inr n 200000) (hn0 : n.toInt.toNat = n0) (hr : groom G n0 σ) (hd : decode md.cc pc = .ok (.newarray at_, 2)) (kk : JQ (wG G s0 l X) md lev st0 (pc + 2) lv (va_rf (some (gn σ)) :: stk) (gmk tg n0 σ) Q) : JQ (wG G s0 l X) md lev st0 pc lv (.int n :: stk) σ Q := by
  have hn1 : ¬ n < 0 := fun q => by have := Int32.lt_iff_toInt_lt.mp q; have h0 := hn.1; simp at this; omega
  refine jg_mk hr (fun p e R s m args below meth c' H locs cells slots QQ ls ht Cc hR hce hsl kw => ?_) kk
  have hW := Cc.2.2.2.2.2.2.2.2.1
  have hts := Cc.2.2.2.2.2.2.2.2.2
  have hh : H.size = gn σ := hR.2.1
  have hle : n0 < 200000 := by have := hn.2; omega
  rcases hty with ⟨rfl, rfl, rfl⟩ | ⟨rfl, rfl, rfl⟩
  · refine W.newaK (atype := .int) Cc.1 Cc.2.1 (hts _ q1) rfl hd rfl hn1 hn0 (by show n0 * 4 ≤ _; omega) hce hsl rfl fun H1 cA z1 z2 z3 hA => ?_
    have := kw H1 z2 z3 ⟨fun c2 q9 hc2 hq9 => by have := gcl_lt hq9; omega, fun _ => ⟨hR.1.1, gar_new hW hA z1⟩, fun h => by omega, fun h => by omega, fun h => by omega⟩
    show W p l e R s m args below meth c' H1 locs (cells + 1) (slots + n0) QQ (F0 m (pc + 2) ls (.ref H.size :: stk))
    rw [hh]; exact this
  · refine va_newaK (atype := .byte) Cc.1 Cc.2.1 (hts _ q1) rfl hd rfl hn1 hn0 (by show n0 * 1 ≤ _; omega) hce hsl rfl fun H1 cA z1 z2 z3 hA hNm => ?_
    have hnm : s.vm.findClass "[B" = some cA := hNm
    have hcA : cA = G.dB := by
      have h8 : s.vm.findClass "[B" = some G.dB := by rw [Vm.Alike.findClass hW.alike]; exact ht.2.1.2.2.2
      exact Option.some.inj (hnm.symm.trans h8)
    obtain ⟨cell, y1, y2, y3, y4, y5⟩ := gar_new hW hA z1
    have hcc : cell.cls = G.dB := by
      have := z1.symm.trans y1
      cases this
      exact hcA
    have := kw H1 z2 z3 ⟨fun c2 q9 hc2 hq9 => by have := gcl_lt hq9; omega, fun h => by omega, fun _ => ⟨cell, y1, y2, y3, y4, y5, fun _ => hcc, fun j hj => rfl⟩, fun h => by omega, fun h => by omega⟩
    show W p l e R s m args below meth c' H1 locs (cells + 1) (slots + n0) QQ (F0 m (pc + 2) ls (.ref H.size :: stk))
    rw [hh]; exact this
/-- arrays of references are made -/
theorem jg_anew {C : String} {tg n0 : Nat} {n : Int32} (hty : (C = "java/lang/Object" ∧ tg = 103) ∨ (C = "java/lang/String" ∧ tg = 104)) (q1 : Cond.classLink md.y.cls idx C ∈ lw_all) (q2 : Cond.arrayOver (.object C) ∈ lw_tbl) (hn : inr n 200000) (hn0 : n.toInt.toNat = n0) (hr : groom G n0 σ) (hd : decode md.cc pc = .ok (.anewarray idx, 3)) (kk : JQ (wG G s0 l X) md lev st0 (pc + 3) lv (va_rf (some (gn σ)) :: stk) (gmk tg n0 σ) Q) : JQ (wG G s0 l X) md lev st0 pc lv (.int n :: stk) σ Q := by
  have hn1 : ¬ n < 0 := fun q => by have := Int32.lt_iff_toInt_lt.mp q; have h0 := hn.1; simp at this; omega
  refine jg_mk hr (fun p e R s m args below meth c' H locs cells slots QQ ls ht Cc hR hce hsl kw => ?_) kk
  have hW := Cc.2.2.2.2.2.2.2.2.1
  have hts := Cc.2.2.2.2.2.2.2.2.2
  have hh : H.size = gn σ := hR.2.1
  have hle : n0 < 200000 := by have := hn.2; omega
  have hn2 : n.toNatClampNeg = n0 := hn0
  have hov : (Cond.arrayOver (.object C)).before args s = true := va_AO.use (va_AO.moved hW.alike (va_AO.of (ht.1 _ q2)))
  refine W.anew Cc.1 Cc.2.1 Cc.2.2.2.2.2.2.1 (hts _ q1) hov rfl hd rfl hn1 (by rw [hn2]; omega) hce (by rw [hn2]; exact hsl) fun cA kA comp y1 y2 y3 y4 => ?_
  rw [hn2]
  have hcell : (H.push { cls := cA, slots := Array.replicate n0 Value.null, vm := .none })[H.size]? = some { cls := cA, slots := Array.replicate n0 Value.null, vm := .none } := by simp
  have hzz : (H.push { cls := cA, slots := Array.replicate n0 Value.null, vm := .none } : Heap).size = H.size + 1 := by simp
  have hoo : ∀ q, q < H.size → (H.push { cls := cA, slots := Array.replicate n0 Value.null, vm := .none } : Heap)[q]? = H[q]? := fun q hq => by rw [Array.getElem?_push, if_neg (Nat.ne_of_lt hq)]
  have hcls : ∀ d, gAC s0 d C → cA = d := fun d hd => by
    obtain ⟨_, _, _, _, _, _, _, _, h6⟩ := gAC_moved hW.alike hd
    exact Option.some.inj (y1.symm.trans h6)
  have hgq : ∀ d, cA = d → gaq (H.push { cls := cA, slots := Array.replicate n0 Value.null, vm := .none } : Heap) H.size d n0 (fun _ => va_rf none) := fun d hd =>
    ⟨_, hcell, hd, (fun h => by cases h), rfl, by simp, fun j hj => by simp [hj]; rfl⟩
  rcases hty with ⟨rfl, rfl⟩ | ⟨rfl, rfl⟩
  · have := kw _ hzz hoo ⟨fun c2 q9 hc2 hq9 => by have := gcl_lt hq9; omega, fun h => by omega, fun h => by omega, fun _ => ⟨fun _ => hR.1.1, hgq _ (hcls _ ht.2.1.2.1)⟩, fun h => by omega⟩
    show W p l e R s m args below meth c' _ locs (cells + 1) (slots + n0) QQ (F0 m (pc + 3) ls (.ref H.size :: stk))
    rw [hh]; exact this
  · have := kw _ hzz hoo ⟨fun c2 q9 hc2 hq9 => by have := gcl_lt hq9; omega, fun h => by omega, fun h => by omega, fun h => by omega, fun _ => ⟨hR.1.1, hgq _ (hcls _ ht.2.1.2.2.1)⟩⟩
    show W p l e R s m args below meth c' _ locs (cells + 1) (slots + n0) QQ (F0 m (pc + 3) ls (.ref H.size :: stk))
    rw [hh]; exact this
end GROWS2
