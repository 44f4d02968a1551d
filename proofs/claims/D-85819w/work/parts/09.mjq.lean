/-! THE MODEL's WORLD in JQ -/
/-- a field of the model: what it is, and the entry by which its methods name it -/
def FLD (k kind index : Nat) : Prop := mK k = kind ∧ Cond.fieldLink RX5 index RX5 (TX5 k).2.1 (TX5 k).2.2.1 ∈ lw_all
abbrev wM (P : MPl) (s0 : State) (l : Launch) (X : Prop) : Wd MSt := (RepM P, freeM P, (fun _ => 0), (fun _ => 0), 0, 0, s0, l, (u_Kn s0 RX5 TX5 83 P.cM P.iM ∧ ArrOfT s0 P.cI .int) ∧ P.ok ∧ X, (fun _ _ => 0))
abbrev fI (st : MSt) (k : Nat) : Int32 := st.1 k
abbrev aI (st : MSt) (k : Nat) (i : Int32) : Int32 := st.2 k i.toNatClampNeg
def mst (k : Nat) (i x : Int32) (st : MSt) : MSt := (st.1, va_up st.2 k (upd (st.2 k) i.toNatClampNeg x))
theorem inr_inB {i : Int32} {n : Nat} (h : inr i n) : inB i n = true := by
  have := vp_in_iff.mpr h
  unfold vp_in at this
  unfold inB
  simp only [Bool.and_eq_true, Bool.not_eq_true', decide_eq_false_iff_not, decide_eq_true_eq]
  constructor
  · exact fun q => this (Or.inl q)
  · exact Nat.not_le.mp fun q => this (Or.inr q)
/-- what is known of the words' row, of a text's object, of a constant text -/
def WordArr (P : MPl) (s0 : State) (X : Prop) : Prop := ∀ s : State, s0.WarmedH s.vm → X → ArrOfT s P.cW (.object "java/lang/String")
def StrRecv (P : MPl) (s0 : State) (l : Launch) (X : Prop) (st : MSt) (b : Nat) : Prop := ∀ (s : State) (H : Heap), okT (wM P s0 l X) → s0.WarmedH s.vm → RepM P st H → ∃ cell : Cell, H[b]? = some cell ∧ cell.vm.isStatics = false ∧ s.vm.findClass "java/lang/String" = some cell.cls
def LdcS (s0 : State) (X : Prop) (idx : Nat) (tx : String) (b : Nat) : Prop := ∀ s : State, s0.WarmedH s.vm → X → vk_R RX5 idx tx b s
section MJQ
variable {P : MPl} {s0 : State} {l : Launch} {X : Prop} {md mdc : MD} {lev : Nat} {st0 st : MSt} {pc idx : Nat} {lv : List (Option Value)} {stk rest : List Value} {Q : Outcome → MSt → Prop}
theorem cxM {p : Program} {s : State} {m : MethodId} {args : Array Value} {meth : Method} {c : Code} (C : Cx (wM P s0 l X) md p s m args meth c) (hT : okT (wM P s0 l X)) (hc : md.y.cls = RX5) : CxM P s0 p s m meth c md.cc md.nL md.ret := by
  obtain ⟨h1, h2, h3, h4, h5, h6, h7, h8, h9, h10⟩ := C
  obtain ⟨t1, ⟨t2, t3⟩, t4, t5⟩ := hT
  exact ⟨h1, h2, h3, h4, h5, by rw [← hc]; exact h7, h9, ⟨t1, t2, t3⟩, t4⟩
theorem jm_get {k : Nat} {v : Int32} (hF : FLD k 0 idx) (hc : md.y.cls = RX5) (hv : fI st k = v) (hd : decode md.cc pc = .ok (.getfield idx, 3)) (kk : JQ (wM P s0 l X) md lev st0 (pc + 3) lv (.int v :: stk) st Q) : JQ (wM P s0 l X) md lev st0 pc lv (va_rf (some P.mo) :: stk) st Q := by
  subst hv
  intro a b
  obtain ⟨o, t, q, r1, r2, r3⟩ := kk a b
  refine ⟨o, t, q, r1, r2, fun ht ℓ hℓ p e s m args below meth c H locs ls C hR hL hl => ?_⟩
  exact m_get (cxM C ht hc) hF.1 hR hF.2 hd (r3 ht ℓ hℓ p e s m args below meth c H locs ls C hR hL hl)
theorem jm_getz {k : Nat} {v : Int32} (hF : FLD k 3 idx) (hc : md.y.cls = RX5) (hv : fI st k = v) (hd : decode md.cc pc = .ok (.getfield idx, 3)) (kk : JQ (wM P s0 l X) md lev st0 (pc + 3) lv (.int v :: stk) st Q) : JQ (wM P s0 l X) md lev st0 pc lv (va_rf (some P.mo) :: stk) st Q := by
  subst hv
  intro a b
  obtain ⟨o, t, q, r1, r2, r3⟩ := kk a b
  refine ⟨o, t, q, r1, r2, fun ht ℓ hℓ p e s m args below meth c H locs ls C hR hL hl => ?_⟩
  exact m_getz (cxM C ht hc) hF.1 hR hF.2 hd (r3 ht ℓ hℓ p e s m args below meth c H locs ls C hR hL hl)
theorem jm_geta {k : Nat} (hF : FLD k 1 idx) (hc : md.y.cls = RX5) (hd : decode md.cc pc = .ok (.getfield idx, 3)) (kk : JQ (wM P s0 l X) md lev st0 (pc + 3) lv (va_rf (some (P.ad k)) :: stk) st Q) : JQ (wM P s0 l X) md lev st0 pc lv (va_rf (some P.mo) :: stk) st Q := by
  intro a b
  obtain ⟨o, t, q, r1, r2, r3⟩ := kk a b
  refine ⟨o, t, q, r1, r2, fun ht ℓ hℓ p e s m args below meth c H locs ls C hR hL hl => ?_⟩
  exact m_geta (cxM C ht hc) (Or.inl hF.1) hR hF.2 hd (r3 ht ℓ hℓ p e s m args below meth c H locs ls C hR hL hl)
theorem jm_getw {k : Nat} (hF : FLD k 2 idx) (hc : md.y.cls = RX5) (hd : decode md.cc pc = .ok (.getfield idx, 3)) (kk : JQ (wM P s0 l X) md lev st0 (pc + 3) lv (va_rf (some (P.ad k)) :: stk) st Q) : JQ (wM P s0 l X) md lev st0 pc lv (va_rf (some P.mo) :: stk) st Q := by
  intro a b
  obtain ⟨o, t, q, r1, r2, r3⟩ := kk a b
  refine ⟨o, t, q, r1, r2, fun ht ℓ hℓ p e s m args below meth c H locs ls C hR hL hl => ?_⟩
  exact m_geta (cxM C ht hc) (Or.inr hF.1) hR hF.2 hd (r3 ht ℓ hℓ p e s m args below meth c H locs ls C hR hL hl)
theorem jm_ald {k : Nat} {i v : Int32} (hk : mK k = 1) (hi : inr i (mL k)) (hc : md.y.cls = RX5) (hv : aI st k i = v) (hd : decode md.cc pc = .ok (.iaload, 1)) (kk : JQ (wM P s0 l X) md lev st0 (pc + 1) lv (.int v :: stk) st Q) : JQ (wM P s0 l X) md lev st0 pc lv (.int i :: va_rf (some (P.ad k)) :: stk) st Q := by
  subst hv
  intro a b
  obtain ⟨o, t, q, r1, r2, r3⟩ := kk a b
  refine ⟨o, t, q, r1, r2, fun ht ℓ hℓ p e s m args below meth c H locs ls C hR hL hl => ?_⟩
  exact m_ald (cxM C ht hc) hk hR (v := aI st k i) (by unfold mget; rw [inr_inB hi]; rfl) hd (r3 ht ℓ hℓ p e s m args below meth c H locs ls C hR hL hl)
theorem jm_ast {k : Nat} {i x : Int32} (hk : mK k = 1) (hi : inr i (mL k)) (hc : md.y.cls = RX5) (hd : decode md.cc pc = .ok (.iastore, 1)) (kk : JQ (wM P s0 l X) md lev st0 (pc + 1) lv stk (mst k i x st) Q) : JQ (wM P s0 l X) md lev st0 pc lv (.int x :: .int i :: va_rf (some (P.ad k)) :: stk) st Q := by
  intro a b
  obtain ⟨o, t, q, r1, r2, r3⟩ := kk a b
  refine ⟨o, t, q, r1, r2, fun ht ℓ hℓ p e s m args below meth c H locs ls C hR hL hl => ?_⟩
  exact m_ast (cxM C ht hc) hk hR (st2 := mst k i x st) (by unfold mset; rw [inr_inB hi]; rfl) hd hL (fun H1 locs1 h1 h2 => r3 ht ℓ hℓ p e s m args below meth c H1 locs1 ls C h1 h2 hl)
theorem jm_put {k : Nat} {x : Int32} (hF : FLD k 0 idx) (hc : md.y.cls = RX5) (hd : decode md.cc pc = .ok (.putfield idx, 3)) (kk : JQ (wM P s0 l X) md lev st0 (pc + 3) lv stk (mput k x st) Q) : JQ (wM P s0 l X) md lev st0 pc lv (.int x :: va_rf (some P.mo) :: stk) st Q := by
  intro a b
  obtain ⟨o, t, q, r1, r2, r3⟩ := kk a b
  refine ⟨o, t, q, r1, r2, fun ht ℓ hℓ p e s m args below meth c H locs ls C hR hL hl => ?_⟩
  exact m_put (cxM C ht hc) hF.1 hR hF.2 hd hL (fun H1 locs1 h1 h2 => r3 ht ℓ hℓ p e s m args below meth c H1 locs1 ls C h1 h2 hl)
theorem jm_putz {k : Nat} {x : Int32} (hF : FLD k 3 idx) (hz : isZ x) (hc : md.y.cls = RX5) (hd : decode md.cc pc = .ok (.putfield idx, 3)) (kk : JQ (wM P s0 l X) md lev st0 (pc + 3) lv stk (mput k x st) Q) : JQ (wM P s0 l X) md lev st0 pc lv (.int x :: va_rf (some P.mo) :: stk) st Q := by
  intro a b
  obtain ⟨o, t, q, r1, r2, r3⟩ := kk a b
  refine ⟨o, t, q, r1, r2, fun ht ℓ hℓ p e s m args below meth c H locs ls C hR hL hl => ?_⟩
  exact m_putz (cxM C ht hc) hF.1 hR (st2 := mput k x st) (by unfold mputz; exact if_pos hz) hF.2 hd hL (fun H1 locs1 h1 h2 => r3 ht ℓ hℓ p e s m args below meth c H1 locs1 ls C h1 h2 hl)
/-- the words' row -/
theorem jm_aald {i : Int32} (hi : inr i 9) (hA : WordArr P s0 X) (hd : decode md.cc pc = .ok (.aaload, 1)) (kk : JQ (wM P s0 l X) md lev st0 (pc + 1) lv (va_rf (some (P.wa i.toNatClampNeg)) :: stk) st Q) : JQ (wM P s0 l X) md lev st0 pc lv (.int i :: va_rf (some (P.ad 0)) :: stk) st Q := by
  intro a b
  obtain ⟨o, t, q, r1, r2, r3⟩ := kk a b
  refine ⟨o, t, q, r1, r2, fun ht ℓ hℓ p e s m args below meth c H locs ls C hR hL hl => ?_⟩
  have hin := vp_in_iff.mpr hi
  have hlt : i.toNatClampNeg < 9 := Nat.not_le.mp fun q => hin (Or.inr q)
  exact W.aald (v := .ref (P.wa i.toNatClampNeg)) (ty := .object "java/lang/String") C.1 C.2.1 hR.2.2.2 (hA s C.2.2.2.2.2.2.2.2.1 ht.2.2.2 9 (fun j => .ref (P.wa j))) rfl (fun q => by cases q) (by rw [arrV_size]; exact hin) (by rw [arrV_read _ _ hlt]) rfl rfl hd (r3 ht ℓ hℓ p e s m args below meth c H locs ls C hR hL hl)
/-- calls of the model's own methods -/
def McV (d : MD) (n : Nat) : Prop := d.y.cls = RX5 ∧ Cw d ∧ Cond.instanceMethod d.y ∈ lw_all ∧ Cond.selects RX5 d.y d.y ∈ lw_all ∧ parLen d.y n
def McS (d : MD) (n : Nat) : Prop := d.y.cls = RX5 ∧ Cw d ∧ Cond.static d.y ∈ lw_all ∧ parLen d.y n
theorem jm_lkV {n : Nat} {As : List Value} (K : McV mdc n) (hc : md.y.cls = RX5) (hq : Cond.methodLink RX5 idx mdc.y ∈ lw_all) (hn : As.length = n) (hst : stk = As.reverse ++ va_rf (some P.mo) :: rest) (hd : decode md.cc pc = .ok (.invokevirtual idx, 3)) : Lk (wM P s0 l X) md st pc lv stk rest mdc.y (.ref P.mo :: As) := by
  obtain ⟨k1, k2, k3, k4, k5⟩ := K
  refine lk_V (C := RX5) k2 (by rw [hc]; exact hq) k3 k4 (by rw [k1]; decide) k5 hn hst (fun s H ht hW hR => ?_) hd
  obtain ⟨cell, q1, q2, q3, -⟩ := hR.2.1
  exact ⟨cell, q1, by rw [q3]; rfl, by rw [q2]; exact (u_Kn_moved hW.alike ht.2.1.1).2.1⟩
theorem jm_calli {n : Nat} {As : List Value} (K : McV mdc n) (hc : md.y.cls = RX5) (hq : Cond.methodLink RX5 idx mdc.y ∈ lw_all) (hn : As.length = n) (hst : stk = As.reverse ++ va_rf (some P.mo) :: rest) (hrm : (rest.map fun v => v.category).sum ≤ 8) (hu : md.hh = []) (hd : decode md.cc pc = .ok (.invokevirtual idx, 3)) (h1 : 1 ≤ lev)
    (hC : CQ (wM P s0 l X) mdc (lev - 1) (.ref P.mo :: As) st (onI (fun r t => JQ (wM P s0 l X) md lev st0 (pc + 3) lv (.int r :: rest) t Q) (fun x t => Q (.threw x) t))) : JQ (wM P s0 l X) md lev st0 pc lv stk st Q :=
  JQ.call (jm_lkV K hc hq hn hst hd) K.2.1 h1 hrm (by rw [hu]; rfl) hd (hC.mono (fun o t h _ => afterI (fun _ _ h => h) o t h))
theorem jm_callv {n : Nat} {As : List Value} (K : McV mdc n) (hc : md.y.cls = RX5) (hq : Cond.methodLink RX5 idx mdc.y ∈ lw_all) (hn : As.length = n) (hst : stk = As.reverse ++ va_rf (some P.mo) :: rest) (hrm : (rest.map fun v => v.category).sum ≤ 8) (hu : md.hh = []) (hd : decode md.cc pc = .ok (.invokevirtual idx, 3)) (h1 : 1 ≤ lev)
    (hC : CQ (wM P s0 l X) mdc (lev - 1) (.ref P.mo :: As) st (onV (fun t => JQ (wM P s0 l X) md lev st0 (pc + 3) lv rest t Q) (fun x t => Q (.threw x) t))) : JQ (wM P s0 l X) md lev st0 pc lv stk st Q :=
  JQ.call (jm_lkV K hc hq hn hst hd) K.2.1 h1 hrm (by rw [hu]; rfl) hd (hC.mono (fun o t h _ => afterV (fun _ h => h) o t h))
theorem jm_callSi {n : Nat} {As : List Value} (K : McS mdc n) (hc : md.y.cls = RX5) (hq : Cond.methodLink RX5 idx mdc.y ∈ lw_all) (hn : As.length = n) (hst : stk = As.reverse ++ rest) (hrm : (rest.map fun v => v.category).sum ≤ 8) (hu : md.hh = []) (hd : decode md.cc pc = .ok (.invokestatic idx, 3)) (h1 : 1 ≤ lev)
    (hC : CQ (wM P s0 l X) mdc (lev - 1) As st (onI (fun r t => JQ (wM P s0 l X) md lev st0 (pc + 3) lv (.int r :: rest) t Q) (fun x t => Q (.threw x) t))) : JQ (wM P s0 l X) md lev st0 pc lv stk st Q :=
  JQ.call (lk_S K.2.1 (by rw [hc]; exact hq) K.2.2.1 (by rw [K.1]; decide) K.2.2.2 hn hst hd) K.2.1 h1 hrm (by rw [hu]; rfl) hd (hC.mono (fun o t h _ => afterI (fun _ _ h => h) o t h))
/-- a call of another class's method on the object at b, read alone -/
theorem jm_callX {n b : Nat} {C : String} {As : List Value} (hcw : Cw mdc) (hi : Cond.instanceMethod mdc.y ∈ lw_all) (hs : Cond.selects C mdc.y mdc.y ∈ lw_all) (hy : mdc.y.cls ≠ "java/lang/invoke/MethodHandle" ∧ mdc.y.cls ≠ "java/lang/invoke/VarHandle") (hp : parLen mdc.y n) (hC0 : C = "java/lang/String") (hb : StrRecv P s0 l X st b)
    (hc : md.y.cls = RX5) (hq : Cond.methodLink RX5 idx mdc.y ∈ lw_all) (hn : As.length = n) (hst : stk = As.reverse ++ va_rf (some b) :: rest) (hrm : (rest.map fun v => v.category).sum ≤ 8) (hu : md.hh = []) (hd : decode md.cc pc = .ok (.invokevirtual idx, 3)) (h1 : 1 ≤ lev)
    (hC : CQ (wM P s0 l X) mdc (lev - 1) (.ref b :: As) st (onI (fun r t => JQ (wM P s0 l X) md lev st0 (pc + 3) lv (.int r :: rest) t Q) (fun x t => Q (.threw x) t))) : JQ (wM P s0 l X) md lev st0 pc lv stk st Q :=
  JQ.call (lk_V hcw (by rw [hc]; exact hq) hi hs hy hp hn hst (by rw [hC0]; exact hb) hd) hcw h1 hrm (by rw [hu]; rfl) hd (hC.mono (fun o t h _ => afterI (fun _ _ h => h) o t h))
theorem jm_ldcS {tx : String} {b : Nat} (hx : LdcS s0 X idx tx b) (hc : md.y.cls = RX5) (hd : decode md.cc pc = .ok (.ldc idx, 2)) (kk : JQ (wM P s0 l X) md lev st0 (pc + 2) lv (va_rf (some b) :: stk) st Q) : JQ (wM P s0 l X) md lev st0 pc lv stk st Q := by
  intro a b
  obtain ⟨o, t, q, r1, r2, r3⟩ := kk a b
  refine ⟨o, t, q, r1, r2, fun ht ℓ hℓ p e s m args below meth c H locs ls C hR hL hl => ?_⟩
  exact va_ldcS C.1 C.2.1 (by rw [← hc]; exact C.2.2.2.2.2.2.1) (hx s C.2.2.2.2.2.2.2.2.1 ht.2.2.2) hd (r3 ht ℓ hℓ p e s m args below meth c H locs ls C hR hL hl)
end MJQ
