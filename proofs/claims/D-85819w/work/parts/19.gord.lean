/-! an enum constant's ordinal; a class that was seen -/
theorem isA.tag {σ : GSt} {r : Option Nat} {a t : Nat} (h : isA σ r t) (hr : r = some a) : gk σ a = t := by
  obtain ⟨b, e1, e2⟩ := h
  cases hr.symm.trans e1
  exact e2
abbrev mJ11_ordinal : MD := (yJ11_ordinal, cJ11_ordinal, 1, (Option.some Jvm.ClassFile.FieldType.int), [])
theorem cwJ11_ordinal : Cw mJ11_ordinal := ⟨q1342, q130, by decide⟩
section GORD
variable {G : GPl} {s0 : State} {l : Launch} {K : Nat → Option Nat} {T : Nat → Nat} {md mdc : MD} {lev : Nat} {st0 σ : GSt} {pc idx : Nat} {lv : List (Option Value)} {stk rest : List Value} {Q : Outcome → GSt → Prop} {r : Option Nat} {a : Nat}
theorem ord_cq {i : Nat} (hi : i < 8) (hK : K (6 + i) = some a) : CQ (wP G s0 l K T) mJ11_ordinal lev [.ref a] σ (onI (fun r t => r = iI (i : Int) ∧ t = σ) (fun _ _ => False)) := by
  refine CQ.of3 0 (lv := [some (va_rf (some a))]) (by decide) (Nat.le_of_ble_eq_true rfl) (cat1_cons rfl cat1_nil) rfl ?_
  refine j_aload_n (r := some a) dJ11_ordinal_0 rfl ?_
  refine jg_see (stk' := [.int (iI (i : Int))]) (pc' := 4) (fun p e R s m args below meth c' H locs cells slots QQ ls ht C hR kw => ?_) (j_ireturn (ty := .int) rfl rfl dJ11_ordinal_4 ⟨rfl, rfl⟩)
  obtain ⟨b, e1, -, hof⟩ := ht.2.2.2.2.2.2.1 i hi
  cases hK.symm.trans e1
  obtain ⟨cf, kf, fi, f, cell, f1, f2, f3, f4, f5, -⟩ := va_OF.moved C.2.2.2.2.2.2.2.2.1.alike hof
  exact W.getf C.1 C.2.1 C.2.2.2.2.2.2.1 (C.2.2.2.2.2.2.2.2.2 _ q2614) f1 f2 (by rw [hR.1.2 a (Array.getElem?_eq_some_iff.mp f3).1]; exact f3) f4 f5 rfl rfl dJ11_ordinal_1 kw
theorem kg_ord {i : Nat} (hi : i < 8) (hr : r = K (6 + i)) (q : Cond.methodLink md.y.cls idx ⟨"PureHouse$Kind", "ordinal", "()I"⟩ ∈ lw_all) (hd : decode md.cc pc = .ok (.invokevirtual idx, 3)) (h1 : 1 ≤ lev) (hrm : (stk.map fun v => v.category).sum ≤ 8) (hu : md.hh = [] := by rfl) (kk : JQ (wP G s0 l K T) md lev st0 (pc + 3) lv (.int (iI (i : Int)) :: stk) σ Q) : JQ (wP G s0 l K T) md lev st0 pc lv (va_rf r :: stk) σ Q := by
  subst hr
  cases hK : K (6 + i) with
  | none =>
    intro a0 b0
    obtain ⟨o, t, q, r1, r2, r3⟩ := kk a0 b0
    refine ⟨o, t, q, r1, r2, fun ht => ?_⟩
    obtain ⟨b, e1, -⟩ := ht.2.2.2.2.2.2.1 i hi
    cases hK.symm.trans e1
  | some a =>
    refine jg_calli (mdc := mJ11_ordinal) (as := [.ref a]) (rest := stk) ?_ cwJ11_ordinal hrm (by rw [hu]; rfl) hd h1 ((ord_cq hi hK).mono (onI_mono (fun r t h _ => ?_) (fun _ _ h => h.elim)))
    · refine lk_U (C := "PureHouse$Kind") (owner := "java/lang/Enum") (x := ⟨"PureHouse$Kind", "ordinal", "()I"⟩) (As := []) q q1338 (Or.inl q1339) q1340 q1341 ⟨by decide, by decide⟩ (n := 0) (parLen_of (by decide +kernel)) rfl rfl (fun s H ht hW hR => ?_) hd
      obtain ⟨b, e1, ho, -⟩ := ht.2.2.2.2.2.2.1 i hi
      cases hK.symm.trans e1
      obtain ⟨cell, g1, g2, g3, -⟩ := va_O.moved hW.alike ho
      exact ⟨cell, by rw [hR.1.2 a (Array.getElem?_eq_some_iff.mp g1).1]; exact g1, g2, g3⟩
    · obtain ⟨rfl, rfl⟩ := h
      exact kk
end GORD
theorem rm_ok {rest : List Value} (h : ∀ v ∈ rest, v.category = 1) (hn : rest.length ≤ 8) : (rest.map fun v => v.category).sum ≤ 8 := by
  have : ∀ rest : List Value, (∀ v ∈ rest, v.category = 1) → (rest.map fun v => v.category).sum = rest.length := by
    intro rest
    induction rest with
    | nil => intro _; rfl
    | cons a t ih =>
      intro h
      rw [List.map_cons, List.sum_cons, ih (fun v hv => h v (List.mem_cons_of_mem _ hv)), h a List.mem_cons_self, List.length_cons, Nat.add_comm]
  rw [this rest h]; exact hn
