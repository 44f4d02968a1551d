/-! trees (made by gen/geng.py) -/
set_option maxRecDepth 100000
theorem tX19_init {G : GPl} {s0 : State} {l : Launch} {K : Nat → Option Nat} {T : Nat → Nat} {lev : Nat} {Q : Outcome → GSt → Prop} {a0 : Nat} {x1 : Option Nat} {x2 : Option Nat} {σ : GSt} (h : (gk σ a0 = 17 ∧ Q (.returned none) (gpr a0 1 x2 (gpr a0 0 x1 σ)))) : CQ (wP G s0 l K T) mX19_init (lev + 1) [.ref a0, va_rf x1, va_rf x2] σ Q := by
  refine CQ.of3 0 (lv := [some (va_rf (some a0)), some (va_rf x1), some (va_rf x2)]) (by decide) (Nat.le_of_ble_eq_true rfl) (cat1_cons rfl (cat1_cons (rf_cat _) (cat1_cons (rf_cat _) cat1_nil))) rfl ?_
  refine j_aload_n (r := some a0) dX19_init_0 rfl ?_
  refine jg_objI q1557 q168 q169 (Nat.succ_le_succ (Nat.zero_le _)) (Nat.le_of_ble_eq_true rfl) dX19_init_1 ?_
  refine j_aload_n (r := some a0) dX19_init_4 rfl ?_
  refine j_aload_n (r := x1) dX19_init_5 rfl ?_
  obtain ⟨hk1, h⟩ := h
  refine kg_putr (a := a0) (x := x1) rfl gfX19_7 (Or.inr ⟨rfl, rfl⟩) hk1 (Or.inl (by decide)) dX19_init_6 ?_
  refine j_aload_n (r := some a0) dX19_init_9 rfl ?_
  refine j_aload_n (r := x2) dX19_init_10 rfl ?_
  refine kg_putr (a := a0) (x := x2) rfl gfX19_13 (Or.inr ⟨rfl, rfl⟩) hk1 (Or.inl (by decide)) dX19_init_11 ?_
  exact j_return rfl dX19_init_14 h
abbrev jX19_size_4 (G : GPl) (s0 : State) (l : Launch) (K : Nat → Option Nat) (T : Nat → Nat) (lev : Nat) (st0 : GSt) (Q : Outcome → GSt → Prop) (x0 : Option Nat) (x1 : Int32) (x2 : Option Nat) (σ : GSt) : Prop := JQ (wP G s0 l K T) mX19_size (lev + 1) st0 4 [some (va_rf x0), some (.int x1), some (va_rf x2)] [] σ Q
theorem tX19_size {G : GPl} {s0 : State} {l : Launch} {K : Nat → Option Nat} {T : Nat → Nat} {lev : Nat} {Q : Outcome → GSt → Prop} {x0 : Option Nat} {σ : GSt} (h : jX19_size_4 G s0 l K T lev σ Q x0 (iI 0) x0 σ) : CQ (wP G s0 l K T) mX19_size (lev + 1) [va_rf x0] σ Q := by
  refine CQ.of3 2 (lv := [some (va_rf x0), none, none]) (by decide) (Nat.le_of_ble_eq_true rfl) (cat1_cons (rf_cat _) cat1_nil) rfl ?_
  refine j_iconst (v := iI 0) dX19_size_0 rfl ?_
  refine j_istore_n (lv' := [some (va_rf x0), some (.int (iI 0)), none]) dX19_size_1 (by decide) rfl ?_
  refine j_aload_n (r := x0) dX19_size_2 rfl ?_
  refine j_astore_n (r := x0) (lv' := [some (va_rf x0), some (.int (iI 0)), some (va_rf x0)]) dX19_size_3 (by decide) rfl ?_
  exact h
theorem tX19_size_4 {G : GPl} {s0 : State} {l : Launch} {K : Nat → Option Nat} {T : Nat → Nat} {lev : Nat} {st0 : GSt} {Q : Outcome → GSt → Prop} {x0 : Option Nat} {x1 : Int32} {x2 : Option Nat} {σ : GSt} (h : ((x2 = none → Q (.returned (some (.int x1))) σ) ∧ (∀ a1, x2 = some a1 → (gk σ a1 = 17 ∧ jX19_size_4 G s0 l K T lev st0 Q x0 (x1 + iI 1) (gr σ a1 1) σ)))) : jX19_size_4 G s0 l K T lev st0 Q x0 x1 x2 σ := by
  refine j_aload_n (r := x2) dX19_size_4 rfl ?_
  refine j_ifnull (r := x2) 19 dX19_size_5 (by decide) (fun ea1 => ?_) (fun a1 ea1 => ?_)
  · replace h := h.1 ea1
    refine j_iload_n dX19_size_19 rfl ?_
    exact j_ireturn (ty := .int) rfl rfl dX19_size_20 h
  · replace h := h.2 a1 ea1
    refine j_iinc (lv' := [some (va_rf x0), some (.int (x1 + iI 1)), some (va_rf x2)]) dX19_size_8 rfl (by decide) rfl ?_
    refine j_aload_n (r := x2) dX19_size_11 rfl ?_
    obtain ⟨hk2, h⟩ := h
    refine kg_getr (a := a1) (j := 1) ea1 gfX19_13 hk2 dX19_size_12 ?_
    refine j_astore_n (r := gr σ a1 1) (lv' := [some (va_rf x0), some (.int (x1 + iI 1)), some (va_rf (gr σ a1 1))]) dX19_size_15 (by decide) rfl ?_
    refine j_goto 4 dX19_size_16 (by decide) ?_
    exact h
theorem tX16_init {G : GPl} {s0 : State} {l : Launch} {K : Nat → Option Nat} {T : Nat → Nat} {lev : Nat} {Q : Outcome → GSt → Prop} {a0 : Nat} {x1 : Option Nat} {x2 : Option Nat} {σ : GSt} (h : (gk σ a0 = 14 ∧ Q (.returned none) (gpr a0 1 x2 (gpr a0 0 x1 σ)))) : CQ (wP G s0 l K T) mX16_init (lev + 1) [.ref a0, va_rf x1, va_rf x2] σ Q := by
  refine CQ.of3 0 (lv := [some (va_rf (some a0)), some (va_rf x1), some (va_rf x2)]) (by decide) (Nat.le_of_ble_eq_true rfl) (cat1_cons rfl (cat1_cons (rf_cat _) (cat1_cons (rf_cat _) cat1_nil))) rfl ?_
  refine j_aload_n (r := some a0) dX16_init_0 rfl ?_
  refine jg_objI q1434 q168 q169 (Nat.succ_le_succ (Nat.zero_le _)) (Nat.le_of_ble_eq_true rfl) dX16_init_1 ?_
  refine j_aload_n (r := some a0) dX16_init_4 rfl ?_
  refine j_aload_n (r := x1) dX16_init_5 rfl ?_
  obtain ⟨hk1, h⟩ := h
  refine kg_putr (a := a0) (x := x1) rfl gfX16_7 (Or.inr ⟨rfl, rfl⟩) hk1 (Or.inl (by decide)) dX16_init_6 ?_
  refine j_aload_n (r := some a0) dX16_init_9 rfl ?_
  refine j_aload_n (r := x2) dX16_init_10 rfl ?_
  refine kg_putr (a := a0) (x := x2) rfl gfX16_13 (Or.inr ⟨rfl, rfl⟩) hk1 (Or.inl (by decide)) dX16_init_11 ?_
  exact j_return rfl dX16_init_14 h
theorem tX18_depth {G : GPl} {s0 : State} {l : Launch} {K : Nat → Option Nat} {T : Nat → Nat} {lev : Nat} {Q : Outcome → GSt → Prop} {x0 : Option Nat} {σ : GSt} (h : ((x0 = none → Q (.returned (some (.int (iI 0)))) σ) ∧ (∀ a1, x0 = some a1 → (gk σ a1 = 16 ∧ Q (.returned (some (.int (gi σ a1 2)))) σ)))) : CQ (wP G s0 l K T) mX18_depth (lev + 1) [va_rf x0] σ Q := by
  refine CQ.of3 0 (lv := [some (va_rf x0)]) (by decide) (Nat.le_of_ble_eq_true rfl) (cat1_cons (rf_cat _) cat1_nil) rfl ?_
  refine j_aload_n (r := x0) dX18_depth_0 rfl ?_
  refine j_ifnonnull (r := x0) 8 dX18_depth_1 (by decide) (fun a1 ea1 => ?_) (fun ea1 => ?_)
  · replace h := h.2 a1 ea1
    refine j_aload_n (r := x0) dX18_depth_8 rfl ?_
    obtain ⟨hk2, h⟩ := h
    refine kg_geti (a := a1) (j := 2) ea1 gfX18_17 (by decide) hk2 dX18_depth_9 ?_
    exact j_ireturn (ty := .int) rfl rfl dX18_depth_12 h
  · replace h := h.1 ea1
    refine j_iconst (v := iI 0) dX18_depth_4 rfl ?_
    refine j_goto 12 dX18_depth_5 (by decide) ?_
    exact j_ireturn (ty := .int) rfl rfl dX18_depth_12 h
theorem tX18_init {G : GPl} {s0 : State} {l : Launch} {K : Nat → Option Nat} {T : Nat → Nat} {lev : Nat} {Q : Outcome → GSt → Prop} {a0 : Nat} {x1 : Option Nat} {x2 : Option Nat} {σ : GSt} (h : (gk σ a0 = 16 ∧ ((x2 = none → Q (.returned none) (gpi a0 2 (iI 1) (gpr a0 1 x2 (gpr a0 0 x1 σ)))) ∧ (∀ a2, x2 = some a2 → (gk (gpr a0 1 x2 (gpr a0 0 x1 σ)) a2 = 16 ∧ Q (.returned none) (gpi a0 2 ((gi (gpr a0 1 x2 (gpr a0 0 x1 σ)) a2 2) + (iI 1)) (gpr a0 1 x2 (gpr a0 0 x1 σ)))))))) : CQ (wP G s0 l K T) mX18_init (lev + 1) [.ref a0, va_rf x1, va_rf x2] σ Q := by
  refine CQ.of3 0 (lv := [some (va_rf (some a0)), some (va_rf x1), some (va_rf x2)]) (by decide) (Nat.le_of_ble_eq_true rfl) (cat1_cons rfl (cat1_cons (rf_cat _) (cat1_cons (rf_cat _) cat1_nil))) rfl ?_
  refine j_aload_n (r := some a0) dX18_init_0 rfl ?_
  refine jg_objI q1502 q168 q169 (Nat.succ_le_succ (Nat.zero_le _)) (Nat.le_of_ble_eq_true rfl) dX18_init_1 ?_
  refine j_aload_n (r := some a0) dX18_init_4 rfl ?_
  refine j_aload_n (r := x1) dX18_init_5 rfl ?_
  obtain ⟨hk1, h⟩ := h
  refine kg_putr (a := a0) (x := x1) rfl gfX18_7 (Or.inr ⟨rfl, rfl⟩) hk1 (Or.inl (by decide)) dX18_init_6 ?_
  refine j_aload_n (r := some a0) dX18_init_9 rfl ?_
  refine j_aload_n (r := x2) dX18_init_10 rfl ?_
  refine kg_putr (a := a0) (x := x2) rfl gfX18_13 (Or.inr ⟨rfl, rfl⟩) hk1 (Or.inl (by decide)) dX18_init_11 ?_
  refine j_aload_n (r := some a0) dX18_init_14 rfl ?_
  refine j_aload_n (r := x2) dX18_init_15 rfl ?_
  refine j_ifnonnull (r := x2) 23 dX18_init_16 (by decide) (fun a2 ea2 => ?_) (fun ea2 => ?_)
  · replace h := h.2 a2 ea2
    refine j_aload_n (r := x2) dX18_init_23 rfl ?_
    obtain ⟨hk3, h⟩ := h
    refine kg_geti (a := a2) (j := 2) ea2 gfX18_17 (by decide) hk3 dX18_init_24 ?_
    refine j_iconst (v := iI 1) dX18_init_27 rfl ?_
    refine j_iadd dX18_init_28 ?_
    refine kg_puti (a := a0) rfl gfX18_17 (Or.inr ⟨rfl, rfl⟩) hk1 (Or.inl (by decide)) dX18_init_29 ?_
    exact j_return rfl dX18_init_32 h
  · replace h := h.1 ea2
    refine j_iconst (v := iI 1) dX18_init_19 rfl ?_
    refine j_goto 29 dX18_init_20 (by decide) ?_
    refine kg_puti (a := a0) rfl gfX18_17 (Or.inr ⟨rfl, rfl⟩) hk1 (Or.inl (by decide)) dX18_init_29 ?_
    exact j_return rfl dX18_init_32 h
theorem tX23_init {G : GPl} {s0 : State} {l : Launch} {K : Nat → Option Nat} {T : Nat → Nat} {lev : Nat} {Q : Outcome → GSt → Prop} {a0 : Nat} {x1 : Option Nat} {x2 : Option Nat} {x3 : Int32} {σ : GSt} (h : (gk σ a0 = 21 ∧ Q (.returned none) (gpi a0 2 x3 (gpr a0 1 x2 (gpr a0 0 x1 σ))))) : CQ (wP G s0 l K T) mX23_init (lev + 1) [.ref a0, va_rf x1, va_rf x2, .int x3] σ Q := by
  refine CQ.of3 0 (lv := [some (va_rf (some a0)), some (va_rf x1), some (va_rf x2), some (.int x3)]) (by decide) (Nat.le_of_ble_eq_true rfl) (cat1_cons rfl (cat1_cons (rf_cat _) (cat1_cons (rf_cat _) (cat1_cons rfl cat1_nil)))) rfl ?_
  refine j_aload_n (r := some a0) dX23_init_0 rfl ?_
  refine jg_objI q1744 q168 q169 (Nat.succ_le_succ (Nat.zero_le _)) (Nat.le_of_ble_eq_true rfl) dX23_init_1 ?_
  refine j_aload_n (r := some a0) dX23_init_4 rfl ?_
  refine j_aload_n (r := x1) dX23_init_5 rfl ?_
  obtain ⟨hk1, h⟩ := h
  refine kg_putr (a := a0) (x := x1) rfl gfX23_7 (Or.inr ⟨rfl, rfl⟩) hk1 (Or.inl (by decide)) dX23_init_6 ?_
  refine j_aload_n (r := some a0) dX23_init_9 rfl ?_
  refine j_aload_n (r := x2) dX23_init_10 rfl ?_
  refine kg_putr (a := a0) (x := x2) rfl gfX23_13 (Or.inr ⟨rfl, rfl⟩) hk1 (Or.inl (by decide)) dX23_init_11 ?_
  refine j_aload_n (r := some a0) dX23_init_14 rfl ?_
  refine j_iload_n dX23_init_15 rfl ?_
  refine kg_puti (a := a0) rfl gfX23_17 (Or.inr ⟨rfl, rfl⟩) hk1 (Or.inl (by decide)) dX23_init_16 ?_
  exact j_return rfl dX23_init_19 h
theorem tX7_init {G : GPl} {s0 : State} {l : Launch} {K : Nat → Option Nat} {T : Nat → Nat} {lev : Nat} {Q : Outcome → GSt → Prop} {a0 : Nat} {x1 : Option Nat} {x2 : Int32} {σ : GSt} (h : (groom G 3 σ ∧ (gk (gmk 104 3 σ) a0 = 6 ∧ (groom G 3 (gpr a0 2 (some (gn σ)) (gmk 104 3 σ)) ∧ Q (.returned none) (gpi a0 1 x2 (gpr a0 0 x1 (gpr a0 3 (some (gn (gpr a0 2 (some (gn σ)) (gmk 104 3 σ)))) (gmk 101 3 (gpr a0 2 (some (gn σ)) (gmk 104 3 σ)))))))))) : CQ (wP G s0 l K T) mX7_init (lev + 1) [.ref a0, va_rf x1, .int x2] σ Q := by
  refine CQ.of3 0 (lv := [some (va_rf (some a0)), some (va_rf x1), some (.int x2)]) (by decide) (Nat.le_of_ble_eq_true rfl) (cat1_cons rfl (cat1_cons (rf_cat _) (cat1_cons rfl cat1_nil))) rfl ?_
  refine j_aload_n (r := some a0) dX7_init_0 rfl ?_
  refine jg_objI q947 q168 q169 (Nat.succ_le_succ (Nat.zero_le _)) (Nat.le_of_ble_eq_true rfl) dX7_init_1 ?_
  refine j_aload_n (r := some a0) dX7_init_4 rfl ?_
  refine j_iconst (v := iI 3) dX7_init_5 rfl ?_
  obtain ⟨hg1, h⟩ := h
  refine jg_anew (n0 := 3) (Or.inr ⟨rfl, rfl⟩) q948 q177 ⟨by decide, by decide⟩ (by decide) hg1 dX7_init_6 ?_
  have hk2 := gk_new (t := 104) (n := 3) hg1.2.2
  obtain ⟨hk3, h⟩ := h
  refine kg_putr (a := a0) (x := some (gn σ)) rfl gfX7_9 (Or.inr ⟨rfl, rfl⟩) hk3 (Or.inl (by decide)) dX7_init_9 ?_
  refine j_aload_n (r := some a0) dX7_init_12 rfl ?_
  refine j_iconst (v := iI 3) dX7_init_13 rfl ?_
  obtain ⟨hg4, h⟩ := h
  refine jg_newarr (n0 := 3) (Or.inl ⟨rfl, rfl, rfl⟩) q198 ⟨by decide, by decide⟩ (by decide) hg4 dX7_init_14 ?_
  replace hk2 := gk_mk (t := 101) (n := 3) hk2 (by decide)
  replace hk3 := gk_mk (t := 101) (n := 3) hk3 (by decide)
  have hk5 := gk_new (t := 101) (n := 3) hg4.2.2
  refine kg_putr (a := a0) (x := some (gn (gpr a0 2 (some (gn σ)) (gmk 104 3 σ)))) rfl gfX7_15 (Or.inr ⟨rfl, rfl⟩) hk3 (Or.inl (by decide)) dX7_init_16 ?_
  refine j_aload_n (r := some a0) dX7_init_19 rfl ?_
  refine j_aload_n (r := x1) dX7_init_20 rfl ?_
  refine kg_putr (a := a0) (x := x1) rfl gfX7_19 (Or.inr ⟨rfl, rfl⟩) hk3 (Or.inl (by decide)) dX7_init_21 ?_
  refine j_aload_n (r := some a0) dX7_init_24 rfl ?_
  refine j_iload_n dX7_init_25 rfl ?_
  refine kg_puti (a := a0) rfl gfX7_23 (Or.inr ⟨rfl, rfl⟩) hk3 (Or.inl (by decide)) dX7_init_26 ?_
  exact j_return rfl dX7_init_29 h
theorem tX2_init {G : GPl} {s0 : State} {l : Launch} {K : Nat → Option Nat} {T : Nat → Nat} {lev : Nat} {Q : Outcome → GSt → Prop} {a0 : Nat} {σ : GSt} (h : (groom G 8 σ ∧ (gk (gmk 104 8 σ) a0 = 2 ∧ (groom G 8 (gpr a0 0 (some (gn σ)) (gmk 104 8 σ)) ∧ (groom G 64 (gpr a0 1 (some (gn (gpr a0 0 (some (gn σ)) (gmk 104 8 σ)))) (gmk 101 8 (gpr a0 0 (some (gn σ)) (gmk 104 8 σ)))) ∧ Q (.returned none) (gpr a0 2 (some (gn (gpr a0 1 (some (gn (gpr a0 0 (some (gn σ)) (gmk 104 8 σ)))) (gmk 101 8 (gpr a0 0 (some (gn σ)) (gmk 104 8 σ)))))) (gmk 101 64 (gpr a0 1 (some (gn (gpr a0 0 (some (gn σ)) (gmk 104 8 σ)))) (gmk 101 8 (gpr a0 0 (some (gn σ)) (gmk 104 8 σ))))))))))) : CQ (wP G s0 l K T) mX2_init (lev + 1) [.ref a0] σ Q := by
  refine CQ.of3 0 (lv := [some (va_rf (some a0))]) (by decide) (Nat.le_of_ble_eq_true rfl) (cat1_cons rfl cat1_nil) rfl ?_
  refine j_aload_n (r := some a0) dX2_init_0 rfl ?_
  refine jg_objI q175 q168 q169 (Nat.succ_le_succ (Nat.zero_le _)) (Nat.le_of_ble_eq_true rfl) dX2_init_1 ?_
  refine j_aload_n (r := some a0) dX2_init_4 rfl ?_
  refine j_bipush (v := iI 8) dX2_init_5 rfl ?_
  obtain ⟨hg1, h⟩ := h
  refine jg_anew (n0 := 8) (Or.inr ⟨rfl, rfl⟩) q176 q177 ⟨by decide, by decide⟩ (by decide) hg1 dX2_init_7 ?_
  have hk2 := gk_new (t := 104) (n := 8) hg1.2.2
  obtain ⟨hk3, h⟩ := h
  refine kg_putr (a := a0) (x := some (gn σ)) rfl gfX2_11 (Or.inr ⟨rfl, rfl⟩) hk3 (Or.inl (by decide)) dX2_init_10 ?_
  refine j_aload_n (r := some a0) dX2_init_13 rfl ?_
  refine j_bipush (v := iI 8) dX2_init_14 rfl ?_
  obtain ⟨hg4, h⟩ := h
  refine jg_newarr (n0 := 8) (Or.inl ⟨rfl, rfl, rfl⟩) q198 ⟨by decide, by decide⟩ (by decide) hg4 dX2_init_16 ?_
  replace hk2 := gk_mk (t := 101) (n := 8) hk2 (by decide)
  replace hk3 := gk_mk (t := 101) (n := 8) hk3 (by decide)
  have hk5 := gk_new (t := 101) (n := 8) hg4.2.2
  refine kg_putr (a := a0) (x := some (gn (gpr a0 0 (some (gn σ)) (gmk 104 8 σ)))) rfl gfX2_17 (Or.inr ⟨rfl, rfl⟩) hk3 (Or.inl (by decide)) dX2_init_18 ?_
  refine j_aload_n (r := some a0) dX2_init_21 rfl ?_
  refine j_bipush (v := iI 64) dX2_init_22 rfl ?_
  obtain ⟨hg6, h⟩ := h
  refine jg_newarr (n0 := 64) (Or.inl ⟨rfl, rfl, rfl⟩) q198 ⟨by decide, by decide⟩ (by decide) hg6 dX2_init_24 ?_
  replace hk2 := gk_mk (t := 101) (n := 64) hk2 (by decide)
  replace hk3 := gk_mk (t := 101) (n := 64) hk3 (by decide)
  replace hk5 := gk_mk (t := 101) (n := 64) hk5 (by decide)
  have hk7 := gk_new (t := 101) (n := 64) hg6.2.2
  refine kg_putr (a := a0) (x := some (gn (gpr a0 1 (some (gn (gpr a0 0 (some (gn σ)) (gmk 104 8 σ)))) (gmk 101 8 (gpr a0 0 (some (gn σ)) (gmk 104 8 σ)))))) rfl gfX2_21 (Or.inr ⟨rfl, rfl⟩) hk3 (Or.inl (by decide)) dX2_init_26 ?_
  exact j_return rfl dX2_init_29 h
abbrev jX2_corner_51 (G : GPl) (s0 : State) (l : Launch) (K : Nat → Option Nat) (T : Nat → Nat) (lev : Nat) (st0 : GSt) (Q : Outcome → GSt → Prop) (a0 : Nat) (x1 : Int32) (σ : GSt) : Prop := JQ (wP G s0 l K T) mX2_corner (lev + 1) st0 51 [some (va_rf (some a0)), some (.int x1)] [] σ Q
abbrev jX2_corner_65 (G : GPl) (s0 : State) (l : Launch) (K : Nat → Option Nat) (T : Nat → Nat) (lev : Nat) (st0 : GSt) (Q : Outcome → GSt → Prop) (a0 : Nat) (x1 : Int32) (σ : GSt) : Prop := JQ (wP G s0 l K T) mX2_corner (lev + 1) st0 65 [some (va_rf (some a0)), some (.int x1)] [] σ Q
theorem tX2_corner {G : GPl} {s0 : State} {l : Launch} {K : Nat → Option Nat} {T : Nat → Nat} {lev : Nat} {Q : Outcome → GSt → Prop} {a0 : Nat} {x1 : Int32} {σ : GSt} (h : (gk σ a0 = 2 ∧ (CQ (wP G s0 l K T) mX2_clear lev (.ref a0 :: []) σ (onV (fun t2 => gle σ t2 → ((x1 = (iI 8) → Q (.returned none) t2) ∧ (¬ x1 = (iI 8) → (CQ (wP G s0 l K T) mX2_add lev (.ref a0 :: [va_rf (some (T 2))]) t2 (onV (fun t4 => gle t2 t4 → (CQ (wP G s0 l K T) mX2_add lev (.ref a0 :: [va_rf (some (T 3))]) t4 (onV (fun t6 => gle t4 t6 → (∃ a8, gr t6 a0 1 = some a8 ∧ (gk t6 a8 = 101 ∧ (inr (iI 0) (gl t6 a8) ∧ (∃ a11, gr (gpi a8 (ix (iI 0)) (iI 1) t6) a0 2 = some a11 ∧ (gk (gpi a8 (ix (iI 0)) (iI 1) t6) a11 = 101 ∧ (inr (iI 0) (gl (gpi a8 (ix (iI 0)) (iI 1) t6) a11) ∧ (((x1 &&& (iI 1)) = 0 → jX2_corner_51 G s0 l K T lev σ Q a0 x1 (gpi a11 (ix (iI 0)) (iI 0) (gpi a8 (ix (iI 0)) (iI 1) t6))) ∧ (¬ (x1 &&& (iI 1)) = 0 → (∃ a14, gr (gpi a11 (ix (iI 0)) (iI 0) (gpi a8 (ix (iI 0)) (iI 1) t6)) a0 2 = some a14 ∧ (gk (gpi a11 (ix (iI 0)) (iI 0) (gpi a8 (ix (iI 0)) (iI 1) t6)) a14 = 101 ∧ (inr (iI 8) (gl (gpi a11 (ix (iI 0)) (iI 0) (gpi a8 (ix (iI 0)) (iI 1) t6)) a14) ∧ jX2_corner_51 G s0 l K T lev σ Q a0 x1 (gpi a14 (ix (iI 8)) (iI 0) (gpi a11 (ix (iI 0)) (iI 0) (gpi a8 (ix (iI 0)) (iI 1) t6))))))))))))))) (fun x t => gle t4 t → Q (.threw x) t)))) (fun x t => gle t2 t → Q (.threw x) t)))))) (fun x t => gle σ t → Q (.threw x) t))))) : CQ (wP G s0 l K T) mX2_corner (lev + 1) [.ref a0, .int x1] σ Q := by
  refine CQ.of3 0 (lv := [some (va_rf (some a0)), some (.int x1)]) (by decide) (Nat.le_of_ble_eq_true rfl) (cat1_cons rfl (cat1_cons rfl cat1_nil)) rfl ?_
  refine j_aload_n (r := some a0) dX2_corner_0 rfl ?_
  obtain ⟨hk1, h⟩ := h
  refine jg_callv (rest := []) (kg_lkV (As := []) (a := a0) (c := 1) kgX2_clear_1 (by decide) rfl hk1 q314 rfl rfl dX2_corner_1) cwX2_clear (Nat.le_of_ble_eq_true rfl) rfl dX2_corner_1 (Nat.succ_le_succ (Nat.zero_le _)) (h.mono (onV_mono (fun t2 h hlt2 => ?_) (fun _ _ h => h)))
  replace h := h hlt2
  replace hk1 := hlt2.tag hk1 (by decide)
  refine j_iload_n dX2_corner_4 rfl ?_
  refine j_bipush (v := iI 8) dX2_corner_5 rfl ?_
  refine j_icmp_ne 11 dX2_corner_7 (by decide) (fun c18 => ?_) (fun c18 => ?_)
  · replace h := h.2 c18
    refine j_aload_n (r := some a0) dX2_corner_11 rfl ?_
    refine jg_ldcS (i := 2) rfl rfl dX2_corner_12 ?_
    refine jg_callv (rest := []) (kg_lkV (As := [va_rf (some (T 2))]) (a := a0) (c := 1) kgX2_add_1 (by decide) rfl hk1 q319 rfl rfl dX2_corner_14) cwX2_add (Nat.le_of_ble_eq_true rfl) rfl dX2_corner_14 (Nat.succ_le_succ (Nat.zero_le _)) (h.mono (onV_mono (fun t4 h hlt4 => ?_) (fun _ _ h => h)))
    replace h := h hlt4
    replace hk1 := hlt4.tag hk1 (by decide)
    refine j_aload_n (r := some a0) dX2_corner_17 rfl ?_
    refine jg_ldcS (i := 3) rfl rfl dX2_corner_18 ?_
    refine jg_callv (rest := []) (kg_lkV (As := [va_rf (some (T 3))]) (a := a0) (c := 1) kgX2_add_1 (by decide) rfl hk1 q319 rfl rfl dX2_corner_20) cwX2_add (Nat.le_of_ble_eq_true rfl) rfl dX2_corner_20 (Nat.succ_le_succ (Nat.zero_le _)) (h.mono (onV_mono (fun t6 h hlt6 => ?_) (fun _ _ h => h)))
    replace h := h hlt6
    replace hk1 := hlt6.tag hk1 (by decide)
    refine j_aload_n (r := some a0) dX2_corner_23 rfl ?_
    refine kg_getr (a := a0) (j := 1) rfl gfX2_17 hk1 dX2_corner_24 ?_
    refine j_iconst (v := iI 0) dX2_corner_27 rfl ?_
    refine j_iconst (v := iI 1) dX2_corner_28 rfl ?_
    obtain ⟨a8, ea8, hk9, hi10, h⟩ := h
    refine kg_ast (a := a8) ea8 hk9 hi10 dX2_corner_29 ?_
    refine j_aload_n (r := some a0) dX2_corner_30 rfl ?_
    refine kg_getr (a := a0) (j := 2) rfl gfX2_21 hk1 dX2_corner_31 ?_
    refine j_iconst (v := iI 0) dX2_corner_34 rfl ?_
    refine j_iconst (v := iI 0) dX2_corner_35 rfl ?_
    obtain ⟨a11, ea11, hk12, hi13, h⟩ := h
    refine kg_ast (a := a11) ea11 hk12 hi13 dX2_corner_36 ?_
    refine j_iload_n dX2_corner_37 rfl ?_
    refine j_iconst (v := iI 1) dX2_corner_38 rfl ?_
    refine j_iand dX2_corner_39 ?_
    refine j_if_eq 51 dX2_corner_40 (by decide) (fun c17 => ?_) (fun c17 => ?_)
    · replace h := h.1 c17
      exact h
    · replace h := h.2 c17
      refine j_aload_n (r := some a0) dX2_corner_43 rfl ?_
      refine kg_getr (a := a0) (j := 2) rfl gfX2_21 hk1 dX2_corner_44 ?_
      refine j_bipush (v := iI 8) dX2_corner_47 rfl ?_
      refine j_iconst (v := iI 0) dX2_corner_49 rfl ?_
      obtain ⟨a14, ea14, hk15, hi16, h⟩ := h
      refine kg_ast (a := a14) ea14 hk15 hi16 dX2_corner_50 ?_
      exact h
  · replace h := h.1 c18
    exact j_return rfl dX2_corner_10 h
theorem tX2_corner_51 {G : GPl} {s0 : State} {l : Launch} {K : Nat → Option Nat} {T : Nat → Nat} {lev : Nat} {st0 : GSt} {Q : Outcome → GSt → Prop} {a0 : Nat} {x1 : Int32} {σ : GSt} (h : (((x1 &&& (iI 2)) = 0 → jX2_corner_65 G s0 l K T lev st0 Q a0 x1 σ) ∧ (¬ (x1 &&& (iI 2)) = 0 → (gk σ a0 = 2 ∧ (∃ a2, gr σ a0 2 = some a2 ∧ (gk σ a2 = 101 ∧ (inr (iI 9) (gl σ a2) ∧ jX2_corner_65 G s0 l K T lev st0 Q a0 x1 (gpi a2 (ix (iI 9)) (iI 1) σ)))))))) : jX2_corner_51 G s0 l K T lev st0 Q a0 x1 σ := by
  refine j_iload_n dX2_corner_51 rfl ?_
  refine j_iconst (v := iI 2) dX2_corner_52 rfl ?_
  refine j_iand dX2_corner_53 ?_
  refine j_if_eq 65 dX2_corner_54 (by decide) (fun c5 => ?_) (fun c5 => ?_)
  · replace h := h.1 c5
    exact h
  · replace h := h.2 c5
    refine j_aload_n (r := some a0) dX2_corner_57 rfl ?_
    obtain ⟨hk1, h⟩ := h
    refine kg_getr (a := a0) (j := 2) rfl gfX2_21 hk1 dX2_corner_58 ?_
    refine j_bipush (v := iI 9) dX2_corner_61 rfl ?_
    refine j_iconst (v := iI 1) dX2_corner_63 rfl ?_
    obtain ⟨a2, ea2, hk3, hi4, h⟩ := h
    refine kg_ast (a := a2) ea2 hk3 hi4 dX2_corner_64 ?_
    exact h
theorem tX2_corner_65 {G : GPl} {s0 : State} {l : Launch} {K : Nat → Option Nat} {T : Nat → Nat} {lev : Nat} {st0 : GSt} {Q : Outcome → GSt → Prop} {a0 : Nat} {x1 : Int32} {σ : GSt} (h : (((x1 &&& (iI 4)) = 0 → Q (.returned none) σ) ∧ (¬ (x1 &&& (iI 4)) = 0 → (gk σ a0 = 2 ∧ (∃ a2, gr σ a0 2 = some a2 ∧ (gk σ a2 = 101 ∧ (inr (iI 1) (gl σ a2) ∧ Q (.returned none) (gpi a2 (ix (iI 1)) (iI 1) σ)))))))) : jX2_corner_65 G s0 l K T lev st0 Q a0 x1 σ := by
  refine j_iload_n dX2_corner_65 rfl ?_
  refine j_iconst (v := iI 4) dX2_corner_66 rfl ?_
  refine j_iand dX2_corner_67 ?_
  refine j_if_eq 78 dX2_corner_68 (by decide) (fun c5 => ?_) (fun c5 => ?_)
  · replace h := h.1 c5
    exact j_return rfl dX2_corner_78 h
  · replace h := h.2 c5
    refine j_aload_n (r := some a0) dX2_corner_71 rfl ?_
    obtain ⟨hk1, h⟩ := h
    refine kg_getr (a := a0) (j := 2) rfl gfX2_21 hk1 dX2_corner_72 ?_
    refine j_iconst (v := iI 1) dX2_corner_75 rfl ?_
    refine j_iconst (v := iI 1) dX2_corner_76 rfl ?_
    obtain ⟨a2, ea2, hk3, hi4, h⟩ := h
    refine kg_ast (a := a2) ea2 hk3 hi4 dX2_corner_77 ?_
    exact j_return rfl dX2_corner_78 h
abbrev jX2_clear_7 (G : GPl) (s0 : State) (l : Launch) (K : Nat → Option Nat) (T : Nat → Nat) (lev : Nat) (st0 : GSt) (Q : Outcome → GSt → Prop) (a0 : Nat) (x1 : Int32) (σ : GSt) : Prop := JQ (wP G s0 l K T) mX2_clear (lev + 1) st0 7 [some (va_rf (some a0)), some (.int x1)] [] σ Q
abbrev jX2_clear_28 (G : GPl) (s0 : State) (l : Launch) (K : Nat → Option Nat) (T : Nat → Nat) (lev : Nat) (st0 : GSt) (Q : Outcome → GSt → Prop) (a0 : Nat) (x1 : Int32) (σ : GSt) : Prop := JQ (wP G s0 l K T) mX2_clear (lev + 1) st0 28 [some (va_rf (some a0)), some (.int x1)] [] σ Q
theorem tX2_clear {G : GPl} {s0 : State} {l : Launch} {K : Nat → Option Nat} {T : Nat → Nat} {lev : Nat} {Q : Outcome → GSt → Prop} {a0 : Nat} {σ : GSt} (h : (gk σ a0 = 2 ∧ jX2_clear_7 G s0 l K T lev σ Q a0 (iI 0) (gpi a0 3 (iI 0) σ))) : CQ (wP G s0 l K T) mX2_clear (lev + 1) [.ref a0] σ Q := by
  refine CQ.of3 1 (lv := [some (va_rf (some a0)), none]) (by decide) (Nat.le_of_ble_eq_true rfl) (cat1_cons rfl cat1_nil) rfl ?_
  refine j_aload_n (r := some a0) dX2_clear_0 rfl ?_
  refine j_iconst (v := iI 0) dX2_clear_1 rfl ?_
  obtain ⟨hk1, h⟩ := h
  refine kg_puti (a := a0) rfl gfX2_24 (Or.inl rfl) hk1 (Or.inl (by decide)) dX2_clear_2 ?_
  refine j_iconst (v := iI 0) dX2_clear_5 rfl ?_
  refine j_istore_n (lv' := [some (va_rf (some a0)), some (.int (iI 0))]) dX2_clear_6 (by decide) rfl ?_
  exact h
theorem tX2_clear_7 {G : GPl} {s0 : State} {l : Launch} {K : Nat → Option Nat} {T : Nat → Nat} {lev : Nat} {st0 : GSt} {Q : Outcome → GSt → Prop} {a0 : Nat} {x1 : Int32} {σ : GSt} (h : (((iI 8) ≤ x1 → jX2_clear_28 G s0 l K T lev st0 Q a0 (iI 0) σ) ∧ (¬ (iI 8) ≤ x1 → (gk σ a0 = 2 ∧ (∃ a2, gr σ a0 1 = some a2 ∧ (gk σ a2 = 101 ∧ (inr x1 (gl σ a2) ∧ jX2_clear_7 G s0 l K T lev st0 Q a0 (x1 + iI 1) (gpi a2 (ix x1) (iI (-1)) σ)))))))) : jX2_clear_7 G s0 l K T lev st0 Q a0 x1 σ := by
  refine j_iload_n dX2_clear_7 rfl ?_
  refine j_bipush (v := iI 8) dX2_clear_8 rfl ?_
  refine j_icmp_ge 26 dX2_clear_10 (by decide) (fun c5 => ?_) (fun c5 => ?_)
  · replace h := h.1 c5
    refine j_iconst (v := iI 0) dX2_clear_26 rfl ?_
    refine j_istore_n (lv' := [some (va_rf (some a0)), some (.int (iI 0))]) dX2_clear_27 (by decide) rfl ?_
    exact h
  · replace h := h.2 c5
    refine j_aload_n (r := some a0) dX2_clear_13 rfl ?_
    obtain ⟨hk1, h⟩ := h
    refine kg_getr (a := a0) (j := 1) rfl gfX2_17 hk1 dX2_clear_14 ?_
    refine j_iload_n dX2_clear_17 rfl ?_
    refine j_iconst (v := iI (-1)) dX2_clear_18 rfl ?_
    obtain ⟨a2, ea2, hk3, hi4, h⟩ := h
    refine kg_ast (a := a2) ea2 hk3 hi4 dX2_clear_19 ?_
    refine j_iinc (lv' := [some (va_rf (some a0)), some (.int (x1 + iI 1))]) dX2_clear_20 rfl (by decide) rfl ?_
    refine j_goto 7 dX2_clear_23 (by decide) ?_
    exact h
theorem tX2_clear_28 {G : GPl} {s0 : State} {l : Launch} {K : Nat → Option Nat} {T : Nat → Nat} {lev : Nat} {st0 : GSt} {Q : Outcome → GSt → Prop} {a0 : Nat} {x1 : Int32} {σ : GSt} (h : (((iI 64) ≤ x1 → Q (.returned none) σ) ∧ (¬ (iI 64) ≤ x1 → (gk σ a0 = 2 ∧ (∃ a2, gr σ a0 2 = some a2 ∧ (gk σ a2 = 101 ∧ (inr x1 (gl σ a2) ∧ jX2_clear_28 G s0 l K T lev st0 Q a0 (x1 + iI 1) (gpi a2 (ix x1) (iI (-1)) σ)))))))) : jX2_clear_28 G s0 l K T lev st0 Q a0 x1 σ := by
  refine j_iload_n dX2_clear_28 rfl ?_
  refine j_bipush (v := iI 64) dX2_clear_29 rfl ?_
  refine j_icmp_ge 47 dX2_clear_31 (by decide) (fun c5 => ?_) (fun c5 => ?_)
  · replace h := h.1 c5
    exact j_return rfl dX2_clear_47 h
  · replace h := h.2 c5
    refine j_aload_n (r := some a0) dX2_clear_34 rfl ?_
    obtain ⟨hk1, h⟩ := h
    refine kg_getr (a := a0) (j := 2) rfl gfX2_21 hk1 dX2_clear_35 ?_
    refine j_iload_n dX2_clear_38 rfl ?_
    refine j_iconst (v := iI (-1)) dX2_clear_39 rfl ?_
    obtain ⟨a2, ea2, hk3, hi4, h⟩ := h
    refine kg_ast (a := a2) ea2 hk3 hi4 dX2_clear_40 ?_
    refine j_iinc (lv' := [some (va_rf (some a0)), some (.int (x1 + iI 1))]) dX2_clear_41 rfl (by decide) rfl ?_
    refine j_goto 28 dX2_clear_44 (by decide) ?_
    exact h
theorem tX2_add {G : GPl} {s0 : State} {l : Launch} {K : Nat → Option Nat} {T : Nat → Nat} {lev : Nat} {Q : Outcome → GSt → Prop} {a0 : Nat} {x1 : Option Nat} {σ : GSt} (h : (gk σ a0 = 2 ∧ (∃ a2, gr σ a0 0 = some a2 ∧ (gk σ a2 = 104 ∧ (inr (gi σ a0 3) (gl σ a2) ∧ (stOK σ x1 "java/lang/String" ∧ Q (.returned none) (gpi a0 3 ((gi (gpr a2 (ix (gi σ a0 3)) x1 σ) a0 3) + (iI 1)) (gpr a2 (ix (gi σ a0 3)) x1 σ)))))))) : CQ (wP G s0 l K T) mX2_add (lev + 1) [.ref a0, va_rf x1] σ Q := by
  refine CQ.of3 0 (lv := [some (va_rf (some a0)), some (va_rf x1)]) (by decide) (Nat.le_of_ble_eq_true rfl) (cat1_cons rfl (cat1_cons (rf_cat _) cat1_nil)) rfl ?_
  refine j_aload_n (r := some a0) dX2_add_0 rfl ?_
  obtain ⟨hk1, h⟩ := h
  refine kg_getr (a := a0) (j := 0) rfl gfX2_11 hk1 dX2_add_1 ?_
  refine j_aload_n (r := some a0) dX2_add_4 rfl ?_
  refine kg_geti (a := a0) (j := 3) rfl gfX2_24 (by decide) hk1 dX2_add_5 ?_
  refine j_aload_n (r := x1) dX2_add_8 rfl ?_
  obtain ⟨a2, ea2, hk3, hi4, hs5, h⟩ := h
  refine kg_aast (a := a2) (x := x1) (C := "java/lang/String") ea2 hk3 (by decide) hi4 hs5 dX2_add_9 ?_
  refine j_aload_n (r := some a0) dX2_add_10 rfl ?_
  refine j_dup dX2_add_11 rfl ?_
  refine kg_geti (a := a0) (j := 3) rfl gfX2_24 (by decide) hk1 dX2_add_12 ?_
  refine j_iconst (v := iI 1) dX2_add_15 rfl ?_
  refine j_iadd dX2_add_16 ?_
  refine kg_puti (a := a0) rfl gfX2_24 (Or.inl rfl) hk1 (Or.inl (by decide)) dX2_add_17 ?_
  exact j_return rfl dX2_add_20 h
abbrev jX2_find_2 (G : GPl) (s0 : State) (l : Launch) (K : Nat → Option Nat) (T : Nat → Nat) (lev : Nat) (st0 : GSt) (Q : Outcome → GSt → Prop) (a0 : Nat) (x1 : Option Nat) (x2 : Int32) (σ : GSt) : Prop := JQ (wP G s0 l K T) mX2_find (lev + 1) st0 2 [some (va_rf (some a0)), some (va_rf x1), some (.int x2)] [] σ Q
theorem tX2_find {G : GPl} {s0 : State} {l : Launch} {K : Nat → Option Nat} {T : Nat → Nat} {lev : Nat} {Q : Outcome → GSt → Prop} {a0 : Nat} {x1 : Option Nat} {σ : GSt} (h : jX2_find_2 G s0 l K T lev σ Q a0 x1 (iI 0) σ) : CQ (wP G s0 l K T) mX2_find (lev + 1) [.ref a0, va_rf x1] σ Q := by
  refine CQ.of3 1 (lv := [some (va_rf (some a0)), some (va_rf x1), none]) (by decide) (Nat.le_of_ble_eq_true rfl) (cat1_cons rfl (cat1_cons (rf_cat _) cat1_nil)) rfl ?_
  refine j_iconst (v := iI 0) dX2_find_0 rfl ?_
  refine j_istore_n (lv' := [some (va_rf (some a0)), some (va_rf x1), some (.int (iI 0))]) dX2_find_1 (by decide) rfl ?_
  exact h
theorem tX2_find_2 {G : GPl} {s0 : State} {l : Launch} {K : Nat → Option Nat} {T : Nat → Nat} {lev : Nat} {st0 : GSt} {Q : Outcome → GSt → Prop} {a0 : Nat} {x1 : Option Nat} {x2 : Int32} {σ : GSt} (h : (gk σ a0 = 2 ∧ (((gi σ a0 3) ≤ x2 → Q (.returned (some (.int (iI (-1))))) σ) ∧ (¬ (gi σ a0 3) ≤ x2 → (∃ a2, gr σ a0 0 = some a2 ∧ (gk σ a2 = 104 ∧ (inr x2 (gl σ a2) ∧ (∃ a5, gr σ a2 (ix x2) = some a5 ∧ (gk σ a5 = 23 ∧ (CQ (wP G s0 l K T) mJ3_equals lev (.ref a5 :: [va_rf x1]) σ (onI (fun r8 t7 => gle σ t7 → ((r8 = 0 → jX2_find_2 G s0 l K T lev st0 Q a0 x1 (x2 + iI 1) t7) ∧ (¬ r8 = 0 → Q (.returned (some (.int x2))) t7))) (fun x t => gle σ t → Q (.threw x) t)))))))))))) : jX2_find_2 G s0 l K T lev st0 Q a0 x1 x2 σ := by
  refine j_iload_n dX2_find_2 rfl ?_
  refine j_aload_n (r := some a0) dX2_find_3 rfl ?_
  obtain ⟨hk1, h⟩ := h
  refine kg_geti (a := a0) (j := 3) rfl gfX2_24 (by decide) hk1 dX2_find_4 ?_
  refine j_icmp_ge 31 dX2_find_7 (by decide) (fun c10 => ?_) (fun c10 => ?_)
  · replace h := h.1 c10
    refine j_iconst (v := iI (-1)) dX2_find_31 rfl ?_
    exact j_ireturn (ty := .int) rfl rfl dX2_find_32 h
  · replace h := h.2 c10
    refine j_aload_n (r := some a0) dX2_find_10 rfl ?_
    refine kg_getr (a := a0) (j := 0) rfl gfX2_11 hk1 dX2_find_11 ?_
    refine j_iload_n dX2_find_14 rfl ?_
    obtain ⟨a2, ea2, hk3, hi4, h⟩ := h
    refine kg_aald (a := a2) ea2 hk3 (by decide) hi4 dX2_find_15 ?_
    refine j_aload_n (r := x1) dX2_find_16 rfl ?_
    obtain ⟨a5, ea5, hk6, h⟩ := h
    refine jg_calli (rest := []) (kg_lkV (As := [va_rf x1]) (a := a5) (c := 22) kgJ3_equals_22 (by decide) rfl hk6 q1353 rfl (by rw [ea5]; rfl) dX2_find_17) cwJ3_equals (Nat.le_of_ble_eq_true rfl) rfl dX2_find_17 (Nat.succ_le_succ (Nat.zero_le _)) (h.mono (onI_mono (fun r8 t7 h hlt7 => ?_) (fun _ _ h => h)))
    replace h := h hlt7
    replace hk1 := hlt7.tag hk1 (by decide)
    replace hk3 := hlt7.tag hk3 (by decide)
    replace hk6 := hlt7.tag hk6 (by decide)
    refine j_if_eq 25 dX2_find_20 (by decide) (fun c9 => ?_) (fun c9 => ?_)
    · replace h := h.1 c9
      refine j_iinc (lv' := [some (va_rf (some a0)), some (va_rf x1), some (.int (x2 + iI 1))]) dX2_find_25 rfl (by decide) rfl ?_
      refine j_goto 2 dX2_find_28 (by decide) ?_
      exact h
    · replace h := h.2 c9
      refine j_iload_n dX2_find_23 rfl ?_
      exact j_ireturn (ty := .int) rfl rfl dX2_find_24 h
theorem tX2_rule {G : GPl} {s0 : State} {l : Launch} {K : Nat → Option Nat} {T : Nat → Nat} {lev : Nat} {Q : Outcome → GSt → Prop} {a0 : Nat} {x1 : Int32} {x2 : Int32} {σ : GSt} (h : (gk σ a0 = 2 ∧ (∃ a2, gr σ a0 2 = some a2 ∧ (gk σ a2 = 101 ∧ (inr (((iI 8) * x1) + x2) (gl σ a2) ∧ Q (.returned (some (.int (gi σ a2 (ix (((iI 8) * x1) + x2)))))) σ))))) : CQ (wP G s0 l K T) mX2_rule (lev + 1) [.ref a0, .int x1, .int x2] σ Q := by
  refine CQ.of3 0 (lv := [some (va_rf (some a0)), some (.int x1), some (.int x2)]) (by decide) (Nat.le_of_ble_eq_true rfl) (cat1_cons rfl (cat1_cons rfl (cat1_cons rfl cat1_nil))) rfl ?_
  refine j_aload_n (r := some a0) dX2_rule_0 rfl ?_
  obtain ⟨hk1, h⟩ := h
  refine kg_getr (a := a0) (j := 2) rfl gfX2_21 hk1 dX2_rule_1 ?_
  refine j_bipush (v := iI 8) dX2_rule_4 rfl ?_
  refine j_iload_n dX2_rule_6 rfl ?_
  refine j_imul dX2_rule_7 ?_
  refine j_iload_n dX2_rule_8 rfl ?_
  refine j_iadd dX2_rule_9 ?_
  obtain ⟨a2, ea2, hk3, hi4, h⟩ := h
  refine kg_ald (a := a2) ea2 hk3 hi4 dX2_rule_10 ?_
  exact j_ireturn (ty := .int) rfl rfl dX2_rule_11 h
theorem tX2_axiom {G : GPl} {s0 : State} {l : Launch} {K : Nat → Option Nat} {T : Nat → Nat} {lev : Nat} {Q : Outcome → GSt → Prop} {a0 : Nat} {x1 : Int32} {σ : GSt} (h : ((x1 = (iI (-1)) → Q (.returned (some (.int (iI (-1))))) σ) ∧ (¬ x1 = (iI (-1)) → (gk σ a0 = 2 ∧ (∃ a2, gr σ a0 1 = some a2 ∧ (gk σ a2 = 101 ∧ (inr x1 (gl σ a2) ∧ Q (.returned (some (.int (gi σ a2 (ix x1))))) σ))))))) : CQ (wP G s0 l K T) mX2_axiom (lev + 1) [.ref a0, .int x1] σ Q := by
  refine CQ.of3 0 (lv := [some (va_rf (some a0)), some (.int x1)]) (by decide) (Nat.le_of_ble_eq_true rfl) (cat1_cons rfl (cat1_cons rfl cat1_nil)) rfl ?_
  refine j_iload_n dX2_axiom_0 rfl ?_
  refine j_iconst (v := iI (-1)) dX2_axiom_1 rfl ?_
  refine j_icmp_ne 9 dX2_axiom_2 (by decide) (fun c5 => ?_) (fun c5 => ?_)
  · replace h := h.2 c5
    refine j_aload_n (r := some a0) dX2_axiom_9 rfl ?_
    obtain ⟨hk1, h⟩ := h
    refine kg_getr (a := a0) (j := 1) rfl gfX2_17 hk1 dX2_axiom_10 ?_
    refine j_iload_n dX2_axiom_13 rfl ?_
    obtain ⟨a2, ea2, hk3, hi4, h⟩ := h
    refine kg_ald (a := a2) ea2 hk3 hi4 dX2_axiom_14 ?_
    exact j_ireturn (ty := .int) rfl rfl dX2_axiom_15 h
  · replace h := h.1 c5
    refine j_iconst (v := iI (-1)) dX2_axiom_5 rfl ?_
    refine j_goto 15 dX2_axiom_6 (by decide) ?_
    exact j_ireturn (ty := .int) rfl rfl dX2_axiom_15 h
abbrev jX2_count_4 (G : GPl) (s0 : State) (l : Launch) (K : Nat → Option Nat) (T : Nat → Nat) (lev : Nat) (st0 : GSt) (Q : Outcome → GSt → Prop) (a0 : Nat) (x1 : Option Nat) (x2 : Int32) (x3 : Int32) (σ : GSt) : Prop := JQ (wP G s0 l K T) mX2_count (lev + 1) st0 4 [some (va_rf (some a0)), some (va_rf x1), some (.int x2), some (.int x3)] [] σ Q
theorem tX2_count {G : GPl} {s0 : State} {l : Launch} {K : Nat → Option Nat} {T : Nat → Nat} {lev : Nat} {Q : Outcome → GSt → Prop} {a0 : Nat} {x1 : Option Nat} {σ : GSt} (h : jX2_count_4 G s0 l K T lev σ Q a0 x1 (iI 0) (iI 0) σ) : CQ (wP G s0 l K T) mX2_count (lev + 1) [.ref a0, va_rf x1] σ Q := by
  refine CQ.of3 2 (lv := [some (va_rf (some a0)), some (va_rf x1), none, none]) (by decide) (Nat.le_of_ble_eq_true rfl) (cat1_cons rfl (cat1_cons (rf_cat _) cat1_nil)) rfl ?_
  refine j_iconst (v := iI 0) dX2_count_0 rfl ?_
  refine j_istore_n (lv' := [some (va_rf (some a0)), some (va_rf x1), some (.int (iI 0)), none]) dX2_count_1 (by decide) rfl ?_
  refine j_iconst (v := iI 0) dX2_count_2 rfl ?_
  refine j_istore_n (lv' := [some (va_rf (some a0)), some (va_rf x1), some (.int (iI 0)), some (.int (iI 0))]) dX2_count_3 (by decide) rfl ?_
  exact h
theorem tX2_count_4 {G : GPl} {s0 : State} {l : Launch} {K : Nat → Option Nat} {T : Nat → Nat} {lev : Nat} {st0 : GSt} {Q : Outcome → GSt → Prop} {a0 : Nat} {x1 : Option Nat} {x2 : Int32} {x3 : Int32} {σ : GSt} (h : (∃ a1, x1 = some a1 ∧ (gk σ a1 = 101 ∧ (((iI (gl σ a1 : Int)) ≤ x3 → Q (.returned (some (.int x2))) σ) ∧ (¬ (iI (gl σ a1 : Int)) ≤ x3 → (inr x3 (gl σ a1) ∧ (((gi σ a1 (ix x3)) = (iI (-1)) → jX2_count_4 G s0 l K T lev st0 Q a0 x1 (x2 + (iI 0)) (x3 + iI 1) σ) ∧ (¬ (gi σ a1 (ix x3)) = (iI (-1)) → jX2_count_4 G s0 l K T lev st0 Q a0 x1 (x2 + (iI 1)) (x3 + iI 1) σ)))))))) : jX2_count_4 G s0 l K T lev st0 Q a0 x1 x2 x3 σ := by
  refine j_iload_n dX2_count_4 rfl ?_
  refine j_aload_n (r := x1) dX2_count_5 rfl ?_
  obtain ⟨a1, ea1, hk2, h⟩ := h
  refine kg_alen (a := a1) ea1 hk2 (by decide) dX2_count_6 ?_
  refine j_icmp_ge 31 dX2_count_7 (by decide) (fun c5 => ?_) (fun c5 => ?_)
  · replace h := h.1 c5
    refine j_iload_n dX2_count_31 rfl ?_
    exact j_ireturn (ty := .int) rfl rfl dX2_count_32 h
  · replace h := h.2 c5
    refine j_iload_n dX2_count_10 rfl ?_
    refine j_aload_n (r := x1) dX2_count_11 rfl ?_
    refine j_iload_n dX2_count_12 rfl ?_
    obtain ⟨hi3, h⟩ := h
    refine kg_ald (a := a1) ea1 hk2 hi3 dX2_count_13 ?_
    refine j_iconst (v := iI (-1)) dX2_count_14 rfl ?_
    refine j_icmp_eq 22 dX2_count_15 (by decide) (fun c4 => ?_) (fun c4 => ?_)
    · replace h := h.1 c4
      refine j_iconst (v := iI 0) dX2_count_22 rfl ?_
      refine j_iadd dX2_count_23 ?_
      refine j_istore_n (lv' := [some (va_rf (some a0)), some (va_rf x1), some (.int (x2 + (iI 0))), some (.int x3)]) dX2_count_24 (by decide) rfl ?_
      refine j_iinc (lv' := [some (va_rf (some a0)), some (va_rf x1), some (.int (x2 + (iI 0))), some (.int (x3 + iI 1))]) dX2_count_25 rfl (by decide) rfl ?_
      refine j_goto 4 dX2_count_28 (by decide) ?_
      exact h
    · replace h := h.2 c4
      refine j_iconst (v := iI 1) dX2_count_18 rfl ?_
      refine j_goto 23 dX2_count_19 (by decide) ?_
      refine j_iadd dX2_count_23 ?_
      refine j_istore_n (lv' := [some (va_rf (some a0)), some (va_rf x1), some (.int (x2 + (iI 1))), some (.int x3)]) dX2_count_24 (by decide) rfl ?_
      refine j_iinc (lv' := [some (va_rf (some a0)), some (va_rf x1), some (.int (x2 + (iI 1))), some (.int (x3 + iI 1))]) dX2_count_25 rfl (by decide) rfl ?_
      refine j_goto 4 dX2_count_28 (by decide) ?_
      exact h
theorem tX9_init {G : GPl} {s0 : State} {l : Launch} {K : Nat → Option Nat} {T : Nat → Nat} {lev : Nat} {Q : Outcome → GSt → Prop} {a0 : Nat} {σ : GSt} (h : (isTmA σ a0 ∧ Q (.returned none) (gpi a0 1 (iI (-1)) (gpi a0 0 (iI (-1)) σ)))) : CQ (wP G s0 l K T) mX9_init (lev + 1) [.ref a0] σ Q := by
  refine CQ.of3 0 (lv := [some (va_rf (some a0))]) (by decide) (Nat.le_of_ble_eq_true rfl) (cat1_cons rfl cat1_nil) rfl ?_
  refine j_aload_n (r := some a0) dX9_init_0 rfl ?_
  refine jg_objI q1035 q168 q169 (Nat.succ_le_succ (Nat.zero_le _)) (Nat.le_of_ble_eq_true rfl) dX9_init_1 ?_
  refine j_aload_n (r := some a0) dX9_init_4 rfl ?_
  refine j_iconst (v := iI (-1)) dX9_init_5 rfl ?_
  obtain ⟨hm1, h⟩ := h
  refine kg_putT (j := 0) (a := a0) (by decide) rfl flX9_9 hm1 dX9_init_6 ?_
  refine j_aload_n (r := some a0) dX9_init_9 rfl ?_
  refine j_iconst (v := iI (-1)) dX9_init_10 rfl ?_
  refine kg_putT (j := 1) (a := a0) (by decide) rfl flX9_15 hm1 dX9_init_11 ?_
  exact j_return rfl dX9_init_14 h
theorem tX20_goes {G : GPl} {s0 : State} {l : Launch} {K : Nat → Option Nat} {T : Nat → Nat} {lev : Nat} {Q : Outcome → GSt → Prop} {a0 : Nat} {x1 : Option Nat} {σ : GSt} (h : Q (.returned (some (.int (iI 0)))) σ) : CQ (wP G s0 l K T) mX20_goes (lev + 1) [.ref a0, va_rf x1] σ Q := by
  refine CQ.of3 0 (lv := [some (va_rf (some a0)), some (va_rf x1)]) (by decide) (Nat.le_of_ble_eq_true rfl) (cat1_cons rfl (cat1_cons (rf_cat _) cat1_nil)) rfl ?_
  refine j_iconst (v := iI 0) dX20_goes_0 rfl ?_
  exact j_ireturn (ty := .boolean) rfl rfl dX20_goes_1 h
theorem tX20_init {G : GPl} {s0 : State} {l : Launch} {K : Nat → Option Nat} {T : Nat → Nat} {lev : Nat} {Q : Outcome → GSt → Prop} {a0 : Nat} {x1 : Int32} {x2 : Int32} {σ : GSt} (h : (CQ (wP G s0 l K T) mX9_init lev (.ref a0 :: []) σ (onV (fun t1 => gle σ t1 → (gk t1 a0 = 18 ∧ Q (.returned none) (gpi a0 3 x2 (gpi a0 2 x1 t1)))) (fun x t => gle σ t → Q (.threw x) t)))) : CQ (wP G s0 l K T) mX20_init (lev + 1) [.ref a0, .int x1, .int x2] σ Q := by
  refine CQ.of3 0 (lv := [some (va_rf (some a0)), some (.int x1), some (.int x2)]) (by decide) (Nat.le_of_ble_eq_true rfl) (cat1_cons rfl (cat1_cons rfl (cat1_cons rfl cat1_nil))) rfl ?_
  refine j_aload_n (r := some a0) dX20_init_0 rfl ?_
  refine jg_callv (rest := []) (kg_lkI (As := []) (a := a0) kiX9_init (Or.inr ⟨_, q1592⟩) rfl rfl dX20_init_1) cwX9_init (Nat.le_of_ble_eq_true rfl) rfl dX20_init_1 (Nat.succ_le_succ (Nat.zero_le _)) (h.mono (onV_mono (fun t1 h hlt1 => ?_) (fun _ _ h => h)))
  replace h := h hlt1
  refine j_aload_n (r := some a0) dX20_init_4 rfl ?_
  refine j_iload_n dX20_init_5 rfl ?_
  obtain ⟨hk3, h⟩ := h
  refine kg_puti (a := a0) rfl gfX20_7 (Or.inr ⟨rfl, rfl⟩) hk3 (Or.inl (by decide)) dX20_init_6 ?_
  refine j_aload_n (r := some a0) dX20_init_9 rfl ?_
  refine j_iload_n dX20_init_10 rfl ?_
  refine kg_puti (a := a0) rfl gfX20_13 (Or.inr ⟨rfl, rfl⟩) hk3 (Or.inl (by decide)) dX20_init_11 ?_
  exact j_return rfl dX20_init_14 h
theorem tX11_init {G : GPl} {s0 : State} {l : Launch} {K : Nat → Option Nat} {T : Nat → Nat} {lev : Nat} {Q : Outcome → GSt → Prop} {a0 : Nat} {x1 : Option Nat} {σ : GSt} (h : (CQ (wP G s0 l K T) mX9_init lev (.ref a0 :: []) σ (onV (fun t1 => gle σ t1 → (gk t1 a0 = 9 ∧ Q (.returned none) (gpr a0 2 x1 t1))) (fun x t => gle σ t → Q (.threw x) t)))) : CQ (wP G s0 l K T) mX11_init (lev + 1) [.ref a0, va_rf x1] σ Q := by
  refine CQ.of3 0 (lv := [some (va_rf (some a0)), some (va_rf x1)]) (by decide) (Nat.le_of_ble_eq_true rfl) (cat1_cons rfl (cat1_cons (rf_cat _) cat1_nil)) rfl ?_
  refine j_aload_n (r := some a0) dX11_init_0 rfl ?_
  refine jg_callv (rest := []) (kg_lkI (As := []) (a := a0) kiX9_init (Or.inr ⟨_, q1164⟩) rfl rfl dX11_init_1) cwX9_init (Nat.le_of_ble_eq_true rfl) rfl dX11_init_1 (Nat.succ_le_succ (Nat.zero_le _)) (h.mono (onV_mono (fun t1 h hlt1 => ?_) (fun _ _ h => h)))
  replace h := h hlt1
  refine j_aload_n (r := some a0) dX11_init_4 rfl ?_
  refine j_aload_n (r := x1) dX11_init_5 rfl ?_
  obtain ⟨hk3, h⟩ := h
  refine kg_putr (a := a0) (x := x1) rfl gfX11_7 (Or.inr ⟨rfl, rfl⟩) hk3 (Or.inl (by decide)) dX11_init_6 ?_
  exact j_return rfl dX11_init_9 h
theorem tX11_goes {G : GPl} {s0 : State} {l : Launch} {K : Nat → Option Nat} {T : Nat → Nat} {lev : Nat} {Q : Outcome → GSt → Prop} {a0 : Nat} {x1 : Option Nat} {σ : GSt} (h : Q (.returned (some (.int (iI 0)))) σ) : CQ (wP G s0 l K T) mX11_goes (lev + 1) [.ref a0, va_rf x1] σ Q := by
  refine CQ.of3 0 (lv := [some (va_rf (some a0)), some (va_rf x1)]) (by decide) (Nat.le_of_ble_eq_true rfl) (cat1_cons rfl (cat1_cons (rf_cat _) cat1_nil)) rfl ?_
  refine j_iconst (v := iI 0) dX11_goes_0 rfl ?_
  exact j_ireturn (ty := .boolean) rfl rfl dX11_goes_1 h
theorem tX17_of {G : GPl} {s0 : State} {l : Launch} {K : Nat → Option Nat} {T : Nat → Nat} {lev : Nat} {Q : Outcome → GSt → Prop} {x0 : Option Nat} {σ : GSt} (h : ((x0 = none → Q (.returned (some (va_rf none))) σ) ∧ (∀ a1, x0 = some a1 → (gk σ a1 = 15 ∧ Q (.returned (some (va_rf (gr σ a1 0)))) σ)))) : CQ (wP G s0 l K T) mX17_of (lev + 1) [va_rf x0] σ Q := by
  refine CQ.of3 0 (lv := [some (va_rf x0)]) (by decide) (Nat.le_of_ble_eq_true rfl) (cat1_cons (rf_cat _) cat1_nil) rfl ?_
  refine j_aload_n (r := x0) dX17_of_0 rfl ?_
  refine j_ifnonnull (r := x0) 8 dX17_of_1 (by decide) (fun a1 ea1 => ?_) (fun ea1 => ?_)
  · replace h := h.2 a1 ea1
    refine j_aload_n (r := x0) dX17_of_8 rfl ?_
    obtain ⟨hk2, h⟩ := h
    refine kg_getr (a := a1) (j := 0) ea1 gfX17_22 hk2 dX17_of_9 ?_
    exact j_areturn (r := gr σ a1 0) rfl (Or.inl ⟨_, rfl⟩) dX17_of_12 h
  · replace h := h.1 ea1
    refine j_null dX17_of_4 ?_
    refine j_goto 12 dX17_of_5 (by decide) ?_
    exact j_areturn (r := none) rfl (Or.inl ⟨_, rfl⟩) dX17_of_12 h
theorem tX17_init {G : GPl} {s0 : State} {l : Launch} {K : Nat → Option Nat} {T : Nat → Nat} {lev : Nat} {Q : Outcome → GSt → Prop} {a0 : Nat} {x1 : Option Nat} {x2 : Option Nat} {x3 : Option Nat} {x4 : Int32} {x5 : Option Nat} {σ : GSt} (h : (gk σ a0 = 15 ∧ (groom G 3 (gpr a0 2 x3 σ) ∧ (CQ (wP G s0 l K T) mX17_of lev [va_rf x5] (gmk 16 3 (gpr a0 2 x3 σ)) (onR (fun r5 t4 => gle (gmk 16 3 (gpr a0 2 x3 σ)) t4 → (CQ (wP G s0 l K T) mX18_init lev (.ref (gn (gpr a0 2 x3 σ)) :: [va_rf x1, va_rf r5]) t4 (onV (fun t6 => gle t4 t6 → Q (.returned none) (gpr a0 4 x5 (gpi a0 3 x4 (gpr a0 1 x2 (gpr a0 0 (some (gn (gpr a0 2 x3 σ))) t6))))) (fun x t => gle t4 t → Q (.threw x) t)))) (fun x t => gle (gmk 16 3 (gpr a0 2 x3 σ)) t → Q (.threw x) t)))))) : CQ (wP G s0 l K T) mX17_init (lev + 1) [.ref a0, va_rf x1, va_rf x2, va_rf x3, .int x4, va_rf x5] σ Q := by
  refine CQ.of3 0 (lv := [some (va_rf (some a0)), some (va_rf x1), some (va_rf x2), some (va_rf x3), some (.int x4), some (va_rf x5)]) (by decide) (Nat.le_of_ble_eq_true rfl) (cat1_cons rfl (cat1_cons (rf_cat _) (cat1_cons (rf_cat _) (cat1_cons (rf_cat _) (cat1_cons rfl (cat1_cons (rf_cat _) cat1_nil)))))) rfl ?_
  refine j_aload_n (r := some a0) dX17_init_0 rfl ?_
  refine jg_objI q1635 q168 q169 (Nat.succ_le_succ (Nat.zero_le _)) (Nat.le_of_ble_eq_true rfl) dX17_init_1 ?_
  refine j_aload_n (r := some a0) dX17_init_4 rfl ?_
  refine j_aload_n (r := x3) dX17_init_5 rfl ?_
  obtain ⟨hk1, h⟩ := h
  refine kg_putr (a := a0) (x := x3) rfl gfX17_7 (Or.inr ⟨rfl, rfl⟩) hk1 (Or.inl (by decide)) dX17_init_6 ?_
  refine j_aload_n (r := some a0) dX17_init_9 rfl ?_
  obtain ⟨hg2, h⟩ := h
  refine jg_new (c := 15) (N := 3) (C := "PureHouse$Env") (by decide) ⟨rfl, rfl⟩ q1636 q1494 q154 hg2 dX17_init_10 ?_
  replace hk1 := gk_mk (t := 16) (n := 3) hk1 (by decide)
  have hk3 := gk_new (t := 16) (n := 3) hg2.2.2
  refine j_dup dX17_init_13 rfl ?_
  refine j_aload_n (r := x1) dX17_init_14 rfl ?_
  refine j_aload (r := x5) dX17_init_15 rfl ?_
  refine jg_callr (rest := [va_rf x1, va_rf (some (gn (gpr a0 2 x3 σ))), va_rf (some (gn (gpr a0 2 x3 σ))), va_rf (some a0)]) (kg_lkS (As := [va_rf x5]) ktX17_of q1637 rfl rfl dX17_init_17) cwX17_of (rm_ok (cat1_cons (rf_cat _) (cat1_cons rfl (cat1_cons rfl (cat1_cons rfl cat1_nil)))) (Nat.le_of_ble_eq_true rfl)) rfl dX17_init_17 (Nat.succ_le_succ (Nat.zero_le _)) (h.mono (onR_mono (fun r5 t4 h hlt4 => ?_) (fun _ _ h => h)))
  replace h := h hlt4
  replace hk1 := hlt4.tag hk1 (by decide)
  replace hk3 := hlt4.tag hk3 (by decide)
  refine jg_callv (rest := [va_rf (some (gn (gpr a0 2 x3 σ))), va_rf (some a0)]) (kg_lkI (As := [va_rf x1, va_rf r5]) (a := (gn (gpr a0 2 x3 σ))) kiX18_init (Or.inl q1638) rfl rfl dX17_init_20) cwX18_init (Nat.le_of_ble_eq_true rfl) rfl dX17_init_20 (Nat.succ_le_succ (Nat.zero_le _)) (h.mono (onV_mono (fun t6 h hlt6 => ?_) (fun _ _ h => h)))
  replace h := h hlt6
  replace hk1 := hlt6.tag hk1 (by decide)
  replace hk3 := hlt6.tag hk3 (by decide)
  refine kg_putr (a := a0) (x := some (gn (gpr a0 2 x3 σ))) rfl gfX17_22 (Or.inr ⟨rfl, rfl⟩) hk1 (Or.inl (by decide)) dX17_init_23 ?_
  refine j_aload_n (r := some a0) dX17_init_26 rfl ?_
  refine j_aload_n (r := x2) dX17_init_27 rfl ?_
  refine kg_putr (a := a0) (x := x2) rfl gfX17_25 (Or.inr ⟨rfl, rfl⟩) hk1 (Or.inl (by decide)) dX17_init_28 ?_
  refine j_aload_n (r := some a0) dX17_init_31 rfl ?_
  refine j_iload dX17_init_32 rfl ?_
  refine kg_puti (a := a0) rfl gfX17_29 (Or.inr ⟨rfl, rfl⟩) hk1 (Or.inl (by decide)) dX17_init_34 ?_
  refine j_aload_n (r := some a0) dX17_init_37 rfl ?_
  refine j_aload (r := x5) dX17_init_38 rfl ?_
  refine kg_putr (a := a0) (x := x5) rfl gfX17_33 (Or.inr ⟨rfl, rfl⟩) hk1 (Or.inl (by decide)) dX17_init_40 ?_
  exact j_return rfl dX17_init_43 h
theorem tX22_goes {G : GPl} {s0 : State} {l : Launch} {K : Nat → Option Nat} {T : Nat → Nat} {lev : Nat} {Q : Outcome → GSt → Prop} {a0 : Nat} {x1 : Option Nat} {σ : GSt} (h : (gk σ a0 = 20 ∧ (groom G 3 σ ∧ (∃ a4, x1 = some a4 ∧ (gk (gmk 16 3 σ) a4 = 3 ∧ (CQ (wP G s0 l K T) mX18_init lev (.ref (gn σ) :: [va_rf none, va_rf (gr (gmk 16 3 σ) a4 2)]) (gmk 16 3 σ) (onV (fun t6 => gle (gmk 16 3 σ) t6 → (CQ (wP G s0 l K T) mX3_at lev (.ref a4 :: [va_rf (gr σ a0 2), va_rf (some (gn σ))]) t6 (onV (fun t8 => gle t6 t8 → Q (.returned (some (.int (iI 1)))) t8) (fun x t => gle t6 t → Q (.threw x) t)))) (fun x t => gle (gmk 16 3 σ) t → Q (.threw x) t)))))))) : CQ (wP G s0 l K T) mX22_goes (lev + 1) [.ref a0, va_rf x1] σ Q := by
  refine CQ.of3 0 (lv := [some (va_rf (some a0)), some (va_rf x1)]) (by decide) (Nat.le_of_ble_eq_true rfl) (cat1_cons rfl (cat1_cons (rf_cat _) cat1_nil)) rfl ?_
  refine j_aload_n (r := x1) dX22_goes_0 rfl ?_
  refine j_aload_n (r := some a0) dX22_goes_1 rfl ?_
  obtain ⟨hk1, h⟩ := h
  refine kg_getr (a := a0) (j := 2) rfl gfX22_7 hk1 dX22_goes_2 ?_
  obtain ⟨hg2, h⟩ := h
  refine jg_new (c := 15) (N := 3) (C := "PureHouse$Env") (by decide) ⟨rfl, rfl⟩ q1540 q1494 q154 hg2 dX22_goes_5 ?_
  replace hk1 := gk_mk (t := 16) (n := 3) hk1 (by decide)
  have hk3 := gk_new (t := 16) (n := 3) hg2.2.2
  refine j_dup dX22_goes_8 rfl ?_
  refine j_null dX22_goes_9 ?_
  refine j_aload_n (r := x1) dX22_goes_10 rfl ?_
  obtain ⟨a4, ea4, hk5, h⟩ := h
  refine kg_getr (a := a4) (j := 2) ea4 gfX22_15 hk5 dX22_goes_11 ?_
  refine jg_callv (rest := [va_rf (some (gn σ)), va_rf (gr σ a0 2), va_rf x1]) (kg_lkI (As := [va_rf none, va_rf (gr (gmk 16 3 σ) a4 2)]) (a := (gn σ)) kiX18_init (Or.inl q1541) rfl rfl dX22_goes_14) cwX18_init (rm_ok (cat1_cons rfl (cat1_cons (rf_cat _) (cat1_cons (rf_cat _) cat1_nil))) (Nat.le_of_ble_eq_true rfl)) rfl dX22_goes_14 (Nat.succ_le_succ (Nat.zero_le _)) (h.mono (onV_mono (fun t6 h hlt6 => ?_) (fun _ _ h => h)))
  replace h := h hlt6
  replace hk1 := hlt6.tag hk1 (by decide)
  replace hk3 := hlt6.tag hk3 (by decide)
  replace hk5 := hlt6.tag hk5 (by decide)
  refine jg_callv (rest := []) (kg_lkV (As := [va_rf (gr σ a0 2), va_rf (some (gn σ))]) (a := a4) (c := 2) kgX3_at_2 (by decide) rfl hk5 q1542 rfl (by rw [ea4]; rfl) dX22_goes_17) cwX3_at (Nat.le_of_ble_eq_true rfl) rfl dX22_goes_17 (Nat.succ_le_succ (Nat.zero_le _)) (h.mono (onV_mono (fun t8 h hlt8 => ?_) (fun _ _ h => h)))
  replace h := h hlt8
  replace hk1 := hlt8.tag hk1 (by decide)
  replace hk3 := hlt8.tag hk3 (by decide)
  replace hk5 := hlt8.tag hk5 (by decide)
  refine j_iconst (v := iI 1) dX22_goes_20 rfl ?_
  exact j_ireturn (ty := .boolean) rfl rfl dX22_goes_21 h
theorem tX22_init {G : GPl} {s0 : State} {l : Launch} {K : Nat → Option Nat} {T : Nat → Nat} {lev : Nat} {Q : Outcome → GSt → Prop} {a0 : Nat} {x1 : Option Nat} {σ : GSt} (h : (CQ (wP G s0 l K T) mX9_init lev (.ref a0 :: []) σ (onV (fun t1 => gle σ t1 → (gk t1 a0 = 20 ∧ Q (.returned none) (gpr a0 2 x1 t1))) (fun x t => gle σ t → Q (.threw x) t)))) : CQ (wP G s0 l K T) mX22_init (lev + 1) [.ref a0, va_rf x1] σ Q := by
  refine CQ.of3 0 (lv := [some (va_rf (some a0)), some (va_rf x1)]) (by decide) (Nat.le_of_ble_eq_true rfl) (cat1_cons rfl (cat1_cons (rf_cat _) cat1_nil)) rfl ?_
  refine j_aload_n (r := some a0) dX22_init_0 rfl ?_
  refine jg_callv (rest := []) (kg_lkI (As := []) (a := a0) kiX9_init (Or.inr ⟨_, q1730⟩) rfl rfl dX22_init_1) cwX9_init (Nat.le_of_ble_eq_true rfl) rfl dX22_init_1 (Nat.succ_le_succ (Nat.zero_le _)) (h.mono (onV_mono (fun t1 h hlt1 => ?_) (fun _ _ h => h)))
  replace h := h hlt1
  refine j_aload_n (r := some a0) dX22_init_4 rfl ?_
  refine j_aload_n (r := x1) dX22_init_5 rfl ?_
  obtain ⟨hk3, h⟩ := h
  refine kg_putr (a := a0) (x := x1) rfl gfX22_7 (Or.inr ⟨rfl, rfl⟩) hk3 (Or.inl (by decide)) dX22_init_6 ?_
  exact j_return rfl dX22_init_9 h
theorem tX10_init {G : GPl} {s0 : State} {l : Launch} {K : Nat → Option Nat} {T : Nat → Nat} {lev : Nat} {Q : Outcome → GSt → Prop} {a0 : Nat} {x1 : Option Nat} {σ : GSt} (h : (CQ (wP G s0 l K T) mX9_init lev (.ref a0 :: []) σ (onV (fun t1 => gle σ t1 → (gk t1 a0 = 8 ∧ Q (.returned none) (gpr a0 2 x1 t1))) (fun x t => gle σ t → Q (.threw x) t)))) : CQ (wP G s0 l K T) mX10_init (lev + 1) [.ref a0, va_rf x1] σ Q := by
  refine CQ.of3 0 (lv := [some (va_rf (some a0)), some (va_rf x1)]) (by decide) (Nat.le_of_ble_eq_true rfl) (cat1_cons rfl (cat1_cons (rf_cat _) cat1_nil)) rfl ?_
  refine j_aload_n (r := some a0) dX10_init_0 rfl ?_
  refine jg_callv (rest := []) (kg_lkI (As := []) (a := a0) kiX9_init (Or.inr ⟨_, q1032⟩) rfl rfl dX10_init_1) cwX9_init (Nat.le_of_ble_eq_true rfl) rfl dX10_init_1 (Nat.succ_le_succ (Nat.zero_le _)) (h.mono (onV_mono (fun t1 h hlt1 => ?_) (fun _ _ h => h)))
  replace h := h hlt1
  refine j_aload_n (r := some a0) dX10_init_4 rfl ?_
  refine j_aload_n (r := x1) dX10_init_5 rfl ?_
  obtain ⟨hk3, h⟩ := h
  refine kg_putr (a := a0) (x := x1) rfl gfX10_7 (Or.inr ⟨rfl, rfl⟩) hk3 (Or.inl (by decide)) dX10_init_6 ?_
  exact j_return rfl dX10_init_9 h
theorem tX10_goes {G : GPl} {s0 : State} {l : Launch} {K : Nat → Option Nat} {T : Nat → Nat} {lev : Nat} {Q : Outcome → GSt → Prop} {a0 : Nat} {x1 : Option Nat} {σ : GSt} (h : (∃ a1, x1 = some a1 ∧ (gk σ a1 = 3 ∧ ((gr σ a1 3 = none → Q (.returned (some (.int (iI 0)))) σ) ∧ (∀ a3, gr σ a1 3 = some a3 → (CQ (wP G s0 l K T) mX3_spend lev (.ref a1 :: [.int (iI 0)]) σ (onV (fun t4 => gle σ t4 → (gk t4 a0 = 8 ∧ (groom G 3 t4 ∧ (CQ (wP G s0 l K T) mX3_pull lev (.ref a1 :: []) (gmk 16 3 t4) (onR (fun r10 t9 => gle (gmk 16 3 t4) t9 → (CQ (wP G s0 l K T) mX18_init lev (.ref (gn t4) :: [va_rf r10, va_rf (gr t9 a1 2)]) t9 (onV (fun t11 => gle t9 t11 → (CQ (wP G s0 l K T) mX3_at lev (.ref a1 :: [va_rf (gr t4 a0 3), va_rf (some (gn t4))]) t11 (onV (fun t13 => gle t11 t13 → Q (.returned (some (.int (iI 1)))) t13) (fun x t => gle t11 t → Q (.threw x) t)))) (fun x t => gle t9 t → Q (.threw x) t)))) (fun x t => gle (gmk 16 3 t4) t → Q (.threw x) t)))))) (fun x t => gle σ t → Q (.threw x) t)))))))) : CQ (wP G s0 l K T) mX10_goes (lev + 1) [.ref a0, va_rf x1] σ Q := by
  refine CQ.of3 0 (lv := [some (va_rf (some a0)), some (va_rf x1)]) (by decide) (Nat.le_of_ble_eq_true rfl) (cat1_cons rfl (cat1_cons (rf_cat _) cat1_nil)) rfl ?_
  refine j_aload_n (r := x1) dX10_goes_0 rfl ?_
  obtain ⟨a1, ea1, hk2, h⟩ := h
  refine kg_getr (a := a1) (j := 3) ea1 gfX10_13 hk2 dX10_goes_1 ?_
  refine j_ifnonnull (r := gr σ a1 3) 9 dX10_goes_4 (by decide) (fun a3 ea3 => ?_) (fun ea3 => ?_)
  · replace h := h.2 a3 ea3
    refine j_aload_n (r := x1) dX10_goes_9 rfl ?_
    refine j_iconst (v := iI 0) dX10_goes_10 rfl ?_
    refine jg_callv (rest := []) (kg_lkV (As := [.int (iI 0)]) (a := a1) (c := 2) kgX3_spend_2 (by decide) rfl hk2 q1492 rfl (by rw [ea1]; rfl) dX10_goes_11) cwX3_spend (Nat.le_of_ble_eq_true rfl) rfl dX10_goes_11 (Nat.succ_le_succ (Nat.zero_le _)) (h.mono (onV_mono (fun t4 h hlt4 => ?_) (fun _ _ h => h)))
    replace h := h hlt4
    replace hk2 := hlt4.tag hk2 (by decide)
    refine j_aload_n (r := x1) dX10_goes_14 rfl ?_
    refine j_aload_n (r := some a0) dX10_goes_15 rfl ?_
    obtain ⟨hk6, h⟩ := h
    refine kg_getr (a := a0) (j := 3) rfl gfX10_23 hk6 dX10_goes_16 ?_
    obtain ⟨hg7, h⟩ := h
    refine jg_new (c := 15) (N := 3) (C := "PureHouse$Env") (by decide) ⟨rfl, rfl⟩ q1493 q1494 q154 hg7 dX10_goes_19 ?_
    replace hk2 := gk_mk (t := 16) (n := 3) hk2 (by decide)
    replace hk6 := gk_mk (t := 16) (n := 3) hk6 (by decide)
    have hk8 := gk_new (t := 16) (n := 3) hg7.2.2
    refine j_dup dX10_goes_22 rfl ?_
    refine j_aload_n (r := x1) dX10_goes_23 rfl ?_
    refine jg_callr (rest := [va_rf (some (gn t4)), va_rf (some (gn t4)), va_rf (gr t4 a0 3), va_rf x1]) (kg_lkV (As := []) (a := a1) (c := 2) kgX3_pull_2 (by decide) rfl hk2 q1495 rfl (by rw [ea1]; rfl) dX10_goes_24) cwX3_pull (rm_ok (cat1_cons rfl (cat1_cons rfl (cat1_cons (rf_cat _) (cat1_cons (rf_cat _) cat1_nil)))) (Nat.le_of_ble_eq_true rfl)) rfl dX10_goes_24 (Nat.succ_le_succ (Nat.zero_le _)) (h.mono (onR_mono (fun r10 t9 h hlt9 => ?_) (fun _ _ h => h)))
    replace h := h hlt9
    replace hk2 := hlt9.tag hk2 (by decide)
    replace hk6 := hlt9.tag hk6 (by decide)
    replace hk8 := hlt9.tag hk8 (by decide)
    refine j_aload_n (r := x1) dX10_goes_27 rfl ?_
    refine kg_getr (a := a1) (j := 2) ea1 gfX10_32 hk2 dX10_goes_28 ?_
    refine jg_callv (rest := [va_rf (some (gn t4)), va_rf (gr t4 a0 3), va_rf x1]) (kg_lkI (As := [va_rf r10, va_rf (gr t9 a1 2)]) (a := (gn t4)) kiX18_init (Or.inl q1499) rfl rfl dX10_goes_31) cwX18_init (rm_ok (cat1_cons rfl (cat1_cons (rf_cat _) (cat1_cons (rf_cat _) cat1_nil))) (Nat.le_of_ble_eq_true rfl)) rfl dX10_goes_31 (Nat.succ_le_succ (Nat.zero_le _)) (h.mono (onV_mono (fun t11 h hlt11 => ?_) (fun _ _ h => h)))
    replace h := h hlt11
    replace hk2 := hlt11.tag hk2 (by decide)
    replace hk6 := hlt11.tag hk6 (by decide)
    replace hk8 := hlt11.tag hk8 (by decide)
    refine jg_callv (rest := []) (kg_lkV (As := [va_rf (gr t4 a0 3), va_rf (some (gn t4))]) (a := a1) (c := 2) kgX3_at_2 (by decide) rfl hk2 q1517 rfl (by rw [ea1]; rfl) dX10_goes_34) cwX3_at (Nat.le_of_ble_eq_true rfl) rfl dX10_goes_34 (Nat.succ_le_succ (Nat.zero_le _)) (h.mono (onV_mono (fun t13 h hlt13 => ?_) (fun _ _ h => h)))
    replace h := h hlt13
    replace hk2 := hlt13.tag hk2 (by decide)
    replace hk6 := hlt13.tag hk6 (by decide)
    replace hk8 := hlt13.tag hk8 (by decide)
    refine j_iconst (v := iI 1) dX10_goes_37 rfl ?_
    exact j_ireturn (ty := .boolean) rfl rfl dX10_goes_38 h
  · replace h := h.1 ea3
    refine j_iconst (v := iI 0) dX10_goes_7 rfl ?_
    exact j_ireturn (ty := .boolean) rfl rfl dX10_goes_8 h
theorem tX12_init {G : GPl} {s0 : State} {l : Launch} {K : Nat → Option Nat} {T : Nat → Nat} {lev : Nat} {Q : Outcome → GSt → Prop} {a0 : Nat} {x1 : Option Nat} {σ : GSt} (h : (CQ (wP G s0 l K T) mX9_init lev (.ref a0 :: []) σ (onV (fun t1 => gle σ t1 → (gk t1 a0 = 10 ∧ Q (.returned none) (gpr a0 2 x1 t1))) (fun x t => gle σ t → Q (.threw x) t)))) : CQ (wP G s0 l K T) mX12_init (lev + 1) [.ref a0, va_rf x1] σ Q := by
  refine CQ.of3 0 (lv := [some (va_rf (some a0)), some (va_rf x1)]) (by decide) (Nat.le_of_ble_eq_true rfl) (cat1_cons rfl (cat1_cons (rf_cat _) cat1_nil)) rfl ?_
  refine j_aload_n (r := some a0) dX12_init_0 rfl ?_
  refine jg_callv (rest := []) (kg_lkI (As := []) (a := a0) kiX9_init (Or.inr ⟨_, q1199⟩) rfl rfl dX12_init_1) cwX9_init (Nat.le_of_ble_eq_true rfl) rfl dX12_init_1 (Nat.succ_le_succ (Nat.zero_le _)) (h.mono (onV_mono (fun t1 h hlt1 => ?_) (fun _ _ h => h)))
  replace h := h hlt1
  refine j_aload_n (r := some a0) dX12_init_4 rfl ?_
  refine j_aload_n (r := x1) dX12_init_5 rfl ?_
  obtain ⟨hk3, h⟩ := h
  refine kg_putr (a := a0) (x := x1) rfl gfX12_7 (Or.inr ⟨rfl, rfl⟩) hk3 (Or.inl (by decide)) dX12_init_6 ?_
  exact j_return rfl dX12_init_9 h
theorem tX12_goes {G : GPl} {s0 : State} {l : Launch} {K : Nat → Option Nat} {T : Nat → Nat} {lev : Nat} {Q : Outcome → GSt → Prop} {a0 : Nat} {x1 : Option Nat} {σ : GSt} (h : (∃ a1, x1 = some a1 ∧ (gk σ a1 = 3 ∧ (CQ (wP G s0 l K T) mX3_spend lev (.ref a1 :: [.int (iI 2)]) σ (onV (fun t3 => gle σ t3 → (gk t3 a0 = 10 ∧ (groom G 3 t3 ∧ (groom G 2 (gmk 16 3 t3) ∧ (CQ (wP G s0 l K T) mX16_init lev (.ref (gn (gmk 16 3 t3)) :: [va_rf (gr (gmk 14 2 (gmk 16 3 t3)) a0 2), va_rf (gr (gmk 14 2 (gmk 16 3 t3)) a1 2)]) (gmk 14 2 (gmk 16 3 t3)) (onV (fun t10 => gle (gmk 14 2 (gmk 16 3 t3)) t10 → (CQ (wP G s0 l K T) mX18_init lev (.ref (gn t3) :: [va_rf (some (gn (gmk 16 3 t3))), va_rf (gr t10 a1 2)]) t10 (onV (fun t12 => gle t10 t12 → (CQ (wP G s0 l K T) mX3_at lev (.ref a1 :: [va_rf (gr t3 a0 3), va_rf (some (gn t3))]) t12 (onV (fun t14 => gle t12 t14 → Q (.returned (some (.int (iI 1)))) t14) (fun x t => gle t12 t → Q (.threw x) t)))) (fun x t => gle t10 t → Q (.threw x) t)))) (fun x t => gle (gmk 14 2 (gmk 16 3 t3)) t → Q (.threw x) t))))))) (fun x t => gle σ t → Q (.threw x) t)))))) : CQ (wP G s0 l K T) mX12_goes (lev + 1) [.ref a0, va_rf x1] σ Q := by
  refine CQ.of3 0 (lv := [some (va_rf (some a0)), some (va_rf x1)]) (by decide) (Nat.le_of_ble_eq_true rfl) (cat1_cons rfl (cat1_cons (rf_cat _) cat1_nil)) rfl ?_
  refine j_aload_n (r := x1) dX12_goes_0 rfl ?_
  refine j_iconst (v := iI 2) dX12_goes_1 rfl ?_
  obtain ⟨a1, ea1, hk2, h⟩ := h
  refine jg_callv (rest := []) (kg_lkV (As := [.int (iI 2)]) (a := a1) (c := 2) kgX3_spend_2 (by decide) rfl hk2 q1521 rfl (by rw [ea1]; rfl) dX12_goes_2) cwX3_spend (Nat.le_of_ble_eq_true rfl) rfl dX12_goes_2 (Nat.succ_le_succ (Nat.zero_le _)) (h.mono (onV_mono (fun t3 h hlt3 => ?_) (fun _ _ h => h)))
  replace h := h hlt3
  replace hk2 := hlt3.tag hk2 (by decide)
  refine j_aload_n (r := x1) dX12_goes_5 rfl ?_
  refine j_aload_n (r := some a0) dX12_goes_6 rfl ?_
  obtain ⟨hk5, h⟩ := h
  refine kg_getr (a := a0) (j := 3) rfl gfX12_19 hk5 dX12_goes_7 ?_
  obtain ⟨hg6, h⟩ := h
  refine jg_new (c := 15) (N := 3) (C := "PureHouse$Env") (by decide) ⟨rfl, rfl⟩ q1522 q1494 q154 hg6 dX12_goes_10 ?_
  replace hk2 := gk_mk (t := 16) (n := 3) hk2 (by decide)
  replace hk5 := gk_mk (t := 16) (n := 3) hk5 (by decide)
  have hk7 := gk_new (t := 16) (n := 3) hg6.2.2
  refine j_dup dX12_goes_13 rfl ?_
  obtain ⟨hg8, h⟩ := h
  refine jg_new (c := 13) (N := 2) (C := "PureHouse$Closure") (by decide) ⟨rfl, rfl⟩ q1523 q1427 q152 hg8 dX12_goes_14 ?_
  replace hk2 := gk_mk (t := 14) (n := 2) hk2 (by decide)
  replace hk5 := gk_mk (t := 14) (n := 2) hk5 (by decide)
  replace hk7 := gk_mk (t := 14) (n := 2) hk7 (by decide)
  have hk9 := gk_new (t := 14) (n := 2) hg8.2.2
  refine j_dup dX12_goes_17 rfl ?_
  refine j_aload_n (r := some a0) dX12_goes_18 rfl ?_
  refine kg_getr (a := a0) (j := 2) rfl gfX12_7 hk5 dX12_goes_19 ?_
  refine j_aload_n (r := x1) dX12_goes_22 rfl ?_
  refine kg_getr (a := a1) (j := 2) ea1 gfX12_26 hk2 dX12_goes_23 ?_
  refine jg_callv (rest := [va_rf (some (gn (gmk 16 3 t3))), va_rf (some (gn t3)), va_rf (some (gn t3)), va_rf (gr t3 a0 3), va_rf x1]) (kg_lkI (As := [va_rf (gr (gmk 14 2 (gmk 16 3 t3)) a0 2), va_rf (gr (gmk 14 2 (gmk 16 3 t3)) a1 2)]) (a := (gn (gmk 16 3 t3))) kiX16_init (Or.inl q1524) rfl rfl dX12_goes_26) cwX16_init (rm_ok (cat1_cons rfl (cat1_cons rfl (cat1_cons rfl (cat1_cons (rf_cat _) (cat1_cons (rf_cat _) cat1_nil))))) (Nat.le_of_ble_eq_true rfl)) rfl dX12_goes_26 (Nat.succ_le_succ (Nat.zero_le _)) (h.mono (onV_mono (fun t10 h hlt10 => ?_) (fun _ _ h => h)))
  replace h := h hlt10
  replace hk2 := hlt10.tag hk2 (by decide)
  replace hk5 := hlt10.tag hk5 (by decide)
  replace hk7 := hlt10.tag hk7 (by decide)
  replace hk9 := hlt10.tag hk9 (by decide)
  refine j_aload_n (r := x1) dX12_goes_29 rfl ?_
  refine kg_getr (a := a1) (j := 2) ea1 gfX12_26 hk2 dX12_goes_30 ?_
  refine jg_callv (rest := [va_rf (some (gn t3)), va_rf (gr t3 a0 3), va_rf x1]) (kg_lkI (As := [va_rf (some (gn (gmk 16 3 t3))), va_rf (gr t10 a1 2)]) (a := (gn t3)) kiX18_init (Or.inl q1525) rfl rfl dX12_goes_33) cwX18_init (rm_ok (cat1_cons rfl (cat1_cons (rf_cat _) (cat1_cons (rf_cat _) cat1_nil))) (Nat.le_of_ble_eq_true rfl)) rfl dX12_goes_33 (Nat.succ_le_succ (Nat.zero_le _)) (h.mono (onV_mono (fun t12 h hlt12 => ?_) (fun _ _ h => h)))
  replace h := h hlt12
  replace hk2 := hlt12.tag hk2 (by decide)
  replace hk5 := hlt12.tag hk5 (by decide)
  replace hk7 := hlt12.tag hk7 (by decide)
  replace hk9 := hlt12.tag hk9 (by decide)
  refine jg_callv (rest := []) (kg_lkV (As := [va_rf (gr t3 a0 3), va_rf (some (gn t3))]) (a := a1) (c := 2) kgX3_at_2 (by decide) rfl hk2 q1526 rfl (by rw [ea1]; rfl) dX12_goes_36) cwX3_at (Nat.le_of_ble_eq_true rfl) rfl dX12_goes_36 (Nat.succ_le_succ (Nat.zero_le _)) (h.mono (onV_mono (fun t14 h hlt14 => ?_) (fun _ _ h => h)))
  replace h := h hlt14
  replace hk2 := hlt14.tag hk2 (by decide)
  replace hk5 := hlt14.tag hk5 (by decide)
  replace hk7 := hlt14.tag hk7 (by decide)
  replace hk9 := hlt14.tag hk9 (by decide)
  refine j_iconst (v := iI 1) dX12_goes_39 rfl ?_
  exact j_ireturn (ty := .boolean) rfl rfl dX12_goes_40 h
theorem tX14_init {G : GPl} {s0 : State} {l : Launch} {K : Nat → Option Nat} {T : Nat → Nat} {lev : Nat} {Q : Outcome → GSt → Prop} {a0 : Nat} {x1 : Option Nat} {σ : GSt} (h : (CQ (wP G s0 l K T) mX9_init lev (.ref a0 :: []) σ (onV (fun t1 => gle σ t1 → (gk t1 a0 = 12 ∧ Q (.returned none) (gpr a0 2 x1 (gpi a0 4 (iI (-1)) t1)))) (fun x t => gle σ t → Q (.threw x) t)))) : CQ (wP G s0 l K T) mX14_init (lev + 1) [.ref a0, va_rf x1] σ Q := by
  refine CQ.of3 0 (lv := [some (va_rf (some a0)), some (va_rf x1)]) (by decide) (Nat.le_of_ble_eq_true rfl) (cat1_cons rfl (cat1_cons (rf_cat _) cat1_nil)) rfl ?_
  refine j_aload_n (r := some a0) dX14_init_0 rfl ?_
  refine jg_callv (rest := []) (kg_lkI (As := []) (a := a0) kiX9_init (Or.inr ⟨_, q1255⟩) rfl rfl dX14_init_1) cwX9_init (Nat.le_of_ble_eq_true rfl) rfl dX14_init_1 (Nat.succ_le_succ (Nat.zero_le _)) (h.mono (onV_mono (fun t1 h hlt1 => ?_) (fun _ _ h => h)))
  replace h := h hlt1
  refine j_aload_n (r := some a0) dX14_init_4 rfl ?_
  refine j_iconst (v := iI (-1)) dX14_init_5 rfl ?_
  obtain ⟨hk3, h⟩ := h
  refine kg_puti (a := a0) rfl gfX14_9 (Or.inl rfl) hk3 (Or.inl (by decide)) dX14_init_6 ?_
  refine j_aload_n (r := some a0) dX14_init_9 rfl ?_
  refine j_aload_n (r := x1) dX14_init_10 rfl ?_
  refine kg_putr (a := a0) (x := x1) rfl gfX14_15 (Or.inr ⟨rfl, rfl⟩) hk3 (Or.inl (by decide)) dX14_init_11 ?_
  exact j_return rfl dX14_init_14 h
theorem tX14_goes {G : GPl} {s0 : State} {l : Launch} {K : Nat → Option Nat} {T : Nat → Nat} {lev : Nat} {Q : Outcome → GSt → Prop} {a0 : Nat} {x1 : Option Nat} {σ : GSt} (h : (gk σ a0 = 12 ∧ ((gr σ a0 3 = none → Q (.returned (some (.int (iI 0)))) σ) ∧ (∀ a2, gr σ a0 3 = some a2 → (gk σ a2 = 21 ∧ ((gr σ a2 3 = none → Q (.returned (some (.int (iI 0)))) σ) ∧ (∀ a4, gr σ a2 3 = some a4 → (∃ a5, x1 = some a5 ∧ (gk σ a5 = 3 ∧ (CQ (wP G s0 l K T) mX3_spend lev (.ref a5 :: [.int (iI 1)]) σ (onV (fun t7 => gle σ t7 → (∃ a9, gr t7 a0 3 = some a9 ∧ (gk t7 a9 = 21 ∧ (CQ (wP G s0 l K T) mX3_at lev (.ref a5 :: [va_rf (gr t7 a9 3), va_rf none]) t7 (onV (fun t11 => gle t7 t11 → Q (.returned (some (.int (iI 1)))) t11) (fun x t => gle t7 t → Q (.threw x) t)))))) (fun x t => gle σ t → Q (.threw x) t)))))))))))) : CQ (wP G s0 l K T) mX14_goes (lev + 1) [.ref a0, va_rf x1] σ Q := by
  refine CQ.of3 0 (lv := [some (va_rf (some a0)), some (va_rf x1)]) (by decide) (Nat.le_of_ble_eq_true rfl) (cat1_cons rfl (cat1_cons (rf_cat _) cat1_nil)) rfl ?_
  refine j_aload_n (r := some a0) dX14_goes_0 rfl ?_
  obtain ⟨hk1, h⟩ := h
  refine kg_getr (a := a0) (j := 3) rfl gfX14_19 hk1 dX14_goes_1 ?_
  refine j_ifnull (r := gr σ a0 3) 17 dX14_goes_4 (by decide) (fun ea2 => ?_) (fun a2 ea2 => ?_)
  · replace h := h.1 ea2
    refine j_iconst (v := iI 0) dX14_goes_17 rfl ?_
    exact j_ireturn (ty := .boolean) rfl rfl dX14_goes_18 h
  · replace h := h.2 a2 ea2
    refine j_aload_n (r := some a0) dX14_goes_7 rfl ?_
    refine kg_getr (a := a0) (j := 3) rfl gfX14_19 hk1 dX14_goes_8 ?_
    obtain ⟨hk3, h⟩ := h
    refine kg_getr (a := a2) (j := 3) ea2 gfX14_23 hk3 dX14_goes_11 ?_
    refine j_ifnonnull (r := gr σ a2 3) 19 dX14_goes_14 (by decide) (fun a4 ea4 => ?_) (fun ea4 => ?_)
    · replace h := h.2 a4 ea4
      refine j_aload_n (r := x1) dX14_goes_19 rfl ?_
      refine j_iconst (v := iI 1) dX14_goes_20 rfl ?_
      obtain ⟨a5, ea5, hk6, h⟩ := h
      refine jg_callv (rest := []) (kg_lkV (As := [.int (iI 1)]) (a := a5) (c := 2) kgX3_spend_2 (by decide) rfl hk6 q1487 rfl (by rw [ea5]; rfl) dX14_goes_21) cwX3_spend (Nat.le_of_ble_eq_true rfl) rfl dX14_goes_21 (Nat.succ_le_succ (Nat.zero_le _)) (h.mono (onV_mono (fun t7 h hlt7 => ?_) (fun _ _ h => h)))
      replace h := h hlt7
      replace hk1 := hlt7.tag hk1 (by decide)
      replace hk3 := hlt7.tag hk3 (by decide)
      replace hk6 := hlt7.tag hk6 (by decide)
      refine j_aload_n (r := x1) dX14_goes_24 rfl ?_
      refine j_aload_n (r := some a0) dX14_goes_25 rfl ?_
      refine kg_getr (a := a0) (j := 3) rfl gfX14_19 hk1 dX14_goes_26 ?_
      obtain ⟨a9, ea9, hk10, h⟩ := h
      refine kg_getr (a := a9) (j := 3) ea9 gfX14_23 hk10 dX14_goes_29 ?_
      refine j_null dX14_goes_32 ?_
      refine jg_callv (rest := []) (kg_lkV (As := [va_rf (gr t7 a9 3), va_rf none]) (a := a5) (c := 2) kgX3_at_2 (by decide) rfl hk6 q1488 rfl (by rw [ea5]; rfl) dX14_goes_33) cwX3_at (Nat.le_of_ble_eq_true rfl) rfl dX14_goes_33 (Nat.succ_le_succ (Nat.zero_le _)) (h.mono (onV_mono (fun t11 h hlt11 => ?_) (fun _ _ h => h)))
      replace h := h hlt11
      replace hk1 := hlt11.tag hk1 (by decide)
      replace hk3 := hlt11.tag hk3 (by decide)
      replace hk6 := hlt11.tag hk6 (by decide)
      replace hk10 := hlt11.tag hk10 (by decide)
      refine j_iconst (v := iI 1) dX14_goes_36 rfl ?_
      exact j_ireturn (ty := .boolean) rfl rfl dX14_goes_37 h
    · replace h := h.1 ea4
      refine j_iconst (v := iI 0) dX14_goes_17 rfl ?_
      exact j_ireturn (ty := .boolean) rfl rfl dX14_goes_18 h
abbrev jX21_goes_7 (G : GPl) (s0 : State) (l : Launch) (K : Nat → Option Nat) (T : Nat → Nat) (lev : Nat) (st0 : GSt) (Q : Outcome → GSt → Prop) (a0 : Nat) (x1 : Option Nat) (x2 : Option Nat) (x3 : Int32) (σ : GSt) : Prop := JQ (wP G s0 l K T) mX21_goes (lev + 1) st0 7 [some (va_rf (some a0)), some (va_rf x1), some (va_rf x2), some (.int x3)] [] σ Q
theorem tX21_goes {G : GPl} {s0 : State} {l : Launch} {K : Nat → Option Nat} {T : Nat → Nat} {lev : Nat} {Q : Outcome → GSt → Prop} {a0 : Nat} {x1 : Option Nat} {σ : GSt} (h : (∃ a1, x1 = some a1 ∧ (gk σ a1 = 3 ∧ jX21_goes_7 G s0 l K T lev σ Q a0 x1 (gr σ a1 2) (iI 0) σ))) : CQ (wP G s0 l K T) mX21_goes (lev + 1) [.ref a0, va_rf x1] σ Q := by
  refine CQ.of3 2 (lv := [some (va_rf (some a0)), some (va_rf x1), none, none]) (by decide) (Nat.le_of_ble_eq_true rfl) (cat1_cons rfl (cat1_cons (rf_cat _) cat1_nil)) rfl ?_
  refine j_aload_n (r := x1) dX21_goes_0 rfl ?_
  obtain ⟨a1, ea1, hk2, h⟩ := h
  refine kg_getr (a := a1) (j := 2) ea1 gfX21_17 hk2 dX21_goes_1 ?_
  refine j_astore_n (r := gr σ a1 2) (lv' := [some (va_rf (some a0)), some (va_rf x1), some (va_rf (gr σ a1 2)), none]) dX21_goes_4 (by decide) rfl ?_
  refine j_iconst (v := iI 0) dX21_goes_5 rfl ?_
  refine j_istore_n (lv' := [some (va_rf (some a0)), some (va_rf x1), some (va_rf (gr σ a1 2)), some (.int (iI 0))]) dX21_goes_6 (by decide) rfl ?_
  exact h
theorem tX21_goes_7 {G : GPl} {s0 : State} {l : Launch} {K : Nat → Option Nat} {T : Nat → Nat} {lev : Nat} {st0 : GSt} {Q : Outcome → GSt → Prop} {a0 : Nat} {x1 : Option Nat} {x2 : Option Nat} {x3 : Int32} {σ : GSt} (h : (gk σ a0 = 19 ∧ (((gi σ a0 3) ≤ x3 → (∃ a2, x1 = some a2 ∧ (gk σ a2 = 3 ∧ (CQ (wP G s0 l K T) mX3_at lev (.ref a2 :: [va_rf (gr σ a0 2), va_rf x2]) σ (onV (fun t4 => gle σ t4 → Q (.returned (some (.int (iI 1)))) t4) (fun x t => gle σ t → Q (.threw x) t)))))) ∧ (¬ (gi σ a0 3) ≤ x3 → (∃ a6, x2 = some a6 ∧ (gk σ a6 = 16 ∧ jX21_goes_7 G s0 l K T lev st0 Q a0 x1 (gr σ a6 1) (x3 + iI 1) σ)))))) : jX21_goes_7 G s0 l K T lev st0 Q a0 x1 x2 x3 σ := by
  refine j_iload_n dX21_goes_7 rfl ?_
  refine j_aload_n (r := some a0) dX21_goes_8 rfl ?_
  obtain ⟨hk1, h⟩ := h
  refine kg_geti (a := a0) (j := 3) rfl gfX21_13 (by decide) hk1 dX21_goes_9 ?_
  refine j_icmp_ge 26 dX21_goes_12 (by decide) (fun c8 => ?_) (fun c8 => ?_)
  · replace h := h.1 c8
    refine j_aload_n (r := x1) dX21_goes_26 rfl ?_
    refine j_aload_n (r := some a0) dX21_goes_27 rfl ?_
    refine kg_getr (a := a0) (j := 2) rfl gfX21_7 hk1 dX21_goes_28 ?_
    refine j_aload_n (r := x2) dX21_goes_31 rfl ?_
    obtain ⟨a2, ea2, hk3, h⟩ := h
    refine jg_callv (rest := []) (kg_lkV (As := [va_rf (gr σ a0 2), va_rf x2]) (a := a2) (c := 2) kgX3_at_2 (by decide) rfl hk3 q1530 rfl (by rw [ea2]; rfl) dX21_goes_32) cwX3_at (Nat.le_of_ble_eq_true rfl) rfl dX21_goes_32 (Nat.succ_le_succ (Nat.zero_le _)) (h.mono (onV_mono (fun t4 h hlt4 => ?_) (fun _ _ h => h)))
    replace h := h hlt4
    replace hk1 := hlt4.tag hk1 (by decide)
    replace hk3 := hlt4.tag hk3 (by decide)
    refine j_iconst (v := iI 1) dX21_goes_35 rfl ?_
    exact j_ireturn (ty := .boolean) rfl rfl dX21_goes_36 h
  · replace h := h.2 c8
    refine j_aload_n (r := x2) dX21_goes_15 rfl ?_
    obtain ⟨a6, ea6, hk7, h⟩ := h
    refine kg_getr (a := a6) (j := 1) ea6 gfX21_23 hk7 dX21_goes_16 ?_
    refine j_astore_n (r := gr σ a6 1) (lv' := [some (va_rf (some a0)), some (va_rf x1), some (va_rf (gr σ a6 1)), some (.int x3)]) dX21_goes_19 (by decide) rfl ?_
    refine j_iinc (lv' := [some (va_rf (some a0)), some (va_rf x1), some (va_rf (gr σ a6 1)), some (.int (x3 + iI 1))]) dX21_goes_20 rfl (by decide) rfl ?_
    refine j_goto 7 dX21_goes_23 (by decide) ?_
    exact h
theorem tX21_init {G : GPl} {s0 : State} {l : Launch} {K : Nat → Option Nat} {T : Nat → Nat} {lev : Nat} {Q : Outcome → GSt → Prop} {a0 : Nat} {x1 : Option Nat} {x2 : Int32} {σ : GSt} (h : (CQ (wP G s0 l K T) mX9_init lev (.ref a0 :: []) σ (onV (fun t1 => gle σ t1 → (gk t1 a0 = 19 ∧ Q (.returned none) (gpi a0 3 x2 (gpr a0 2 x1 t1)))) (fun x t => gle σ t → Q (.threw x) t)))) : CQ (wP G s0 l K T) mX21_init (lev + 1) [.ref a0, va_rf x1, .int x2] σ Q := by
  refine CQ.of3 0 (lv := [some (va_rf (some a0)), some (va_rf x1), some (.int x2)]) (by decide) (Nat.le_of_ble_eq_true rfl) (cat1_cons rfl (cat1_cons (rf_cat _) (cat1_cons rfl cat1_nil))) rfl ?_
  refine j_aload_n (r := some a0) dX21_init_0 rfl ?_
  refine jg_callv (rest := []) (kg_lkI (As := []) (a := a0) kiX9_init (Or.inr ⟨_, q1670⟩) rfl rfl dX21_init_1) cwX9_init (Nat.le_of_ble_eq_true rfl) rfl dX21_init_1 (Nat.succ_le_succ (Nat.zero_le _)) (h.mono (onV_mono (fun t1 h hlt1 => ?_) (fun _ _ h => h)))
  replace h := h hlt1
  refine j_aload_n (r := some a0) dX21_init_4 rfl ?_
  refine j_aload_n (r := x1) dX21_init_5 rfl ?_
  obtain ⟨hk3, h⟩ := h
  refine kg_putr (a := a0) (x := x1) rfl gfX21_7 (Or.inr ⟨rfl, rfl⟩) hk3 (Or.inl (by decide)) dX21_init_6 ?_
  refine j_aload_n (r := some a0) dX21_init_9 rfl ?_
  refine j_iload_n dX21_init_10 rfl ?_
  refine kg_puti (a := a0) rfl gfX21_13 (Or.inr ⟨rfl, rfl⟩) hk3 (Or.inl (by decide)) dX21_init_11 ?_
  exact j_return rfl dX21_init_14 h
theorem tX13_init {G : GPl} {s0 : State} {l : Launch} {K : Nat → Option Nat} {T : Nat → Nat} {lev : Nat} {Q : Outcome → GSt → Prop} {a0 : Nat} {x1 : Int32} {σ : GSt} (h : (CQ (wP G s0 l K T) mX9_init lev (.ref a0 :: []) σ (onV (fun t1 => gle σ t1 → (gk t1 a0 = 11 ∧ Q (.returned none) (gpi a0 2 x1 t1))) (fun x t => gle σ t → Q (.threw x) t)))) : CQ (wP G s0 l K T) mX13_init (lev + 1) [.ref a0, .int x1] σ Q := by
  refine CQ.of3 0 (lv := [some (va_rf (some a0)), some (.int x1)]) (by decide) (Nat.le_of_ble_eq_true rfl) (cat1_cons rfl (cat1_cons rfl cat1_nil)) rfl ?_
  refine j_aload_n (r := some a0) dX13_init_0 rfl ?_
  refine jg_callv (rest := []) (kg_lkI (As := []) (a := a0) kiX9_init (Or.inr ⟨_, q1242⟩) rfl rfl dX13_init_1) cwX9_init (Nat.le_of_ble_eq_true rfl) rfl dX13_init_1 (Nat.succ_le_succ (Nat.zero_le _)) (h.mono (onV_mono (fun t1 h hlt1 => ?_) (fun _ _ h => h)))
  replace h := h hlt1
  refine j_aload_n (r := some a0) dX13_init_4 rfl ?_
  refine j_iload_n dX13_init_5 rfl ?_
  obtain ⟨hk3, h⟩ := h
  refine kg_puti (a := a0) rfl gfX13_7 (Or.inr ⟨rfl, rfl⟩) hk3 (Or.inl (by decide)) dX13_init_6 ?_
  exact j_return rfl dX13_init_9 h
abbrev jX13_goes_7 (G : GPl) (s0 : State) (l : Launch) (K : Nat → Option Nat) (T : Nat → Nat) (lev : Nat) (st0 : GSt) (Q : Outcome → GSt → Prop) (a0 : Nat) (x1 : Option Nat) (x2 : Option Nat) (x3 : Int32) (σ : GSt) : Prop := JQ (wP G s0 l K T) mX13_goes (lev + 1) st0 7 [some (va_rf (some a0)), some (va_rf x1), some (va_rf x2), some (.int x3)] [] σ Q
abbrev jX13_goes_44 (G : GPl) (s0 : State) (l : Launch) (K : Nat → Option Nat) (T : Nat → Nat) (lev : Nat) (st0 : GSt) (Q : Outcome → GSt → Prop) (a0 : Nat) (x1 : Option Nat) (x2 : Option Nat) (x3 : Int32) (σ : GSt) : Prop := JQ (wP G s0 l K T) mX13_goes (lev + 1) st0 44 [some (va_rf (some a0)), some (va_rf x1), some (va_rf x2), some (.int x3)] [] σ Q
theorem tX13_goes {G : GPl} {s0 : State} {l : Launch} {K : Nat → Option Nat} {T : Nat → Nat} {lev : Nat} {Q : Outcome → GSt → Prop} {a0 : Nat} {x1 : Option Nat} {σ : GSt} (h : (∃ a1, x1 = some a1 ∧ (gk σ a1 = 3 ∧ jX13_goes_7 G s0 l K T lev σ Q a0 x1 (gr σ a1 2) (iI 0) σ))) : CQ (wP G s0 l K T) mX13_goes (lev + 1) [.ref a0, va_rf x1] σ Q := by
  refine CQ.of3 2 (lv := [some (va_rf (some a0)), some (va_rf x1), none, none]) (by decide) (Nat.le_of_ble_eq_true rfl) (cat1_cons rfl (cat1_cons (rf_cat _) cat1_nil)) rfl ?_
  refine j_aload_n (r := x1) dX13_goes_0 rfl ?_
  obtain ⟨a1, ea1, hk2, h⟩ := h
  refine kg_getr (a := a1) (j := 2) ea1 gfX13_13 hk2 dX13_goes_1 ?_
  refine j_astore_n (r := gr σ a1 2) (lv' := [some (va_rf (some a0)), some (va_rf x1), some (va_rf (gr σ a1 2)), none]) dX13_goes_4 (by decide) rfl ?_
  refine j_iconst (v := iI 0) dX13_goes_5 rfl ?_
  refine j_istore_n (lv' := [some (va_rf (some a0)), some (va_rf x1), some (va_rf (gr σ a1 2)), some (.int (iI 0))]) dX13_goes_6 (by decide) rfl ?_
  exact h
theorem tX13_goes_7 {G : GPl} {s0 : State} {l : Launch} {K : Nat → Option Nat} {T : Nat → Nat} {lev : Nat} {st0 : GSt} {Q : Outcome → GSt → Prop} {a0 : Nat} {x1 : Option Nat} {x2 : Option Nat} {x3 : Int32} {σ : GSt} (h : (gk σ a0 = 11 ∧ (((gi σ a0 2) ≤ x3 → (∃ a2, x2 = some a2 ∧ (gk σ a2 = 16 ∧ (∃ a4, gr σ a2 0 = some a4 ∧ (gk σ a4 = 14 ∧ (∃ a6, gr σ a4 0 = some a6 ∧ (isTmA σ a6 ∧ ((isA σ (gr σ a4 0) 18 → jX13_goes_44 G s0 l K T lev st0 Q a0 x1 x2 x3 σ) ∧ (¬ isA σ (gr σ a4 0) 18 → (∃ a10, x1 = some a10 ∧ (gk σ a10 = 3 ∧ (CQ (wP G s0 l K T) mX3_spend lev (.ref a10 :: [.int (iI 4)]) σ (onV (fun t12 => gle σ t12 → jX13_goes_44 G s0 l K T lev st0 Q a0 x1 x2 x3 t12) (fun x t => gle σ t → Q (.threw x) t)))))))))))))) ∧ (¬ (gi σ a0 2) ≤ x3 → (∃ a14, x2 = some a14 ∧ (gk σ a14 = 16 ∧ jX13_goes_7 G s0 l K T lev st0 Q a0 x1 (gr σ a14 1) (x3 + iI 1) σ)))))) : jX13_goes_7 G s0 l K T lev st0 Q a0 x1 x2 x3 σ := by
  refine j_iload_n dX13_goes_7 rfl ?_
  refine j_aload_n (r := some a0) dX13_goes_8 rfl ?_
  obtain ⟨hk1, h⟩ := h
  refine kg_geti (a := a0) (j := 2) rfl gfX13_7 (by decide) hk1 dX13_goes_9 ?_
  refine j_icmp_ge 26 dX13_goes_12 (by decide) (fun c16 => ?_) (fun c16 => ?_)
  · replace h := h.1 c16
    refine j_aload_n (r := x2) dX13_goes_26 rfl ?_
    obtain ⟨a2, ea2, hk3, h⟩ := h
    refine kg_getr (a := a2) (j := 0) ea2 gfX13_24 hk3 dX13_goes_27 ?_
    obtain ⟨a4, ea4, hk5, h⟩ := h
    refine kg_getr (a := a4) (j := 0) ea4 gfX13_28 hk5 dX13_goes_30 ?_
    obtain ⟨a6, ea6, hm7, h⟩ := h
    refine jg_inst (r := gr σ a4 0) 17 (by decide) q1478 (isTmA.tm (a := a6) hm7 ea6) dX13_goes_33 (fun c8 => ?_) (fun c8 => ?_)
    · replace h := h.1 c8
      have hk9 := isA.tag c8 ea6
      refine j_if_ne 44 dX13_goes_36 (by decide) (fun _ => ?_) (fun q_ => absurd q_ (by decide))
      exact h
    · replace h := h.2 c8
      refine j_if_ne 44 dX13_goes_36 (by decide) (fun q_ => absurd (by decide) q_) (fun _ => ?_)
      refine j_aload_n (r := x1) dX13_goes_39 rfl ?_
      refine j_iconst (v := iI 4) dX13_goes_40 rfl ?_
      obtain ⟨a10, ea10, hk11, h⟩ := h
      refine jg_callv (rest := []) (kg_lkV (As := [.int (iI 4)]) (a := a10) (c := 2) kgX3_spend_2 (by decide) rfl hk11 q1479 rfl (by rw [ea10]; rfl) dX13_goes_41) cwX3_spend (Nat.le_of_ble_eq_true rfl) rfl dX13_goes_41 (Nat.succ_le_succ (Nat.zero_le _)) (h.mono (onV_mono (fun t12 h hlt12 => ?_) (fun _ _ h => h)))
      replace h := h hlt12
      replace hk1 := hlt12.tag hk1 (by decide)
      replace hk3 := hlt12.tag hk3 (by decide)
      replace hk5 := hlt12.tag hk5 (by decide)
      replace hk11 := hlt12.tag hk11 (by decide)
      replace hm7 := hm7.le hlt12
      exact h
  · replace h := h.2 c16
    refine j_aload_n (r := x2) dX13_goes_15 rfl ?_
    obtain ⟨a14, ea14, hk15, h⟩ := h
    refine kg_getr (a := a14) (j := 1) ea14 gfX13_19 hk15 dX13_goes_16 ?_
    refine j_astore_n (r := gr σ a14 1) (lv' := [some (va_rf (some a0)), some (va_rf x1), some (va_rf (gr σ a14 1)), some (.int x3)]) dX13_goes_19 (by decide) rfl ?_
    refine j_iinc (lv' := [some (va_rf (some a0)), some (va_rf x1), some (va_rf (gr σ a14 1)), some (.int (x3 + iI 1))]) dX13_goes_20 rfl (by decide) rfl ?_
    refine j_goto 7 dX13_goes_23 (by decide) ?_
    exact h
theorem tX13_goes_44 {G : GPl} {s0 : State} {l : Launch} {K : Nat → Option Nat} {T : Nat → Nat} {lev : Nat} {st0 : GSt} {Q : Outcome → GSt → Prop} {a0 : Nat} {x1 : Option Nat} {x2 : Option Nat} {x3 : Int32} {σ : GSt} (h : (∃ a1, x2 = some a1 ∧ (gk σ a1 = 16 ∧ (∃ a3, x1 = some a3 ∧ (gk σ a3 = 3 ∧ (CQ (wP G s0 l K T) mX3_enter lev (.ref a3 :: [va_rf (gr σ a1 0)]) σ (onV (fun t5 => gle σ t5 → Q (.returned (some (.int (iI 1)))) t5) (fun x t => gle σ t → Q (.threw x) t)))))))) : jX13_goes_44 G s0 l K T lev st0 Q a0 x1 x2 x3 σ := by
  refine j_aload_n (r := x1) dX13_goes_44 rfl ?_
  refine j_aload_n (r := x2) dX13_goes_45 rfl ?_
  obtain ⟨a1, ea1, hk2, h⟩ := h
  refine kg_getr (a := a1) (j := 0) ea1 gfX13_24 hk2 dX13_goes_46 ?_
  obtain ⟨a3, ea3, hk4, h⟩ := h
  refine jg_callv (rest := []) (kg_lkV (As := [va_rf (gr σ a1 0)]) (a := a3) (c := 2) kgX3_enter_2 (by decide) rfl hk4 q1480 rfl (by rw [ea3]; rfl) dX13_goes_49) cwX3_enter (Nat.le_of_ble_eq_true rfl) rfl dX13_goes_49 (Nat.succ_le_succ (Nat.zero_le _)) (h.mono (onV_mono (fun t5 h hlt5 => ?_) (fun _ _ h => h)))
  replace h := h hlt5
  replace hk2 := hlt5.tag hk2 (by decide)
  replace hk4 := hlt5.tag hk4 (by decide)
  refine j_iconst (v := iI 1) dX13_goes_52 rfl ?_
  exact j_ireturn (ty := .boolean) rfl rfl dX13_goes_53 h
theorem tX15_init {G : GPl} {s0 : State} {l : Launch} {K : Nat → Option Nat} {T : Nat → Nat} {lev : Nat} {Q : Outcome → GSt → Prop} {a0 : Nat} {x1 : Option Nat} {σ : GSt} (h : (CQ (wP G s0 l K T) mX9_init lev (.ref a0 :: []) σ (onV (fun t1 => gle σ t1 → (groom G 3 t1 ∧ (CQ (wP G s0 l K T) mJ2_init_2 lev (.ref (gn t1) :: [.int (iI 2)]) (gmk 22 3 t1) (onV (fun t5 => gle (gmk 22 3 t1) t5 → (gk t5 a0 = 13 ∧ Q (.returned none) (gpr a0 2 x1 (gpr a0 3 (some (gn t1)) t5)))) (fun x t => gle (gmk 22 3 t1) t → Q (.threw x) t))))) (fun x t => gle σ t → Q (.threw x) t)))) : CQ (wP G s0 l K T) mX15_init (lev + 1) [.ref a0, va_rf x1] σ Q := by
  refine CQ.of3 0 (lv := [some (va_rf (some a0)), some (va_rf x1)]) (by decide) (Nat.le_of_ble_eq_true rfl) (cat1_cons rfl (cat1_cons (rf_cat _) cat1_nil)) rfl ?_
  refine j_aload_n (r := some a0) dX15_init_0 rfl ?_
  refine jg_callv (rest := []) (kg_lkI (As := []) (a := a0) kiX9_init (Or.inr ⟨_, q1279⟩) rfl rfl dX15_init_1) cwX9_init (Nat.le_of_ble_eq_true rfl) rfl dX15_init_1 (Nat.succ_le_succ (Nat.zero_le _)) (h.mono (onV_mono (fun t1 h hlt1 => ?_) (fun _ _ h => h)))
  replace h := h hlt1
  refine j_aload_n (r := some a0) dX15_init_4 rfl ?_
  obtain ⟨hg3, h⟩ := h
  refine jg_new (c := 21) (N := 3) (C := "java/util/ArrayList") (by decide) ⟨rfl, rfl⟩ q1280 q263 q119 hg3 dX15_init_5 ?_
  have hk4 := gk_new (t := 22) (n := 3) hg3.2.2
  refine j_dup dX15_init_8 rfl ?_
  refine j_iconst (v := iI 2) dX15_init_9 rfl ?_
  refine jg_callv (rest := [va_rf (some (gn t1)), va_rf (some a0)]) (kg_lkI (As := [.int (iI 2)]) (a := (gn t1)) kiJ2_init_2 (Or.inl q1281) rfl rfl dX15_init_10) cwJ2_init_2 (Nat.le_of_ble_eq_true rfl) rfl dX15_init_10 (Nat.succ_le_succ (Nat.zero_le _)) (h.mono (onV_mono (fun t5 h hlt5 => ?_) (fun _ _ h => h)))
  replace h := h hlt5
  replace hk4 := hlt5.tag hk4 (by decide)
  obtain ⟨hk7, h⟩ := h
  refine kg_putr (a := a0) (x := some (gn t1)) rfl gfX15_12 (Or.inr ⟨rfl, rfl⟩) hk7 (Or.inl (by decide)) dX15_init_13 ?_
  refine j_aload_n (r := some a0) dX15_init_16 rfl ?_
  refine j_aload_n (r := x1) dX15_init_17 rfl ?_
  refine kg_putr (a := a0) (x := x1) rfl gfX15_18 (Or.inr ⟨rfl, rfl⟩) hk7 (Or.inl (by decide)) dX15_init_18 ?_
  exact j_return rfl dX15_init_21 h
abbrev jX15_goes_2 (G : GPl) (s0 : State) (l : Launch) (K : Nat → Option Nat) (T : Nat → Nat) (lev : Nat) (st0 : GSt) (Q : Outcome → GSt → Prop) (a0 : Nat) (x1 : Option Nat) (x2 : Int32) (σ : GSt) : Prop := JQ (wP G s0 l K T) mX15_goes (lev + 1) st0 2 [some (va_rf (some a0)), some (va_rf x1), some (.int x2)] [] σ Q
abbrev jX15_goes_34 (G : GPl) (s0 : State) (l : Launch) (K : Nat → Option Nat) (T : Nat → Nat) (lev : Nat) (st0 : GSt) (Q : Outcome → GSt → Prop) (a0 : Nat) (x1 : Option Nat) (x2 : Int32) (σ : GSt) : Prop := JQ (wP G s0 l K T) mX15_goes (lev + 1) st0 34 [some (va_rf (some a0)), some (va_rf x1), some (.int x2)] [] σ Q
theorem tX15_goes {G : GPl} {s0 : State} {l : Launch} {K : Nat → Option Nat} {T : Nat → Nat} {lev : Nat} {Q : Outcome → GSt → Prop} {a0 : Nat} {x1 : Option Nat} {σ : GSt} (h : jX15_goes_2 G s0 l K T lev σ Q a0 x1 (iI 0) σ) : CQ (wP G s0 l K T) mX15_goes (lev + 1) [.ref a0, va_rf x1] σ Q := by
  refine CQ.of3 1 (lv := [some (va_rf (some a0)), some (va_rf x1), none]) (by decide) (Nat.le_of_ble_eq_true rfl) (cat1_cons rfl (cat1_cons (rf_cat _) cat1_nil)) rfl ?_
  refine j_iconst (v := iI 0) dX15_goes_0 rfl ?_
  refine j_istore_n (lv' := [some (va_rf (some a0)), some (va_rf x1), some (.int (iI 0))]) dX15_goes_1 (by decide) rfl ?_
  exact h
theorem tX15_goes_2 {G : GPl} {s0 : State} {l : Launch} {K : Nat → Option Nat} {T : Nat → Nat} {lev : Nat} {st0 : GSt} {Q : Outcome → GSt → Prop} {a0 : Nat} {x1 : Option Nat} {x2 : Int32} {σ : GSt} (h : (gk σ a0 = 13 ∧ (∃ a2, gr σ a0 3 = some a2 ∧ (gk σ a2 = 22 ∧ (CQ (wP G s0 l K T) mJ2_size lev (.ref a2 :: []) σ (onI (fun r5 t4 => gle σ t4 → ((r5 ≤ x2 → (∃ a6, gr t4 a0 3 = some a6 ∧ (gk t4 a6 = 22 ∧ (CQ (wP G s0 l K T) mJ2_size lev (.ref a6 :: []) t4 (onI (fun r9 t8 => gle t4 t8 → jX15_goes_34 G s0 l K T lev st0 Q a0 x1 (r9 - (iI 1)) t8) (fun x t => gle t4 t → Q (.threw x) t)))))) ∧ (¬ r5 ≤ x2 → (∃ a10, x1 = some a10 ∧ (gk t4 a10 = 3 ∧ (CQ (wP G s0 l K T) mX3_spend lev (.ref a10 :: [.int (iI 3)]) t4 (onV (fun t12 => gle t4 t12 → jX15_goes_2 G s0 l K T lev st0 Q a0 x1 (x2 + iI 1) t12) (fun x t => gle t4 t → Q (.threw x) t)))))))) (fun x t => gle σ t → Q (.threw x) t))))))) : jX15_goes_2 G s0 l K T lev st0 Q a0 x1 x2 σ := by
  refine j_iload_n dX15_goes_2 rfl ?_
  refine j_aload_n (r := some a0) dX15_goes_3 rfl ?_
  obtain ⟨hk1, h⟩ := h
  refine kg_getr (a := a0) (j := 3) rfl gfX15_12 hk1 dX15_goes_4 ?_
  obtain ⟨a2, ea2, hk3, h⟩ := h
  refine jg_calli (rest := [.int x2]) (kg_lkV (As := []) (a := a2) (c := 21) kgJ2_size_21 (by decide) rfl hk3 q1546 rfl (by rw [ea2]; rfl) dX15_goes_7) cwJ2_size (Nat.le_of_ble_eq_true rfl) rfl dX15_goes_7 (Nat.succ_le_succ (Nat.zero_le _)) (h.mono (onI_mono (fun r5 t4 h hlt4 => ?_) (fun _ _ h => h)))
  replace h := h hlt4
  replace hk1 := hlt4.tag hk1 (by decide)
  replace hk3 := hlt4.tag hk3 (by decide)
  refine j_icmp_ge 24 dX15_goes_10 (by decide) (fun c14 => ?_) (fun c14 => ?_)
  · replace h := h.1 c14
    refine j_aload_n (r := some a0) dX15_goes_24 rfl ?_
    refine kg_getr (a := a0) (j := 3) rfl gfX15_12 hk1 dX15_goes_25 ?_
    obtain ⟨a6, ea6, hk7, h⟩ := h
    refine jg_calli (rest := []) (kg_lkV (As := []) (a := a6) (c := 21) kgJ2_size_21 (by decide) rfl hk7 q1546 rfl (by rw [ea6]; rfl) dX15_goes_28) cwJ2_size (Nat.le_of_ble_eq_true rfl) rfl dX15_goes_28 (Nat.succ_le_succ (Nat.zero_le _)) (h.mono (onI_mono (fun r9 t8 h hlt8 => ?_) (fun _ _ h => h)))
    replace h := h hlt8
    replace hk1 := hlt8.tag hk1 (by decide)
    replace hk3 := hlt8.tag hk3 (by decide)
    replace hk7 := hlt8.tag hk7 (by decide)
    refine j_iconst (v := iI 1) dX15_goes_31 rfl ?_
    refine j_isub dX15_goes_32 ?_
    refine j_istore_n (lv' := [some (va_rf (some a0)), some (va_rf x1), some (.int (r9 - (iI 1)))]) dX15_goes_33 (by decide) rfl ?_
    exact h
  · replace h := h.2 c14
    refine j_aload_n (r := x1) dX15_goes_13 rfl ?_
    refine j_iconst (v := iI 3) dX15_goes_14 rfl ?_
    obtain ⟨a10, ea10, hk11, h⟩ := h
    refine jg_callv (rest := []) (kg_lkV (As := [.int (iI 3)]) (a := a10) (c := 2) kgX3_spend_2 (by decide) rfl hk11 q1547 rfl (by rw [ea10]; rfl) dX15_goes_15) cwX3_spend (Nat.le_of_ble_eq_true rfl) rfl dX15_goes_15 (Nat.succ_le_succ (Nat.zero_le _)) (h.mono (onV_mono (fun t12 h hlt12 => ?_) (fun _ _ h => h)))
    replace h := h hlt12
    replace hk1 := hlt12.tag hk1 (by decide)
    replace hk3 := hlt12.tag hk3 (by decide)
    replace hk11 := hlt12.tag hk11 (by decide)
    refine j_iinc (lv' := [some (va_rf (some a0)), some (va_rf x1), some (.int (x2 + iI 1))]) dX15_goes_18 rfl (by decide) rfl ?_
    refine j_goto 2 dX15_goes_21 (by decide) ?_
    exact h
theorem tX15_goes_34 {G : GPl} {s0 : State} {l : Launch} {K : Nat → Option Nat} {T : Nat → Nat} {lev : Nat} {st0 : GSt} {Q : Outcome → GSt → Prop} {a0 : Nat} {x1 : Option Nat} {x2 : Int32} {σ : GSt} (h : ((x2 < 0 → (gk σ a0 = 13 ∧ (∃ a2, x1 = some a2 ∧ (gk σ a2 = 3 ∧ Q (.returned (some (.int (iI 1)))) (gpr a2 1 (gr σ a0 2) σ))))) ∧ (¬ x2 < 0 → (groom G 2 σ ∧ (groom G 2 (gmk 17 2 σ) ∧ (gk (gmk 14 2 (gmk 17 2 σ)) a0 = 13 ∧ (∃ a9, gr (gmk 14 2 (gmk 17 2 σ)) a0 3 = some a9 ∧ (gk (gmk 14 2 (gmk 17 2 σ)) a9 = 22 ∧ (CQ (wP G s0 l K T) mJ2_get lev (.ref a9 :: [.int x2]) (gmk 14 2 (gmk 17 2 σ)) (onR (fun r12 t11 => gle (gmk 14 2 (gmk 17 2 σ)) t11 → (inT t11 r12 [8, 9, 10, 11, 12, 13, 18, 19, 20] ∧ (∃ a14, x1 = some a14 ∧ (gk t11 a14 = 3 ∧ (CQ (wP G s0 l K T) mX16_init lev (.ref (gn (gmk 17 2 σ)) :: [va_rf r12, va_rf (gr t11 a14 2)]) t11 (onV (fun t16 => gle t11 t16 → (CQ (wP G s0 l K T) mX19_init lev (.ref (gn σ) :: [va_rf (some (gn (gmk 17 2 σ))), va_rf (gr t16 a14 3)]) t16 (onV (fun t18 => gle t16 t18 → jX15_goes_34 G s0 l K T lev st0 Q a0 x1 (x2 + iI (-1)) (gpr a14 3 (some (gn σ)) t18)) (fun x t => gle t16 t → Q (.threw x) t)))) (fun x t => gle t11 t → Q (.threw x) t))))))) (fun x t => gle (gmk 14 2 (gmk 17 2 σ)) t → Q (.threw x) t))))))))))) : jX15_goes_34 G s0 l K T lev st0 Q a0 x1 x2 σ := by
  refine j_iload_n dX15_goes_34 rfl ?_
  refine j_if_lt 81 dX15_goes_35 (by decide) (fun c20 => ?_) (fun c20 => ?_)
  · replace h := h.1 c20
    refine j_aload_n (r := x1) dX15_goes_81 rfl ?_
    refine j_aload_n (r := some a0) dX15_goes_82 rfl ?_
    obtain ⟨hk1, h⟩ := h
    refine kg_getr (a := a0) (j := 2) rfl gfX15_18 hk1 dX15_goes_83 ?_
    obtain ⟨a2, ea2, hk3, h⟩ := h
    refine kg_putr (a := a2) (x := gr σ a0 2) ea2 gfX15_53 (Or.inl rfl) hk3 (Or.inl (by decide)) dX15_goes_86 ?_
    refine j_iconst (v := iI 1) dX15_goes_89 rfl ?_
    exact j_ireturn (ty := .boolean) rfl rfl dX15_goes_90 h
  · replace h := h.2 c20
    refine j_aload_n (r := x1) dX15_goes_38 rfl ?_
    obtain ⟨hg4, h⟩ := h
    refine jg_new (c := 16) (N := 2) (C := "PureHouse$Args") (by decide) ⟨rfl, rfl⟩ q1548 q1549 q155 hg4 dX15_goes_39 ?_
    have hk5 := gk_new (t := 17) (n := 2) hg4.2.2
    refine j_dup dX15_goes_42 rfl ?_
    obtain ⟨hg6, h⟩ := h
    refine jg_new (c := 13) (N := 2) (C := "PureHouse$Closure") (by decide) ⟨rfl, rfl⟩ q1550 q1427 q152 hg6 dX15_goes_43 ?_
    replace hk5 := gk_mk (t := 14) (n := 2) hk5 (by decide)
    have hk7 := gk_new (t := 14) (n := 2) hg6.2.2
    refine j_dup dX15_goes_46 rfl ?_
    refine j_aload_n (r := some a0) dX15_goes_47 rfl ?_
    obtain ⟨hk8, h⟩ := h
    refine kg_getr (a := a0) (j := 3) rfl gfX15_12 hk8 dX15_goes_48 ?_
    refine j_iload_n dX15_goes_51 rfl ?_
    obtain ⟨a9, ea9, hk10, h⟩ := h
    refine jg_callr (rest := [va_rf (some (gn (gmk 17 2 σ))), va_rf (some (gn (gmk 17 2 σ))), va_rf (some (gn σ)), va_rf (some (gn σ)), va_rf x1]) (kg_lkV (As := [.int x2]) (a := a9) (c := 21) kgJ2_get_21 (by decide) rfl hk10 q1551 rfl (by rw [ea9]; rfl) dX15_goes_52) cwJ2_get (rm_ok (cat1_cons rfl (cat1_cons rfl (cat1_cons rfl (cat1_cons rfl (cat1_cons (rf_cat _) cat1_nil))))) (Nat.le_of_ble_eq_true rfl)) rfl dX15_goes_52 (Nat.succ_le_succ (Nat.zero_le _)) (h.mono (onR_mono (fun r12 t11 h hlt11 => ?_) (fun _ _ h => h)))
    replace h := h hlt11
    replace hk5 := hlt11.tag hk5 (by decide)
    replace hk7 := hlt11.tag hk7 (by decide)
    replace hk8 := hlt11.tag hk8 (by decide)
    replace hk10 := hlt11.tag hk10 (by decide)
    obtain ⟨hc13, h⟩ := h
    refine jg_cast (r := r12) cs_PureHouse_Term q1552 hc13 dX15_goes_55 ?_
    refine j_aload_n (r := x1) dX15_goes_58 rfl ?_
    obtain ⟨a14, ea14, hk15, h⟩ := h
    refine kg_getr (a := a14) (j := 2) ea14 gfX15_39 hk15 dX15_goes_59 ?_
    refine jg_callv (rest := [va_rf (some (gn (gmk 17 2 σ))), va_rf (some (gn σ)), va_rf (some (gn σ)), va_rf x1]) (kg_lkI (As := [va_rf r12, va_rf (gr t11 a14 2)]) (a := (gn (gmk 17 2 σ))) kiX16_init (Or.inl q1553) rfl rfl dX15_goes_62) cwX16_init (rm_ok (cat1_cons rfl (cat1_cons rfl (cat1_cons rfl (cat1_cons (rf_cat _) cat1_nil)))) (Nat.le_of_ble_eq_true rfl)) rfl dX15_goes_62 (Nat.succ_le_succ (Nat.zero_le _)) (h.mono (onV_mono (fun t16 h hlt16 => ?_) (fun _ _ h => h)))
    replace h := h hlt16
    replace hk5 := hlt16.tag hk5 (by decide)
    replace hk7 := hlt16.tag hk7 (by decide)
    replace hk8 := hlt16.tag hk8 (by decide)
    replace hk10 := hlt16.tag hk10 (by decide)
    replace hk15 := hlt16.tag hk15 (by decide)
    refine j_aload_n (r := x1) dX15_goes_65 rfl ?_
    refine kg_getr (a := a14) (j := 3) ea14 gfX15_46 hk15 dX15_goes_66 ?_
    refine jg_callv (rest := [va_rf (some (gn σ)), va_rf x1]) (kg_lkI (As := [va_rf (some (gn (gmk 17 2 σ))), va_rf (gr t16 a14 3)]) (a := (gn σ)) kiX19_init (Or.inl q1554) rfl rfl dX15_goes_69) cwX19_init (rm_ok (cat1_cons rfl (cat1_cons (rf_cat _) cat1_nil)) (Nat.le_of_ble_eq_true rfl)) rfl dX15_goes_69 (Nat.succ_le_succ (Nat.zero_le _)) (h.mono (onV_mono (fun t18 h hlt18 => ?_) (fun _ _ h => h)))
    replace h := h hlt18
    replace hk5 := hlt18.tag hk5 (by decide)
    replace hk7 := hlt18.tag hk7 (by decide)
    replace hk8 := hlt18.tag hk8 (by decide)
    replace hk10 := hlt18.tag hk10 (by decide)
    replace hk15 := hlt18.tag hk15 (by decide)
    refine kg_putr (a := a14) (x := some (gn σ)) ea14 gfX15_46 (Or.inl rfl) hk15 (Or.inl (by decide)) dX15_goes_72 ?_
    refine j_iinc (lv' := [some (va_rf (some a0)), some (va_rf x1), some (.int (x2 + iI (-1)))]) dX15_goes_75 rfl (by decide) rfl ?_
    refine j_goto 34 dX15_goes_78 (by decide) ?_
    exact h
theorem tX8_init {G : GPl} {s0 : State} {l : Launch} {K : Nat → Option Nat} {T : Nat → Nat} {lev : Nat} {Q : Outcome → GSt → Prop} {a0 : Nat} {x1 : Int32} {x2 : Int32} {σ : GSt} (h : (CQ (wP G s0 l K T) mJ8_init lev (.ref a0 :: []) σ (onV (fun t1 => gle σ t1 → (gk t1 a0 = 7 ∧ Q (.returned none) (gpi a0 7 x2 (gpi a0 6 x1 t1)))) (fun x t => gle σ t → Q (.threw x) t)))) : CQ (wP G s0 l K T) mX8_init (lev + 1) [.ref a0, .int x1, .int x2] σ Q := by
  refine CQ.of3 0 (lv := [some (va_rf (some a0)), some (.int x1), some (.int x2)]) (by decide) (Nat.le_of_ble_eq_true rfl) (cat1_cons rfl (cat1_cons rfl (cat1_cons rfl cat1_nil))) rfl ?_
  refine j_aload_n (r := some a0) dX8_init_0 rfl ?_
  refine jg_callv (rest := []) (kg_lkI (As := []) (a := a0) kiJ8_init (Or.inl q1000) rfl rfl dX8_init_1) cwJ8_init (Nat.le_of_ble_eq_true rfl) rfl dX8_init_1 (Nat.succ_le_succ (Nat.zero_le _)) (h.mono (onV_mono (fun t1 h hlt1 => ?_) (fun _ _ h => h)))
  replace h := h hlt1
  refine j_aload_n (r := some a0) dX8_init_4 rfl ?_
  refine j_iload_n dX8_init_5 rfl ?_
  obtain ⟨hk3, h⟩ := h
  refine kg_puti (a := a0) rfl gfX8_7 (Or.inr ⟨rfl, rfl⟩) hk3 (Or.inl (by decide)) dX8_init_6 ?_
  refine j_aload_n (r := some a0) dX8_init_9 rfl ?_
  refine j_iload_n dX8_init_10 rfl ?_
  refine kg_puti (a := a0) rfl gfX8_13 (Or.inr ⟨rfl, rfl⟩) hk3 (Or.inl (by decide)) dX8_init_11 ?_
  exact j_return rfl dX8_init_14 h
