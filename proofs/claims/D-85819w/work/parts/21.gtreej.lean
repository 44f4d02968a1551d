/-! trees (made by gen/geng.py) -/
set_option maxRecDepth 100000
theorem tJ2_init {G : GPl} {s0 : State} {l : Launch} {K : Nat → Option Nat} {T : Nat → Nat} {lev : Nat} {Q : Outcome → GSt → Prop} {a0 : Nat} {σ : GSt} (h : (CQ (wP G s0 l K T) mJ1_init lev (.ref a0 :: []) σ (onV (fun t1 => gle σ t1 → (gk t1 a0 = 22 ∧ Q (.returned none) (gpr a0 1 (K 14) t1))) (fun x t => gle σ t → Q (.threw x) t)))) : CQ (wP G s0 l K T) mJ2_init (lev + 1) [.ref a0] σ Q := by
  refine CQ.of3 0 (lv := [some (va_rf (some a0))]) (by decide) (Nat.le_of_ble_eq_true rfl) (cat1_cons rfl cat1_nil) rfl ?_
  refine j_aload_n (r := some a0) dJ2_init_0 rfl ?_
  refine jg_callv (rest := []) (kg_lkI (As := []) (a := a0) kiJ1_init (Or.inl q267) rfl rfl dJ2_init_1) cwJ1_init (Nat.le_of_ble_eq_true rfl) rfl dJ2_init_1 (Nat.succ_le_succ (Nat.zero_le _)) (h.mono (onV_mono (fun t1 h hlt1 => ?_) (fun _ _ h => h)))
  replace h := h hlt1
  refine j_aload_n (r := some a0) dJ2_init_4 rfl ?_
  refine jg_gets (i := 14) rfl flJ2_39 dJ2_init_5 ?_
  obtain ⟨hk3, h⟩ := h
  refine kg_putr (a := a0) (x := K 14) rfl gfJ2_9 (Or.inl rfl) hk3 (Or.inl (by decide)) dJ2_init_8 ?_
  exact j_return rfl dJ2_init_11 h
theorem tJ2_add {G : GPl} {s0 : State} {l : Launch} {K : Nat → Option Nat} {T : Nat → Nat} {lev : Nat} {Q : Outcome → GSt → Prop} {a0 : Nat} {x1 : Option Nat} {σ : GSt} (h : (gk σ a0 = 22 ∧ (CQ (wP G s0 l K T) mJ2_add_2 lev (.ref a0 :: [va_rf x1, va_rf (gr (gpi a0 0 ((gi σ a0 0) + (iI 1)) σ) a0 1), .int (gi (gpi a0 0 ((gi σ a0 0) + (iI 1)) σ) a0 2)]) (gpi a0 0 ((gi σ a0 0) + (iI 1)) σ) (onV (fun t2 => gle (gpi a0 0 ((gi σ a0 0) + (iI 1)) σ) t2 → Q (.returned (some (.int (iI 1)))) t2) (fun x t => gle (gpi a0 0 ((gi σ a0 0) + (iI 1)) σ) t → Q (.threw x) t))))) : CQ (wP G s0 l K T) mJ2_add (lev + 1) [.ref a0, va_rf x1] σ Q := by
  refine CQ.of3 0 (lv := [some (va_rf (some a0)), some (va_rf x1)]) (by decide) (Nat.le_of_ble_eq_true rfl) (cat1_cons rfl (cat1_cons (rf_cat _) cat1_nil)) rfl ?_
  refine j_aload_n (r := some a0) dJ2_add_0 rfl ?_
  refine j_dup dJ2_add_1 rfl ?_
  obtain ⟨hk1, h⟩ := h
  refine kg_geti (a := a0) (j := 0) rfl gfJ2_63 (by decide) hk1 dJ2_add_2 ?_
  refine j_iconst (v := iI 1) dJ2_add_5 rfl ?_
  refine j_iadd dJ2_add_6 ?_
  refine kg_puti (a := a0) rfl gfJ2_63 (Or.inl rfl) hk1 (Or.inl (by decide)) dJ2_add_7 ?_
  refine j_aload_n (r := some a0) dJ2_add_10 rfl ?_
  refine j_aload_n (r := x1) dJ2_add_11 rfl ?_
  refine j_aload_n (r := some a0) dJ2_add_12 rfl ?_
  refine kg_getr (a := a0) (j := 1) rfl gfJ2_9 hk1 dJ2_add_13 ?_
  refine j_aload_n (r := some a0) dJ2_add_16 rfl ?_
  refine kg_geti (a := a0) (j := 2) rfl gfJ2_48 (by decide) hk1 dJ2_add_17 ?_
  refine jg_callv (rest := []) (kg_lkV (As := [va_rf x1, va_rf (gr (gpi a0 0 ((gi σ a0 0) + (iI 1)) σ) a0 1), .int (gi (gpi a0 0 ((gi σ a0 0) + (iI 1)) σ) a0 2)]) (a := a0) (c := 21) kgJ2_add_2_21 (by decide) rfl hk1 q1083 rfl rfl dJ2_add_20) cwJ2_add_2 (Nat.le_of_ble_eq_true rfl) rfl dJ2_add_20 (Nat.succ_le_succ (Nat.zero_le _)) (h.mono (onV_mono (fun t2 h hlt2 => ?_) (fun _ _ h => h)))
  replace h := h hlt2
  replace hk1 := hlt2.tag hk1 (by decide)
  refine j_iconst (v := iI 1) dJ2_add_23 rfl ?_
  exact j_ireturn (ty := .boolean) rfl rfl dJ2_add_24 h
abbrev jJ2_add_2_11 (G : GPl) (s0 : State) (l : Launch) (K : Nat → Option Nat) (T : Nat → Nat) (lev : Nat) (st0 : GSt) (Q : Outcome → GSt → Prop) (a0 : Nat) (x1 : Option Nat) (x2 : Option Nat) (x3 : Int32) (σ : GSt) : Prop := JQ (wP G s0 l K T) mJ2_add_2 (lev + 1) st0 11 [some (va_rf (some a0)), some (va_rf x1), some (va_rf x2), some (.int x3)] [] σ Q
theorem tJ2_add_2 {G : GPl} {s0 : State} {l : Launch} {K : Nat → Option Nat} {T : Nat → Nat} {lev : Nat} {Q : Outcome → GSt → Prop} {a0 : Nat} {x1 : Option Nat} {x2 : Option Nat} {x3 : Int32} {σ : GSt} (h : (∃ a1, x2 = some a1 ∧ (gk σ a1 = 103 ∧ ((x3 = (iI (gl σ a1 : Int)) → (gk σ a0 = 22 ∧ (CQ (wP G s0 l K T) mJ2_grow lev (.ref a0 :: []) σ (onR (fun r5 t4 => gle σ t4 → jJ2_add_2_11 G s0 l K T lev σ Q a0 x1 r5 x3 t4) (fun x t => gle σ t → Q (.threw x) t))))) ∧ (¬ x3 = (iI (gl σ a1 : Int)) → jJ2_add_2_11 G s0 l K T lev σ Q a0 x1 x2 x3 σ))))) : CQ (wP G s0 l K T) mJ2_add_2 (lev + 1) [.ref a0, va_rf x1, va_rf x2, .int x3] σ Q := by
  refine CQ.of3 0 (lv := [some (va_rf (some a0)), some (va_rf x1), some (va_rf x2), some (.int x3)]) (by decide) (Nat.le_of_ble_eq_true rfl) (cat1_cons rfl (cat1_cons (rf_cat _) (cat1_cons (rf_cat _) (cat1_cons rfl cat1_nil)))) rfl ?_
  refine j_iload_n dJ2_add_2_0 rfl ?_
  refine j_aload_n (r := x2) dJ2_add_2_1 rfl ?_
  obtain ⟨a1, ea1, hk2, h⟩ := h
  refine kg_alen (a := a1) ea1 hk2 (by decide) dJ2_add_2_2 ?_
  refine j_icmp_ne 11 dJ2_add_2_3 (by decide) (fun c6 => ?_) (fun c6 => ?_)
  · replace h := h.2 c6
    exact h
  · replace h := h.1 c6
    refine j_aload_n (r := some a0) dJ2_add_2_6 rfl ?_
    obtain ⟨hk3, h⟩ := h
    refine jg_callr (rest := []) (kg_lkV (As := []) (a := a0) (c := 21) kgJ2_grow_21 (by decide) rfl hk3 q1087 rfl rfl dJ2_add_2_7) cwJ2_grow (Nat.le_of_ble_eq_true rfl) rfl dJ2_add_2_7 (Nat.succ_le_succ (Nat.zero_le _)) (h.mono (onR_mono (fun r5 t4 h hlt4 => ?_) (fun _ _ h => h)))
    replace h := h hlt4
    replace hk2 := hlt4.tag hk2 (by decide)
    replace hk3 := hlt4.tag hk3 (by decide)
    refine j_astore_n (r := r5) (lv' := [some (va_rf (some a0)), some (va_rf x1), some (va_rf r5), some (.int x3)]) dJ2_add_2_10 (by decide) rfl ?_
    exact h
theorem tJ2_add_2_11 {G : GPl} {s0 : State} {l : Launch} {K : Nat → Option Nat} {T : Nat → Nat} {lev : Nat} {st0 : GSt} {Q : Outcome → GSt → Prop} {a0 : Nat} {x1 : Option Nat} {x2 : Option Nat} {x3 : Int32} {σ : GSt} (h : (∃ a1, x2 = some a1 ∧ (gk σ a1 = 103 ∧ (inr x3 (gl σ a1) ∧ (stOK σ x1 "java/lang/Object" ∧ (gk (gpr a1 (ix x3) x1 σ) a0 = 22 ∧ Q (.returned none) (gpi a0 2 (x3 + (iI 1)) (gpr a1 (ix x3) x1 σ)))))))) : jJ2_add_2_11 G s0 l K T lev st0 Q a0 x1 x2 x3 σ := by
  refine j_aload_n (r := x2) dJ2_add_2_11 rfl ?_
  refine j_iload_n dJ2_add_2_12 rfl ?_
  refine j_aload_n (r := x1) dJ2_add_2_13 rfl ?_
  obtain ⟨a1, ea1, hk2, hi3, hs4, h⟩ := h
  refine kg_aast (a := a1) (x := x1) (C := "java/lang/Object") ea1 hk2 (by decide) hi3 hs4 dJ2_add_2_14 ?_
  refine j_aload_n (r := some a0) dJ2_add_2_15 rfl ?_
  refine j_iload_n dJ2_add_2_16 rfl ?_
  refine j_iconst (v := iI 1) dJ2_add_2_17 rfl ?_
  refine j_iadd dJ2_add_2_18 ?_
  obtain ⟨hk5, h⟩ := h
  refine kg_puti (a := a0) rfl gfJ2_48 (Or.inl rfl) hk5 (Or.inl (by decide)) dJ2_add_2_19 ?_
  exact j_return rfl dJ2_add_2_22 h
theorem tJ2_grow {G : GPl} {s0 : State} {l : Launch} {K : Nat → Option Nat} {T : Nat → Nat} {lev : Nat} {Q : Outcome → GSt → Prop} {a0 : Nat} {σ : GSt} (h : (gk σ a0 = 22 ∧ (CQ (wP G s0 l K T) mJ2_grow_2 lev (.ref a0 :: [.int ((gi σ a0 2) + (iI 1))]) σ (onR (fun r3 t2 => gle σ t2 → Q (.returned (some (va_rf r3))) t2) (fun x t => gle σ t → Q (.threw x) t))))) : CQ (wP G s0 l K T) mJ2_grow (lev + 1) [.ref a0] σ Q := by
  refine CQ.of3 0 (lv := [some (va_rf (some a0))]) (by decide) (Nat.le_of_ble_eq_true rfl) (cat1_cons rfl cat1_nil) rfl ?_
  refine j_aload_n (r := some a0) dJ2_grow_0 rfl ?_
  refine j_aload_n (r := some a0) dJ2_grow_1 rfl ?_
  obtain ⟨hk1, h⟩ := h
  refine kg_geti (a := a0) (j := 2) rfl gfJ2_48 (by decide) hk1 dJ2_grow_2 ?_
  refine j_iconst (v := iI 1) dJ2_grow_5 rfl ?_
  refine j_iadd dJ2_grow_6 ?_
  refine jg_callr (rest := []) (kg_lkV (As := [.int ((gi σ a0 2) + (iI 1))]) (a := a0) (c := 21) kgJ2_grow_2_21 (by decide) rfl hk1 q1091 rfl rfl dJ2_grow_7) cwJ2_grow_2 (Nat.le_of_ble_eq_true rfl) rfl dJ2_grow_7 (Nat.succ_le_succ (Nat.zero_le _)) (h.mono (onR_mono (fun r3 t2 h hlt2 => ?_) (fun _ _ h => h)))
  replace h := h hlt2
  replace hk1 := hlt2.tag hk1 (by decide)
  exact j_areturn (r := r3) rfl (Or.inr ⟨_, rfl⟩) dJ2_grow_10 h
abbrev jJ2_grow_2_20 (G : GPl) (s0 : State) (l : Launch) (K : Nat → Option Nat) (T : Nat → Nat) (lev : Nat) (st0 : GSt) (Q : Outcome → GSt → Prop) (a0 : Nat) (x1 : Int32) (x2 : Int32) (σ : GSt) : Prop := JQ (wP G s0 l K T) mJ2_grow_2 (lev + 1) st0 20 [some (va_rf (some a0)), some (.int x1), some (.int x2), none] [] σ Q
theorem tJ2_grow_2 {G : GPl} {s0 : State} {l : Launch} {K : Nat → Option Nat} {T : Nat → Nat} {lev : Nat} {Q : Outcome → GSt → Prop} {a0 : Nat} {x1 : Int32} {σ : GSt} (h : (gk σ a0 = 22 ∧ (∃ a2, gr σ a0 1 = some a2 ∧ (gk σ a2 = 103 ∧ ((0 < (iI (gl σ a2 : Int)) → jJ2_grow_2_20 G s0 l K T lev σ Q a0 x1 (iI (gl σ a2 : Int)) σ) ∧ (¬ 0 < (iI (gl σ a2 : Int)) → (((gr σ a0 1) = (K 14) → (inr (if iI 10 < x1 then x1 else iI 10) 200000 ∧ (groom G ((if iI 10 < x1 then x1 else iI 10).toInt.toNat) σ ∧ Q (.returned (some (va_rf (some (gn σ))))) (gpr a0 1 (some (gn σ)) (gmk 103 ((if iI 10 < x1 then x1 else iI 10).toInt.toNat) σ))))) ∧ (¬ (gr σ a0 1) = (K 14) → jJ2_grow_2_20 G s0 l K T lev σ Q a0 x1 (iI (gl σ a2 : Int)) σ)))))))) : CQ (wP G s0 l K T) mJ2_grow_2 (lev + 1) [.ref a0, .int x1] σ Q := by
  refine CQ.of3 2 (lv := [some (va_rf (some a0)), some (.int x1), none, none]) (by decide) (Nat.le_of_ble_eq_true rfl) (cat1_cons rfl (cat1_cons rfl cat1_nil)) rfl ?_
  refine j_aload_n (r := some a0) dJ2_grow_2_0 rfl ?_
  obtain ⟨hk1, h⟩ := h
  refine kg_getr (a := a0) (j := 1) rfl gfJ2_9 hk1 dJ2_grow_2_1 ?_
  obtain ⟨a2, ea2, hk3, h⟩ := h
  refine kg_alen (a := a2) ea2 hk3 (by decide) dJ2_grow_2_4 ?_
  refine j_istore_n (lv' := [some (va_rf (some a0)), some (.int x1), some (.int (iI (gl σ a2 : Int))), none]) dJ2_grow_2_5 (by decide) rfl ?_
  refine j_iload_n dJ2_grow_2_6 rfl ?_
  refine j_if_gt 20 dJ2_grow_2_7 (by decide) (fun c8 => ?_) (fun c8 => ?_)
  · replace h := h.1 c8
    exact h
  · replace h := h.2 c8
    refine j_aload_n (r := some a0) dJ2_grow_2_10 rfl ?_
    refine kg_getr (a := a0) (j := 1) rfl gfJ2_9 hk1 dJ2_grow_2_11 ?_
    refine jg_gets (i := 14) rfl flJ2_39 dJ2_grow_2_14 ?_
    refine j_acmp_eq (x := gr σ a0 1) (y := K 14) 45 dJ2_grow_2_17 (by decide) (fun c7 => ?_) (fun c7 => ?_)
    · replace h := h.1 c7
      refine j_aload_n (r := some a0) dJ2_grow_2_45 rfl ?_
      refine j_bipush (v := iI 10) dJ2_grow_2_46 rfl ?_
      refine j_iload_n dJ2_grow_2_48 rfl ?_
      refine jg_mmax (x := iI 10) (y := x1) (stk := [va_rf (some a0)]) (Nat.succ_le_succ (Nat.zero_le _)) q1140 q570 q135 q571 (Nat.le_of_ble_eq_true rfl) dJ2_grow_2_49 ?_
      obtain ⟨hn4, hg5, h⟩ := h
      refine jg_anew (n0 := (if iI 10 < x1 then x1 else iI 10).toInt.toNat) (Or.inl ⟨rfl, rfl⟩) q1141 q1138 hn4 rfl hg5 dJ2_grow_2_52 ?_
      replace hk1 := gk_mk (t := 103) (n := ((if iI 10 < x1 then x1 else iI 10).toInt.toNat)) hk1 (by decide)
      replace hk3 := gk_mk (t := 103) (n := ((if iI 10 < x1 then x1 else iI 10).toInt.toNat)) hk3 (by decide)
      have hk6 := gk_new (t := 103) (n := ((if iI 10 < x1 then x1 else iI 10).toInt.toNat)) hg5.2.2
      refine j_dup_x1 dJ2_grow_2_55 rfl rfl ?_
      refine kg_putr (a := a0) (x := some (gn σ)) rfl gfJ2_9 (Or.inl rfl) hk1 (Or.inl (by decide)) dJ2_grow_2_56 ?_
      exact j_areturn (r := some (gn σ)) rfl (Or.inr ⟨_, rfl⟩) dJ2_grow_2_59 h
    · replace h := h.2 c7
      exact h
theorem tJ2_grow_2_20 {G : GPl} {s0 : State} {l : Launch} {K : Nat → Option Nat} {T : Nat → Nat} {lev : Nat} {st0 : GSt} {Q : Outcome → GSt → Prop} {a0 : Nat} {x1 : Int32} {x2 : Int32} {σ : GSt} (h : (CQ (wP G s0 l K T) mJ14_newLength lev [.int x2, .int (x1 - x2), .int (x2 >>> ((iI 1) &&& 31))] σ (onI (fun r2 t1 => gle σ t1 → (gk t1 a0 = 22 ∧ (CQ (wP G s0 l K T) mJ16_copyOf_2 lev [va_rf (gr t1 a0 1), .int r2] t1 (onR (fun r5 t4 => gle t1 t4 → Q (.returned (some (va_rf r5))) (gpr a0 1 r5 t4)) (fun x t => gle t1 t → Q (.threw x) t))))) (fun x t => gle σ t → Q (.threw x) t)))) : jJ2_grow_2_20 G s0 l K T lev st0 Q a0 x1 x2 σ := by
  refine j_iload_n dJ2_grow_2_20 rfl ?_
  refine j_iload_n dJ2_grow_2_21 rfl ?_
  refine j_iload_n dJ2_grow_2_22 rfl ?_
  refine j_isub dJ2_grow_2_23 ?_
  refine j_iload_n dJ2_grow_2_24 rfl ?_
  refine j_iconst (v := iI 1) dJ2_grow_2_25 rfl ?_
  refine j_ishr dJ2_grow_2_26 ?_
  refine jg_calli (rest := []) (kg_lkS (As := [.int x2, .int (x1 - x2), .int (x2 >>> ((iI 1) &&& 31))]) ktJ14_newLength q1095 rfl rfl dJ2_grow_2_27) cwJ14_newLength (Nat.le_of_ble_eq_true rfl) rfl dJ2_grow_2_27 (Nat.succ_le_succ (Nat.zero_le _)) (h.mono (onI_mono (fun r2 t1 h hlt1 => ?_) (fun _ _ h => h)))
  replace h := h hlt1
  refine j_istore_n (lv' := [some (va_rf (some a0)), some (.int x1), some (.int x2), some (.int r2)]) dJ2_grow_2_30 (by decide) rfl ?_
  refine j_aload_n (r := some a0) dJ2_grow_2_31 rfl ?_
  refine j_aload_n (r := some a0) dJ2_grow_2_32 rfl ?_
  obtain ⟨hk3, h⟩ := h
  refine kg_getr (a := a0) (j := 1) rfl gfJ2_9 hk3 dJ2_grow_2_33 ?_
  refine j_iload_n dJ2_grow_2_36 rfl ?_
  refine jg_callr (rest := [va_rf (some a0)]) (kg_lkS (As := [va_rf (gr t1 a0 1), .int r2]) ktJ16_copyOf_2 q1096 rfl rfl dJ2_grow_2_37) cwJ16_copyOf_2 (Nat.le_of_ble_eq_true rfl) rfl dJ2_grow_2_37 (Nat.succ_le_succ (Nat.zero_le _)) (h.mono (onR_mono (fun r5 t4 h hlt4 => ?_) (fun _ _ h => h)))
  replace h := h hlt4
  replace hk3 := hlt4.tag hk3 (by decide)
  refine j_dup_x1 dJ2_grow_2_40 (rf_cat _) rfl ?_
  refine kg_putr (a := a0) (x := r5) rfl gfJ2_9 (Or.inl rfl) hk3 (Or.inl (by decide)) dJ2_grow_2_41 ?_
  exact j_areturn (r := r5) rfl (Or.inr ⟨_, rfl⟩) dJ2_grow_2_44 h
theorem tJ2_size {G : GPl} {s0 : State} {l : Launch} {K : Nat → Option Nat} {T : Nat → Nat} {lev : Nat} {Q : Outcome → GSt → Prop} {a0 : Nat} {σ : GSt} (h : (gk σ a0 = 22 ∧ Q (.returned (some (.int (gi σ a0 2)))) σ)) : CQ (wP G s0 l K T) mJ2_size (lev + 1) [.ref a0] σ Q := by
  refine CQ.of3 0 (lv := [some (va_rf (some a0))]) (by decide) (Nat.le_of_ble_eq_true rfl) (cat1_cons rfl cat1_nil) rfl ?_
  refine j_aload_n (r := some a0) dJ2_size_0 rfl ?_
  obtain ⟨hk1, h⟩ := h
  refine kg_geti (a := a0) (j := 2) rfl gfJ2_48 (by decide) hk1 dJ2_size_1 ?_
  exact j_ireturn (ty := .int) rfl rfl dJ2_size_4 h
theorem tJ2_remove {G : GPl} {s0 : State} {l : Launch} {K : Nat → Option Nat} {T : Nat → Nat} {lev : Nat} {Q : Outcome → GSt → Prop} {a0 : Nat} {x1 : Int32} {σ : GSt} (h : (gk σ a0 = 22 ∧ (CQ (wP G s0 l K T) mJ19_checkIndex lev [.int x1, .int (gi σ a0 2)] σ (onI (fun r3 t2 => gle σ t2 → (∃ a4, gr t2 a0 1 = some a4 ∧ (gk t2 a4 = 103 ∧ (inr x1 (gl t2 a4) ∧ (CQ (wP G s0 l K T) mJ2_fastRemove lev (.ref a0 :: [va_rf (gr t2 a0 1), .int x1]) t2 (onV (fun t7 => gle t2 t7 → Q (.returned (some (va_rf (gr t2 a4 (ix x1))))) t7) (fun x t => gle t2 t → Q (.threw x) t))))))) (fun x t => gle σ t → Q (.threw x) t))))) : CQ (wP G s0 l K T) mJ2_remove (lev + 1) [.ref a0, .int x1] σ Q := by
  refine CQ.of3 2 (lv := [some (va_rf (some a0)), some (.int x1), none, none]) (by decide) (Nat.le_of_ble_eq_true rfl) (cat1_cons rfl (cat1_cons rfl cat1_nil)) rfl ?_
  refine j_iload_n dJ2_remove_0 rfl ?_
  refine j_aload_n (r := some a0) dJ2_remove_1 rfl ?_
  obtain ⟨hk1, h⟩ := h
  refine kg_geti (a := a0) (j := 2) rfl gfJ2_48 (by decide) hk1 dJ2_remove_2 ?_
  refine jg_calli (rest := []) (kg_lkS (As := [.int x1, .int (gi σ a0 2)]) ktJ19_checkIndex q1150 rfl rfl dJ2_remove_5) cwJ19_checkIndex (Nat.le_of_ble_eq_true rfl) rfl dJ2_remove_5 (Nat.succ_le_succ (Nat.zero_le _)) (h.mono (onI_mono (fun r3 t2 h hlt2 => ?_) (fun _ _ h => h)))
  replace h := h hlt2
  replace hk1 := hlt2.tag hk1 (by decide)
  refine j_pop dJ2_remove_8 rfl ?_
  refine j_aload_n (r := some a0) dJ2_remove_9 rfl ?_
  refine kg_getr (a := a0) (j := 1) rfl gfJ2_9 hk1 dJ2_remove_10 ?_
  refine j_astore_n (r := gr t2 a0 1) (lv' := [some (va_rf (some a0)), some (.int x1), some (va_rf (gr t2 a0 1)), none]) dJ2_remove_13 (by decide) rfl ?_
  refine j_aload_n (r := gr t2 a0 1) dJ2_remove_14 rfl ?_
  refine j_iload_n dJ2_remove_15 rfl ?_
  obtain ⟨a4, ea4, hk5, hi6, h⟩ := h
  refine kg_aald (a := a4) ea4 hk5 (by decide) hi6 dJ2_remove_16 ?_
  refine j_astore_n (r := gr t2 a4 (ix x1)) (lv' := [some (va_rf (some a0)), some (.int x1), some (va_rf (gr t2 a0 1)), some (va_rf (gr t2 a4 (ix x1)))]) dJ2_remove_17 (by decide) rfl ?_
  refine j_aload_n (r := some a0) dJ2_remove_18 rfl ?_
  refine j_aload_n (r := gr t2 a0 1) dJ2_remove_19 rfl ?_
  refine j_iload_n dJ2_remove_20 rfl ?_
  refine jg_callv (rest := []) (kg_lkV (As := [va_rf (gr t2 a0 1), .int x1]) (a := a0) (c := 21) kgJ2_fastRemove_21 (by decide) rfl hk1 q1154 rfl rfl dJ2_remove_21) cwJ2_fastRemove (Nat.le_of_ble_eq_true rfl) rfl dJ2_remove_21 (Nat.succ_le_succ (Nat.zero_le _)) (h.mono (onV_mono (fun t7 h hlt7 => ?_) (fun _ _ h => h)))
  replace h := h hlt7
  replace hk1 := hlt7.tag hk1 (by decide)
  replace hk5 := hlt7.tag hk5 (by decide)
  refine j_aload_n (r := gr t2 a4 (ix x1)) dJ2_remove_24 rfl ?_
  exact j_areturn (r := gr t2 a4 (ix x1)) rfl (Or.inl ⟨_, rfl⟩) dJ2_remove_25 h
theorem tJ2_fastRemove {G : GPl} {s0 : State} {l : Launch} {K : Nat → Option Nat} {T : Nat → Nat} {lev : Nat} {Q : Outcome → GSt → Prop} {a0 : Nat} {x1 : Option Nat} {x2 : Int32} {σ : GSt} (h : (gk σ a0 = 22 ∧ ((((gi (gpi a0 0 ((gi σ a0 0) + (iI 1)) σ) a0 2) - (iI 1)) ≤ x2 → (∃ a2, x1 = some a2 ∧ (gk (gpi a0 2 ((gi (gpi a0 0 ((gi σ a0 0) + (iI 1)) σ) a0 2) - (iI 1)) (gpi a0 0 ((gi σ a0 0) + (iI 1)) σ)) a2 = 103 ∧ (inr ((gi (gpi a0 0 ((gi σ a0 0) + (iI 1)) σ) a0 2) - (iI 1)) (gl (gpi a0 2 ((gi (gpi a0 0 ((gi σ a0 0) + (iI 1)) σ) a0 2) - (iI 1)) (gpi a0 0 ((gi σ a0 0) + (iI 1)) σ)) a2) ∧ Q (.returned none) (gpr a2 (ix ((gi (gpi a0 0 ((gi σ a0 0) + (iI 1)) σ) a0 2) - (iI 1))) none (gpi a0 2 ((gi (gpi a0 0 ((gi σ a0 0) + (iI 1)) σ) a0 2) - (iI 1)) (gpi a0 0 ((gi σ a0 0) + (iI 1)) σ))))))) ∧ (¬ ((gi (gpi a0 0 ((gi σ a0 0) + (iI 1)) σ) a0 2) - (iI 1)) ≤ x2 → (∃ a5, x1 = some a5 ∧ (gk (gpi a0 0 ((gi σ a0 0) + (iI 1)) σ) a5 = 103 ∧ (G.h0.size ≤ a5 ∧ (cpok (gpi a0 0 ((gi σ a0 0) + (iI 1)) σ) a5 a5 (x2 + (iI 1)) x2 (((gi (gpi a0 0 ((gi σ a0 0) + (iI 1)) σ) a0 2) - (iI 1)) - x2) ∧ ((∀ i, i < ix (((gi (gpi a0 0 ((gi σ a0 0) + (iI 1)) σ) a0 2) - (iI 1)) - x2) → stOK (gpi a0 0 ((gi σ a0 0) + (iI 1)) σ) (gr (gpi a0 0 ((gi σ a0 0) + (iI 1)) σ) a5 (ix (x2 + (iI 1)) + i)) "java/lang/Object") ∧ (inr ((gi (gpi a0 0 ((gi σ a0 0) + (iI 1)) σ) a0 2) - (iI 1)) (gl (gpi a0 2 ((gi (gpi a0 0 ((gi σ a0 0) + (iI 1)) σ) a0 2) - (iI 1)) (gcr a5 a5 (ix (x2 + (iI 1))) (ix x2) (ix (((gi (gpi a0 0 ((gi σ a0 0) + (iI 1)) σ) a0 2) - (iI 1)) - x2)) (gpi a0 0 ((gi σ a0 0) + (iI 1)) σ))) a5) ∧ Q (.returned none) (gpr a5 (ix ((gi (gpi a0 0 ((gi σ a0 0) + (iI 1)) σ) a0 2) - (iI 1))) none (gpi a0 2 ((gi (gpi a0 0 ((gi σ a0 0) + (iI 1)) σ) a0 2) - (iI 1)) (gcr a5 a5 (ix (x2 + (iI 1))) (ix x2) (ix (((gi (gpi a0 0 ((gi σ a0 0) + (iI 1)) σ) a0 2) - (iI 1)) - x2)) (gpi a0 0 ((gi σ a0 0) + (iI 1)) σ)))))))))))))) : CQ (wP G s0 l K T) mJ2_fastRemove (lev + 1) [.ref a0, va_rf x1, .int x2] σ Q := by
  refine CQ.of3 1 (lv := [some (va_rf (some a0)), some (va_rf x1), some (.int x2), none]) (by decide) (Nat.le_of_ble_eq_true rfl) (cat1_cons rfl (cat1_cons (rf_cat _) (cat1_cons rfl cat1_nil))) rfl ?_
  refine j_aload_n (r := some a0) dJ2_fastRemove_0 rfl ?_
  refine j_dup dJ2_fastRemove_1 rfl ?_
  obtain ⟨hk1, h⟩ := h
  refine kg_geti (a := a0) (j := 0) rfl gfJ2_63 (by decide) hk1 dJ2_fastRemove_2 ?_
  refine j_iconst (v := iI 1) dJ2_fastRemove_5 rfl ?_
  refine j_iadd dJ2_fastRemove_6 ?_
  refine kg_puti (a := a0) rfl gfJ2_63 (Or.inl rfl) hk1 (Or.inl (by decide)) dJ2_fastRemove_7 ?_
  refine j_aload_n (r := some a0) dJ2_fastRemove_10 rfl ?_
  refine kg_geti (a := a0) (j := 2) rfl gfJ2_48 (by decide) hk1 dJ2_fastRemove_11 ?_
  refine j_iconst (v := iI 1) dJ2_fastRemove_14 rfl ?_
  refine j_isub dJ2_fastRemove_15 ?_
  refine j_dup dJ2_fastRemove_16 rfl ?_
  refine j_istore_n (lv' := [some (va_rf (some a0)), some (va_rf x1), some (.int x2), some (.int ((gi (gpi a0 0 ((gi σ a0 0) + (iI 1)) σ) a0 2) - (iI 1)))]) dJ2_fastRemove_17 (by decide) rfl ?_
  refine j_iload_n dJ2_fastRemove_18 rfl ?_
  refine j_icmp_le 34 dJ2_fastRemove_19 (by decide) (fun c11 => ?_) (fun c11 => ?_)
  · replace h := h.1 c11
    refine j_aload_n (r := x1) dJ2_fastRemove_34 rfl ?_
    refine j_aload_n (r := some a0) dJ2_fastRemove_35 rfl ?_
    refine j_iload_n dJ2_fastRemove_36 rfl ?_
    refine j_dup_x1 dJ2_fastRemove_37 rfl rfl ?_
    refine kg_puti (a := a0) rfl gfJ2_48 (Or.inl rfl) hk1 (Or.inl (by decide)) dJ2_fastRemove_38 ?_
    refine j_null dJ2_fastRemove_41 ?_
    obtain ⟨a2, ea2, hk3, hi4, h⟩ := h
    refine kg_aast (a := a2) (x := none) (C := "java/lang/Object") ea2 hk3 (by decide) hi4 (Or.inl rfl) dJ2_fastRemove_42 ?_
    exact j_return rfl dJ2_fastRemove_43 h
  · replace h := h.2 c11
    refine j_aload_n (r := x1) dJ2_fastRemove_22 rfl ?_
    refine j_iload_n dJ2_fastRemove_23 rfl ?_
    refine j_iconst (v := iI 1) dJ2_fastRemove_24 rfl ?_
    refine j_iadd dJ2_fastRemove_25 ?_
    refine j_aload_n (r := x1) dJ2_fastRemove_26 rfl ?_
    refine j_iload_n dJ2_fastRemove_27 rfl ?_
    refine j_iload_n dJ2_fastRemove_28 rfl ?_
    refine j_iload_n dJ2_fastRemove_29 rfl ?_
    refine j_isub dJ2_fastRemove_30 ?_
    obtain ⟨a5, ea5, hk6, hb7, hc8, hs9, h⟩ := h
    refine jg_copyr (r := x1) (r2 := x1) (a := a5) (b := a5) (stk := []) (Nat.succ_le_succ (Nat.zero_le _)) ea5 ea5 hk6 hk6 hb7 hc8 hs9 q1158 (Nat.le_of_ble_eq_true rfl) dJ2_fastRemove_31 ?_
    refine j_aload_n (r := x1) dJ2_fastRemove_34 rfl ?_
    refine j_aload_n (r := some a0) dJ2_fastRemove_35 rfl ?_
    refine j_iload_n dJ2_fastRemove_36 rfl ?_
    refine j_dup_x1 dJ2_fastRemove_37 rfl rfl ?_
    refine kg_puti (a := a0) rfl gfJ2_48 (Or.inl rfl) hk1 (Or.inl (by decide)) dJ2_fastRemove_38 ?_
    refine j_null dJ2_fastRemove_41 ?_
    obtain ⟨hi10, h⟩ := h
    refine kg_aast (a := a5) (x := none) (C := "java/lang/Object") ea5 hk6 (by decide) hi10 (Or.inl rfl) dJ2_fastRemove_42 ?_
    exact j_return rfl dJ2_fastRemove_43 h
theorem tJ2_get {G : GPl} {s0 : State} {l : Launch} {K : Nat → Option Nat} {T : Nat → Nat} {lev : Nat} {Q : Outcome → GSt → Prop} {a0 : Nat} {x1 : Int32} {σ : GSt} (h : (gk σ a0 = 22 ∧ (CQ (wP G s0 l K T) mJ19_checkIndex lev [.int x1, .int (gi σ a0 2)] σ (onI (fun r3 t2 => gle σ t2 → (CQ (wP G s0 l K T) mJ2_elementData lev (.ref a0 :: [.int x1]) t2 (onR (fun r5 t4 => gle t2 t4 → Q (.returned (some (va_rf r5))) t4) (fun x t => gle t2 t → Q (.threw x) t)))) (fun x t => gle σ t → Q (.threw x) t))))) : CQ (wP G s0 l K T) mJ2_get (lev + 1) [.ref a0, .int x1] σ Q := by
  refine CQ.of3 0 (lv := [some (va_rf (some a0)), some (.int x1)]) (by decide) (Nat.le_of_ble_eq_true rfl) (cat1_cons rfl (cat1_cons rfl cat1_nil)) rfl ?_
  refine j_iload_n dJ2_get_0 rfl ?_
  refine j_aload_n (r := some a0) dJ2_get_1 rfl ?_
  obtain ⟨hk1, h⟩ := h
  refine kg_geti (a := a0) (j := 2) rfl gfJ2_48 (by decide) hk1 dJ2_get_2 ?_
  refine jg_calli (rest := []) (kg_lkS (As := [.int x1, .int (gi σ a0 2)]) ktJ19_checkIndex q1150 rfl rfl dJ2_get_5) cwJ19_checkIndex (Nat.le_of_ble_eq_true rfl) rfl dJ2_get_5 (Nat.succ_le_succ (Nat.zero_le _)) (h.mono (onI_mono (fun r3 t2 h hlt2 => ?_) (fun _ _ h => h)))
  replace h := h hlt2
  replace hk1 := hlt2.tag hk1 (by decide)
  refine j_pop dJ2_get_8 rfl ?_
  refine j_aload_n (r := some a0) dJ2_get_9 rfl ?_
  refine j_iload_n dJ2_get_10 rfl ?_
  refine jg_callr (rest := []) (kg_lkV (As := [.int x1]) (a := a0) (c := 21) kgJ2_elementData_21 (by decide) rfl hk1 q1232 rfl rfl dJ2_get_11) cwJ2_elementData (Nat.le_of_ble_eq_true rfl) rfl dJ2_get_11 (Nat.succ_le_succ (Nat.zero_le _)) (h.mono (onR_mono (fun r5 t4 h hlt4 => ?_) (fun _ _ h => h)))
  replace h := h hlt4
  replace hk1 := hlt4.tag hk1 (by decide)
  exact j_areturn (r := r5) rfl (Or.inl ⟨_, rfl⟩) dJ2_get_14 h
theorem tJ2_elementData {G : GPl} {s0 : State} {l : Launch} {K : Nat → Option Nat} {T : Nat → Nat} {lev : Nat} {Q : Outcome → GSt → Prop} {a0 : Nat} {x1 : Int32} {σ : GSt} (h : (gk σ a0 = 22 ∧ (∃ a2, gr σ a0 1 = some a2 ∧ (gk σ a2 = 103 ∧ (inr x1 (gl σ a2) ∧ Q (.returned (some (va_rf (gr σ a2 (ix x1))))) σ))))) : CQ (wP G s0 l K T) mJ2_elementData (lev + 1) [.ref a0, .int x1] σ Q := by
  refine CQ.of3 0 (lv := [some (va_rf (some a0)), some (.int x1)]) (by decide) (Nat.le_of_ble_eq_true rfl) (cat1_cons rfl (cat1_cons rfl cat1_nil)) rfl ?_
  refine j_aload_n (r := some a0) dJ2_elementData_0 rfl ?_
  obtain ⟨hk1, h⟩ := h
  refine kg_getr (a := a0) (j := 1) rfl gfJ2_9 hk1 dJ2_elementData_1 ?_
  refine j_iload_n dJ2_elementData_4 rfl ?_
  obtain ⟨a2, ea2, hk3, hi4, h⟩ := h
  refine kg_aald (a := a2) ea2 hk3 (by decide) hi4 dJ2_elementData_5 ?_
  exact j_areturn (r := gr σ a2 (ix x1)) rfl (Or.inl ⟨_, rfl⟩) dJ2_elementData_6 h
theorem tJ2_init_2 {G : GPl} {s0 : State} {l : Launch} {K : Nat → Option Nat} {T : Nat → Nat} {lev : Nat} {Q : Outcome → GSt → Prop} {a0 : Nat} {x1 : Int32} {σ : GSt} (h : (CQ (wP G s0 l K T) mJ1_init lev (.ref a0 :: []) σ (onV (fun t1 => gle σ t1 → ((x1 ≤ 0 → ((x1 = 0 → (gk t1 a0 = 22 ∧ Q (.returned none) (gpr a0 1 (K 15) t1))) ∧ (¬ x1 = 0 → (groom G 6 t1 ∧ (groom G 4 (gmk 25 6 t1) ∧ (CQ (wP G s0 l K T) mJ13_init_2 lev (.ref (gn (gmk 25 6 t1)) :: []) (gmk 24 4 (gmk 25 6 t1)) (onV (fun t7 => gle (gmk 24 4 (gmk 25 6 t1)) t7 → False) (fun x t => gle (gmk 24 4 (gmk 25 6 t1)) t → Q (.threw x) t)))))))) ∧ (¬ x1 ≤ 0 → (inr x1 200000 ∧ (groom G x1.toInt.toNat t1 ∧ (gk (gmk 103 x1.toInt.toNat t1) a0 = 22 ∧ Q (.returned none) (gpr a0 1 (some (gn t1)) (gmk 103 x1.toInt.toNat t1)))))))) (fun x t => gle σ t → Q (.threw x) t)))) : CQ (wP G s0 l K T) mJ2_init_2 (lev + 1) [.ref a0, .int x1] σ Q := by
  refine CQ.of3 0 (lv := [some (va_rf (some a0)), some (.int x1)]) (by decide) (Nat.le_of_ble_eq_true rfl) (cat1_cons rfl (cat1_cons rfl cat1_nil)) rfl ?_
  refine j_aload_n (r := some a0) dJ2_init_2_0 rfl ?_
  refine jg_callv (rest := []) (kg_lkI (As := []) (a := a0) kiJ1_init (Or.inl q267) rfl rfl dJ2_init_2_1) cwJ1_init (Nat.le_of_ble_eq_true rfl) rfl dJ2_init_2_1 (Nat.succ_le_succ (Nat.zero_le _)) (h.mono (onV_mono (fun t1 h hlt1 => ?_) (fun _ _ h => h)))
  replace h := h hlt1
  refine j_iload_n dJ2_init_2_4 rfl ?_
  refine j_if_le 19 dJ2_init_2_5 (by decide) (fun c15 => ?_) (fun c15 => ?_)
  · replace h := h.1 c15
    refine j_iload_n dJ2_init_2_19 rfl ?_
    refine j_if_ne 33 dJ2_init_2_20 (by decide) (fun c10 => ?_) (fun c10 => ?_)
    · replace h := h.2 c10
      obtain ⟨hg3, h⟩ := h
      refine jg_new (c := 24) (N := 6) (C := "java/lang/IllegalArgumentException") (by decide) ⟨rfl, rfl⟩ q1286 q380 q128 hg3 dJ2_init_2_33 ?_
      have hk4 := gk_new (t := 25) (n := 6) hg3.2.2
      refine j_dup dJ2_init_2_36 rfl ?_
      obtain ⟨hg5, h⟩ := h
      refine jg_new (c := 23) (N := 4) (C := "java/lang/StringBuilder") (by decide) ⟨rfl, rfl⟩ q1287 q511 q133 hg5 dJ2_init_2_37 ?_
      replace hk4 := gk_mk (t := 24) (n := 4) hk4 (by decide)
      have hk6 := gk_new (t := 24) (n := 4) hg5.2.2
      refine j_dup dJ2_init_2_40 rfl ?_
      refine jg_callv (rest := [va_rf (some (gn (gmk 25 6 t1))), va_rf (some (gn t1)), va_rf (some (gn t1))]) (kg_lkI (As := []) (a := (gn (gmk 25 6 t1))) kiJ13_init_2 (Or.inl q1288) rfl rfl dJ2_init_2_41) cwJ13_init_2 (Nat.le_of_ble_eq_true rfl) rfl dJ2_init_2_41 (Nat.succ_le_succ (Nat.zero_le _)) (h.mono (onV_mono (fun t7 h hlt7 => ?_) (fun _ _ h => h)))
      replace h := h hlt7
      replace hk4 := hlt7.tag hk4 (by decide)
      replace hk6 := hlt7.tag hk6 (by decide)
      exact h.elim
    · replace h := h.1 c10
      refine j_aload_n (r := some a0) dJ2_init_2_23 rfl ?_
      refine jg_gets (i := 15) rfl flJ2_15 dJ2_init_2_24 ?_
      obtain ⟨hk9, h⟩ := h
      refine kg_putr (a := a0) (x := K 15) rfl gfJ2_9 (Or.inl rfl) hk9 (Or.inl (by decide)) dJ2_init_2_27 ?_
      refine j_goto 60 dJ2_init_2_30 (by decide) ?_
      exact j_return rfl dJ2_init_2_60 h
  · replace h := h.2 c15
    refine j_aload_n (r := some a0) dJ2_init_2_8 rfl ?_
    refine j_iload_n dJ2_init_2_9 rfl ?_
    obtain ⟨hn11, hg12, h⟩ := h
    refine jg_anew (n0 := x1.toInt.toNat) (Or.inl ⟨rfl, rfl⟩) q1141 q1138 hn11 rfl hg12 dJ2_init_2_10 ?_
    have hk13 := gk_new (t := 103) (n := x1.toInt.toNat) hg12.2.2
    obtain ⟨hk14, h⟩ := h
    refine kg_putr (a := a0) (x := some (gn t1)) rfl gfJ2_9 (Or.inl rfl) hk14 (Or.inl (by decide)) dJ2_init_2_13 ?_
    refine j_goto 60 dJ2_init_2_16 (by decide) ?_
    exact j_return rfl dJ2_init_2_60 h
abbrev jJ2_clear_27 (G : GPl) (s0 : State) (l : Launch) (K : Nat → Option Nat) (T : Nat → Nat) (lev : Nat) (st0 : GSt) (Q : Outcome → GSt → Prop) (a0 : Nat) (x1 : Option Nat) (x2 : Int32) (x3 : Int32) (σ : GSt) : Prop := JQ (wP G s0 l K T) mJ2_clear (lev + 1) st0 27 [some (va_rf (some a0)), some (va_rf x1), some (.int x2), some (.int x3)] [] σ Q
theorem tJ2_clear {G : GPl} {s0 : State} {l : Launch} {K : Nat → Option Nat} {T : Nat → Nat} {lev : Nat} {Q : Outcome → GSt → Prop} {a0 : Nat} {σ : GSt} (h : (gk σ a0 = 22 ∧ jJ2_clear_27 G s0 l K T lev σ Q a0 (gr (gpi a0 0 ((gi σ a0 0) + (iI 1)) σ) a0 1) (gi (gpi a0 0 ((gi σ a0 0) + (iI 1)) σ) a0 2) (iI 0) (gpi a0 2 (iI 0) (gpi a0 0 ((gi σ a0 0) + (iI 1)) σ)))) : CQ (wP G s0 l K T) mJ2_clear (lev + 1) [.ref a0] σ Q := by
  refine CQ.of3 3 (lv := [some (va_rf (some a0)), none, none, none]) (by decide) (Nat.le_of_ble_eq_true rfl) (cat1_cons rfl cat1_nil) rfl ?_
  refine j_aload_n (r := some a0) dJ2_clear_0 rfl ?_
  refine j_dup dJ2_clear_1 rfl ?_
  obtain ⟨hk1, h⟩ := h
  refine kg_geti (a := a0) (j := 0) rfl gfJ2_63 (by decide) hk1 dJ2_clear_2 ?_
  refine j_iconst (v := iI 1) dJ2_clear_5 rfl ?_
  refine j_iadd dJ2_clear_6 ?_
  refine kg_puti (a := a0) rfl gfJ2_63 (Or.inl rfl) hk1 (Or.inl (by decide)) dJ2_clear_7 ?_
  refine j_aload_n (r := some a0) dJ2_clear_10 rfl ?_
  refine kg_getr (a := a0) (j := 1) rfl gfJ2_9 hk1 dJ2_clear_11 ?_
  refine j_astore_n (r := gr (gpi a0 0 ((gi σ a0 0) + (iI 1)) σ) a0 1) (lv' := [some (va_rf (some a0)), some (va_rf (gr (gpi a0 0 ((gi σ a0 0) + (iI 1)) σ) a0 1)), none, none]) dJ2_clear_14 (by decide) rfl ?_
  refine j_aload_n (r := some a0) dJ2_clear_15 rfl ?_
  refine kg_geti (a := a0) (j := 2) rfl gfJ2_48 (by decide) hk1 dJ2_clear_16 ?_
  refine j_istore_n (lv' := [some (va_rf (some a0)), some (va_rf (gr (gpi a0 0 ((gi σ a0 0) + (iI 1)) σ) a0 1)), some (.int (gi (gpi a0 0 ((gi σ a0 0) + (iI 1)) σ) a0 2)), none]) dJ2_clear_19 (by decide) rfl ?_
  refine j_aload_n (r := some a0) dJ2_clear_20 rfl ?_
  refine j_iconst (v := iI 0) dJ2_clear_21 rfl ?_
  refine j_dup_x1 dJ2_clear_22 rfl rfl ?_
  refine kg_puti (a := a0) rfl gfJ2_48 (Or.inl rfl) hk1 (Or.inl (by decide)) dJ2_clear_23 ?_
  refine j_istore_n (lv' := [some (va_rf (some a0)), some (va_rf (gr (gpi a0 0 ((gi σ a0 0) + (iI 1)) σ) a0 1)), some (.int (gi (gpi a0 0 ((gi σ a0 0) + (iI 1)) σ) a0 2)), some (.int (iI 0))]) dJ2_clear_26 (by decide) rfl ?_
  exact h
theorem tJ2_clear_27 {G : GPl} {s0 : State} {l : Launch} {K : Nat → Option Nat} {T : Nat → Nat} {lev : Nat} {st0 : GSt} {Q : Outcome → GSt → Prop} {a0 : Nat} {x1 : Option Nat} {x2 : Int32} {x3 : Int32} {σ : GSt} (h : ((x2 ≤ x3 → Q (.returned none) σ) ∧ (¬ x2 ≤ x3 → (∃ a1, x1 = some a1 ∧ (gk σ a1 = 103 ∧ (inr x3 (gl σ a1) ∧ jJ2_clear_27 G s0 l K T lev st0 Q a0 x1 x2 (x3 + iI 1) (gpr a1 (ix x3) none σ))))))) : jJ2_clear_27 G s0 l K T lev st0 Q a0 x1 x2 x3 σ := by
  refine j_iload_n dJ2_clear_27 rfl ?_
  refine j_iload_n dJ2_clear_28 rfl ?_
  refine j_icmp_ge 42 dJ2_clear_29 (by decide) (fun c4 => ?_) (fun c4 => ?_)
  · replace h := h.1 c4
    exact j_return rfl dJ2_clear_42 h
  · replace h := h.2 c4
    refine j_aload_n (r := x1) dJ2_clear_32 rfl ?_
    refine j_iload_n dJ2_clear_33 rfl ?_
    refine j_null dJ2_clear_34 ?_
    obtain ⟨a1, ea1, hk2, hi3, h⟩ := h
    refine kg_aast (a := a1) (x := none) (C := "java/lang/Object") ea1 hk2 (by decide) hi3 (Or.inl rfl) dJ2_clear_35 ?_
    refine j_iinc (lv' := [some (va_rf (some a0)), some (va_rf x1), some (.int x2), some (.int (x3 + iI 1))]) dJ2_clear_36 rfl (by decide) rfl ?_
    refine j_goto 27 dJ2_clear_39 (by decide) ?_
    exact h
theorem tJ3_length {G : GPl} {s0 : State} {l : Launch} {K : Nat → Option Nat} {T : Nat → Nat} {lev : Nat} {Q : Outcome → GSt → Prop} {a0 : Nat} {σ : GSt} (h : (gk σ a0 = 23 ∧ (∃ a2, gr σ a0 0 = some a2 ∧ (gk σ a2 = 102 ∧ (CQ (wP G s0 l K T) mJ3_coder lev (.ref a0 :: []) σ (onI (fun r5 t4 => gle σ t4 → Q (.returned (some (.int ((iI (gl σ a2 : Int)) >>> (r5 &&& 31))))) t4) (fun x t => gle σ t → Q (.threw x) t))))))) : CQ (wP G s0 l K T) mJ3_length (lev + 1) [.ref a0] σ Q := by
  refine CQ.of3 0 (lv := [some (va_rf (some a0))]) (by decide) (Nat.le_of_ble_eq_true rfl) (cat1_cons rfl cat1_nil) rfl ?_
  refine j_aload_n (r := some a0) dJ3_length_0 rfl ?_
  obtain ⟨hk1, h⟩ := h
  refine kg_getr (a := a0) (j := 0) rfl gfJ3_9 hk1 dJ3_length_1 ?_
  obtain ⟨a2, ea2, hk3, h⟩ := h
  refine kg_alen (a := a2) ea2 hk3 (by decide) dJ3_length_4 ?_
  refine j_aload_n (r := some a0) dJ3_length_5 rfl ?_
  refine jg_calli (rest := [.int (iI (gl σ a2 : Int))]) (kg_lkV (As := []) (a := a0) (c := 22) kgJ3_coder_22 (by decide) rfl hk1 q737 rfl rfl dJ3_length_6) cwJ3_coder (Nat.le_of_ble_eq_true rfl) rfl dJ3_length_6 (Nat.succ_le_succ (Nat.zero_le _)) (h.mono (onI_mono (fun r5 t4 h hlt4 => ?_) (fun _ _ h => h)))
  replace h := h hlt4
  replace hk1 := hlt4.tag hk1 (by decide)
  replace hk3 := hlt4.tag hk3 (by decide)
  refine j_ishr dJ3_length_9 ?_
  exact j_ireturn (ty := .int) rfl rfl dJ3_length_10 h
theorem tJ3_charAt {G : GPl} {s0 : State} {l : Launch} {K : Nat → Option Nat} {T : Nat → Nat} {lev : Nat} {Q : Outcome → GSt → Prop} {a0 : Nat} {x1 : Int32} {σ : GSt} (h : (gk σ a0 = 23 ∧ (CQ (wP G s0 l K T) mJ3_isLatin1 lev (.ref a0 :: []) σ (onI (fun r3 t2 => gle σ t2 → ((r3 = 0 → False) ∧ (¬ r3 = 0 → (CQ (wP G s0 l K T) mJ4_charAt lev [va_rf (gr t2 a0 0), .int x1] t2 (onI (fun r5 t4 => gle t2 t4 → (narrow .char (.int r5) = .int r5 ∧ Q (.returned (some (.int r5))) t4)) (fun x t => gle t2 t → Q (.threw x) t)))))) (fun x t => gle σ t → Q (.threw x) t))))) : CQ (wP G s0 l K T) mJ3_charAt (lev + 1) [.ref a0, .int x1] σ Q := by
  refine CQ.of3 0 (lv := [some (va_rf (some a0)), some (.int x1)]) (by decide) (Nat.le_of_ble_eq_true rfl) (cat1_cons rfl (cat1_cons rfl cat1_nil)) rfl ?_
  refine j_aload_n (r := some a0) dJ3_charAt_0 rfl ?_
  obtain ⟨hk1, h⟩ := h
  refine jg_calli (rest := []) (kg_lkV (As := []) (a := a0) (c := 22) kgJ3_isLatin1_22 (by decide) rfl hk1 q803 rfl rfl dJ3_charAt_1) cwJ3_isLatin1 (Nat.le_of_ble_eq_true rfl) rfl dJ3_charAt_1 (Nat.succ_le_succ (Nat.zero_le _)) (h.mono (onI_mono (fun r3 t2 h hlt2 => ?_) (fun _ _ h => h)))
  replace h := h hlt2
  replace hk1 := hlt2.tag hk1 (by decide)
  refine j_if_eq 16 dJ3_charAt_4 (by decide) (fun c6 => ?_) (fun c6 => ?_)
  · replace h := h.1 c6
    refine j_aload_n (r := some a0) dJ3_charAt_16 rfl ?_
    refine kg_getr (a := a0) (j := 0) rfl gfJ3_9 hk1 dJ3_charAt_17 ?_
    refine j_iload_n dJ3_charAt_20 rfl ?_
    exact h.elim
  · replace h := h.2 c6
    refine j_aload_n (r := some a0) dJ3_charAt_7 rfl ?_
    refine kg_getr (a := a0) (j := 0) rfl gfJ3_9 hk1 dJ3_charAt_8 ?_
    refine j_iload_n dJ3_charAt_11 rfl ?_
    refine jg_calli (rest := []) (kg_lkS (As := [va_rf (gr t2 a0 0), .int x1]) ktJ4_charAt q1814 rfl rfl dJ3_charAt_12) cwJ4_charAt (Nat.le_of_ble_eq_true rfl) rfl dJ3_charAt_12 (Nat.succ_le_succ (Nat.zero_le _)) (h.mono (onI_mono (fun r5 t4 h hlt4 => ?_) (fun _ _ h => h)))
    replace h := h hlt4
    replace hk1 := hlt4.tag hk1 (by decide)
    have hz := h.1
    replace h := h.2
    exact j_ireturn (ty := .char) rfl hz dJ3_charAt_15 h
abbrev jJ3_equals_36 (G : GPl) (s0 : State) (l : Launch) (K : Nat → Option Nat) (T : Nat → Nat) (lev : Nat) (st0 : GSt) (Q : Outcome → GSt → Prop) (a0 : Nat) (x1 : Option Nat) (x2 : Option Nat) (σ : GSt) : Prop := JQ (wP G s0 l K T) mJ3_equals (lev + 1) st0 36 [some (va_rf (some a0)), some (va_rf x1), some (va_rf x2)] [] σ Q
theorem tJ3_equals {G : GPl} {s0 : State} {l : Launch} {K : Nat → Option Nat} {T : Nat → Nat} {lev : Nat} {Q : Outcome → GSt → Prop} {a0 : Nat} {x1 : Option Nat} {σ : GSt} (h : (((some a0) = x1 → Q (.returned (some (.int (iI 1)))) σ) ∧ (¬ (some a0) = x1 → (isA σ x1 23 ∧ (inT σ x1 [23] ∧ (gk σ a0 = 23 ∧ (∃ a4, x1 = some a4 ∧ (gk σ a4 = 23 ∧ (((gi σ a0 1) = (gi σ a4 1) → jJ3_equals_36 G s0 l K T lev σ Q a0 x1 x1 σ) ∧ (¬ (gi σ a0 1) = (gi σ a4 1) → Q (.returned (some (.int (iI 0)))) σ)))))))))) : CQ (wP G s0 l K T) mJ3_equals (lev + 1) [.ref a0, va_rf x1] σ Q := by
  refine CQ.of3 1 (lv := [some (va_rf (some a0)), some (va_rf x1), none]) (by decide) (Nat.le_of_ble_eq_true rfl) (cat1_cons rfl (cat1_cons (rf_cat _) cat1_nil)) rfl ?_
  refine j_aload_n (r := some a0) dJ3_equals_0 rfl ?_
  refine j_aload_n (r := x1) dJ3_equals_1 rfl ?_
  refine j_acmp_ne (x := some a0) (y := x1) 7 dJ3_equals_2 (by decide) (fun c7 => ?_) (fun c7 => ?_)
  · replace h := h.2 c7
    refine j_aload_n (r := x1) dJ3_equals_7 rfl ?_
    obtain ⟨ha1, h⟩ := h
    refine jg_instS (r := x1) 22 (by decide) q865 ha1 dJ3_equals_8 ?_
    refine j_if_eq 54 dJ3_equals_11 (by decide) (fun q_ => absurd q_ (by decide)) (fun _ => ?_)
    refine j_aload_n (r := x1) dJ3_equals_14 rfl ?_
    obtain ⟨hc2, h⟩ := h
    refine jg_cast (r := x1) cs_java_lang_String q865 hc2 dJ3_equals_15 ?_
    refine j_astore_n (r := x1) (lv' := [some (va_rf (some a0)), some (va_rf x1), some (va_rf x1)]) dJ3_equals_18 (by decide) rfl ?_
    refine jg_getcs flJ3_38 dJ3_equals_19 ?_
    refine j_if_eq 36 dJ3_equals_22 (by decide) (fun q_ => absurd q_ (by decide)) (fun _ => ?_)
    refine j_aload_n (r := some a0) dJ3_equals_25 rfl ?_
    obtain ⟨hk3, h⟩ := h
    refine kg_geti (a := a0) (j := 1) rfl gfJ3_15 (by decide) hk3 dJ3_equals_26 ?_
    refine j_aload_n (r := x1) dJ3_equals_29 rfl ?_
    obtain ⟨a4, ea4, hk5, h⟩ := h
    refine kg_geti (a := a4) (j := 1) ea4 gfJ3_15 (by decide) hk5 dJ3_equals_30 ?_
    refine j_icmp_ne 54 dJ3_equals_33 (by decide) (fun c6 => ?_) (fun c6 => ?_)
    · replace h := h.2 c6
      refine j_iconst (v := iI 0) dJ3_equals_54 rfl ?_
      exact j_ireturn (ty := .boolean) rfl rfl dJ3_equals_55 h
    · replace h := h.1 c6
      exact h
  · replace h := h.1 c7
    refine j_iconst (v := iI 1) dJ3_equals_5 rfl ?_
    exact j_ireturn (ty := .boolean) rfl rfl dJ3_equals_6 h
theorem tJ3_equals_36 {G : GPl} {s0 : State} {l : Launch} {K : Nat → Option Nat} {T : Nat → Nat} {lev : Nat} {st0 : GSt} {Q : Outcome → GSt → Prop} {a0 : Nat} {x1 : Option Nat} {x2 : Option Nat} {σ : GSt} (h : (gk σ a0 = 23 ∧ (∃ a2, x2 = some a2 ∧ (gk σ a2 = 23 ∧ (CQ (wP G s0 l K T) mJ4_equals lev [va_rf (gr σ a0 0), va_rf (gr σ a2 0)] σ (onI (fun r5 t4 => gle σ t4 → ((r5 = 0 → Q (.returned (some (.int (iI 0)))) t4) ∧ (¬ r5 = 0 → Q (.returned (some (.int (iI 1)))) t4))) (fun x t => gle σ t → Q (.threw x) t))))))) : jJ3_equals_36 G s0 l K T lev st0 Q a0 x1 x2 σ := by
  refine j_aload_n (r := some a0) dJ3_equals_36 rfl ?_
  obtain ⟨hk1, h⟩ := h
  refine kg_getr (a := a0) (j := 0) rfl gfJ3_9 hk1 dJ3_equals_37 ?_
  refine j_aload_n (r := x2) dJ3_equals_40 rfl ?_
  obtain ⟨a2, ea2, hk3, h⟩ := h
  refine kg_getr (a := a2) (j := 0) ea2 gfJ3_9 hk3 dJ3_equals_41 ?_
  refine jg_calli (rest := []) (kg_lkS (As := [va_rf (gr σ a0 0), va_rf (gr σ a2 0)]) ktJ4_equals q866 rfl rfl dJ3_equals_44) cwJ4_equals (Nat.le_of_ble_eq_true rfl) rfl dJ3_equals_44 (Nat.succ_le_succ (Nat.zero_le _)) (h.mono (onI_mono (fun r5 t4 h hlt4 => ?_) (fun _ _ h => h)))
  replace h := h hlt4
  replace hk1 := hlt4.tag hk1 (by decide)
  replace hk3 := hlt4.tag hk3 (by decide)
  refine j_if_eq 54 dJ3_equals_47 (by decide) (fun c6 => ?_) (fun c6 => ?_)
  · replace h := h.1 c6
    refine j_iconst (v := iI 0) dJ3_equals_54 rfl ?_
    exact j_ireturn (ty := .boolean) rfl rfl dJ3_equals_55 h
  · replace h := h.2 c6
    refine j_iconst (v := iI 1) dJ3_equals_50 rfl ?_
    refine j_goto 55 dJ3_equals_51 (by decide) ?_
    exact j_ireturn (ty := .boolean) rfl rfl dJ3_equals_55 h
theorem tJ3_hashCode {G : GPl} {s0 : State} {l : Launch} {K : Nat → Option Nat} {T : Nat → Nat} {lev : Nat} {Q : Outcome → GSt → Prop} {a0 : Nat} {σ : GSt} (h : (gk σ a0 = 23 ∧ (((gi σ a0 2) = 0 → (((gi σ a0 3) = 0 → (CQ (wP G s0 l K T) mJ3_isLatin1 lev (.ref a0 :: []) σ (onI (fun r3 t2 => gle σ t2 → ((r3 = 0 → False) ∧ (¬ r3 = 0 → (CQ (wP G s0 l K T) mJ4_hashCode lev [va_rf (gr t2 a0 0)] t2 (onI (fun r5 t4 => gle t2 t4 → ((r5 = 0 → (G.h0.size ≤ a0 ∧ Q (.returned (some (.int r5))) (gpi a0 3 (iI 1) t4))) ∧ (¬ r5 = 0 → (G.h0.size ≤ a0 ∧ Q (.returned (some (.int r5))) (gpi a0 2 r5 t4))))) (fun x t => gle t2 t → Q (.threw x) t)))))) (fun x t => gle σ t → Q (.threw x) t)))) ∧ (¬ (gi σ a0 3) = 0 → Q (.returned (some (.int (gi σ a0 2)))) σ))) ∧ (¬ (gi σ a0 2) = 0 → Q (.returned (some (.int (gi σ a0 2)))) σ)))) : CQ (wP G s0 l K T) mJ3_hashCode (lev + 1) [.ref a0] σ Q := by
  refine CQ.of3 1 (lv := [some (va_rf (some a0)), none]) (by decide) (Nat.le_of_ble_eq_true rfl) (cat1_cons rfl cat1_nil) rfl ?_
  refine j_aload_n (r := some a0) dJ3_hashCode_0 rfl ?_
  obtain ⟨hk1, h⟩ := h
  refine kg_geti (a := a0) (j := 2) rfl gfJ3_19 (by decide) hk1 dJ3_hashCode_1 ?_
  refine j_istore_n (lv' := [some (va_rf (some a0)), some (.int (gi σ a0 2))]) dJ3_hashCode_4 (by decide) rfl ?_
  refine j_iload_n dJ3_hashCode_5 rfl ?_
  refine j_if_ne 58 dJ3_hashCode_6 (by decide) (fun c11 => ?_) (fun c11 => ?_)
  · replace h := h.2 c11
    refine j_iload_n dJ3_hashCode_58 rfl ?_
    exact j_ireturn (ty := .int) rfl rfl dJ3_hashCode_59 h
  · replace h := h.1 c11
    refine j_aload_n (r := some a0) dJ3_hashCode_9 rfl ?_
    refine kg_geti (a := a0) (j := 3) rfl gfJ3_23 (by decide) hk1 dJ3_hashCode_10 ?_
    refine j_if_ne 58 dJ3_hashCode_13 (by decide) (fun c10 => ?_) (fun c10 => ?_)
    · replace h := h.2 c10
      refine j_iload_n dJ3_hashCode_58 rfl ?_
      exact j_ireturn (ty := .int) rfl rfl dJ3_hashCode_59 h
    · replace h := h.1 c10
      refine j_aload_n (r := some a0) dJ3_hashCode_16 rfl ?_
      refine jg_calli (rest := []) (kg_lkV (As := []) (a := a0) (c := 22) kgJ3_isLatin1_22 (by decide) rfl hk1 q803 rfl rfl dJ3_hashCode_17) cwJ3_isLatin1 (Nat.le_of_ble_eq_true rfl) rfl dJ3_hashCode_17 (Nat.succ_le_succ (Nat.zero_le _)) (h.mono (onI_mono (fun r3 t2 h hlt2 => ?_) (fun _ _ h => h)))
      replace h := h hlt2
      replace hk1 := hlt2.tag hk1 (by decide)
      refine j_if_eq 33 dJ3_hashCode_20 (by decide) (fun c9 => ?_) (fun c9 => ?_)
      · replace h := h.1 c9
        refine j_aload_n (r := some a0) dJ3_hashCode_33 rfl ?_
        refine kg_getr (a := a0) (j := 0) rfl gfJ3_9 hk1 dJ3_hashCode_34 ?_
        exact h.elim
      · replace h := h.2 c9
        refine j_aload_n (r := some a0) dJ3_hashCode_23 rfl ?_
        refine kg_getr (a := a0) (j := 0) rfl gfJ3_9 hk1 dJ3_hashCode_24 ?_
        refine jg_calli (rest := []) (kg_lkS (As := [va_rf (gr t2 a0 0)]) ktJ4_hashCode q807 rfl rfl dJ3_hashCode_27) cwJ4_hashCode (Nat.le_of_ble_eq_true rfl) rfl dJ3_hashCode_27 (Nat.succ_le_succ (Nat.zero_le _)) (h.mono (onI_mono (fun r5 t4 h hlt4 => ?_) (fun _ _ h => h)))
        replace h := h hlt4
        replace hk1 := hlt4.tag hk1 (by decide)
        refine j_goto 40 dJ3_hashCode_30 (by decide) ?_
        refine j_istore_n (lv' := [some (va_rf (some a0)), some (.int r5)]) dJ3_hashCode_40 (by decide) rfl ?_
        refine j_iload_n dJ3_hashCode_41 rfl ?_
        refine j_if_ne 53 dJ3_hashCode_42 (by decide) (fun c8 => ?_) (fun c8 => ?_)
        · replace h := h.2 c8
          refine j_aload_n (r := some a0) dJ3_hashCode_53 rfl ?_
          refine j_iload_n dJ3_hashCode_54 rfl ?_
          obtain ⟨hb6, h⟩ := h
          refine kg_puti (a := a0) rfl gfJ3_19 (Or.inl rfl) hk1 (Or.inr hb6) dJ3_hashCode_55 ?_
          refine j_iload_n dJ3_hashCode_58 rfl ?_
          exact j_ireturn (ty := .int) rfl rfl dJ3_hashCode_59 h
        · replace h := h.1 c8
          refine j_aload_n (r := some a0) dJ3_hashCode_45 rfl ?_
          refine j_iconst (v := iI 1) dJ3_hashCode_46 rfl ?_
          obtain ⟨hb7, h⟩ := h
          refine kg_putz (a := a0) rfl gfJ3_23 isZ1 (Or.inl rfl) hk1 (Or.inr hb7) dJ3_hashCode_47 ?_
          refine j_goto 58 dJ3_hashCode_50 (by decide) ?_
          refine j_iload_n dJ3_hashCode_58 rfl ?_
          exact j_ireturn (ty := .int) rfl rfl dJ3_hashCode_59 h
theorem tJ3_indexOf {G : GPl} {s0 : State} {l : Launch} {K : Nat → Option Nat} {T : Nat → Nat} {lev : Nat} {Q : Outcome → GSt → Prop} {a0 : Nat} {x1 : Int32} {σ : GSt} (h : (gk σ a0 = 23 ∧ (CQ (wP G s0 l K T) mJ3_indexOf_2 lev (.ref a0 :: [.int x1, .int (iI 0)]) σ (onI (fun r3 t2 => gle σ t2 → Q (.returned (some (.int r3))) t2) (fun x t => gle σ t → Q (.threw x) t))))) : CQ (wP G s0 l K T) mJ3_indexOf (lev + 1) [.ref a0, .int x1] σ Q := by
  refine CQ.of3 0 (lv := [some (va_rf (some a0)), some (.int x1)]) (by decide) (Nat.le_of_ble_eq_true rfl) (cat1_cons rfl (cat1_cons rfl cat1_nil)) rfl ?_
  refine j_aload_n (r := some a0) dJ3_indexOf_0 rfl ?_
  refine j_iload_n dJ3_indexOf_1 rfl ?_
  refine j_iconst (v := iI 0) dJ3_indexOf_2 rfl ?_
  obtain ⟨hk1, h⟩ := h
  refine jg_calli (rest := []) (kg_lkV (As := [.int x1, .int (iI 0)]) (a := a0) (c := 22) kgJ3_indexOf_2_22 (by decide) rfl hk1 q888 rfl rfl dJ3_indexOf_3) cwJ3_indexOf_2 (Nat.le_of_ble_eq_true rfl) rfl dJ3_indexOf_3 (Nat.succ_le_succ (Nat.zero_le _)) (h.mono (onI_mono (fun r3 t2 h hlt2 => ?_) (fun _ _ h => h)))
  replace h := h hlt2
  replace hk1 := hlt2.tag hk1 (by decide)
  exact j_ireturn (ty := .int) rfl rfl dJ3_indexOf_6 h
theorem tJ3_indexOf_2 {G : GPl} {s0 : State} {l : Launch} {K : Nat → Option Nat} {T : Nat → Nat} {lev : Nat} {Q : Outcome → GSt → Prop} {a0 : Nat} {x1 : Int32} {x2 : Int32} {σ : GSt} (h : (gk σ a0 = 23 ∧ (CQ (wP G s0 l K T) mJ3_isLatin1 lev (.ref a0 :: []) σ (onI (fun r3 t2 => gle σ t2 → ((r3 = 0 → (CQ (wP G s0 l K T) mJ3_length lev (.ref a0 :: []) t2 (onI (fun r5 t4 => gle t2 t4 → False) (fun x t => gle t2 t → Q (.threw x) t)))) ∧ (¬ r3 = 0 → (CQ (wP G s0 l K T) mJ3_length lev (.ref a0 :: []) t2 (onI (fun r7 t6 => gle t2 t6 → (CQ (wP G s0 l K T) mJ4_indexOf lev [va_rf (gr t2 a0 0), .int x1, .int x2, .int r7] t6 (onI (fun r9 t8 => gle t6 t8 → Q (.returned (some (.int r9))) t8) (fun x t => gle t6 t → Q (.threw x) t)))) (fun x t => gle t2 t → Q (.threw x) t)))))) (fun x t => gle σ t → Q (.threw x) t))))) : CQ (wP G s0 l K T) mJ3_indexOf_2 (lev + 1) [.ref a0, .int x1, .int x2] σ Q := by
  refine CQ.of3 0 (lv := [some (va_rf (some a0)), some (.int x1), some (.int x2)]) (by decide) (Nat.le_of_ble_eq_true rfl) (cat1_cons rfl (cat1_cons rfl (cat1_cons rfl cat1_nil))) rfl ?_
  refine j_aload_n (r := some a0) dJ3_indexOf_2_0 rfl ?_
  obtain ⟨hk1, h⟩ := h
  refine jg_calli (rest := []) (kg_lkV (As := []) (a := a0) (c := 22) kgJ3_isLatin1_22 (by decide) rfl hk1 q803 rfl rfl dJ3_indexOf_2_1) cwJ3_isLatin1 (Nat.le_of_ble_eq_true rfl) rfl dJ3_indexOf_2_1 (Nat.succ_le_succ (Nat.zero_le _)) (h.mono (onI_mono (fun r3 t2 h hlt2 => ?_) (fun _ _ h => h)))
  replace h := h hlt2
  replace hk1 := hlt2.tag hk1 (by decide)
  refine j_if_eq 23 dJ3_indexOf_2_4 (by decide) (fun c10 => ?_) (fun c10 => ?_)
  · replace h := h.1 c10
    refine j_aload_n (r := some a0) dJ3_indexOf_2_23 rfl ?_
    refine kg_getr (a := a0) (j := 0) rfl gfJ3_9 hk1 dJ3_indexOf_2_24 ?_
    refine j_iload_n dJ3_indexOf_2_27 rfl ?_
    refine j_iload_n dJ3_indexOf_2_28 rfl ?_
    refine j_aload_n (r := some a0) dJ3_indexOf_2_29 rfl ?_
    refine jg_calli (rest := [.int x2, .int x1, va_rf (gr t2 a0 0)]) (kg_lkV (As := []) (a := a0) (c := 22) kgJ3_length_22 (by decide) rfl hk1 q892 rfl rfl dJ3_indexOf_2_30) cwJ3_length (rm_ok (cat1_cons rfl (cat1_cons rfl (cat1_cons (rf_cat _) cat1_nil))) (Nat.le_of_ble_eq_true rfl)) rfl dJ3_indexOf_2_30 (Nat.succ_le_succ (Nat.zero_le _)) (h.mono (onI_mono (fun r5 t4 h hlt4 => ?_) (fun _ _ h => h)))
    replace h := h hlt4
    replace hk1 := hlt4.tag hk1 (by decide)
    exact h.elim
  · replace h := h.2 c10
    refine j_aload_n (r := some a0) dJ3_indexOf_2_7 rfl ?_
    refine kg_getr (a := a0) (j := 0) rfl gfJ3_9 hk1 dJ3_indexOf_2_8 ?_
    refine j_iload_n dJ3_indexOf_2_11 rfl ?_
    refine j_iload_n dJ3_indexOf_2_12 rfl ?_
    refine j_aload_n (r := some a0) dJ3_indexOf_2_13 rfl ?_
    refine jg_calli (rest := [.int x2, .int x1, va_rf (gr t2 a0 0)]) (kg_lkV (As := []) (a := a0) (c := 22) kgJ3_length_22 (by decide) rfl hk1 q892 rfl rfl dJ3_indexOf_2_14) cwJ3_length (rm_ok (cat1_cons rfl (cat1_cons rfl (cat1_cons (rf_cat _) cat1_nil))) (Nat.le_of_ble_eq_true rfl)) rfl dJ3_indexOf_2_14 (Nat.succ_le_succ (Nat.zero_le _)) (h.mono (onI_mono (fun r7 t6 h hlt6 => ?_) (fun _ _ h => h)))
    replace h := h hlt6
    replace hk1 := hlt6.tag hk1 (by decide)
    refine jg_calli (rest := []) (kg_lkS (As := [va_rf (gr t2 a0 0), .int x1, .int x2, .int r7]) ktJ4_indexOf q893 rfl rfl dJ3_indexOf_2_17) cwJ4_indexOf (Nat.le_of_ble_eq_true rfl) rfl dJ3_indexOf_2_17 (Nat.succ_le_succ (Nat.zero_le _)) (h.mono (onI_mono (fun r9 t8 h hlt8 => ?_) (fun _ _ h => h)))
    replace h := h hlt8
    replace hk1 := hlt8.tag hk1 (by decide)
    refine j_goto 36 dJ3_indexOf_2_20 (by decide) ?_
    exact j_ireturn (ty := .int) rfl rfl dJ3_indexOf_2_36 h
theorem tJ3_isLatin1 {G : GPl} {s0 : State} {l : Launch} {K : Nat → Option Nat} {T : Nat → Nat} {lev : Nat} {Q : Outcome → GSt → Prop} {a0 : Nat} {σ : GSt} (h : (gk σ a0 = 23 ∧ (((gi σ a0 1) = 0 → Q (.returned (some (.int (iI 1)))) σ) ∧ (¬ (gi σ a0 1) = 0 → Q (.returned (some (.int (iI 0)))) σ)))) : CQ (wP G s0 l K T) mJ3_isLatin1 (lev + 1) [.ref a0] σ Q := by
  refine CQ.of3 0 (lv := [some (va_rf (some a0))]) (by decide) (Nat.le_of_ble_eq_true rfl) (cat1_cons rfl cat1_nil) rfl ?_
  refine jg_getcs flJ3_38 dJ3_isLatin1_0 ?_
  refine j_if_eq 17 dJ3_isLatin1_3 (by decide) (fun q_ => absurd q_ (by decide)) (fun _ => ?_)
  refine j_aload_n (r := some a0) dJ3_isLatin1_6 rfl ?_
  obtain ⟨hk1, h⟩ := h
  refine kg_geti (a := a0) (j := 1) rfl gfJ3_15 (by decide) hk1 dJ3_isLatin1_7 ?_
  refine j_if_ne 17 dJ3_isLatin1_10 (by decide) (fun c2 => ?_) (fun c2 => ?_)
  · replace h := h.2 c2
    refine j_iconst (v := iI 0) dJ3_isLatin1_17 rfl ?_
    exact j_ireturn (ty := .boolean) rfl rfl dJ3_isLatin1_18 h
  · replace h := h.1 c2
    refine j_iconst (v := iI 1) dJ3_isLatin1_13 rfl ?_
    refine j_goto 18 dJ3_isLatin1_14 (by decide) ?_
    exact j_ireturn (ty := .boolean) rfl rfl dJ3_isLatin1_18 h
theorem tJ3_coder {G : GPl} {s0 : State} {l : Launch} {K : Nat → Option Nat} {T : Nat → Nat} {lev : Nat} {Q : Outcome → GSt → Prop} {a0 : Nat} {σ : GSt} (h : (gk σ a0 = 23 ∧ (narrow .byte (.int (gi σ a0 1)) = .int (gi σ a0 1) ∧ Q (.returned (some (.int (gi σ a0 1)))) σ))) : CQ (wP G s0 l K T) mJ3_coder (lev + 1) [.ref a0] σ Q := by
  refine CQ.of3 0 (lv := [some (va_rf (some a0))]) (by decide) (Nat.le_of_ble_eq_true rfl) (cat1_cons rfl cat1_nil) rfl ?_
  refine jg_getcs flJ3_38 dJ3_coder_0 ?_
  refine j_if_eq 13 dJ3_coder_3 (by decide) (fun q_ => absurd q_ (by decide)) (fun _ => ?_)
  refine j_aload_n (r := some a0) dJ3_coder_6 rfl ?_
  obtain ⟨hk1, h⟩ := h
  refine kg_geti (a := a0) (j := 1) rfl gfJ3_15 (by decide) hk1 dJ3_coder_7 ?_
  refine j_goto 14 dJ3_coder_10 (by decide) ?_
  have hz := h.1
  replace h := h.2
  exact j_ireturn (ty := .byte) rfl hz dJ3_coder_14 h
theorem tJ3_checkIndex {G : GPl} {s0 : State} {l : Launch} {K : Nat → Option Nat} {T : Nat → Nat} {lev : Nat} {Q : Outcome → GSt → Prop} {x0 : Int32} {x1 : Int32} {σ : GSt} (h : (CQ (wP G s0 l K T) mJ5_checkIndex lev [.int x0, .int x1, va_rf (K 16)] σ (onI (fun r2 t1 => gle σ t1 → Q (.returned none) t1) (fun x t => gle σ t → Q (.threw x) t)))) : CQ (wP G s0 l K T) mJ3_checkIndex (lev + 1) [.int x0, .int x1] σ Q := by
  refine CQ.of3 0 (lv := [some (.int x0), some (.int x1)]) (by decide) (Nat.le_of_ble_eq_true rfl) (cat1_cons rfl (cat1_cons rfl cat1_nil)) rfl ?_
  refine j_iload_n dJ3_checkIndex_0 rfl ?_
  refine j_iload_n dJ3_checkIndex_1 rfl ?_
  refine jg_gets (i := 16) rfl flJ3_1053 dJ3_checkIndex_2 ?_
  refine jg_calli (rest := []) (kg_lkS (As := [.int x0, .int x1, va_rf (K 16)]) ktJ5_checkIndex q643 rfl rfl dJ3_checkIndex_5) cwJ5_checkIndex (Nat.le_of_ble_eq_true rfl) rfl dJ3_checkIndex_5 (Nat.succ_le_succ (Nat.zero_le _)) (h.mono (onI_mono (fun r2 t1 h hlt1 => ?_) (fun _ _ h => h)))
  replace h := h hlt1
  refine j_pop dJ3_checkIndex_8 rfl ?_
  exact j_return rfl dJ3_checkIndex_9 h
theorem tJ3_init {G : GPl} {s0 : State} {l : Launch} {K : Nat → Option Nat} {T : Nat → Nat} {lev : Nat} {Q : Outcome → GSt → Prop} {a0 : Nat} {x1 : Option Nat} {σ : GSt} (h : (CQ (wP G s0 l K T) mJ3_init_2 lev (.ref a0 :: [va_rf x1, va_rf none]) σ (onV (fun t1 => gle σ t1 → Q (.returned none) t1) (fun x t => gle σ t → Q (.threw x) t)))) : CQ (wP G s0 l K T) mJ3_init (lev + 1) [.ref a0, va_rf x1] σ Q := by
  refine CQ.of3 0 (lv := [some (va_rf (some a0)), some (va_rf x1)]) (by decide) (Nat.le_of_ble_eq_true rfl) (cat1_cons rfl (cat1_cons (rf_cat _) cat1_nil)) rfl ?_
  refine j_aload_n (r := some a0) dJ3_init_0 rfl ?_
  refine j_aload_n (r := x1) dJ3_init_1 rfl ?_
  refine j_null dJ3_init_2 ?_
  refine jg_callv (rest := []) (kg_lkI (As := [va_rf x1, va_rf none]) (a := a0) kiJ3_init_2 (Or.inl q659) rfl rfl dJ3_init_3) cwJ3_init_2 (Nat.le_of_ble_eq_true rfl) rfl dJ3_init_3 (Nat.succ_le_succ (Nat.zero_le _)) (h.mono (onV_mono (fun t1 h hlt1 => ?_) (fun _ _ h => h)))
  replace h := h hlt1
  exact j_return rfl dJ3_init_6 h
abbrev jJ3_init_2_79 (G : GPl) (s0 : State) (l : Launch) (K : Nat → Option Nat) (T : Nat → Nat) (lev : Nat) (st0 : GSt) (Q : Outcome → GSt → Prop) (a0 : Nat) (x1 : Option Nat) (x2 : Option Nat) (x3 : Option Nat) (x4 : Int32) (σ : GSt) : Prop := JQ (wP G s0 l K T) mJ3_init_2 (lev + 1) st0 79 [some (va_rf (some a0)), some (va_rf x1), some (va_rf x2), some (va_rf x3), some (.int x4)] [] σ Q
theorem tJ3_init_2 {G : GPl} {s0 : State} {l : Launch} {K : Nat → Option Nat} {T : Nat → Nat} {lev : Nat} {Q : Outcome → GSt → Prop} {a0 : Nat} {x1 : Option Nat} {x2 : Option Nat} {σ : GSt} (h : (∃ a1, x1 = some a1 ∧ (gk σ a1 = 24 ∧ (CQ (wP G s0 l K T) mJ12_getValue lev (.ref a1 :: []) σ (onR (fun r4 t3 => gle σ t3 → (CQ (wP G s0 l K T) mJ13_length lev (.ref a1 :: []) t3 (onI (fun r6 t5 => gle t3 t5 → (CQ (wP G s0 l K T) mJ12_isLatin1 lev (.ref a1 :: []) t5 (onI (fun r8 t7 => gle t5 t7 → ((r8 = 0 → (((gi t7 a1 2) = 0 → jJ3_init_2_79 G s0 l K T lev σ Q a0 x1 x2 r4 r6 t7) ∧ (¬ (gi t7 a1 2) = 0 → False))) ∧ (¬ r8 = 0 → (gk t7 a0 = 23 ∧ (G.h0.size ≤ a0 ∧ (CQ (wP G s0 l K T) mJ16_copyOfRange lev [va_rf r4, .int (iI 0), .int r6] (gpi a0 1 (iI 0) t7) (onR (fun r13 t12 => gle (gpi a0 1 (iI 0) t7) t12 → (G.h0.size ≤ a0 ∧ Q (.returned none) (gpr a0 0 r13 t12))) (fun x t => gle (gpi a0 1 (iI 0) t7) t → Q (.threw x) t)))))))) (fun x t => gle t5 t → Q (.threw x) t)))) (fun x t => gle t3 t → Q (.threw x) t)))) (fun x t => gle σ t → Q (.threw x) t)))))) : CQ (wP G s0 l K T) mJ3_init_2 (lev + 1) [.ref a0, va_rf x1, va_rf x2] σ Q := by
  refine CQ.of3 2 (lv := [some (va_rf (some a0)), some (va_rf x1), some (va_rf x2), none, none]) (by decide) (Nat.le_of_ble_eq_true rfl) (cat1_cons rfl (cat1_cons (rf_cat _) (cat1_cons (rf_cat _) cat1_nil))) rfl ?_
  refine j_aload_n (r := some a0) dJ3_init_2_0 rfl ?_
  refine jg_objI q662 q168 q169 (Nat.succ_le_succ (Nat.zero_le _)) (Nat.le_of_ble_eq_true rfl) dJ3_init_2_1 ?_
  refine j_aload_n (r := x1) dJ3_init_2_4 rfl ?_
  obtain ⟨a1, ea1, hk2, h⟩ := h
  refine jg_callr (rest := []) (kg_lkV (As := []) (a := a1) (c := 23) kgJ12_getValue_23 (by decide) rfl hk2 q663 rfl (by rw [ea1]; rfl) dJ3_init_2_5) cwJ12_getValue (Nat.le_of_ble_eq_true rfl) rfl dJ3_init_2_5 (Nat.succ_le_succ (Nat.zero_le _)) (h.mono (onR_mono (fun r4 t3 h hlt3 => ?_) (fun _ _ h => h)))
  replace h := h hlt3
  replace hk2 := hlt3.tag hk2 (by decide)
  refine j_astore_n (r := r4) (lv' := [some (va_rf (some a0)), some (va_rf x1), some (va_rf x2), some (va_rf r4), none]) dJ3_init_2_8 (by decide) rfl ?_
  refine j_aload_n (r := x1) dJ3_init_2_9 rfl ?_
  refine jg_calli (rest := []) (jg_lkU (c := 23) (n := 0) (owner := "java/lang/AbstractStringBuilder") (x := ⟨"java/lang/AbstractStringBuilder", "length", "()I"⟩) (mdc := mJ13_length) (As := []) (b := a1) (by decide) hk2 q668 q2552 (Or.inr ⟨q549, _, _, _, q550⟩) q2557 q545 ⟨by decide, by decide⟩ (parLen_of (by decide +kernel)) rfl (by rw [ea1]; rfl) dJ3_init_2_10) cwJ13_length (Nat.le_of_ble_eq_true rfl) rfl dJ3_init_2_10 (Nat.succ_le_succ (Nat.zero_le _)) (h.mono (onI_mono (fun r6 t5 h hlt5 => ?_) (fun _ _ h => h)))
  replace h := h hlt5
  replace hk2 := hlt5.tag hk2 (by decide)
  refine j_istore (lv' := [some (va_rf (some a0)), some (va_rf x1), some (va_rf x2), some (va_rf r4), some (.int r6)]) dJ3_init_2_13 (by decide) rfl ?_
  refine j_aload_n (r := x1) dJ3_init_2_15 rfl ?_
  refine jg_calli (rest := []) (kg_lkV (As := []) (a := a1) (c := 23) kgJ12_isLatin1_23 (by decide) rfl hk2 q669 rfl (by rw [ea1]; rfl) dJ3_init_2_16) cwJ12_isLatin1 (Nat.le_of_ble_eq_true rfl) rfl dJ3_init_2_16 (Nat.succ_le_succ (Nat.zero_le _)) (h.mono (onI_mono (fun r8 t7 h hlt7 => ?_) (fun _ _ h => h)))
  replace h := h hlt7
  replace hk2 := hlt7.tag hk2 (by decide)
  refine j_if_eq 41 dJ3_init_2_19 (by decide) (fun c15 => ?_) (fun c15 => ?_)
  · replace h := h.1 c15
    refine jg_getcs flJ3_38 dJ3_init_2_41 ?_
    refine j_if_eq 79 dJ3_init_2_44 (by decide) (fun q_ => absurd q_ (by decide)) (fun _ => ?_)
    refine j_aload_n (r := x1) dJ3_init_2_47 rfl ?_
    refine kg_geti (a := a1) (j := 2) ea1 gfJ3_1048 (by decide) hk2 dJ3_init_2_48 ?_
    refine j_if_eq 79 dJ3_init_2_51 (by decide) (fun c9 => ?_) (fun c9 => ?_)
    · replace h := h.1 c9
      exact h
    · replace h := h.2 c9
      refine j_aload_n (r := some a0) dJ3_init_2_54 rfl ?_
      refine j_aload_n (r := r4) dJ3_init_2_55 rfl ?_
      refine j_iconst (v := iI 0) dJ3_init_2_56 rfl ?_
      refine j_iload dJ3_init_2_57 rfl ?_
      exact h.elim
  · replace h := h.2 c15
    refine j_aload_n (r := some a0) dJ3_init_2_22 rfl ?_
    refine j_iconst (v := iI 0) dJ3_init_2_23 rfl ?_
    obtain ⟨hk10, hb11, h⟩ := h
    refine kg_putb (a := a0) rfl gfJ3_15 isZ0 (Or.inr ⟨rfl, rfl⟩) hk10 (Or.inr hb11) dJ3_init_2_24 ?_
    refine j_aload_n (r := some a0) dJ3_init_2_27 rfl ?_
    refine j_aload_n (r := r4) dJ3_init_2_28 rfl ?_
    refine j_iconst (v := iI 0) dJ3_init_2_29 rfl ?_
    refine j_iload dJ3_init_2_30 rfl ?_
    refine jg_callr (rest := [va_rf (some a0)]) (kg_lkS (As := [va_rf r4, .int (iI 0), .int r6]) ktJ16_copyOfRange q670 rfl rfl dJ3_init_2_32) cwJ16_copyOfRange (Nat.le_of_ble_eq_true rfl) rfl dJ3_init_2_32 (Nat.succ_le_succ (Nat.zero_le _)) (h.mono (onR_mono (fun r13 t12 h hlt12 => ?_) (fun _ _ h => h)))
    replace h := h hlt12
    replace hk2 := hlt12.tag hk2 (by decide)
    replace hk10 := hlt12.tag hk10 (by decide)
    obtain ⟨hb14, h⟩ := h
    refine kg_putr (a := a0) (x := r13) rfl gfJ3_9 (Or.inr ⟨rfl, rfl⟩) hk10 (Or.inr hb14) dJ3_init_2_35 ?_
    refine j_goto 97 dJ3_init_2_38 (by decide) ?_
    exact j_return rfl dJ3_init_2_97 h
theorem tJ3_init_2_79 {G : GPl} {s0 : State} {l : Launch} {K : Nat → Option Nat} {T : Nat → Nat} {lev : Nat} {st0 : GSt} {Q : Outcome → GSt → Prop} {a0 : Nat} {x1 : Option Nat} {x2 : Option Nat} {x3 : Option Nat} {x4 : Int32} {σ : GSt} (h : (gk σ a0 = 23 ∧ (G.h0.size ≤ a0 ∧ (CQ (wP G s0 l K T) mJ16_copyOfRange lev [va_rf x3, .int (iI 0), .int (x4 <<< ((iI 1) &&& 31))] (gpi a0 1 (iI 1) σ) (onR (fun r4 t3 => gle (gpi a0 1 (iI 1) σ) t3 → (G.h0.size ≤ a0 ∧ Q (.returned none) (gpr a0 0 r4 t3))) (fun x t => gle (gpi a0 1 (iI 1) σ) t → Q (.threw x) t)))))) : jJ3_init_2_79 G s0 l K T lev st0 Q a0 x1 x2 x3 x4 σ := by
  refine j_aload_n (r := some a0) dJ3_init_2_79 rfl ?_
  refine j_iconst (v := iI 1) dJ3_init_2_80 rfl ?_
  obtain ⟨hk1, hb2, h⟩ := h
  refine kg_putb (a := a0) rfl gfJ3_15 isZ1 (Or.inr ⟨rfl, rfl⟩) hk1 (Or.inr hb2) dJ3_init_2_81 ?_
  refine j_aload_n (r := some a0) dJ3_init_2_84 rfl ?_
  refine j_aload_n (r := x3) dJ3_init_2_85 rfl ?_
  refine j_iconst (v := iI 0) dJ3_init_2_86 rfl ?_
  refine j_iload dJ3_init_2_87 rfl ?_
  refine j_iconst (v := iI 1) dJ3_init_2_89 rfl ?_
  refine j_ishl dJ3_init_2_90 ?_
  refine jg_callr (rest := [va_rf (some a0)]) (kg_lkS (As := [va_rf x3, .int (iI 0), .int (x4 <<< ((iI 1) &&& 31))]) ktJ16_copyOfRange q670 rfl rfl dJ3_init_2_91) cwJ16_copyOfRange (Nat.le_of_ble_eq_true rfl) rfl dJ3_init_2_91 (Nat.succ_le_succ (Nat.zero_le _)) (h.mono (onR_mono (fun r4 t3 h hlt3 => ?_) (fun _ _ h => h)))
  replace h := h hlt3
  replace hk1 := hlt3.tag hk1 (by decide)
  obtain ⟨hb5, h⟩ := h
  refine kg_putr (a := a0) (x := r4) rfl gfJ3_9 (Or.inr ⟨rfl, rfl⟩) hk1 (Or.inr hb5) dJ3_init_2_94 ?_
  exact j_return rfl dJ3_init_2_97 h
theorem tJ4_canEncode {G : GPl} {s0 : State} {l : Launch} {K : Nat → Option Nat} {T : Nat → Nat} {lev : Nat} {Q : Outcome → GSt → Prop} {x0 : Int32} {σ : GSt} (h : (((iI 255) < x0 → Q (.returned (some (.int (iI 0)))) σ) ∧ (¬ (iI 255) < x0 → Q (.returned (some (.int (iI 1)))) σ))) : CQ (wP G s0 l K T) mJ4_canEncode (lev + 1) [.int x0] σ Q := by
  refine CQ.of3 0 (lv := [some (.int x0)]) (by decide) (Nat.le_of_ble_eq_true rfl) (cat1_cons rfl cat1_nil) rfl ?_
  refine j_iload_n dJ4_canEncode_0 rfl ?_
  refine j_sipush (v := iI 255) dJ4_canEncode_1 rfl ?_
  refine j_icmp_gt 11 dJ4_canEncode_4 (by decide) (fun c1 => ?_) (fun c1 => ?_)
  · replace h := h.1 c1
    refine j_iconst (v := iI 0) dJ4_canEncode_11 rfl ?_
    exact j_ireturn (ty := .boolean) rfl rfl dJ4_canEncode_12 h
  · replace h := h.2 c1
    refine j_iconst (v := iI 1) dJ4_canEncode_7 rfl ?_
    refine j_goto 12 dJ4_canEncode_8 (by decide) ?_
    exact j_ireturn (ty := .boolean) rfl rfl dJ4_canEncode_12 h
theorem tJ4_inflate {G : GPl} {s0 : State} {l : Launch} {K : Nat → Option Nat} {T : Nat → Nat} {lev : Nat} {Q : Outcome → GSt → Prop} {x0 : Option Nat} {x1 : Int32} {x2 : Option Nat} {x3 : Int32} {x4 : Int32} {σ : GSt} (h : False) : CQ (wP G s0 l K T) mJ4_inflate (lev + 1) [va_rf x0, .int x1, va_rf x2, .int x3, .int x4] σ Q := by
  refine CQ.of3 0 (lv := [some (va_rf x0), some (.int x1), some (va_rf x2), some (.int x3), some (.int x4)]) (by decide) (Nat.le_of_ble_eq_true rfl) (cat1_cons (rf_cat _) (cat1_cons rfl (cat1_cons (rf_cat _) (cat1_cons rfl (cat1_cons rfl cat1_nil))))) rfl ?_
  refine j_aload_n (r := x0) dJ4_inflate_0 rfl ?_
  refine j_iload_n dJ4_inflate_1 rfl ?_
  refine j_aload_n (r := x2) dJ4_inflate_2 rfl ?_
  refine j_iload_n dJ4_inflate_3 rfl ?_
  refine j_iload dJ4_inflate_4 rfl ?_
  exact h.elim
theorem tJ4_hashCode {G : GPl} {s0 : State} {l : Launch} {K : Nat → Option Nat} {T : Nat → Nat} {lev : Nat} {Q : Outcome → GSt → Prop} {x0 : Option Nat} {σ : GSt} (h : (∃ a1, x0 = some a1 ∧ (gk σ a1 = 102 ∧ ((iI (gl σ a1 : Int) = iI 0 → Q (.returned (some (.int (iI 0)))) σ) ∧ (iI (gl σ a1 : Int) = iI 1 → (inr (iI 0) (gl σ a1) ∧ Q (.returned (some (.int ((gi σ a1 (ix (iI 0))) &&& (iI 255))))) σ)) ∧ (¬ iI (gl σ a1 : Int) = iI 0 → ¬ iI (gl σ a1 : Int) = iI 1 → (CQ (wP G s0 l K T) mJ14_vectorizedHashCode lev [va_rf x0, .int (iI 0), .int (iI (gl σ a1 : Int)), .int (iI 0), .int (iI 4)] σ (onI (fun r5 t4 => gle σ t4 → Q (.returned (some (.int r5))) t4) (fun x t => gle σ t → Q (.threw x) t)))))))) : CQ (wP G s0 l K T) mJ4_hashCode (lev + 1) [va_rf x0] σ Q := by
  refine CQ.of3 0 (lv := [some (va_rf x0)]) (by decide) (Nat.le_of_ble_eq_true rfl) (cat1_cons (rf_cat _) cat1_nil) rfl ?_
  refine j_aload_n (r := x0) dJ4_hashCode_0 rfl ?_
  obtain ⟨a1, ea1, hk2, h⟩ := h
  refine kg_alen (a := a1) ea1 hk2 (by decide) dJ4_hashCode_1 ?_
  by_cases c6_0 : iI (gl σ a1 : Int) = iI 0
  · replace h := h.1 c6_0
    refine j_lookup (off := 26) 28 dJ4_hashCode_2 (by decide) (by rw [c6_0]; first | done | rfl) (by decide) ?_
    refine j_iconst (v := iI 0) dJ4_hashCode_28 rfl ?_
    refine j_goto 51 dJ4_hashCode_29 (by decide) ?_
    exact j_ireturn (ty := .int) rfl rfl dJ4_hashCode_51 h
  by_cases c6_1 : iI (gl σ a1 : Int) = iI 1
  · replace h := h.2.1 c6_1
    refine j_lookup (off := 30) 32 dJ4_hashCode_2 (by decide) (by rw [c6_1]; first | done | rfl) (by decide) ?_
    refine j_aload_n (r := x0) dJ4_hashCode_32 rfl ?_
    refine j_iconst (v := iI 0) dJ4_hashCode_33 rfl ?_
    obtain ⟨hi3, h⟩ := h
    refine kg_bald (a := a1) ea1 hk2 hi3 dJ4_hashCode_34 ?_
    refine j_sipush (v := iI 255) dJ4_hashCode_35 rfl ?_
    refine j_iand dJ4_hashCode_38 ?_
    refine j_goto 51 dJ4_hashCode_39 (by decide) ?_
    exact j_ireturn (ty := .int) rfl rfl dJ4_hashCode_51 h
  replace h := h.2.2 c6_0 c6_1
  refine j_lookup (off := 40) 42 dJ4_hashCode_2 (by decide) ((lv_osw c6_0 (by decide)).trans ((lv_osw c6_1 (by decide)).trans rfl)) (by decide) ?_
  refine j_aload_n (r := x0) dJ4_hashCode_42 rfl ?_
  refine j_iconst (v := iI 0) dJ4_hashCode_43 rfl ?_
  refine j_aload_n (r := x0) dJ4_hashCode_44 rfl ?_
  refine kg_alen (a := a1) ea1 hk2 (by decide) dJ4_hashCode_45 ?_
  refine j_iconst (v := iI 0) dJ4_hashCode_46 rfl ?_
  refine j_iconst (v := iI 4) dJ4_hashCode_47 rfl ?_
  refine jg_calli (rest := []) (kg_lkS (As := [va_rf x0, .int (iI 0), .int (iI (gl σ a1 : Int)), .int (iI 0), .int (iI 4)]) ktJ14_vectorizedHashCode q810 rfl rfl dJ4_hashCode_48) cwJ14_vectorizedHashCode (Nat.le_of_ble_eq_true rfl) rfl dJ4_hashCode_48 (Nat.succ_le_succ (Nat.zero_le _)) (h.mono (onI_mono (fun r5 t4 h hlt4 => ?_) (fun _ _ h => h)))
  replace h := h hlt4
  replace hk2 := hlt4.tag hk2 (by decide)
  exact j_ireturn (ty := .int) rfl rfl dJ4_hashCode_51 h
abbrev jJ4_equals_9 (G : GPl) (s0 : State) (l : Launch) (K : Nat → Option Nat) (T : Nat → Nat) (lev : Nat) (st0 : GSt) (Q : Outcome → GSt → Prop) (x0 : Option Nat) (x1 : Option Nat) (x2 : Int32) (σ : GSt) : Prop := JQ (wP G s0 l K T) mJ4_equals (lev + 1) st0 9 [some (va_rf x0), some (va_rf x1), some (.int x2)] [] σ Q
theorem tJ4_equals {G : GPl} {s0 : State} {l : Launch} {K : Nat → Option Nat} {T : Nat → Nat} {lev : Nat} {Q : Outcome → GSt → Prop} {x0 : Option Nat} {x1 : Option Nat} {σ : GSt} (h : (∃ a1, x0 = some a1 ∧ (gk σ a1 = 102 ∧ (∃ a3, x1 = some a3 ∧ (gk σ a3 = 102 ∧ (((iI (gl σ a1 : Int)) = (iI (gl σ a3 : Int)) → jJ4_equals_9 G s0 l K T lev σ Q x0 x1 (iI 0) σ) ∧ (¬ (iI (gl σ a1 : Int)) = (iI (gl σ a3 : Int)) → Q (.returned (some (.int (iI 0)))) σ))))))) : CQ (wP G s0 l K T) mJ4_equals (lev + 1) [va_rf x0, va_rf x1] σ Q := by
  refine CQ.of3 1 (lv := [some (va_rf x0), some (va_rf x1), none]) (by decide) (Nat.le_of_ble_eq_true rfl) (cat1_cons (rf_cat _) (cat1_cons (rf_cat _) cat1_nil)) rfl ?_
  refine j_aload_n (r := x0) dJ4_equals_0 rfl ?_
  obtain ⟨a1, ea1, hk2, h⟩ := h
  refine kg_alen (a := a1) ea1 hk2 (by decide) dJ4_equals_1 ?_
  refine j_aload_n (r := x1) dJ4_equals_2 rfl ?_
  obtain ⟨a3, ea3, hk4, h⟩ := h
  refine kg_alen (a := a3) ea3 hk4 (by decide) dJ4_equals_3 ?_
  refine j_icmp_ne 34 dJ4_equals_4 (by decide) (fun c5 => ?_) (fun c5 => ?_)
  · replace h := h.2 c5
    refine j_iconst (v := iI 0) dJ4_equals_34 rfl ?_
    exact j_ireturn (ty := .boolean) rfl rfl dJ4_equals_35 h
  · replace h := h.1 c5
    refine j_iconst (v := iI 0) dJ4_equals_7 rfl ?_
    refine j_istore_n (lv' := [some (va_rf x0), some (va_rf x1), some (.int (iI 0))]) dJ4_equals_8 (by decide) rfl ?_
    exact h
theorem tJ4_equals_9 {G : GPl} {s0 : State} {l : Launch} {K : Nat → Option Nat} {T : Nat → Nat} {lev : Nat} {st0 : GSt} {Q : Outcome → GSt → Prop} {x0 : Option Nat} {x1 : Option Nat} {x2 : Int32} {σ : GSt} (h : (∃ a1, x0 = some a1 ∧ (gk σ a1 = 102 ∧ (((iI (gl σ a1 : Int)) ≤ x2 → Q (.returned (some (.int (iI 1)))) σ) ∧ (¬ (iI (gl σ a1 : Int)) ≤ x2 → (inr x2 (gl σ a1) ∧ (∃ a4, x1 = some a4 ∧ (gk σ a4 = 102 ∧ (inr x2 (gl σ a4) ∧ (((gi σ a1 (ix x2)) = (gi σ a4 (ix x2)) → jJ4_equals_9 G s0 l K T lev st0 Q x0 x1 (x2 + iI 1) σ) ∧ (¬ (gi σ a1 (ix x2)) = (gi σ a4 (ix x2)) → Q (.returned (some (.int (iI 0)))) σ))))))))))) : jJ4_equals_9 G s0 l K T lev st0 Q x0 x1 x2 σ := by
  refine j_iload_n dJ4_equals_9 rfl ?_
  refine j_aload_n (r := x0) dJ4_equals_10 rfl ?_
  obtain ⟨a1, ea1, hk2, h⟩ := h
  refine kg_alen (a := a1) ea1 hk2 (by decide) dJ4_equals_11 ?_
  refine j_icmp_ge 32 dJ4_equals_12 (by decide) (fun c8 => ?_) (fun c8 => ?_)
  · replace h := h.1 c8
    refine j_iconst (v := iI 1) dJ4_equals_32 rfl ?_
    exact j_ireturn (ty := .boolean) rfl rfl dJ4_equals_33 h
  · replace h := h.2 c8
    refine j_aload_n (r := x0) dJ4_equals_15 rfl ?_
    refine j_iload_n dJ4_equals_16 rfl ?_
    obtain ⟨hi3, h⟩ := h
    refine kg_bald (a := a1) ea1 hk2 hi3 dJ4_equals_17 ?_
    refine j_aload_n (r := x1) dJ4_equals_18 rfl ?_
    refine j_iload_n dJ4_equals_19 rfl ?_
    obtain ⟨a4, ea4, hk5, hi6, h⟩ := h
    refine kg_bald (a := a4) ea4 hk5 hi6 dJ4_equals_20 ?_
    refine j_icmp_eq 26 dJ4_equals_21 (by decide) (fun c7 => ?_) (fun c7 => ?_)
    · replace h := h.1 c7
      refine j_iinc (lv' := [some (va_rf x0), some (va_rf x1), some (.int (x2 + iI 1))]) dJ4_equals_26 rfl (by decide) rfl ?_
      refine j_goto 9 dJ4_equals_29 (by decide) ?_
      exact h
    · replace h := h.2 c7
      refine j_iconst (v := iI 0) dJ4_equals_24 rfl ?_
      exact j_ireturn (ty := .boolean) rfl rfl dJ4_equals_25 h
theorem tJ4_indexOf {G : GPl} {s0 : State} {l : Launch} {K : Nat → Option Nat} {T : Nat → Nat} {lev : Nat} {Q : Outcome → GSt → Prop} {x0 : Option Nat} {x1 : Int32} {x2 : Int32} {x3 : Int32} {σ : GSt} (h : (CQ (wP G s0 l K T) mJ4_canEncode_2 lev [.int x1] σ (onI (fun r2 t1 => gle σ t1 → ((r2 = 0 → Q (.returned (some (.int (iI (-1))))) t1) ∧ (¬ r2 = 0 → (∃ a3, x0 = some a3 ∧ (gk t1 a3 = 102 ∧ (((if x2 < iI 0 then iI 0 else x2) < (if iI (gl t1 a3 : Int) < x3 then iI (gl t1 a3 : Int) else x3) → (CQ (wP G s0 l K T) mJ4_indexOfChar lev [va_rf x0, .int x1, .int (if x2 < iI 0 then iI 0 else x2), .int (if iI (gl t1 a3 : Int) < x3 then iI (gl t1 a3 : Int) else x3)] t1 (onI (fun r6 t5 => gle t1 t5 → Q (.returned (some (.int r6))) t5) (fun x t => gle t1 t → Q (.threw x) t)))) ∧ (¬ (if x2 < iI 0 then iI 0 else x2) < (if iI (gl t1 a3 : Int) < x3 then iI (gl t1 a3 : Int) else x3) → Q (.returned (some (.int (iI (-1))))) t1))))))) (fun x t => gle σ t → Q (.threw x) t)))) : CQ (wP G s0 l K T) mJ4_indexOf (lev + 1) [va_rf x0, .int x1, .int x2, .int x3] σ Q := by
  refine CQ.of3 0 (lv := [some (va_rf x0), some (.int x1), some (.int x2), some (.int x3)]) (by decide) (Nat.le_of_ble_eq_true rfl) (cat1_cons (rf_cat _) (cat1_cons rfl (cat1_cons rfl (cat1_cons rfl cat1_nil)))) rfl ?_
  refine j_iload_n dJ4_indexOf_0 rfl ?_
  refine jg_calli (rest := []) (kg_lkS (As := [.int x1]) ktJ4_canEncode_2 q896 rfl rfl dJ4_indexOf_1) cwJ4_canEncode_2 (Nat.le_of_ble_eq_true rfl) rfl dJ4_indexOf_1 (Nat.succ_le_succ (Nat.zero_le _)) (h.mono (onI_mono (fun r2 t1 h hlt1 => ?_) (fun _ _ h => h)))
  replace h := h hlt1
  refine j_if_ne 9 dJ4_indexOf_4 (by decide) (fun c8 => ?_) (fun c8 => ?_)
  · replace h := h.2 c8
    refine j_iload_n dJ4_indexOf_9 rfl ?_
    refine j_iconst (v := iI 0) dJ4_indexOf_10 rfl ?_
    refine jg_mmax (x := x2) (y := iI 0) (stk := []) (Nat.succ_le_succ (Nat.zero_le _)) q899 q570 q135 q571 (Nat.le_of_ble_eq_true rfl) dJ4_indexOf_11 ?_
    refine j_istore_n (lv' := [some (va_rf x0), some (.int x1), some (.int (if x2 < iI 0 then iI 0 else x2)), some (.int x3)]) dJ4_indexOf_14 (by decide) rfl ?_
    refine j_iload_n dJ4_indexOf_15 rfl ?_
    refine j_aload_n (r := x0) dJ4_indexOf_16 rfl ?_
    obtain ⟨a3, ea3, hk4, h⟩ := h
    refine kg_alen (a := a3) ea3 hk4 (by decide) dJ4_indexOf_17 ?_
    refine jg_mmin (x := x3) (y := iI (gl t1 a3 : Int)) (stk := []) (Nat.succ_le_succ (Nat.zero_le _)) q900 q588 q135 q589 (Nat.le_of_ble_eq_true rfl) dJ4_indexOf_18 ?_
    refine j_istore_n (lv' := [some (va_rf x0), some (.int x1), some (.int (if x2 < iI 0 then iI 0 else x2)), some (.int (if iI (gl t1 a3 : Int) < x3 then iI (gl t1 a3 : Int) else x3))]) dJ4_indexOf_21 (by decide) rfl ?_
    refine j_iload_n dJ4_indexOf_22 rfl ?_
    refine j_iload_n dJ4_indexOf_23 rfl ?_
    refine j_icmp_lt 29 dJ4_indexOf_24 (by decide) (fun c7 => ?_) (fun c7 => ?_)
    · replace h := h.1 c7
      refine j_aload_n (r := x0) dJ4_indexOf_29 rfl ?_
      refine j_iload_n dJ4_indexOf_30 rfl ?_
      refine j_iload_n dJ4_indexOf_31 rfl ?_
      refine j_iload_n dJ4_indexOf_32 rfl ?_
      refine jg_calli (rest := []) (kg_lkS (As := [va_rf x0, .int x1, .int (if x2 < iI 0 then iI 0 else x2), .int (if iI (gl t1 a3 : Int) < x3 then iI (gl t1 a3 : Int) else x3)]) ktJ4_indexOfChar q901 rfl rfl dJ4_indexOf_33) cwJ4_indexOfChar (Nat.le_of_ble_eq_true rfl) rfl dJ4_indexOf_33 (Nat.succ_le_succ (Nat.zero_le _)) (h.mono (onI_mono (fun r6 t5 h hlt5 => ?_) (fun _ _ h => h)))
      replace h := h hlt5
      replace hk4 := hlt5.tag hk4 (by decide)
      exact j_ireturn (ty := .int) rfl rfl dJ4_indexOf_36 h
    · replace h := h.2 c7
      refine j_iconst (v := iI (-1)) dJ4_indexOf_27 rfl ?_
      exact j_ireturn (ty := .int) rfl rfl dJ4_indexOf_28 h
  · replace h := h.1 c8
    refine j_iconst (v := iI (-1)) dJ4_indexOf_7 rfl ?_
    exact j_ireturn (ty := .int) rfl rfl dJ4_indexOf_8 h
theorem tJ4_canEncode_2 {G : GPl} {s0 : State} {l : Launch} {K : Nat → Option Nat} {T : Nat → Nat} {lev : Nat} {Q : Outcome → GSt → Prop} {x0 : Int32} {σ : GSt} (h : ((x0 < 0 → Q (.returned (some (.int (iI 0)))) σ) ∧ (¬ x0 < 0 → (((iI 255) < x0 → Q (.returned (some (.int (iI 0)))) σ) ∧ (¬ (iI 255) < x0 → Q (.returned (some (.int (iI 1)))) σ))))) : CQ (wP G s0 l K T) mJ4_canEncode_2 (lev + 1) [.int x0] σ Q := by
  refine CQ.of3 0 (lv := [some (.int x0)]) (by decide) (Nat.le_of_ble_eq_true rfl) (cat1_cons rfl cat1_nil) rfl ?_
  refine j_iload_n dJ4_canEncode_2_0 rfl ?_
  refine j_if_lt 15 dJ4_canEncode_2_1 (by decide) (fun c2 => ?_) (fun c2 => ?_)
  · replace h := h.1 c2
    refine j_iconst (v := iI 0) dJ4_canEncode_2_15 rfl ?_
    exact j_ireturn (ty := .boolean) rfl rfl dJ4_canEncode_2_16 h
  · replace h := h.2 c2
    refine j_iload_n dJ4_canEncode_2_4 rfl ?_
    refine j_sipush (v := iI 255) dJ4_canEncode_2_5 rfl ?_
    refine j_icmp_gt 15 dJ4_canEncode_2_8 (by decide) (fun c1 => ?_) (fun c1 => ?_)
    · replace h := h.1 c1
      refine j_iconst (v := iI 0) dJ4_canEncode_2_15 rfl ?_
      exact j_ireturn (ty := .boolean) rfl rfl dJ4_canEncode_2_16 h
    · replace h := h.2 c1
      refine j_iconst (v := iI 1) dJ4_canEncode_2_11 rfl ?_
      refine j_goto 16 dJ4_canEncode_2_12 (by decide) ?_
      exact j_ireturn (ty := .boolean) rfl rfl dJ4_canEncode_2_16 h
abbrev jJ4_indexOfChar_7 (G : GPl) (s0 : State) (l : Launch) (K : Nat → Option Nat) (T : Nat → Nat) (lev : Nat) (st0 : GSt) (Q : Outcome → GSt → Prop) (x0 : Option Nat) (x1 : Int32) (x2 : Int32) (x3 : Int32) (x4 : Int32) (x5 : Int32) (σ : GSt) : Prop := JQ (wP G s0 l K T) mJ4_indexOfChar (lev + 1) st0 7 [some (va_rf x0), some (.int x1), some (.int x2), some (.int x3), some (.int x4), some (.int x5)] [] σ Q
theorem tJ4_indexOfChar {G : GPl} {s0 : State} {l : Launch} {K : Nat → Option Nat} {T : Nat → Nat} {lev : Nat} {Q : Outcome → GSt → Prop} {x0 : Option Nat} {x1 : Int32} {x2 : Int32} {x3 : Int32} {σ : GSt} (h : jJ4_indexOfChar_7 G s0 l K T lev σ Q x0 x1 x2 x3 x1.toInt8.toInt32 x2 σ) : CQ (wP G s0 l K T) mJ4_indexOfChar (lev + 1) [va_rf x0, .int x1, .int x2, .int x3] σ Q := by
  refine CQ.of3 2 (lv := [some (va_rf x0), some (.int x1), some (.int x2), some (.int x3), none, none]) (by decide) (Nat.le_of_ble_eq_true rfl) (cat1_cons (rf_cat _) (cat1_cons rfl (cat1_cons rfl (cat1_cons rfl cat1_nil)))) rfl ?_
  refine j_iload_n dJ4_indexOfChar_0 rfl ?_
  refine j_i2b dJ4_indexOfChar_1 ?_
  refine j_istore (lv' := [some (va_rf x0), some (.int x1), some (.int x2), some (.int x3), some (.int x1.toInt8.toInt32), none]) dJ4_indexOfChar_2 (by decide) rfl ?_
  refine j_iload_n dJ4_indexOfChar_4 rfl ?_
  refine j_istore (lv' := [some (va_rf x0), some (.int x1), some (.int x2), some (.int x3), some (.int x1.toInt8.toInt32), some (.int x2)]) dJ4_indexOfChar_5 (by decide) rfl ?_
  exact h
theorem tJ4_indexOfChar_7 {G : GPl} {s0 : State} {l : Launch} {K : Nat → Option Nat} {T : Nat → Nat} {lev : Nat} {st0 : GSt} {Q : Outcome → GSt → Prop} {x0 : Option Nat} {x1 : Int32} {x2 : Int32} {x3 : Int32} {x4 : Int32} {x5 : Int32} {σ : GSt} (h : ((x3 ≤ x5 → Q (.returned (some (.int (iI (-1))))) σ) ∧ (¬ x3 ≤ x5 → (∃ a1, x0 = some a1 ∧ (gk σ a1 = 102 ∧ (inr x5 (gl σ a1) ∧ (((gi σ a1 (ix x5)) = x4 → Q (.returned (some (.int x5))) σ) ∧ (¬ (gi σ a1 (ix x5)) = x4 → jJ4_indexOfChar_7 G s0 l K T lev st0 Q x0 x1 x2 x3 x4 (x5 + iI 1) σ)))))))) : jJ4_indexOfChar_7 G s0 l K T lev st0 Q x0 x1 x2 x3 x4 x5 σ := by
  refine j_iload dJ4_indexOfChar_7 rfl ?_
  refine j_iload_n dJ4_indexOfChar_9 rfl ?_
  refine j_icmp_ge 31 dJ4_indexOfChar_10 (by decide) (fun c5 => ?_) (fun c5 => ?_)
  · replace h := h.1 c5
    refine j_iconst (v := iI (-1)) dJ4_indexOfChar_31 rfl ?_
    exact j_ireturn (ty := .int) rfl rfl dJ4_indexOfChar_32 h
  · replace h := h.2 c5
    refine j_aload_n (r := x0) dJ4_indexOfChar_13 rfl ?_
    refine j_iload dJ4_indexOfChar_14 rfl ?_
    obtain ⟨a1, ea1, hk2, hi3, h⟩ := h
    refine kg_bald (a := a1) ea1 hk2 hi3 dJ4_indexOfChar_16 ?_
    refine j_iload dJ4_indexOfChar_17 rfl ?_
    refine j_icmp_ne 25 dJ4_indexOfChar_19 (by decide) (fun c4 => ?_) (fun c4 => ?_)
    · replace h := h.2 c4
      refine j_iinc (lv' := [some (va_rf x0), some (.int x1), some (.int x2), some (.int x3), some (.int x4), some (.int (x5 + iI 1))]) dJ4_indexOfChar_25 rfl (by decide) rfl ?_
      refine j_goto 7 dJ4_indexOfChar_28 (by decide) ?_
      exact h
    · replace h := h.1 c4
      refine j_iload dJ4_indexOfChar_22 rfl ?_
      exact j_ireturn (ty := .int) rfl rfl dJ4_indexOfChar_24 h
theorem tJ4_charAt {G : GPl} {s0 : State} {l : Launch} {K : Nat → Option Nat} {T : Nat → Nat} {lev : Nat} {Q : Outcome → GSt → Prop} {x0 : Option Nat} {x1 : Int32} {σ : GSt} (h : (∃ a1, x0 = some a1 ∧ (gk σ a1 = 102 ∧ (CQ (wP G s0 l K T) mJ3_checkIndex lev [.int x1, .int (iI (gl σ a1 : Int))] σ (onV (fun t3 => gle σ t3 → (inr x1 (gl t3 a1) ∧ (narrow .char (.int ((((gi t3 a1 (ix x1)) &&& (iI 255)).toUInt32 % 65536).toInt32)) = .int ((((gi t3 a1 (ix x1)) &&& (iI 255)).toUInt32 % 65536).toInt32) ∧ Q (.returned (some (.int ((((gi t3 a1 (ix x1)) &&& (iI 255)).toUInt32 % 65536).toInt32)))) t3))) (fun x t => gle σ t → Q (.threw x) t)))))) : CQ (wP G s0 l K T) mJ4_charAt (lev + 1) [va_rf x0, .int x1] σ Q := by
  refine CQ.of3 0 (lv := [some (va_rf x0), some (.int x1)]) (by decide) (Nat.le_of_ble_eq_true rfl) (cat1_cons (rf_cat _) (cat1_cons rfl cat1_nil)) rfl ?_
  refine j_iload_n dJ4_charAt_0 rfl ?_
  refine j_aload_n (r := x0) dJ4_charAt_1 rfl ?_
  obtain ⟨a1, ea1, hk2, h⟩ := h
  refine kg_alen (a := a1) ea1 hk2 (by decide) dJ4_charAt_2 ?_
  refine jg_callv (rest := []) (kg_lkS (As := [.int x1, .int (iI (gl σ a1 : Int))]) ktJ3_checkIndex q1817 rfl rfl dJ4_charAt_3) cwJ3_checkIndex (Nat.le_of_ble_eq_true rfl) rfl dJ4_charAt_3 (Nat.succ_le_succ (Nat.zero_le _)) (h.mono (onV_mono (fun t3 h hlt3 => ?_) (fun _ _ h => h)))
  replace h := h hlt3
  replace hk2 := hlt3.tag hk2 (by decide)
  refine j_aload_n (r := x0) dJ4_charAt_6 rfl ?_
  refine j_iload_n dJ4_charAt_7 rfl ?_
  obtain ⟨hi5, h⟩ := h
  refine kg_bald (a := a1) ea1 hk2 hi5 dJ4_charAt_8 ?_
  refine j_sipush (v := iI 255) dJ4_charAt_9 rfl ?_
  refine j_iand dJ4_charAt_12 ?_
  refine j_i2c dJ4_charAt_13 ?_
  have hz := h.1
  replace h := h.2
  exact j_ireturn (ty := .char) rfl hz dJ4_charAt_14 h
abbrev jJ5_checkIndex_9 (G : GPl) (s0 : State) (l : Launch) (K : Nat → Option Nat) (T : Nat → Nat) (lev : Nat) (st0 : GSt) (Q : Outcome → GSt → Prop) (x0 : Int32) (x1 : Int32) (x2 : Option Nat) (σ : GSt) : Prop := JQ (wP G s0 l K T) mJ5_checkIndex (lev + 1) st0 9 [some (.int x0), some (.int x1), some (va_rf x2)] [] σ Q
theorem tJ5_checkIndex {G : GPl} {s0 : State} {l : Launch} {K : Nat → Option Nat} {T : Nat → Nat} {lev : Nat} {Q : Outcome → GSt → Prop} {x0 : Int32} {x1 : Int32} {x2 : Option Nat} {σ : GSt} (h : ((x0 < 0 → jJ5_checkIndex_9 G s0 l K T lev σ Q x0 x1 x2 σ) ∧ (¬ x0 < 0 → ((x0 < x1 → Q (.returned (some (.int x0))) σ) ∧ (¬ x0 < x1 → jJ5_checkIndex_9 G s0 l K T lev σ Q x0 x1 x2 σ))))) : CQ (wP G s0 l K T) mJ5_checkIndex (lev + 1) [.int x0, .int x1, va_rf x2] σ Q := by
  refine CQ.of3 0 (lv := [some (.int x0), some (.int x1), some (va_rf x2)]) (by decide) (Nat.le_of_ble_eq_true rfl) (cat1_cons rfl (cat1_cons rfl (cat1_cons (rf_cat _) cat1_nil))) rfl ?_
  refine j_iload_n dJ5_checkIndex_0 rfl ?_
  refine j_if_lt 9 dJ5_checkIndex_1 (by decide) (fun c2 => ?_) (fun c2 => ?_)
  · replace h := h.1 c2
    exact h
  · replace h := h.2 c2
    refine j_iload_n dJ5_checkIndex_4 rfl ?_
    refine j_iload_n dJ5_checkIndex_5 rfl ?_
    refine j_icmp_lt 16 dJ5_checkIndex_6 (by decide) (fun c1 => ?_) (fun c1 => ?_)
    · replace h := h.1 c1
      refine j_iload_n dJ5_checkIndex_16 rfl ?_
      exact j_ireturn (ty := .int) rfl rfl dJ5_checkIndex_17 h
    · replace h := h.2 c1
      exact h
theorem tJ5_checkIndex_9 {G : GPl} {s0 : State} {l : Launch} {K : Nat → Option Nat} {T : Nat → Nat} {lev : Nat} {st0 : GSt} {Q : Outcome → GSt → Prop} {x0 : Int32} {x1 : Int32} {x2 : Option Nat} {σ : GSt} (h : False) : jJ5_checkIndex_9 G s0 l K T lev st0 Q x0 x1 x2 σ := by
  refine j_aload_n (r := x2) dJ5_checkIndex_9 rfl ?_
  refine j_iload_n dJ5_checkIndex_10 rfl ?_
  refine j_iload_n dJ5_checkIndex_11 rfl ?_
  exact h.elim
theorem tJ19_checkIndex {G : GPl} {s0 : State} {l : Launch} {K : Nat → Option Nat} {T : Nat → Nat} {lev : Nat} {Q : Outcome → GSt → Prop} {x0 : Int32} {x1 : Int32} {σ : GSt} (h : (CQ (wP G s0 l K T) mJ5_checkIndex lev [.int x0, .int x1, va_rf none] σ (onI (fun r2 t1 => gle σ t1 → Q (.returned (some (.int r2))) t1) (fun x t => gle σ t → Q (.threw x) t)))) : CQ (wP G s0 l K T) mJ19_checkIndex (lev + 1) [.int x0, .int x1] σ Q := by
  refine CQ.of3 0 (lv := [some (.int x0), some (.int x1)]) (by decide) (Nat.le_of_ble_eq_true rfl) (cat1_cons rfl (cat1_cons rfl cat1_nil)) rfl ?_
  refine j_iload_n dJ19_checkIndex_0 rfl ?_
  refine j_iload_n dJ19_checkIndex_1 rfl ?_
  refine j_null dJ19_checkIndex_2 ?_
  refine jg_calli (rest := []) (kg_lkS (As := [.int x0, .int x1, va_rf none]) ktJ5_checkIndex q1153 rfl rfl dJ19_checkIndex_3) cwJ5_checkIndex (Nat.le_of_ble_eq_true rfl) rfl dJ19_checkIndex_3 (Nat.succ_le_succ (Nat.zero_le _)) (h.mono (onI_mono (fun r2 t1 h hlt1 => ?_) (fun _ _ h => h)))
  replace h := h hlt1
  exact j_ireturn (ty := .int) rfl rfl dJ19_checkIndex_6 h
theorem tJ12_init {G : GPl} {s0 : State} {l : Launch} {K : Nat → Option Nat} {T : Nat → Nat} {lev : Nat} {Q : Outcome → GSt → Prop} {a0 : Nat} {x1 : Int32} {σ : GSt} (h : (inr x1 200000 ∧ (groom G x1.toInt.toNat σ ∧ (gk (gmk 102 x1.toInt.toNat σ) a0 = 24 ∧ Q (.returned none) (gpi a0 1 (iI 0) (gpr a0 0 (some (gn σ)) (gmk 102 x1.toInt.toNat σ))))))) : CQ (wP G s0 l K T) mJ12_init (lev + 1) [.ref a0, .int x1] σ Q := by
  refine CQ.of3 0 (lv := [some (va_rf (some a0)), some (.int x1)]) (by decide) (Nat.le_of_ble_eq_true rfl) (cat1_cons rfl (cat1_cons rfl cat1_nil)) rfl ?_
  refine j_aload_n (r := some a0) dJ12_init_0 rfl ?_
  refine jg_objI q518 q168 q169 (Nat.succ_le_succ (Nat.zero_le _)) (Nat.le_of_ble_eq_true rfl) dJ12_init_1 ?_
  refine jg_getcs flJ12_18 dJ12_init_4 ?_
  refine j_if_eq 25 dJ12_init_7 (by decide) (fun q_ => absurd q_ (by decide)) (fun _ => ?_)
  refine j_aload_n (r := some a0) dJ12_init_10 rfl ?_
  refine j_iload_n dJ12_init_11 rfl ?_
  obtain ⟨hn1, hg2, h⟩ := h
  refine jg_newarr (n0 := x1.toInt.toNat) (Or.inr ⟨rfl, rfl, rfl⟩) q197 hn1 rfl hg2 dJ12_init_12 ?_
  have hk3 := gk_new (t := 102) (n := x1.toInt.toNat) hg2.2.2
  obtain ⟨hk4, h⟩ := h
  refine kg_putr (a := a0) (x := some (gn σ)) rfl gfJ12_15 (Or.inl rfl) hk4 (Or.inl (by decide)) dJ12_init_14 ?_
  refine j_aload_n (r := some a0) dJ12_init_17 rfl ?_
  refine j_iconst (v := iI 0) dJ12_init_18 rfl ?_
  refine kg_putb (a := a0) rfl gfJ12_22 isZ0 (Or.inl rfl) hk4 (Or.inl (by decide)) dJ12_init_19 ?_
  refine j_goto 38 dJ12_init_22 (by decide) ?_
  exact j_return rfl dJ12_init_38 h
abbrev jJ12_append_45 (G : GPl) (s0 : State) (l : Launch) (K : Nat → Option Nat) (T : Nat → Nat) (lev : Nat) (st0 : GSt) (Q : Outcome → GSt → Prop) (a0 : Nat) (x1 : Int32) (σ : GSt) : Prop := JQ (wP G s0 l K T) mJ12_append (lev + 1) st0 45 [some (va_rf (some a0)), some (.int x1)] [] σ Q
abbrev jJ12_append_56 (G : GPl) (s0 : State) (l : Launch) (K : Nat → Option Nat) (T : Nat → Nat) (lev : Nat) (st0 : GSt) (Q : Outcome → GSt → Prop) (a0 : Nat) (x1 : Int32) (σ : GSt) : Prop := JQ (wP G s0 l K T) mJ12_append (lev + 1) st0 56 [some (va_rf (some a0)), some (.int x1)] [] σ Q
theorem tJ12_append {G : GPl} {s0 : State} {l : Launch} {K : Nat → Option Nat} {T : Nat → Nat} {lev : Nat} {Q : Outcome → GSt → Prop} {a0 : Nat} {x1 : Int32} {σ : GSt} (h : (gk σ a0 = 24 ∧ (CQ (wP G s0 l K T) mJ12_ensureCapacityInternal lev (.ref a0 :: [.int ((gi σ a0 3) + (iI 1))]) σ (onV (fun t2 => gle σ t2 → (CQ (wP G s0 l K T) mJ12_isLatin1 lev (.ref a0 :: []) t2 (onI (fun r5 t4 => gle t2 t4 → ((r5 = 0 → jJ12_append_45 G s0 l K T lev σ Q a0 x1 t4) ∧ (¬ r5 = 0 → (CQ (wP G s0 l K T) mJ4_canEncode lev [.int x1] t4 (onI (fun r7 t6 => gle t4 t6 → ((r7 = 0 → jJ12_append_45 G s0 l K T lev σ Q a0 x1 t6) ∧ (¬ r7 = 0 → (∃ a8, gr t6 a0 0 = some a8 ∧ (gk (gpi a0 3 ((gi t6 a0 3) + (iI 1)) t6) a8 = 102 ∧ (G.h0.size ≤ a8 ∧ (inr (gi t6 a0 3) (gl (gpi a0 3 ((gi t6 a0 3) + (iI 1)) t6) a8) ∧ Q (.returned (some (va_rf (some a0)))) (gpi a8 (ix (gi t6 a0 3)) x1.toInt8.toInt32.toInt8.toInt32 (gpi a0 3 ((gi t6 a0 3) + (iI 1)) t6))))))))) (fun x t => gle t4 t → Q (.threw x) t)))))) (fun x t => gle t2 t → Q (.threw x) t)))) (fun x t => gle σ t → Q (.threw x) t))))) : CQ (wP G s0 l K T) mJ12_append (lev + 1) [.ref a0, .int x1] σ Q := by
  refine CQ.of3 0 (lv := [some (va_rf (some a0)), some (.int x1)]) (by decide) (Nat.le_of_ble_eq_true rfl) (cat1_cons rfl (cat1_cons rfl cat1_nil)) rfl ?_
  refine j_aload_n (r := some a0) dJ12_append_0 rfl ?_
  refine j_aload_n (r := some a0) dJ12_append_1 rfl ?_
  obtain ⟨hk1, h⟩ := h
  refine kg_geti (a := a0) (j := 3) rfl gfJ12_79 (by decide) hk1 dJ12_append_2 ?_
  refine j_iconst (v := iI 1) dJ12_append_5 rfl ?_
  refine j_iadd dJ12_append_6 ?_
  refine jg_callv (rest := []) (lk_priv (mdc := mJ12_ensureCapacityInternal) (C := "java/lang/StringBuilder") (yA := ⟨"java/lang/AbstractStringBuilder", "isLatin1", "()Z"⟩) (c := 23) (n := 1) (As := [.int ((gi σ a0 3) + (iI 1))]) (a := a0) q596 rfl (by decide) hk1 rfl cwJ12_ensureCapacityInternal q558 q559 q560 ⟨by decide, by decide⟩ (parLen_of (by decide +kernel)) rfl rfl dJ12_append_7) cwJ12_ensureCapacityInternal (Nat.le_of_ble_eq_true rfl) rfl dJ12_append_7 (Nat.succ_le_succ (Nat.zero_le _)) (h.mono (onV_mono (fun t2 h hlt2 => ?_) (fun _ _ h => h)))
  replace h := h hlt2
  replace hk1 := hlt2.tag hk1 (by decide)
  refine j_aload_n (r := some a0) dJ12_append_10 rfl ?_
  refine jg_calli (rest := []) (kg_lkV (As := []) (a := a0) (c := 23) kgJ12_isLatin1_23 (by decide) rfl hk1 q593 rfl rfl dJ12_append_11) cwJ12_isLatin1 (Nat.le_of_ble_eq_true rfl) rfl dJ12_append_11 (Nat.succ_le_succ (Nat.zero_le _)) (h.mono (onI_mono (fun r5 t4 h hlt4 => ?_) (fun _ _ h => h)))
  replace h := h hlt4
  replace hk1 := hlt4.tag hk1 (by decide)
  refine j_if_eq 45 dJ12_append_14 (by decide) (fun c13 => ?_) (fun c13 => ?_)
  · replace h := h.1 c13
    exact h
  · replace h := h.2 c13
    refine j_iload_n dJ12_append_17 rfl ?_
    refine jg_calli (rest := []) (kg_lkS (As := [.int x1]) ktJ4_canEncode q598 rfl rfl dJ12_append_18) cwJ4_canEncode (Nat.le_of_ble_eq_true rfl) rfl dJ12_append_18 (Nat.succ_le_succ (Nat.zero_le _)) (h.mono (onI_mono (fun r7 t6 h hlt6 => ?_) (fun _ _ h => h)))
    replace h := h hlt6
    replace hk1 := hlt6.tag hk1 (by decide)
    refine j_if_eq 45 dJ12_append_21 (by decide) (fun c12 => ?_) (fun c12 => ?_)
    · replace h := h.1 c12
      exact h
    · replace h := h.2 c12
      refine j_aload_n (r := some a0) dJ12_append_24 rfl ?_
      refine kg_getr (a := a0) (j := 0) rfl gfJ12_15 hk1 dJ12_append_25 ?_
      refine j_aload_n (r := some a0) dJ12_append_28 rfl ?_
      refine j_dup dJ12_append_29 rfl ?_
      refine kg_geti (a := a0) (j := 3) rfl gfJ12_79 (by decide) hk1 dJ12_append_30 ?_
      refine j_dup_x1 dJ12_append_33 rfl rfl ?_
      refine j_iconst (v := iI 1) dJ12_append_34 rfl ?_
      refine j_iadd dJ12_append_35 ?_
      refine kg_puti (a := a0) rfl gfJ12_79 (Or.inl rfl) hk1 (Or.inl (by decide)) dJ12_append_36 ?_
      refine j_iload_n dJ12_append_39 rfl ?_
      refine j_i2b dJ12_append_40 ?_
      obtain ⟨a8, ea8, hk9, hb11, hi10, h⟩ := h
      refine kg_bast (a := a8) ea8 hk9 hb11 hi10 dJ12_append_41 ?_
      refine j_goto 75 dJ12_append_42 (by decide) ?_
      refine j_aload_n (r := some a0) dJ12_append_75 rfl ?_
      exact j_areturn (r := some a0) rfl (Or.inl ⟨_, rfl⟩) dJ12_append_76 h
theorem tJ12_append_45 {G : GPl} {s0 : State} {l : Launch} {K : Nat → Option Nat} {T : Nat → Nat} {lev : Nat} {st0 : GSt} {Q : Outcome → GSt → Prop} {a0 : Nat} {x1 : Int32} {σ : GSt} (h : (gk σ a0 = 24 ∧ (CQ (wP G s0 l K T) mJ12_isLatin1 lev (.ref a0 :: []) σ (onI (fun r3 t2 => gle σ t2 → ((r3 = 0 → jJ12_append_56 G s0 l K T lev st0 Q a0 x1 t2) ∧ (¬ r3 = 0 → (CQ (wP G s0 l K T) mJ12_inflate lev (.ref a0 :: []) t2 (onV (fun t4 => gle t2 t4 → jJ12_append_56 G s0 l K T lev st0 Q a0 x1 t4) (fun x t => gle t2 t → Q (.threw x) t)))))) (fun x t => gle σ t → Q (.threw x) t))))) : jJ12_append_45 G s0 l K T lev st0 Q a0 x1 σ := by
  refine j_aload_n (r := some a0) dJ12_append_45 rfl ?_
  obtain ⟨hk1, h⟩ := h
  refine jg_calli (rest := []) (kg_lkV (As := []) (a := a0) (c := 23) kgJ12_isLatin1_23 (by decide) rfl hk1 q593 rfl rfl dJ12_append_46) cwJ12_isLatin1 (Nat.le_of_ble_eq_true rfl) rfl dJ12_append_46 (Nat.succ_le_succ (Nat.zero_le _)) (h.mono (onI_mono (fun r3 t2 h hlt2 => ?_) (fun _ _ h => h)))
  replace h := h hlt2
  replace hk1 := hlt2.tag hk1 (by decide)
  refine j_if_eq 56 dJ12_append_49 (by decide) (fun c6 => ?_) (fun c6 => ?_)
  · replace h := h.1 c6
    exact h
  · replace h := h.2 c6
    refine j_aload_n (r := some a0) dJ12_append_52 rfl ?_
    refine jg_callv (rest := []) (lk_priv (mdc := mJ12_inflate) (C := "java/lang/StringBuilder") (yA := ⟨"java/lang/AbstractStringBuilder", "isLatin1", "()Z"⟩) (c := 23) (n := 0) (As := []) (a := a0) q596 rfl (by decide) hk1 rfl cwJ12_inflate q601 q602 q603 ⟨by decide, by decide⟩ (parLen_of (by decide +kernel)) rfl rfl dJ12_append_53) cwJ12_inflate (Nat.le_of_ble_eq_true rfl) rfl dJ12_append_53 (Nat.succ_le_succ (Nat.zero_le _)) (h.mono (onV_mono (fun t4 h hlt4 => ?_) (fun _ _ h => h)))
    replace h := h hlt4
    replace hk1 := hlt4.tag hk1 (by decide)
    exact h
theorem tJ12_append_56 {G : GPl} {s0 : State} {l : Launch} {K : Nat → Option Nat} {T : Nat → Nat} {lev : Nat} {st0 : GSt} {Q : Outcome → GSt → Prop} {a0 : Nat} {x1 : Int32} {σ : GSt} (h : (gk σ a0 = 24 ∧ False)) : jJ12_append_56 G s0 l K T lev st0 Q a0 x1 σ := by
  refine j_aload_n (r := some a0) dJ12_append_56 rfl ?_
  obtain ⟨hk1, h⟩ := h
  refine kg_getr (a := a0) (j := 0) rfl gfJ12_15 hk1 dJ12_append_57 ?_
  refine j_aload_n (r := some a0) dJ12_append_60 rfl ?_
  refine j_dup dJ12_append_61 rfl ?_
  refine kg_geti (a := a0) (j := 3) rfl gfJ12_79 (by decide) hk1 dJ12_append_62 ?_
  refine j_dup_x1 dJ12_append_65 rfl rfl ?_
  refine j_iconst (v := iI 1) dJ12_append_66 rfl ?_
  refine j_iadd dJ12_append_67 ?_
  refine kg_puti (a := a0) rfl gfJ12_79 (Or.inl rfl) hk1 (Or.inl (by decide)) dJ12_append_68 ?_
  refine j_iload_n dJ12_append_71 rfl ?_
  exact h.elim
theorem tJ12_ensureCapacityInternal {G : GPl} {s0 : State} {l : Launch} {K : Nat → Option Nat} {T : Nat → Nat} {lev : Nat} {Q : Outcome → GSt → Prop} {a0 : Nat} {x1 : Int32} {σ : GSt} (h : (gk σ a0 = 24 ∧ (∃ a2, gr σ a0 0 = some a2 ∧ (gk σ a2 = 102 ∧ (((x1 - ((iI (gl σ a2 : Int)) >>> ((gi σ a0 1) &&& 31))) ≤ 0 → Q (.returned none) σ) ∧ (¬ (x1 - ((iI (gl σ a2 : Int)) >>> ((gi σ a0 1) &&& 31))) ≤ 0 → (CQ (wP G s0 l K T) mJ12_newCapacity lev (.ref a0 :: [.int x1]) σ (onI (fun r5 t4 => gle σ t4 → (CQ (wP G s0 l K T) mJ16_copyOf lev [va_rf (gr σ a0 0), .int (r5 <<< ((gi t4 a0 1) &&& 31))] t4 (onR (fun r7 t6 => gle t4 t6 → Q (.returned none) (gpr a0 0 r7 t6)) (fun x t => gle t4 t → Q (.threw x) t)))) (fun x t => gle σ t → Q (.threw x) t))))))))) : CQ (wP G s0 l K T) mJ12_ensureCapacityInternal (lev + 1) [.ref a0, .int x1] σ Q := by
  refine CQ.of3 1 (lv := [some (va_rf (some a0)), some (.int x1), none]) (by decide) (Nat.le_of_ble_eq_true rfl) (cat1_cons rfl (cat1_cons rfl cat1_nil)) rfl ?_
  refine j_aload_n (r := some a0) dJ12_ensureCapacityInternal_0 rfl ?_
  obtain ⟨hk1, h⟩ := h
  refine kg_getr (a := a0) (j := 0) rfl gfJ12_15 hk1 dJ12_ensureCapacityInternal_1 ?_
  obtain ⟨a2, ea2, hk3, h⟩ := h
  refine kg_alen (a := a2) ea2 hk3 (by decide) dJ12_ensureCapacityInternal_4 ?_
  refine j_aload_n (r := some a0) dJ12_ensureCapacityInternal_5 rfl ?_
  refine kg_geti (a := a0) (j := 1) rfl gfJ12_22 (by decide) hk1 dJ12_ensureCapacityInternal_6 ?_
  refine j_ishr dJ12_ensureCapacityInternal_9 ?_
  refine j_istore_n (lv' := [some (va_rf (some a0)), some (.int x1), some (.int ((iI (gl σ a2 : Int)) >>> ((gi σ a0 1) &&& 31)))]) dJ12_ensureCapacityInternal_10 (by decide) rfl ?_
  refine j_iload_n dJ12_ensureCapacityInternal_11 rfl ?_
  refine j_iload_n dJ12_ensureCapacityInternal_12 rfl ?_
  refine j_isub dJ12_ensureCapacityInternal_13 ?_
  refine j_if_le 38 dJ12_ensureCapacityInternal_14 (by decide) (fun c8 => ?_) (fun c8 => ?_)
  · replace h := h.1 c8
    exact j_return rfl dJ12_ensureCapacityInternal_38 h
  · replace h := h.2 c8
    refine j_aload_n (r := some a0) dJ12_ensureCapacityInternal_17 rfl ?_
    refine j_aload_n (r := some a0) dJ12_ensureCapacityInternal_18 rfl ?_
    refine kg_getr (a := a0) (j := 0) rfl gfJ12_15 hk1 dJ12_ensureCapacityInternal_19 ?_
    refine j_aload_n (r := some a0) dJ12_ensureCapacityInternal_22 rfl ?_
    refine j_iload_n dJ12_ensureCapacityInternal_23 rfl ?_
    refine jg_calli (rest := [va_rf (gr σ a0 0), va_rf (some a0)]) (lk_priv (mdc := mJ12_newCapacity) (C := "java/lang/StringBuilder") (yA := ⟨"java/lang/AbstractStringBuilder", "isLatin1", "()Z"⟩) (c := 23) (n := 1) (As := [.int x1]) (a := a0) q596 rfl (by decide) hk1 rfl cwJ12_newCapacity q562 q563 q564 ⟨by decide, by decide⟩ (parLen_of (by decide +kernel)) rfl rfl dJ12_ensureCapacityInternal_24) cwJ12_newCapacity (rm_ok (cat1_cons (rf_cat _) (cat1_cons rfl cat1_nil)) (Nat.le_of_ble_eq_true rfl)) rfl dJ12_ensureCapacityInternal_24 (Nat.succ_le_succ (Nat.zero_le _)) (h.mono (onI_mono (fun r5 t4 h hlt4 => ?_) (fun _ _ h => h)))
    replace h := h hlt4
    replace hk1 := hlt4.tag hk1 (by decide)
    replace hk3 := hlt4.tag hk3 (by decide)
    refine j_aload_n (r := some a0) dJ12_ensureCapacityInternal_27 rfl ?_
    refine kg_geti (a := a0) (j := 1) rfl gfJ12_22 (by decide) hk1 dJ12_ensureCapacityInternal_28 ?_
    refine j_ishl dJ12_ensureCapacityInternal_31 ?_
    refine jg_callr (rest := [va_rf (some a0)]) (kg_lkS (As := [va_rf (gr σ a0 0), .int (r5 <<< ((gi t4 a0 1) &&& 31))]) ktJ16_copyOf q577 rfl rfl dJ12_ensureCapacityInternal_32) cwJ16_copyOf (Nat.le_of_ble_eq_true rfl) rfl dJ12_ensureCapacityInternal_32 (Nat.succ_le_succ (Nat.zero_le _)) (h.mono (onR_mono (fun r7 t6 h hlt6 => ?_) (fun _ _ h => h)))
    replace h := h hlt6
    replace hk1 := hlt6.tag hk1 (by decide)
    replace hk3 := hlt6.tag hk3 (by decide)
    refine kg_putr (a := a0) (x := r7) rfl gfJ12_15 (Or.inl rfl) hk1 (Or.inl (by decide)) dJ12_ensureCapacityInternal_35 ?_
    exact j_return rfl dJ12_ensureCapacityInternal_38 h
theorem tJ12_isLatin1 {G : GPl} {s0 : State} {l : Launch} {K : Nat → Option Nat} {T : Nat → Nat} {lev : Nat} {Q : Outcome → GSt → Prop} {a0 : Nat} {σ : GSt} (h : (gk σ a0 = 24 ∧ (((gi σ a0 1) = 0 → Q (.returned (some (.int (iI 1)))) σ) ∧ (¬ (gi σ a0 1) = 0 → Q (.returned (some (.int (iI 0)))) σ)))) : CQ (wP G s0 l K T) mJ12_isLatin1 (lev + 1) [.ref a0] σ Q := by
  refine CQ.of3 0 (lv := [some (va_rf (some a0))]) (by decide) (Nat.le_of_ble_eq_true rfl) (cat1_cons rfl cat1_nil) rfl ?_
  refine jg_getcs flJ12_18 dJ12_isLatin1_0 ?_
  refine j_if_eq 17 dJ12_isLatin1_3 (by decide) (fun q_ => absurd q_ (by decide)) (fun _ => ?_)
  refine j_aload_n (r := some a0) dJ12_isLatin1_6 rfl ?_
  obtain ⟨hk1, h⟩ := h
  refine kg_geti (a := a0) (j := 1) rfl gfJ12_22 (by decide) hk1 dJ12_isLatin1_7 ?_
  refine j_if_ne 17 dJ12_isLatin1_10 (by decide) (fun c2 => ?_) (fun c2 => ?_)
  · replace h := h.2 c2
    refine j_iconst (v := iI 0) dJ12_isLatin1_17 rfl ?_
    exact j_ireturn (ty := .boolean) rfl rfl dJ12_isLatin1_18 h
  · replace h := h.1 c2
    refine j_iconst (v := iI 1) dJ12_isLatin1_13 rfl ?_
    refine j_goto 18 dJ12_isLatin1_14 (by decide) ?_
    exact j_ireturn (ty := .boolean) rfl rfl dJ12_isLatin1_18 h
theorem tJ12_length {G : GPl} {s0 : State} {l : Launch} {K : Nat → Option Nat} {T : Nat → Nat} {lev : Nat} {Q : Outcome → GSt → Prop} {a0 : Nat} {σ : GSt} (h : (gk σ a0 = 24 ∧ Q (.returned (some (.int (gi σ a0 3)))) σ)) : CQ (wP G s0 l K T) mJ12_length (lev + 1) [.ref a0] σ Q := by
  refine CQ.of3 0 (lv := [some (va_rf (some a0))]) (by decide) (Nat.le_of_ble_eq_true rfl) (cat1_cons rfl cat1_nil) rfl ?_
  refine j_aload_n (r := some a0) dJ12_length_0 rfl ?_
  obtain ⟨hk1, h⟩ := h
  refine kg_geti (a := a0) (j := 3) rfl gfJ12_79 (by decide) hk1 dJ12_length_1 ?_
  exact j_ireturn (ty := .int) rfl rfl dJ12_length_4 h
theorem tJ12_getValue {G : GPl} {s0 : State} {l : Launch} {K : Nat → Option Nat} {T : Nat → Nat} {lev : Nat} {Q : Outcome → GSt → Prop} {a0 : Nat} {σ : GSt} (h : (gk σ a0 = 24 ∧ Q (.returned (some (va_rf (gr σ a0 0)))) σ)) : CQ (wP G s0 l K T) mJ12_getValue (lev + 1) [.ref a0] σ Q := by
  refine CQ.of3 0 (lv := [some (va_rf (some a0))]) (by decide) (Nat.le_of_ble_eq_true rfl) (cat1_cons rfl cat1_nil) rfl ?_
  refine j_aload_n (r := some a0) dJ12_getValue_0 rfl ?_
  obtain ⟨hk1, h⟩ := h
  refine kg_getr (a := a0) (j := 0) rfl gfJ12_15 hk1 dJ12_getValue_1 ?_
  exact j_areturn (r := gr σ a0 0) rfl (Or.inr ⟨_, rfl⟩) dJ12_getValue_4 h
theorem tJ13_init {G : GPl} {s0 : State} {l : Launch} {K : Nat → Option Nat} {T : Nat → Nat} {lev : Nat} {Q : Outcome → GSt → Prop} {a0 : Nat} {x1 : Int32} {σ : GSt} (h : (CQ (wP G s0 l K T) mJ12_init lev (.ref a0 :: [.int x1]) σ (onV (fun t1 => gle σ t1 → Q (.returned none) t1) (fun x t => gle σ t → Q (.threw x) t)))) : CQ (wP G s0 l K T) mJ13_init (lev + 1) [.ref a0, .int x1] σ Q := by
  refine CQ.of3 0 (lv := [some (va_rf (some a0)), some (.int x1)]) (by decide) (Nat.le_of_ble_eq_true rfl) (cat1_cons rfl (cat1_cons rfl cat1_nil)) rfl ?_
  refine j_aload_n (r := some a0) dJ13_init_0 rfl ?_
  refine j_iload_n dJ13_init_1 rfl ?_
  refine jg_callv (rest := []) (kg_lkI (As := [.int x1]) (a := a0) kiJ12_init (Or.inl q515) rfl rfl dJ13_init_2) cwJ12_init (Nat.le_of_ble_eq_true rfl) rfl dJ13_init_2 (Nat.succ_le_succ (Nat.zero_le _)) (h.mono (onV_mono (fun t1 h hlt1 => ?_) (fun _ _ h => h)))
  replace h := h hlt1
  exact j_return rfl dJ13_init_5 h
theorem tJ13_append {G : GPl} {s0 : State} {l : Launch} {K : Nat → Option Nat} {T : Nat → Nat} {lev : Nat} {Q : Outcome → GSt → Prop} {a0 : Nat} {x1 : Int32} {σ : GSt} (h : (gk σ a0 = 24 ∧ (CQ (wP G s0 l K T) mJ12_append lev (.ref a0 :: [.int x1]) σ (onR (fun r3 t2 => gle σ t2 → Q (.returned (some (va_rf (some a0)))) t2) (fun x t => gle σ t → Q (.threw x) t))))) : CQ (wP G s0 l K T) mJ13_append (lev + 1) [.ref a0, .int x1] σ Q := by
  refine CQ.of3 0 (lv := [some (va_rf (some a0)), some (.int x1)]) (by decide) (Nat.le_of_ble_eq_true rfl) (cat1_cons rfl (cat1_cons rfl cat1_nil)) rfl ?_
  refine j_aload_n (r := some a0) dJ13_append_0 rfl ?_
  refine j_iload_n dJ13_append_1 rfl ?_
  obtain ⟨hk1, h⟩ := h
  refine jg_callr (rest := []) (lk_sup (mdc := mJ12_append) (c := 23) (n := 1) (As := [.int x1]) (a := a0) (by decide) hk1 rfl cwJ12_append q555 q2553 q540 q556 (by decide) (parLen_of (by decide +kernel)) rfl rfl dJ13_append_2) cwJ12_append (Nat.le_of_ble_eq_true rfl) rfl dJ13_append_2 (Nat.succ_le_succ (Nat.zero_le _)) (h.mono (onR_mono (fun r3 t2 h hlt2 => ?_) (fun _ _ h => h)))
  replace h := h hlt2
  replace hk1 := hlt2.tag hk1 (by decide)
  refine j_pop dJ13_append_5 (rf_cat _) ?_
  refine j_aload_n (r := some a0) dJ13_append_6 rfl ?_
  exact j_areturn (r := some a0) rfl (Or.inl ⟨_, rfl⟩) dJ13_append_7 h
theorem tJ13_length {G : GPl} {s0 : State} {l : Launch} {K : Nat → Option Nat} {T : Nat → Nat} {lev : Nat} {Q : Outcome → GSt → Prop} {a0 : Nat} {σ : GSt} (h : (gk σ a0 = 24 ∧ (CQ (wP G s0 l K T) mJ12_length lev (.ref a0 :: []) σ (onI (fun r3 t2 => gle σ t2 → Q (.returned (some (.int r3))) t2) (fun x t => gle σ t → Q (.threw x) t))))) : CQ (wP G s0 l K T) mJ13_length (lev + 1) [.ref a0] σ Q := by
  refine CQ.of3 0 (lv := [some (va_rf (some a0))]) (by decide) (Nat.le_of_ble_eq_true rfl) (cat1_cons rfl cat1_nil) rfl ?_
  refine j_aload_n (r := some a0) dJ13_length_0 rfl ?_
  obtain ⟨hk1, h⟩ := h
  refine jg_calli (rest := []) (lk_sup (mdc := mJ12_length) (c := 23) (n := 0) (As := []) (a := a0) (by decide) hk1 rfl cwJ12_length q548 q2552 q540 q549 (by decide) (parLen_of (by decide +kernel)) rfl rfl dJ13_length_1) cwJ12_length (Nat.le_of_ble_eq_true rfl) rfl dJ13_length_1 (Nat.succ_le_succ (Nat.zero_le _)) (h.mono (onI_mono (fun r3 t2 h hlt2 => ?_) (fun _ _ h => h)))
  replace h := h hlt2
  replace hk1 := hlt2.tag hk1 (by decide)
  exact j_ireturn (ty := .int) rfl rfl dJ13_length_4 h
theorem tJ13_toString {G : GPl} {s0 : State} {l : Launch} {K : Nat → Option Nat} {T : Nat → Nat} {lev : Nat} {Q : Outcome → GSt → Prop} {a0 : Nat} {σ : GSt} (h : (groom G 4 σ ∧ (CQ (wP G s0 l K T) mJ3_init lev (.ref (gn σ) :: [va_rf (some a0)]) (gmk 23 4 σ) (onV (fun t3 => gle (gmk 23 4 σ) t3 → Q (.returned (some (va_rf (some (gn σ))))) t3) (fun x t => gle (gmk 23 4 σ) t → Q (.threw x) t))))) : CQ (wP G s0 l K T) mJ13_toString (lev + 1) [.ref a0] σ Q := by
  refine CQ.of3 0 (lv := [some (va_rf (some a0))]) (by decide) (Nat.le_of_ble_eq_true rfl) (cat1_cons rfl cat1_nil) rfl ?_
  obtain ⟨hg1, h⟩ := h
  refine jg_new (c := 22) (N := 4) (C := "java/lang/String") (by decide) ⟨rfl, rfl⟩ q654 q655 q121 hg1 dJ13_toString_0 ?_
  have hk2 := gk_new (t := 23) (n := 4) hg1.2.2
  refine j_dup dJ13_toString_3 rfl ?_
  refine j_aload_n (r := some a0) dJ13_toString_4 rfl ?_
  refine jg_callv (rest := [va_rf (some (gn σ))]) (kg_lkI (As := [va_rf (some a0)]) (a := (gn σ)) kiJ3_init (Or.inl q656) rfl rfl dJ13_toString_5) cwJ3_init (Nat.le_of_ble_eq_true rfl) rfl dJ13_toString_5 (Nat.succ_le_succ (Nat.zero_le _)) (h.mono (onV_mono (fun t3 h hlt3 => ?_) (fun _ _ h => h)))
  replace h := h hlt3
  replace hk2 := hlt3.tag hk2 (by decide)
  exact j_areturn (r := some (gn σ)) rfl (Or.inl ⟨_, rfl⟩) dJ13_toString_8 h
abbrev jJ14_newLength_21 (G : GPl) (s0 : State) (l : Launch) (K : Nat → Option Nat) (T : Nat → Nat) (lev : Nat) (st0 : GSt) (Q : Outcome → GSt → Prop) (x0 : Int32) (x1 : Int32) (x2 : Int32) (x3 : Int32) (σ : GSt) : Prop := JQ (wP G s0 l K T) mJ14_newLength (lev + 1) st0 21 [some (.int x0), some (.int x1), some (.int x2), some (.int x3)] [] σ Q
theorem tJ14_newLength {G : GPl} {s0 : State} {l : Launch} {K : Nat → Option Nat} {T : Nat → Nat} {lev : Nat} {Q : Outcome → GSt → Prop} {x0 : Int32} {x1 : Int32} {x2 : Int32} {σ : GSt} (h : (((x0 + (if x1 < x2 then x2 else x1)) ≤ (iI 0) → jJ14_newLength_21 G s0 l K T lev σ Q x0 x1 x2 (x0 + (if x1 < x2 then x2 else x1)) σ) ∧ (¬ (x0 + (if x1 < x2 then x2 else x1)) ≤ (iI 0) → (((iI 2147483639) < (x0 + (if x1 < x2 then x2 else x1)) → jJ14_newLength_21 G s0 l K T lev σ Q x0 x1 x2 (x0 + (if x1 < x2 then x2 else x1)) σ) ∧ (¬ (iI 2147483639) < (x0 + (if x1 < x2 then x2 else x1)) → Q (.returned (some (.int (x0 + (if x1 < x2 then x2 else x1))))) σ))))) : CQ (wP G s0 l K T) mJ14_newLength (lev + 1) [.int x0, .int x1, .int x2] σ Q := by
  refine CQ.of3 1 (lv := [some (.int x0), some (.int x1), some (.int x2), none]) (by decide) (Nat.le_of_ble_eq_true rfl) (cat1_cons rfl (cat1_cons rfl (cat1_cons rfl cat1_nil))) rfl ?_
  refine j_iload_n dJ14_newLength_0 rfl ?_
  refine j_iload_n dJ14_newLength_1 rfl ?_
  refine j_iload_n dJ14_newLength_2 rfl ?_
  refine jg_mmax (x := x1) (y := x2) (stk := [.int x0]) (Nat.succ_le_succ (Nat.zero_le _)) q569 q570 q135 q571 (Nat.le_of_ble_eq_true rfl) dJ14_newLength_3 ?_
  refine j_iadd dJ14_newLength_6 ?_
  refine j_istore_n (lv' := [some (.int x0), some (.int x1), some (.int x2), some (.int (x0 + (if x1 < x2 then x2 else x1)))]) dJ14_newLength_7 (by decide) rfl ?_
  refine j_iconst (v := iI 0) dJ14_newLength_8 rfl ?_
  refine j_iload_n dJ14_newLength_9 rfl ?_
  refine j_icmp_ge 21 dJ14_newLength_10 (by decide) (fun c2 => ?_) (fun c2 => ?_)
  · replace h := h.1 c2
    exact h
  · replace h := h.2 c2
    refine j_iload_n dJ14_newLength_13 rfl ?_
    refine j_ldc (v := iI 2147483639) q572 dJ14_newLength_14 (by decide) ?_
    refine j_icmp_gt 21 dJ14_newLength_16 (by decide) (fun c1 => ?_) (fun c1 => ?_)
    · replace h := h.1 c1
      exact h
    · replace h := h.2 c1
      refine j_iload_n dJ14_newLength_19 rfl ?_
      exact j_ireturn (ty := .int) rfl rfl dJ14_newLength_20 h
theorem tJ14_newLength_21 {G : GPl} {s0 : State} {l : Launch} {K : Nat → Option Nat} {T : Nat → Nat} {lev : Nat} {st0 : GSt} {Q : Outcome → GSt → Prop} {x0 : Int32} {x1 : Int32} {x2 : Int32} {x3 : Int32} {σ : GSt} (h : (CQ (wP G s0 l K T) mJ14_hugeLength lev [.int x0, .int x1] σ (onI (fun r2 t1 => gle σ t1 → Q (.returned (some (.int r2))) t1) (fun x t => gle σ t → Q (.threw x) t)))) : jJ14_newLength_21 G s0 l K T lev st0 Q x0 x1 x2 x3 σ := by
  refine j_iload_n dJ14_newLength_21 rfl ?_
  refine j_iload_n dJ14_newLength_22 rfl ?_
  refine jg_calli (rest := []) (kg_lkS (As := [.int x0, .int x1]) ktJ14_hugeLength q573 rfl rfl dJ14_newLength_23) cwJ14_hugeLength (Nat.le_of_ble_eq_true rfl) rfl dJ14_newLength_23 (Nat.succ_le_succ (Nat.zero_le _)) (h.mono (onI_mono (fun r2 t1 h hlt1 => ?_) (fun _ _ h => h)))
  replace h := h hlt1
  exact j_ireturn (ty := .int) rfl rfl dJ14_newLength_26 h
theorem tJ14_vectorizedHashCode {G : GPl} {s0 : State} {l : Launch} {K : Nat → Option Nat} {T : Nat → Nat} {lev : Nat} {Q : Outcome → GSt → Prop} {x0 : Option Nat} {x1 : Int32} {x2 : Int32} {x3 : Int32} {x4 : Int32} {σ : GSt} (h : ((x4 = iI 4 → (∃ a1, x0 = some a1 ∧ (gk σ a1 = 102 ∧ (G.h0.size ≤ a1 ∧ (CQ (wP G s0 l K T) mJ14_signedHashCode lev [.int x3, va_rf x0, .int x1, .int x2] σ (onI (fun r5 t4 => gle σ t4 → Q (.returned (some (.int r5))) t4) (fun x t => gle σ t → Q (.threw x) t))))))) ∧ (x4 = iI 5 → False) ∧ (x4 = iI 6 → (groom G 6 σ ∧ (groom G 4 (gmk 25 6 σ) ∧ (CQ (wP G s0 l K T) mJ13_init_2 lev (.ref (gn (gmk 25 6 σ)) :: []) (gmk 24 4 (gmk 25 6 σ)) (onV (fun t10 => gle (gmk 24 4 (gmk 25 6 σ)) t10 → False) (fun x t => gle (gmk 24 4 (gmk 25 6 σ)) t → Q (.threw x) t)))))) ∧ (x4 = iI 7 → (groom G 6 σ ∧ (groom G 4 (gmk 25 6 σ) ∧ (CQ (wP G s0 l K T) mJ13_init_2 lev (.ref (gn (gmk 25 6 σ)) :: []) (gmk 24 4 (gmk 25 6 σ)) (onV (fun t16 => gle (gmk 24 4 (gmk 25 6 σ)) t16 → False) (fun x t => gle (gmk 24 4 (gmk 25 6 σ)) t → Q (.threw x) t)))))) ∧ (x4 = iI 8 → (∃ a18, x0 = some a18 ∧ (gk σ a18 = 102 ∧ (G.h0.size ≤ a18 ∧ (CQ (wP G s0 l K T) mJ14_hashCode_2 lev [.int x3, va_rf x0, .int x1, .int x2] σ (onI (fun r22 t21 => gle σ t21 → Q (.returned (some (.int r22))) t21) (fun x t => gle σ t → Q (.threw x) t))))))) ∧ (x4 = iI 9 → False) ∧ (x4 = iI 10 → False) ∧ (tout x4 4 10 → (groom G 6 σ ∧ (groom G 4 (gmk 25 6 σ) ∧ (CQ (wP G s0 l K T) mJ13_init_2 lev (.ref (gn (gmk 25 6 σ)) :: []) (gmk 24 4 (gmk 25 6 σ)) (onV (fun t27 => gle (gmk 24 4 (gmk 25 6 σ)) t27 → False) (fun x t => gle (gmk 24 4 (gmk 25 6 σ)) t → Q (.threw x) t)))))))) : CQ (wP G s0 l K T) mJ14_vectorizedHashCode (lev + 1) [va_rf x0, .int x1, .int x2, .int x3, .int x4] σ Q := by
  refine CQ.of3 0 (lv := [some (va_rf x0), some (.int x1), some (.int x2), some (.int x3), some (.int x4)]) (by decide) (Nat.le_of_ble_eq_true rfl) (cat1_cons (rf_cat _) (cat1_cons rfl (cat1_cons rfl (cat1_cons rfl (cat1_cons rfl cat1_nil))))) rfl ?_
  refine j_iload dJ14_vectorizedHashCode_0 rfl ?_
  rcases tb_case 7 4 (x4) with ⟨c29, hc29, ec29⟩ | ec29
  · match c29, hc29, ec29 with
    | 0, _, ec29 =>
      have ec29 : x4 = iI 4 := ec29
      replace h := h.1 ec29
      refine j_tableIn 44 dJ14_vectorizedHashCode_2 (by rw [ec29]; decide) (by rw [ec29]; decide) (by rw [ec29]; rfl) (by decide) ?_
      refine j_iload_n dJ14_vectorizedHashCode_44 rfl ?_
      refine j_aload_n (r := x0) dJ14_vectorizedHashCode_45 rfl ?_
      obtain ⟨a1, ea1, hk2, hb3, h⟩ := h
      refine jg_castB (r := x0) (a := a1) ea1 hk2 hb3 q813 dJ14_vectorizedHashCode_46 ?_
      refine j_iload_n dJ14_vectorizedHashCode_49 rfl ?_
      refine j_iload_n dJ14_vectorizedHashCode_50 rfl ?_
      refine jg_calli (rest := []) (kg_lkS (As := [.int x3, va_rf x0, .int x1, .int x2]) ktJ14_signedHashCode q814 rfl rfl dJ14_vectorizedHashCode_51) cwJ14_signedHashCode (Nat.le_of_ble_eq_true rfl) rfl dJ14_vectorizedHashCode_51 (Nat.succ_le_succ (Nat.zero_le _)) (h.mono (onI_mono (fun r5 t4 h hlt4 => ?_) (fun _ _ h => h)))
      replace h := h hlt4
      replace hk2 := hlt4.tag hk2 (by decide)
      refine j_goto 157 dJ14_vectorizedHashCode_54 (by decide) ?_
      exact j_ireturn (ty := .int) rfl rfl dJ14_vectorizedHashCode_157 h
    | 1, _, ec29 =>
      have ec29 : x4 = iI 5 := ec29
      replace h := h.2.1 ec29
      refine j_tableIn 57 dJ14_vectorizedHashCode_2 (by rw [ec29]; decide) (by rw [ec29]; decide) (by rw [ec29]; rfl) (by decide) ?_
      refine j_aload_n (r := x0) dJ14_vectorizedHashCode_57 rfl ?_
      exact h.elim
    | 2, _, ec29 =>
      have ec29 : x4 = iI 6 := ec29
      replace h := h.2.2.1 ec29
      refine j_tableIn 129 dJ14_vectorizedHashCode_2 (by rw [ec29]; decide) (by rw [ec29]; decide) (by rw [ec29]; rfl) (by decide) ?_
      obtain ⟨hg6, h⟩ := h
      refine jg_new (c := 24) (N := 6) (C := "java/lang/IllegalArgumentException") (by decide) ⟨rfl, rfl⟩ q848 q380 q128 hg6 dJ14_vectorizedHashCode_129 ?_
      have hk7 := gk_new (t := 25) (n := 6) hg6.2.2
      refine j_dup dJ14_vectorizedHashCode_132 rfl ?_
      obtain ⟨hg8, h⟩ := h
      refine jg_new (c := 23) (N := 4) (C := "java/lang/StringBuilder") (by decide) ⟨rfl, rfl⟩ q849 q511 q133 hg8 dJ14_vectorizedHashCode_133 ?_
      replace hk7 := gk_mk (t := 24) (n := 4) hk7 (by decide)
      have hk9 := gk_new (t := 24) (n := 4) hg8.2.2
      refine j_dup dJ14_vectorizedHashCode_136 rfl ?_
      refine jg_callv (rest := [va_rf (some (gn (gmk 25 6 σ))), va_rf (some (gn σ)), va_rf (some (gn σ))]) (kg_lkI (As := []) (a := (gn (gmk 25 6 σ))) kiJ13_init_2 (Or.inl q850) rfl rfl dJ14_vectorizedHashCode_137) cwJ13_init_2 (Nat.le_of_ble_eq_true rfl) rfl dJ14_vectorizedHashCode_137 (Nat.succ_le_succ (Nat.zero_le _)) (h.mono (onV_mono (fun t10 h hlt10 => ?_) (fun _ _ h => h)))
      replace h := h hlt10
      replace hk7 := hlt10.tag hk7 (by decide)
      replace hk9 := hlt10.tag hk9 (by decide)
      exact h.elim
    | 3, _, ec29 =>
      have ec29 : x4 = iI 7 := ec29
      replace h := h.2.2.2.1 ec29
      refine j_tableIn 129 dJ14_vectorizedHashCode_2 (by rw [ec29]; decide) (by rw [ec29]; decide) (by rw [ec29]; rfl) (by decide) ?_
      obtain ⟨hg12, h⟩ := h
      refine jg_new (c := 24) (N := 6) (C := "java/lang/IllegalArgumentException") (by decide) ⟨rfl, rfl⟩ q848 q380 q128 hg12 dJ14_vectorizedHashCode_129 ?_
      have hk13 := gk_new (t := 25) (n := 6) hg12.2.2
      refine j_dup dJ14_vectorizedHashCode_132 rfl ?_
      obtain ⟨hg14, h⟩ := h
      refine jg_new (c := 23) (N := 4) (C := "java/lang/StringBuilder") (by decide) ⟨rfl, rfl⟩ q849 q511 q133 hg14 dJ14_vectorizedHashCode_133 ?_
      replace hk13 := gk_mk (t := 24) (n := 4) hk13 (by decide)
      have hk15 := gk_new (t := 24) (n := 4) hg14.2.2
      refine j_dup dJ14_vectorizedHashCode_136 rfl ?_
      refine jg_callv (rest := [va_rf (some (gn (gmk 25 6 σ))), va_rf (some (gn σ)), va_rf (some (gn σ))]) (kg_lkI (As := []) (a := (gn (gmk 25 6 σ))) kiJ13_init_2 (Or.inl q850) rfl rfl dJ14_vectorizedHashCode_137) cwJ13_init_2 (Nat.le_of_ble_eq_true rfl) rfl dJ14_vectorizedHashCode_137 (Nat.succ_le_succ (Nat.zero_le _)) (h.mono (onV_mono (fun t16 h hlt16 => ?_) (fun _ _ h => h)))
      replace h := h hlt16
      replace hk13 := hlt16.tag hk13 (by decide)
      replace hk15 := hlt16.tag hk15 (by decide)
      exact h.elim
    | 4, _, ec29 =>
      have ec29 : x4 = iI 8 := ec29
      replace h := h.2.2.2.2.1 ec29
      refine j_tableIn 90 dJ14_vectorizedHashCode_2 (by rw [ec29]; decide) (by rw [ec29]; decide) (by rw [ec29]; rfl) (by decide) ?_
      refine j_iload_n dJ14_vectorizedHashCode_90 rfl ?_
      refine j_aload_n (r := x0) dJ14_vectorizedHashCode_91 rfl ?_
      obtain ⟨a18, ea18, hk19, hb20, h⟩ := h
      refine jg_castB (r := x0) (a := a18) ea18 hk19 hb20 q813 dJ14_vectorizedHashCode_92 ?_
      refine j_iload_n dJ14_vectorizedHashCode_95 rfl ?_
      refine j_iload_n dJ14_vectorizedHashCode_96 rfl ?_
      refine jg_calli (rest := []) (kg_lkS (As := [.int x3, va_rf x0, .int x1, .int x2]) ktJ14_hashCode_2 q837 rfl rfl dJ14_vectorizedHashCode_97) cwJ14_hashCode_2 (Nat.le_of_ble_eq_true rfl) rfl dJ14_vectorizedHashCode_97 (Nat.succ_le_succ (Nat.zero_le _)) (h.mono (onI_mono (fun r22 t21 h hlt21 => ?_) (fun _ _ h => h)))
      replace h := h hlt21
      replace hk19 := hlt21.tag hk19 (by decide)
      refine j_goto 157 dJ14_vectorizedHashCode_100 (by decide) ?_
      exact j_ireturn (ty := .int) rfl rfl dJ14_vectorizedHashCode_157 h
    | 5, _, ec29 =>
      have ec29 : x4 = iI 9 := ec29
      replace h := h.2.2.2.2.2.1 ec29
      refine j_tableIn 103 dJ14_vectorizedHashCode_2 (by rw [ec29]; decide) (by rw [ec29]; decide) (by rw [ec29]; rfl) (by decide) ?_
      refine j_iload_n dJ14_vectorizedHashCode_103 rfl ?_
      refine j_aload_n (r := x0) dJ14_vectorizedHashCode_104 rfl ?_
      exact h.elim
    | 6, _, ec29 =>
      have ec29 : x4 = iI 10 := ec29
      replace h := h.2.2.2.2.2.2.1 ec29
      refine j_tableIn 116 dJ14_vectorizedHashCode_2 (by rw [ec29]; decide) (by rw [ec29]; decide) (by rw [ec29]; rfl) (by decide) ?_
      refine j_iload_n dJ14_vectorizedHashCode_116 rfl ?_
      refine j_aload_n (r := x0) dJ14_vectorizedHashCode_117 rfl ?_
      exact h.elim
    | q_ + 7, hq_, _ => exact absurd hq_ (by omega)
  · replace h := h.2.2.2.2.2.2.2 ec29
    refine j_tableOut 129 dJ14_vectorizedHashCode_2 ec29 (by decide) ?_
    obtain ⟨hg23, h⟩ := h
    refine jg_new (c := 24) (N := 6) (C := "java/lang/IllegalArgumentException") (by decide) ⟨rfl, rfl⟩ q848 q380 q128 hg23 dJ14_vectorizedHashCode_129 ?_
    have hk24 := gk_new (t := 25) (n := 6) hg23.2.2
    refine j_dup dJ14_vectorizedHashCode_132 rfl ?_
    obtain ⟨hg25, h⟩ := h
    refine jg_new (c := 23) (N := 4) (C := "java/lang/StringBuilder") (by decide) ⟨rfl, rfl⟩ q849 q511 q133 hg25 dJ14_vectorizedHashCode_133 ?_
    replace hk24 := gk_mk (t := 24) (n := 4) hk24 (by decide)
    have hk26 := gk_new (t := 24) (n := 4) hg25.2.2
    refine j_dup dJ14_vectorizedHashCode_136 rfl ?_
    refine jg_callv (rest := [va_rf (some (gn (gmk 25 6 σ))), va_rf (some (gn σ)), va_rf (some (gn σ))]) (kg_lkI (As := []) (a := (gn (gmk 25 6 σ))) kiJ13_init_2 (Or.inl q850) rfl rfl dJ14_vectorizedHashCode_137) cwJ13_init_2 (Nat.le_of_ble_eq_true rfl) rfl dJ14_vectorizedHashCode_137 (Nat.succ_le_succ (Nat.zero_le _)) (h.mono (onV_mono (fun t27 h hlt27 => ?_) (fun _ _ h => h)))
    replace h := h hlt27
    replace hk24 := hlt27.tag hk24 (by decide)
    replace hk26 := hlt27.tag hk26 (by decide)
    exact h.elim
abbrev jJ16_copyOfRange_10 (G : GPl) (s0 : State) (l : Launch) (K : Nat → Option Nat) (T : Nat → Nat) (lev : Nat) (st0 : GSt) (Q : Outcome → GSt → Prop) (x0 : Option Nat) (x1 : Int32) (x2 : Int32) (σ : GSt) : Prop := JQ (wP G s0 l K T) mJ16_copyOfRange (lev + 1) st0 10 [some (va_rf x0), some (.int x1), some (.int x2)] [] σ Q
theorem tJ16_copyOfRange {G : GPl} {s0 : State} {l : Launch} {K : Nat → Option Nat} {T : Nat → Nat} {lev : Nat} {Q : Outcome → GSt → Prop} {x0 : Option Nat} {x1 : Int32} {x2 : Int32} {σ : GSt} (h : ((x1 = 0 → (∃ a1, x0 = some a1 ∧ (gk σ a1 = 102 ∧ ((x2 = (iI (gl σ a1 : Int)) → (G.h0.size ≤ a1 ∧ (groom G (gl σ a1) σ ∧ (G.h0.size ≤ (gn σ) ∧ Q (.returned (some (va_rf (some (gn σ))))) (gcl8 a1 σ))))) ∧ (¬ x2 = (iI (gl σ a1 : Int)) → jJ16_copyOfRange_10 G s0 l K T lev σ Q x0 x1 x2 σ))))) ∧ (¬ x1 = 0 → jJ16_copyOfRange_10 G s0 l K T lev σ Q x0 x1 x2 σ))) : CQ (wP G s0 l K T) mJ16_copyOfRange (lev + 1) [va_rf x0, .int x1, .int x2] σ Q := by
  refine CQ.of3 0 (lv := [some (va_rf x0), some (.int x1), some (.int x2)]) (by decide) (Nat.le_of_ble_eq_true rfl) (cat1_cons (rf_cat _) (cat1_cons rfl (cat1_cons rfl cat1_nil))) rfl ?_
  refine j_iload_n dJ16_copyOfRange_0 rfl ?_
  refine j_if_ne 10 dJ16_copyOfRange_1 (by decide) (fun c8 => ?_) (fun c8 => ?_)
  · replace h := h.2 c8
    exact h
  · replace h := h.1 c8
    refine j_iload_n dJ16_copyOfRange_4 rfl ?_
    refine j_aload_n (r := x0) dJ16_copyOfRange_5 rfl ?_
    obtain ⟨a1, ea1, hk2, h⟩ := h
    refine kg_alen (a := a1) ea1 hk2 (by decide) dJ16_copyOfRange_6 ?_
    refine j_icmp_eq 17 dJ16_copyOfRange_7 (by decide) (fun c7 => ?_) (fun c7 => ?_)
    · replace h := h.1 c7
      refine j_aload_n (r := x0) dJ16_copyOfRange_17 rfl ?_
      obtain ⟨hb3, hg4, h⟩ := h
      refine jg_clone (r := x0) (b := a1) (stk := []) (Nat.succ_le_succ (Nat.zero_le _)) ea1 hk2 hb3 hg4 q580 (Nat.le_of_ble_eq_true rfl) dJ16_copyOfRange_18 ?_
      replace hk2 := gk_mk (t := 102) (n := (gl σ a1)) hk2 (by decide)
      have hk5 := gk_new (t := 102) (n := (gl σ a1)) hg4.2.2
      obtain ⟨hb6, h⟩ := h
      refine jg_castB (r := some (gn σ)) (a := (gn σ)) rfl hk5 hb6 q586 dJ16_copyOfRange_21 ?_
      exact j_areturn (r := some (gn σ)) rfl (Or.inr ⟨_, rfl⟩) dJ16_copyOfRange_24 h
    · replace h := h.2 c7
      exact h
theorem tJ16_copyOfRange_10 {G : GPl} {s0 : State} {l : Launch} {K : Nat → Option Nat} {T : Nat → Nat} {lev : Nat} {st0 : GSt} {Q : Outcome → GSt → Prop} {x0 : Option Nat} {x1 : Int32} {x2 : Int32} {σ : GSt} (h : (CQ (wP G s0 l K T) mJ16_copyOfRangeByte lev [va_rf x0, .int x1, .int x2] σ (onR (fun r2 t1 => gle σ t1 → Q (.returned (some (va_rf r2))) t1) (fun x t => gle σ t → Q (.threw x) t)))) : jJ16_copyOfRange_10 G s0 l K T lev st0 Q x0 x1 x2 σ := by
  refine j_aload_n (r := x0) dJ16_copyOfRange_10 rfl ?_
  refine j_iload_n dJ16_copyOfRange_11 rfl ?_
  refine j_iload_n dJ16_copyOfRange_12 rfl ?_
  refine jg_callr (rest := []) (kg_lkS (As := [va_rf x0, .int x1, .int x2]) ktJ16_copyOfRangeByte q673 rfl rfl dJ16_copyOfRange_13) cwJ16_copyOfRangeByte (Nat.le_of_ble_eq_true rfl) rfl dJ16_copyOfRange_13 (Nat.succ_le_succ (Nat.zero_le _)) (h.mono (onR_mono (fun r2 t1 h hlt1 => ?_) (fun _ _ h => h)))
  replace h := h hlt1
  exact j_areturn (r := r2) rfl (Or.inr ⟨_, rfl⟩) dJ16_copyOfRange_16 h
theorem tJ16_copyOf {G : GPl} {s0 : State} {l : Launch} {K : Nat → Option Nat} {T : Nat → Nat} {lev : Nat} {Q : Outcome → GSt → Prop} {x0 : Option Nat} {x1 : Int32} {σ : GSt} (h : (∃ a1, x0 = some a1 ∧ (gk σ a1 = 102 ∧ ((x1 = (iI (gl σ a1 : Int)) → (G.h0.size ≤ a1 ∧ (groom G (gl σ a1) σ ∧ (G.h0.size ≤ (gn σ) ∧ Q (.returned (some (va_rf (some (gn σ))))) (gcl8 a1 σ))))) ∧ (¬ x1 = (iI (gl σ a1 : Int)) → (inr x1 200000 ∧ (groom G x1.toInt.toNat σ ∧ (G.h0.size ≤ (gn σ) ∧ (cpok (gmk 102 x1.toInt.toNat σ) a1 (gn σ) (iI 0) (iI 0) (if x1 < iI (gl (gmk 102 x1.toInt.toNat σ) a1 : Int) then x1 else iI (gl (gmk 102 x1.toInt.toNat σ) a1 : Int)) ∧ Q (.returned (some (va_rf (some (gn σ))))) (gci (gn σ) a1 (ix (iI 0)) (ix (iI 0)) (ix (if x1 < iI (gl (gmk 102 x1.toInt.toNat σ) a1 : Int) then x1 else iI (gl (gmk 102 x1.toInt.toNat σ) a1 : Int))) (gmk 102 x1.toInt.toNat σ))))))))))) : CQ (wP G s0 l K T) mJ16_copyOf (lev + 1) [va_rf x0, .int x1] σ Q := by
  refine CQ.of3 1 (lv := [some (va_rf x0), some (.int x1), none]) (by decide) (Nat.le_of_ble_eq_true rfl) (cat1_cons (rf_cat _) (cat1_cons rfl cat1_nil)) rfl ?_
  refine j_iload_n dJ16_copyOf_0 rfl ?_
  refine j_aload_n (r := x0) dJ16_copyOf_1 rfl ?_
  obtain ⟨a1, ea1, hk2, h⟩ := h
  refine kg_alen (a := a1) ea1 hk2 (by decide) dJ16_copyOf_2 ?_
  refine j_icmp_ne 14 dJ16_copyOf_3 (by decide) (fun c12 => ?_) (fun c12 => ?_)
  · replace h := h.2 c12
    refine j_iload_n dJ16_copyOf_14 rfl ?_
    obtain ⟨hn3, hg4, h⟩ := h
    refine jg_newarr (n0 := x1.toInt.toNat) (Or.inr ⟨rfl, rfl, rfl⟩) q197 hn3 rfl hg4 dJ16_copyOf_15 ?_
    replace hk2 := gk_mk (t := 102) (n := x1.toInt.toNat) hk2 (by decide)
    have hk5 := gk_new (t := 102) (n := x1.toInt.toNat) hg4.2.2
    refine j_astore_n (r := some (gn σ)) (lv' := [some (va_rf x0), some (.int x1), some (va_rf (some (gn σ)))]) dJ16_copyOf_17 (by decide) rfl ?_
    refine j_aload_n (r := x0) dJ16_copyOf_18 rfl ?_
    refine j_iconst (v := iI 0) dJ16_copyOf_19 rfl ?_
    refine j_aload_n (r := some (gn σ)) dJ16_copyOf_20 rfl ?_
    refine j_iconst (v := iI 0) dJ16_copyOf_21 rfl ?_
    refine j_aload_n (r := x0) dJ16_copyOf_22 rfl ?_
    refine kg_alen (a := a1) ea1 hk2 (by decide) dJ16_copyOf_23 ?_
    refine j_iload_n dJ16_copyOf_24 rfl ?_
    refine jg_mmin (x := iI (gl (gmk 102 x1.toInt.toNat σ) a1 : Int)) (y := x1) (stk := [.int (iI 0), va_rf (some (gn σ)), .int (iI 0), va_rf x0]) (Nat.succ_le_succ (Nat.zero_le _)) q587 q588 q135 q589 (rm_ok (cat1_cons rfl (cat1_cons rfl (cat1_cons rfl (cat1_cons (rf_cat _) cat1_nil)))) (Nat.le_of_ble_eq_true rfl)) dJ16_copyOf_25 ?_
    obtain ⟨hb6, hc7, h⟩ := h
    refine jg_copyb (r := some (gn σ)) (r2 := x0) (a := (gn σ)) (b := a1) (stk := []) (Nat.succ_le_succ (Nat.zero_le _)) rfl ea1 hk5 hk2 hb6 hc7 q590 (Nat.le_of_ble_eq_true rfl) dJ16_copyOf_28 ?_
    refine j_aload_n (r := some (gn σ)) dJ16_copyOf_31 rfl ?_
    exact j_areturn (r := some (gn σ)) rfl (Or.inr ⟨_, rfl⟩) dJ16_copyOf_32 h
  · replace h := h.1 c12
    refine j_aload_n (r := x0) dJ16_copyOf_6 rfl ?_
    obtain ⟨hb8, hg9, h⟩ := h
    refine jg_clone (r := x0) (b := a1) (stk := []) (Nat.succ_le_succ (Nat.zero_le _)) ea1 hk2 hb8 hg9 q580 (Nat.le_of_ble_eq_true rfl) dJ16_copyOf_7 ?_
    replace hk2 := gk_mk (t := 102) (n := (gl σ a1)) hk2 (by decide)
    have hk10 := gk_new (t := 102) (n := (gl σ a1)) hg9.2.2
    obtain ⟨hb11, h⟩ := h
    refine jg_castB (r := some (gn σ)) (a := (gn σ)) rfl hk10 hb11 q586 dJ16_copyOf_10 ?_
    exact j_areturn (r := some (gn σ)) rfl (Or.inr ⟨_, rfl⟩) dJ16_copyOf_13 h
theorem tJ16_copyOf_2 {G : GPl} {s0 : State} {l : Launch} {K : Nat → Option Nat} {T : Nat → Nat} {lev : Nat} {Q : Outcome → GSt → Prop} {x0 : Option Nat} {x1 : Int32} {σ : GSt} (h : (∃ a1, x0 = some a1 ∧ (gk σ a1 = 103 ∧ (CQ (wP G s0 l K T) mJ16_copyOf_3 lev [va_rf x0, .int x1, va_rf (K 19)] σ (onR (fun r4 t3 => gle σ t3 → Q (.returned (some (va_rf r4))) t3) (fun x t => gle σ t → Q (.threw x) t)))))) : CQ (wP G s0 l K T) mJ16_copyOf_2 (lev + 1) [va_rf x0, .int x1] σ Q := by
  refine CQ.of3 0 (lv := [some (va_rf x0), some (.int x1)]) (by decide) (Nat.le_of_ble_eq_true rfl) (cat1_cons (rf_cat _) (cat1_cons rfl cat1_nil)) rfl ?_
  refine j_aload_n (r := x0) dJ16_copyOf_2_0 rfl ?_
  refine j_iload_n dJ16_copyOf_2_1 rfl ?_
  refine j_aload_n (r := x0) dJ16_copyOf_2_2 rfl ?_
  obtain ⟨a1, ea1, hk2, h⟩ := h
  refine jg_getC (r := x0) (a := a1) (stk := [.int x1, va_rf x0]) (Nat.succ_le_succ (Nat.zero_le _)) ea1 hk2 q1099 (rm_ok (cat1_cons rfl (cat1_cons (rf_cat _) cat1_nil)) (Nat.le_of_ble_eq_true rfl)) dJ16_copyOf_2_3 ?_
  refine jg_callr (rest := []) (kg_lkS (As := [va_rf x0, .int x1, va_rf (K 19)]) ktJ16_copyOf_3 q1134 rfl rfl dJ16_copyOf_2_6) cwJ16_copyOf_3 (Nat.le_of_ble_eq_true rfl) rfl dJ16_copyOf_2_6 (Nat.succ_le_succ (Nat.zero_le _)) (h.mono (onR_mono (fun r4 t3 h hlt3 => ?_) (fun _ _ h => h)))
  replace h := h hlt3
  replace hk2 := hlt3.tag hk2 (by decide)
  exact j_areturn (r := r4) rfl (Or.inr ⟨_, rfl⟩) dJ16_copyOf_2_9 h
theorem tJ16_copyOf_3 {G : GPl} {s0 : State} {l : Launch} {K : Nat → Option Nat} {T : Nat → Nat} {lev : Nat} {Q : Outcome → GSt → Prop} {x0 : Option Nat} {x1 : Int32} {x2 : Option Nat} {σ : GSt} (h : ((x2 = (K 19) → (inr x1 200000 ∧ (groom G x1.toInt.toNat σ ∧ (∃ a4, x0 = some a4 ∧ (gk (gmk 103 x1.toInt.toNat σ) a4 = 103 ∧ (G.h0.size ≤ (gn σ) ∧ (cpok (gmk 103 x1.toInt.toNat σ) a4 (gn σ) (iI 0) (iI 0) (if x1 < iI (gl (gmk 103 x1.toInt.toNat σ) a4 : Int) then x1 else iI (gl (gmk 103 x1.toInt.toNat σ) a4 : Int)) ∧ ((∀ i, i < ix (if x1 < iI (gl (gmk 103 x1.toInt.toNat σ) a4 : Int) then x1 else iI (gl (gmk 103 x1.toInt.toNat σ) a4 : Int)) → stOK (gmk 103 x1.toInt.toNat σ) (gr (gmk 103 x1.toInt.toNat σ) a4 (ix (iI 0) + i)) "java/lang/Object") ∧ Q (.returned (some (va_rf (some (gn σ))))) (gcr (gn σ) a4 (ix (iI 0)) (ix (iI 0)) (ix (if x1 < iI (gl (gmk 103 x1.toInt.toNat σ) a4 : Int) then x1 else iI (gl (gmk 103 x1.toInt.toNat σ) a4 : Int))) (gmk 103 x1.toInt.toNat σ)))))))))) ∧ (¬ x2 = (K 19) → False))) : CQ (wP G s0 l K T) mJ16_copyOf_3 (lev + 1) [va_rf x0, .int x1, va_rf x2] σ Q := by
  refine CQ.of3 1 (lv := [some (va_rf x0), some (.int x1), some (va_rf x2), none]) (by decide) (Nat.le_of_ble_eq_true rfl) (cat1_cons (rf_cat _) (cat1_cons rfl (cat1_cons (rf_cat _) cat1_nil))) rfl ?_
  refine j_aload_n (r := x2) dJ16_copyOf_3_0 rfl ?_
  refine jg_ldcM q1137 dJ16_copyOf_3_1 ?_
  refine j_acmp_ne (x := x2) (y := K 19) 13 dJ16_copyOf_3_3 (by decide) (fun c9 => ?_) (fun c9 => ?_)
  · replace h := h.2 c9
    refine j_aload_n (r := x2) dJ16_copyOf_3_13 rfl ?_
    exact h.elim
  · replace h := h.1 c9
    refine j_iload_n dJ16_copyOf_3_6 rfl ?_
    obtain ⟨hn1, hg2, h⟩ := h
    refine jg_anew (n0 := x1.toInt.toNat) (Or.inl ⟨rfl, rfl⟩) q1139 q1138 hn1 rfl hg2 dJ16_copyOf_3_7 ?_
    have hk3 := gk_new (t := 103) (n := x1.toInt.toNat) hg2.2.2
    refine j_goto 24 dJ16_copyOf_3_10 (by decide) ?_
    refine j_astore_n (r := some (gn σ)) (lv' := [some (va_rf x0), some (.int x1), some (va_rf x2), some (va_rf (some (gn σ)))]) dJ16_copyOf_3_24 (by decide) rfl ?_
    refine j_aload_n (r := x0) dJ16_copyOf_3_25 rfl ?_
    refine j_iconst (v := iI 0) dJ16_copyOf_3_26 rfl ?_
    refine j_aload_n (r := some (gn σ)) dJ16_copyOf_3_27 rfl ?_
    refine j_iconst (v := iI 0) dJ16_copyOf_3_28 rfl ?_
    refine j_aload_n (r := x0) dJ16_copyOf_3_29 rfl ?_
    obtain ⟨a4, ea4, hk5, h⟩ := h
    refine kg_alen (a := a4) ea4 hk5 (by decide) dJ16_copyOf_3_30 ?_
    refine j_iload_n dJ16_copyOf_3_31 rfl ?_
    refine jg_mmin (x := iI (gl (gmk 103 x1.toInt.toNat σ) a4 : Int)) (y := x1) (stk := [.int (iI 0), va_rf (some (gn σ)), .int (iI 0), va_rf x0]) (Nat.succ_le_succ (Nat.zero_le _)) q587 q588 q135 q589 (rm_ok (cat1_cons rfl (cat1_cons rfl (cat1_cons rfl (cat1_cons (rf_cat _) cat1_nil)))) (Nat.le_of_ble_eq_true rfl)) dJ16_copyOf_3_32 ?_
    obtain ⟨hb6, hc7, hs8, h⟩ := h
    refine jg_copyr (r := some (gn σ)) (r2 := x0) (a := (gn σ)) (b := a4) (stk := []) (Nat.succ_le_succ (Nat.zero_le _)) rfl ea4 hk3 hk5 hb6 hc7 hs8 q590 (Nat.le_of_ble_eq_true rfl) dJ16_copyOf_3_35 ?_
    refine j_aload_n (r := some (gn σ)) dJ16_copyOf_3_38 rfl ?_
    exact j_areturn (r := some (gn σ)) rfl (Or.inr ⟨_, rfl⟩) dJ16_copyOf_3_39 h
theorem tJ16_checkLength {G : GPl} {s0 : State} {l : Launch} {K : Nat → Option Nat} {T : Nat → Nat} {lev : Nat} {Q : Outcome → GSt → Prop} {x0 : Int32} {x1 : Int32} {σ : GSt} (h : ((x0 ≤ x1 → Q (.returned none) σ) ∧ (¬ x0 ≤ x1 → (groom G 6 σ ∧ (groom G 4 (gmk 25 6 σ) ∧ (CQ (wP G s0 l K T) mJ13_init_2 lev (.ref (gn (gmk 25 6 σ)) :: []) (gmk 24 4 (gmk 25 6 σ)) (onV (fun t5 => gle (gmk 24 4 (gmk 25 6 σ)) t5 → (CQ (wP G s0 l K T) mJ13_append_2 lev (.ref (gn (gmk 25 6 σ)) :: [.int x0]) t5 (onR (fun r8 t7 => gle t5 t7 → False) (fun x t => gle t5 t → Q (.threw x) t)))) (fun x t => gle (gmk 24 4 (gmk 25 6 σ)) t → Q (.threw x) t)))))))) : CQ (wP G s0 l K T) mJ16_checkLength (lev + 1) [.int x0, .int x1] σ Q := by
  refine CQ.of3 0 (lv := [some (.int x0), some (.int x1)]) (by decide) (Nat.le_of_ble_eq_true rfl) (cat1_cons rfl (cat1_cons rfl cat1_nil)) rfl ?_
  refine j_iload_n dJ16_checkLength_0 rfl ?_
  refine j_iload_n dJ16_checkLength_1 rfl ?_
  refine j_icmp_ge 37 dJ16_checkLength_2 (by decide) (fun c9 => ?_) (fun c9 => ?_)
  · replace h := h.1 c9
    exact j_return rfl dJ16_checkLength_37 h
  · replace h := h.2 c9
    obtain ⟨hg1, h⟩ := h
    refine jg_new (c := 24) (N := 6) (C := "java/lang/IllegalArgumentException") (by decide) ⟨rfl, rfl⟩ q679 q380 q128 hg1 dJ16_checkLength_5 ?_
    have hk2 := gk_new (t := 25) (n := 6) hg1.2.2
    refine j_dup dJ16_checkLength_8 rfl ?_
    obtain ⟨hg3, h⟩ := h
    refine jg_new (c := 23) (N := 4) (C := "java/lang/StringBuilder") (by decide) ⟨rfl, rfl⟩ q680 q511 q133 hg3 dJ16_checkLength_9 ?_
    replace hk2 := gk_mk (t := 24) (n := 4) hk2 (by decide)
    have hk4 := gk_new (t := 24) (n := 4) hg3.2.2
    refine j_dup dJ16_checkLength_12 rfl ?_
    refine jg_callv (rest := [va_rf (some (gn (gmk 25 6 σ))), va_rf (some (gn σ)), va_rf (some (gn σ))]) (kg_lkI (As := []) (a := (gn (gmk 25 6 σ))) kiJ13_init_2 (Or.inl q681) rfl rfl dJ16_checkLength_13) cwJ13_init_2 (Nat.le_of_ble_eq_true rfl) rfl dJ16_checkLength_13 (Nat.succ_le_succ (Nat.zero_le _)) (h.mono (onV_mono (fun t5 h hlt5 => ?_) (fun _ _ h => h)))
    replace h := h hlt5
    replace hk2 := hlt5.tag hk2 (by decide)
    replace hk4 := hlt5.tag hk4 (by decide)
    refine j_iload_n dJ16_checkLength_16 rfl ?_
    refine jg_callr (rest := [va_rf (some (gn σ)), va_rf (some (gn σ))]) (kg_lkV (As := [.int x0]) (a := (gn (gmk 25 6 σ))) (c := 23) kgJ13_append_2_23 (by decide) rfl hk4 q684 rfl rfl dJ16_checkLength_17) cwJ13_append_2 (Nat.le_of_ble_eq_true rfl) rfl dJ16_checkLength_17 (Nat.succ_le_succ (Nat.zero_le _)) (h.mono (onR_mono (fun r8 t7 h hlt7 => ?_) (fun _ _ h => h)))
    replace h := h hlt7
    replace hk2 := hlt7.tag hk2 (by decide)
    replace hk4 := hlt7.tag hk4 (by decide)
    exact h.elim
theorem tJ1_init {G : GPl} {s0 : State} {l : Launch} {K : Nat → Option Nat} {T : Nat → Nat} {lev : Nat} {Q : Outcome → GSt → Prop} {a0 : Nat} {σ : GSt} (h : (CQ (wP G s0 l K T) mJ0_init lev (.ref a0 :: []) σ (onV (fun t1 => gle σ t1 → (gk t1 a0 = 22 ∧ Q (.returned none) (gpi a0 0 (iI 0) t1))) (fun x t => gle σ t → Q (.threw x) t)))) : CQ (wP G s0 l K T) mJ1_init (lev + 1) [.ref a0] σ Q := by
  refine CQ.of3 0 (lv := [some (va_rf (some a0))]) (by decide) (Nat.le_of_ble_eq_true rfl) (cat1_cons rfl cat1_nil) rfl ?_
  refine j_aload_n (r := some a0) dJ1_init_0 rfl ?_
  refine jg_callv (rest := []) (kg_lkI (As := []) (a := a0) kiJ0_init (Or.inl q270) rfl rfl dJ1_init_1) cwJ0_init (Nat.le_of_ble_eq_true rfl) rfl dJ1_init_1 (Nat.succ_le_succ (Nat.zero_le _)) (h.mono (onV_mono (fun t1 h hlt1 => ?_) (fun _ _ h => h)))
  replace h := h hlt1
  refine j_aload_n (r := some a0) dJ1_init_4 rfl ?_
  refine j_iconst (v := iI 0) dJ1_init_5 rfl ?_
  obtain ⟨hk3, h⟩ := h
  refine kg_puti (a := a0) rfl gfJ1_7 (Or.inl rfl) hk3 (Or.inl (by decide)) dJ1_init_6 ?_
  exact j_return rfl dJ1_init_9 h
theorem tJ0_init {G : GPl} {s0 : State} {l : Launch} {K : Nat → Option Nat} {T : Nat → Nat} {lev : Nat} {Q : Outcome → GSt → Prop} {a0 : Nat} {σ : GSt} (h : Q (.returned none) σ) : CQ (wP G s0 l K T) mJ0_init (lev + 1) [.ref a0] σ Q := by
  refine CQ.of3 0 (lv := [some (va_rf (some a0))]) (by decide) (Nat.le_of_ble_eq_true rfl) (cat1_cons rfl cat1_nil) rfl ?_
  refine j_aload_n (r := some a0) dJ0_init_0 rfl ?_
  refine jg_objI q273 q168 q169 (Nat.succ_le_succ (Nat.zero_le _)) (Nat.le_of_ble_eq_true rfl) dJ0_init_1 ?_
  exact j_return rfl dJ0_init_4 h
theorem tJ8_init {G : GPl} {s0 : State} {l : Launch} {K : Nat → Option Nat} {T : Nat → Nat} {lev : Nat} {Q : Outcome → GSt → Prop} {a0 : Nat} {σ : GSt} (h : (3 ≤ lev + 1 ∧ (∃ c1, c1 ∈ thC ∧ (gk σ a0 = c1 + 1 ∧ (gr σ a0 4 = none ∧ Q (.returned none) (gthr K a0 σ)))))) : CQ (wP G s0 l K T) mJ8_init (lev + 1) [.ref a0] σ Q := by
  refine CQ.of3 0 (lv := [some (va_rf (some a0))]) (by decide) (Nat.le_of_ble_eq_true rfl) (cat1_cons rfl cat1_nil) rfl ?_
  refine j_aload_n (r := some a0) dJ8_init_0 rfl ?_
  obtain ⟨hq2, c1, hq3, hq4, hq5, h⟩ := h
  refine jg_thr (c := c1) (a := a0) (stk := []) hq2 hq3 hq4 hq5 q430 (Nat.le_of_ble_eq_true rfl) dJ8_init_1 ?_
  exact j_return rfl dJ8_init_4 h
theorem tJ9_init {G : GPl} {s0 : State} {l : Launch} {K : Nat → Option Nat} {T : Nat → Nat} {lev : Nat} {Q : Outcome → GSt → Prop} {a0 : Nat} {σ : GSt} (h : (CQ (wP G s0 l K T) mJ8_init lev (.ref a0 :: []) σ (onV (fun t1 => gle σ t1 → Q (.returned none) t1) (fun x t => gle σ t → Q (.threw x) t)))) : CQ (wP G s0 l K T) mJ9_init (lev + 1) [.ref a0] σ Q := by
  refine CQ.of3 0 (lv := [some (va_rf (some a0))]) (by decide) (Nat.le_of_ble_eq_true rfl) (cat1_cons rfl cat1_nil) rfl ?_
  refine j_aload_n (r := some a0) dJ9_init_0 rfl ?_
  refine jg_callv (rest := []) (kg_lkI (As := []) (a := a0) kiJ8_init (Or.inl q427) rfl rfl dJ9_init_1) cwJ8_init (Nat.le_of_ble_eq_true rfl) rfl dJ9_init_1 (Nat.succ_le_succ (Nat.zero_le _)) (h.mono (onV_mono (fun t1 h hlt1 => ?_) (fun _ _ h => h)))
  replace h := h hlt1
  exact j_return rfl dJ9_init_4 h
theorem tJ10_init {G : GPl} {s0 : State} {l : Launch} {K : Nat → Option Nat} {T : Nat → Nat} {lev : Nat} {Q : Outcome → GSt → Prop} {a0 : Nat} {σ : GSt} (h : (CQ (wP G s0 l K T) mJ9_init lev (.ref a0 :: []) σ (onV (fun t1 => gle σ t1 → Q (.returned none) t1) (fun x t => gle σ t → Q (.threw x) t)))) : CQ (wP G s0 l K T) mJ10_init (lev + 1) [.ref a0] σ Q := by
  refine CQ.of3 0 (lv := [some (va_rf (some a0))]) (by decide) (Nat.le_of_ble_eq_true rfl) (cat1_cons rfl cat1_nil) rfl ?_
  refine j_aload_n (r := some a0) dJ10_init_0 rfl ?_
  refine jg_callv (rest := []) (kg_lkI (As := []) (a := a0) kiJ9_init (Or.inl q424) rfl rfl dJ10_init_1) cwJ9_init (Nat.le_of_ble_eq_true rfl) rfl dJ10_init_1 (Nat.succ_le_succ (Nat.zero_le _)) (h.mono (onV_mono (fun t1 h hlt1 => ?_) (fun _ _ h => h)))
  replace h := h hlt1
  exact j_return rfl dJ10_init_4 h
theorem tJ20_init {G : GPl} {s0 : State} {l : Launch} {K : Nat → Option Nat} {T : Nat → Nat} {lev : Nat} {Q : Outcome → GSt → Prop} {a0 : Nat} {σ : GSt} (h : (CQ (wP G s0 l K T) mJ9_init lev (.ref a0 :: []) σ (onV (fun t1 => gle σ t1 → Q (.returned none) t1) (fun x t => gle σ t → Q (.threw x) t)))) : CQ (wP G s0 l K T) mJ20_init (lev + 1) [.ref a0] σ Q := by
  refine CQ.of3 0 (lv := [some (va_rf (some a0))]) (by decide) (Nat.le_of_ble_eq_true rfl) (cat1_cons rfl cat1_nil) rfl ?_
  refine j_aload_n (r := some a0) dJ20_init_0 rfl ?_
  refine jg_callv (rest := []) (kg_lkI (As := []) (a := a0) kiJ9_init (Or.inl q1854) rfl rfl dJ20_init_1) cwJ9_init (Nat.le_of_ble_eq_true rfl) rfl dJ20_init_1 (Nat.succ_le_succ (Nat.zero_le _)) (h.mono (onV_mono (fun t1 h hlt1 => ?_) (fun _ _ h => h)))
  replace h := h hlt1
  exact j_return rfl dJ20_init_4 h
theorem tJ21_init {G : GPl} {s0 : State} {l : Launch} {K : Nat → Option Nat} {T : Nat → Nat} {lev : Nat} {Q : Outcome → GSt → Prop} {a0 : Nat} {σ : GSt} (h : (CQ (wP G s0 l K T) mJ9_init lev (.ref a0 :: []) σ (onV (fun t1 => gle σ t1 → Q (.returned none) t1) (fun x t => gle σ t → Q (.threw x) t)))) : CQ (wP G s0 l K T) mJ21_init (lev + 1) [.ref a0] σ Q := by
  refine CQ.of3 0 (lv := [some (va_rf (some a0))]) (by decide) (Nat.le_of_ble_eq_true rfl) (cat1_cons rfl cat1_nil) rfl ?_
  refine j_aload_n (r := some a0) dJ21_init_0 rfl ?_
  refine jg_callv (rest := []) (kg_lkI (As := []) (a := a0) kiJ9_init (Or.inl q1966) rfl rfl dJ21_init_1) cwJ9_init (Nat.le_of_ble_eq_true rfl) rfl dJ21_init_1 (Nat.succ_le_succ (Nat.zero_le _)) (h.mono (onV_mono (fun t1 h hlt1 => ?_) (fun _ _ h => h)))
  replace h := h hlt1
  exact j_return rfl dJ21_init_4 h
