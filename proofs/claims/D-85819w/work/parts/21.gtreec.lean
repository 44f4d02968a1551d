/-! trees (made by gen/geng.py) -/
set_option maxRecDepth 100000
theorem tX4_init {G : GPl} {s0 : State} {l : Launch} {K : Nat → Option Nat} {T : Nat → Nat} {lev : Nat} {Q : Outcome → GSt → Prop} {a0 : Nat} {x1 : Option Nat} {x2 : Option Nat} {σ : GSt} (h : (groom G 3 σ ∧ (CQ (wP G s0 l K T) mJ2_init lev (.ref (gn σ) :: []) (gmk 22 3 σ) (onV (fun t3 => gle (gmk 22 3 σ) t3 → (gk t3 a0 = 4 ∧ Q (.returned none) (gpr a0 1 x2 (gpr a0 0 x1 (gpr a0 2 (some (gn σ)) t3))))) (fun x t => gle (gmk 22 3 σ) t → Q (.threw x) t))))) : CQ (wP G s0 l K T) mX4_init (lev + 1) [.ref a0, va_rf x1, va_rf x2] σ Q := by
  refine CQ.of3 0 (lv := [some (va_rf (some a0)), some (va_rf x1), some (va_rf x2)]) (by decide) (Nat.le_of_ble_eq_true rfl) (cat1_cons rfl (cat1_cons (rf_cat _) (cat1_cons (rf_cat _) cat1_nil))) rfl ?_
  refine j_aload_n (r := some a0) dX4_init_0 rfl ?_
  refine jg_objI q261 q168 q169 (Nat.succ_le_succ (Nat.zero_le _)) (Nat.le_of_ble_eq_true rfl) dX4_init_1 ?_
  refine j_aload_n (r := some a0) dX4_init_4 rfl ?_
  obtain ⟨hg1, h⟩ := h
  refine jg_new (c := 21) (N := 3) (C := "java/util/ArrayList") (by decide) ⟨rfl, rfl⟩ q262 q263 q119 hg1 dX4_init_5 ?_
  have hk2 := gk_new (t := 22) (n := 3) hg1.2.2
  refine j_dup dX4_init_8 rfl ?_
  refine jg_callv (rest := [va_rf (some (gn σ)), va_rf (some a0)]) (kg_lkI (As := []) (a := (gn σ)) kiJ2_init (Or.inl q264) rfl rfl dX4_init_9) cwJ2_init (Nat.le_of_ble_eq_true rfl) rfl dX4_init_9 (Nat.succ_le_succ (Nat.zero_le _)) (h.mono (onV_mono (fun t3 h hlt3 => ?_) (fun _ _ h => h)))
  replace h := h hlt3
  replace hk2 := hlt3.tag hk2 (by decide)
  obtain ⟨hk5, h⟩ := h
  refine kg_putr (a := a0) (x := some (gn σ)) rfl gfX4_12 (Or.inr ⟨rfl, rfl⟩) hk5 (Or.inl (by decide)) dX4_init_12 ?_
  refine j_aload_n (r := some a0) dX4_init_15 rfl ?_
  refine j_aload_n (r := x1) dX4_init_16 rfl ?_
  refine kg_putr (a := a0) (x := x1) rfl gfX4_18 (Or.inr ⟨rfl, rfl⟩) hk5 (Or.inl (by decide)) dX4_init_17 ?_
  refine j_aload_n (r := some a0) dX4_init_20 rfl ?_
  refine j_aload_n (r := x2) dX4_init_21 rfl ?_
  refine kg_putr (a := a0) (x := x2) rfl gfX4_22 (Or.inr ⟨rfl, rfl⟩) hk5 (Or.inl (by decide)) dX4_init_22 ?_
  exact j_return rfl dX4_init_25 h
abbrev jX4_find_10 (G : GPl) (s0 : State) (l : Launch) (K : Nat → Option Nat) (T : Nat → Nat) (lev : Nat) (st0 : GSt) (Q : Outcome → GSt → Prop) (a0 : Nat) (x1 : Option Nat) (x2 : Int32) (σ : GSt) : Prop := JQ (wP G s0 l K T) mX4_find (lev + 1) st0 10 [some (va_rf (some a0)), some (va_rf x1), some (.int x2)] [] σ Q
theorem tX4_find {G : GPl} {s0 : State} {l : Launch} {K : Nat → Option Nat} {T : Nat → Nat} {lev : Nat} {Q : Outcome → GSt → Prop} {a0 : Nat} {x1 : Option Nat} {σ : GSt} (h : (gk σ a0 = 4 ∧ (∃ a2, gr σ a0 2 = some a2 ∧ (gk σ a2 = 22 ∧ (CQ (wP G s0 l K T) mJ2_size lev (.ref a2 :: []) σ (onI (fun r5 t4 => gle σ t4 → jX4_find_10 G s0 l K T lev σ Q a0 x1 (r5 - (iI 1)) t4) (fun x t => gle σ t → Q (.threw x) t))))))) : CQ (wP G s0 l K T) mX4_find (lev + 1) [.ref a0, va_rf x1] σ Q := by
  refine CQ.of3 1 (lv := [some (va_rf (some a0)), some (va_rf x1), none]) (by decide) (Nat.le_of_ble_eq_true rfl) (cat1_cons rfl (cat1_cons (rf_cat _) cat1_nil)) rfl ?_
  refine j_aload_n (r := some a0) dX4_find_0 rfl ?_
  obtain ⟨hk1, h⟩ := h
  refine kg_getr (a := a0) (j := 2) rfl gfX4_12 hk1 dX4_find_1 ?_
  obtain ⟨a2, ea2, hk3, h⟩ := h
  refine jg_calli (rest := []) (kg_lkV (As := []) (a := a2) (c := 21) kgJ2_size_21 (by decide) rfl hk3 q1372 rfl (by rw [ea2]; rfl) dX4_find_4) cwJ2_size (Nat.le_of_ble_eq_true rfl) rfl dX4_find_4 (Nat.succ_le_succ (Nat.zero_le _)) (h.mono (onI_mono (fun r5 t4 h hlt4 => ?_) (fun _ _ h => h)))
  replace h := h hlt4
  replace hk1 := hlt4.tag hk1 (by decide)
  replace hk3 := hlt4.tag hk3 (by decide)
  refine j_iconst (v := iI 1) dX4_find_7 rfl ?_
  refine j_isub dX4_find_8 ?_
  refine j_istore_n (lv' := [some (va_rf (some a0)), some (va_rf x1), some (.int (r5 - (iI 1)))]) dX4_find_9 (by decide) rfl ?_
  exact h
theorem tX4_find_10 {G : GPl} {s0 : State} {l : Launch} {K : Nat → Option Nat} {T : Nat → Nat} {lev : Nat} {st0 : GSt} {Q : Outcome → GSt → Prop} {a0 : Nat} {x1 : Option Nat} {x2 : Int32} {σ : GSt} (h : ((x2 < 0 → Q (.returned (some (va_rf none))) σ) ∧ (¬ x2 < 0 → (gk σ a0 = 4 ∧ (∃ a2, gr σ a0 2 = some a2 ∧ (gk σ a2 = 22 ∧ (CQ (wP G s0 l K T) mJ2_get lev (.ref a2 :: [.int x2]) σ (onR (fun r5 t4 => gle σ t4 → (inT t4 r5 [21] ∧ (∃ a7, r5 = some a7 ∧ (gk t4 a7 = 21 ∧ (∃ a9, gr t4 a7 0 = some a9 ∧ (gk t4 a9 = 23 ∧ (CQ (wP G s0 l K T) mJ3_equals lev (.ref a9 :: [va_rf x1]) t4 (onI (fun r12 t11 => gle t4 t11 → ((r12 = 0 → jX4_find_10 G s0 l K T lev st0 Q a0 x1 (x2 + iI (-1)) t11) ∧ (¬ r12 = 0 → (∃ a13, gr t11 a0 2 = some a13 ∧ (gk t11 a13 = 22 ∧ (CQ (wP G s0 l K T) mJ2_get lev (.ref a13 :: [.int x2]) t11 (onR (fun r16 t15 => gle t11 t15 → (inT t15 r16 [21] ∧ Q (.returned (some (va_rf r16))) t15)) (fun x t => gle t11 t → Q (.threw x) t)))))))) (fun x t => gle t4 t → Q (.threw x) t))))))))) (fun x t => gle σ t → Q (.threw x) t))))))))) : jX4_find_10 G s0 l K T lev st0 Q a0 x1 x2 σ := by
  refine j_iload_n dX4_find_10 rfl ?_
  refine j_if_lt 53 dX4_find_11 (by decide) (fun c19 => ?_) (fun c19 => ?_)
  · replace h := h.1 c19
    refine j_null dX4_find_53 ?_
    exact j_areturn (r := none) rfl (Or.inl ⟨_, rfl⟩) dX4_find_54 h
  · replace h := h.2 c19
    refine j_aload_n (r := some a0) dX4_find_14 rfl ?_
    obtain ⟨hk1, h⟩ := h
    refine kg_getr (a := a0) (j := 2) rfl gfX4_12 hk1 dX4_find_15 ?_
    refine j_iload_n dX4_find_18 rfl ?_
    obtain ⟨a2, ea2, hk3, h⟩ := h
    refine jg_callr (rest := []) (kg_lkV (As := [.int x2]) (a := a2) (c := 21) kgJ2_get_21 (by decide) rfl hk3 q1373 rfl (by rw [ea2]; rfl) dX4_find_19) cwJ2_get (Nat.le_of_ble_eq_true rfl) rfl dX4_find_19 (Nat.succ_le_succ (Nat.zero_le _)) (h.mono (onR_mono (fun r5 t4 h hlt4 => ?_) (fun _ _ h => h)))
    replace h := h hlt4
    replace hk1 := hlt4.tag hk1 (by decide)
    replace hk3 := hlt4.tag hk3 (by decide)
    obtain ⟨hc6, h⟩ := h
    refine jg_cast (r := r5) cs_PureHouse_Name q1374 hc6 dX4_find_22 ?_
    obtain ⟨a7, ea7, hk8, h⟩ := h
    refine kg_getr (a := a7) (j := 0) ea7 gfX4_36 hk8 dX4_find_25 ?_
    refine j_aload_n (r := x1) dX4_find_28 rfl ?_
    obtain ⟨a9, ea9, hk10, h⟩ := h
    refine jg_calli (rest := []) (kg_lkV (As := [va_rf x1]) (a := a9) (c := 22) kgJ3_equals_22 (by decide) rfl hk10 q1375 rfl (by rw [ea9]; rfl) dX4_find_29) cwJ3_equals (Nat.le_of_ble_eq_true rfl) rfl dX4_find_29 (Nat.succ_le_succ (Nat.zero_le _)) (h.mono (onI_mono (fun r12 t11 h hlt11 => ?_) (fun _ _ h => h)))
    replace h := h hlt11
    replace hk1 := hlt11.tag hk1 (by decide)
    replace hk3 := hlt11.tag hk3 (by decide)
    replace hk8 := hlt11.tag hk8 (by decide)
    replace hk10 := hlt11.tag hk10 (by decide)
    refine j_if_eq 47 dX4_find_32 (by decide) (fun c18 => ?_) (fun c18 => ?_)
    · replace h := h.1 c18
      refine j_iinc (lv' := [some (va_rf (some a0)), some (va_rf x1), some (.int (x2 + iI (-1)))]) dX4_find_47 rfl (by decide) rfl ?_
      refine j_goto 10 dX4_find_50 (by decide) ?_
      exact h
    · replace h := h.2 c18
      refine j_aload_n (r := some a0) dX4_find_35 rfl ?_
      refine kg_getr (a := a0) (j := 2) rfl gfX4_12 hk1 dX4_find_36 ?_
      refine j_iload_n dX4_find_39 rfl ?_
      obtain ⟨a13, ea13, hk14, h⟩ := h
      refine jg_callr (rest := []) (kg_lkV (As := [.int x2]) (a := a13) (c := 21) kgJ2_get_21 (by decide) rfl hk14 q1373 rfl (by rw [ea13]; rfl) dX4_find_40) cwJ2_get (Nat.le_of_ble_eq_true rfl) rfl dX4_find_40 (Nat.succ_le_succ (Nat.zero_le _)) (h.mono (onR_mono (fun r16 t15 h hlt15 => ?_) (fun _ _ h => h)))
      replace h := h hlt15
      replace hk1 := hlt15.tag hk1 (by decide)
      replace hk3 := hlt15.tag hk3 (by decide)
      replace hk8 := hlt15.tag hk8 (by decide)
      replace hk10 := hlt15.tag hk10 (by decide)
      replace hk14 := hlt15.tag hk14 (by decide)
      obtain ⟨hc17, h⟩ := h
      refine jg_cast (r := r16) cs_PureHouse_Name q1374 hc17 dX4_find_43 ?_
      exact j_areturn (r := r16) rfl (Or.inl ⟨_, rfl⟩) dX4_find_46 h
abbrev jX4_typeSort_36 (G : GPl) (s0 : State) (l : Launch) (K : Nat → Option Nat) (T : Nat → Nat) (lev : Nat) (st0 : GSt) (Q : Outcome → GSt → Prop) (a0 : Nat) (x1 : Option Nat) (x2 : Option Nat) (x4 : Option Nat) (σ : GSt) : Prop := JQ (wP G s0 l K T) mX4_typeSort (lev + 1) st0 36 [some (va_rf (some a0)), some (va_rf x1), some (va_rf x2), none, some (va_rf x4)] [] σ Q
theorem tX4_typeSort {G : GPl} {s0 : State} {l : Launch} {K : Nat → Option Nat} {T : Nat → Nat} {lev : Nat} {Q : Outcome → GSt → Prop} {a0 : Nat} {x1 : Option Nat} {x2 : Option Nat} {σ : GSt} (h : (gk σ a0 = 4 ∧ (CQ (wP G s0 l K T) mX4_judge lev (.ref a0 :: [va_rf x1, va_rf x2]) σ (onV (fun t2 => gle σ t2 → (CQ (wP G s0 l K T) mX4_found lev (.ref a0 :: []) t2 (onR (fun r5 t4 => gle t2 t4 → (∃ a6, r5 = some a6 ∧ (gk t4 a6 = 14 ∧ (∃ a8, gr t4 a6 0 = some a8 ∧ (isTmA t4 a8 ∧ ((isA t4 (gr t4 a6 0) 12 → ((gr t4 a8 3 = none → Q (.returned (some (.int (gi t4 a8 4)))) t4) ∧ (∀ a12, gr t4 a8 3 = some a12 → jX4_typeSort_36 G s0 l K T lev σ Q a0 x1 x2 (gr t4 a6 0) t4))) ∧ (¬ isA t4 (gr t4 a6 0) 12 → jX4_typeSort_36 G s0 l K T lev σ Q a0 x1 x2 (gr t4 a6 0) t4))))))) (fun x t => gle t2 t → Q (.threw x) t)))) (fun x t => gle σ t → Q (.threw x) t))))) : CQ (wP G s0 l K T) mX4_typeSort (lev + 1) [.ref a0, va_rf x1, va_rf x2] σ Q := by
  refine CQ.of3 2 (lv := [some (va_rf (some a0)), some (va_rf x1), some (va_rf x2), none, none]) (by decide) (Nat.le_of_ble_eq_true rfl) (cat1_cons rfl (cat1_cons (rf_cat _) (cat1_cons (rf_cat _) cat1_nil))) rfl ?_
  refine j_aload_n (r := some a0) dX4_typeSort_0 rfl ?_
  refine j_aload_n (r := x1) dX4_typeSort_1 rfl ?_
  refine j_aload_n (r := x2) dX4_typeSort_2 rfl ?_
  obtain ⟨hk1, h⟩ := h
  refine jg_callv (rest := []) (kg_lkV (As := [va_rf x1, va_rf x2]) (a := a0) (c := 3) kgX4_judge_3 (by decide) rfl hk1 q1380 rfl rfl dX4_typeSort_3) cwX4_judge (Nat.le_of_ble_eq_true rfl) rfl dX4_typeSort_3 (Nat.succ_le_succ (Nat.zero_le _)) (h.mono (onV_mono (fun t2 h hlt2 => ?_) (fun _ _ h => h)))
  replace h := h hlt2
  replace hk1 := hlt2.tag hk1 (by decide)
  refine j_aload_n (r := some a0) dX4_typeSort_6 rfl ?_
  refine jg_callr (rest := []) (kg_lkV (As := []) (a := a0) (c := 3) kgX4_found_3 (by decide) rfl hk1 q1691 rfl rfl dX4_typeSort_7) cwX4_found (Nat.le_of_ble_eq_true rfl) rfl dX4_typeSort_7 (Nat.succ_le_succ (Nat.zero_le _)) (h.mono (onR_mono (fun r5 t4 h hlt4 => ?_) (fun _ _ h => h)))
  replace h := h hlt4
  replace hk1 := hlt4.tag hk1 (by decide)
  obtain ⟨a6, ea6, hk7, h⟩ := h
  refine kg_getr (a := a6) (j := 0) ea6 gfX4_185 hk7 dX4_typeSort_10 ?_
  refine j_astore (r := gr t4 a6 0) (lv' := [some (va_rf (some a0)), some (va_rf x1), some (va_rf x2), none, some (va_rf (gr t4 a6 0))]) dX4_typeSort_13 (by decide) rfl ?_
  refine j_aload (r := gr t4 a6 0) dX4_typeSort_15 rfl ?_
  obtain ⟨a8, ea8, hm9, h⟩ := h
  refine jg_inst (r := gr t4 a6 0) 11 (by decide) q1393 (isTmA.tm (a := a8) hm9 ea8) dX4_typeSort_17 (fun c10 => ?_) (fun c10 => ?_)
  · replace h := h.1 c10
    have hk11 := isA.tag c10 ea8
    refine j_if_eq 36 dX4_typeSort_20 (by decide) (fun q_ => absurd q_ (by decide)) (fun _ => ?_)
    refine j_aload (r := gr t4 a6 0) dX4_typeSort_23 rfl ?_
    refine jg_cast (r := gr t4 a6 0) cs_PureHouse_Free q1393 (Or.inr ⟨a8, ea8, by rw [hk11]; decide⟩) dX4_typeSort_25 ?_
    refine j_astore_n (r := gr t4 a6 0) (lv' := [some (va_rf (some a0)), some (va_rf x1), some (va_rf x2), some (va_rf (gr t4 a6 0)), some (va_rf (gr t4 a6 0))]) dX4_typeSort_28 (by decide) rfl ?_
    refine j_aload_n (r := gr t4 a6 0) dX4_typeSort_29 rfl ?_
    refine kg_getr (a := a8) (j := 3) ea8 gfX4_156 hk11 dX4_typeSort_30 ?_
    refine j_ifnull (r := gr t4 a8 3) 50 dX4_typeSort_33 (by decide) (fun ea12 => ?_) (fun a12 ea12 => ?_)
    · replace h := h.1 ea12
      refine j_aload_n (r := gr t4 a6 0) dX4_typeSort_50 rfl ?_
      refine kg_geti (a := a8) (j := 4) ea8 gfX4_69 (by decide) hk11 dX4_typeSort_51 ?_
      exact j_ireturn (ty := .int) rfl rfl dX4_typeSort_54 h
    · replace h := h.2 a12 ea12
      exact j_mask [true, true, true, false, true] rfl h
  · replace h := h.2 c10
    refine j_if_eq 36 dX4_typeSort_20 (by decide) (fun _ => ?_) (fun q_ => absurd (by decide) q_)
    exact h
theorem tX4_typeSort_36 {G : GPl} {s0 : State} {l : Launch} {K : Nat → Option Nat} {T : Nat → Nat} {lev : Nat} {st0 : GSt} {Q : Outcome → GSt → Prop} {a0 : Nat} {x1 : Option Nat} {x2 : Option Nat} {x4 : Option Nat} {σ : GSt} (h : (groom G 8 σ ∧ (∃ a3, x1 = some a3 ∧ (isTmA (gmk 7 8 σ) a3 ∧ (CQ (wP G s0 l K T) mX8_init lev (.ref (gn σ) :: [.int (iI 8), .int (gi (gmk 7 8 σ) a3 1)]) (gmk 7 8 σ) (onV (fun t5 => gle (gmk 7 8 σ) t5 → Q (.threw (gn σ)) t5) (fun x t => gle (gmk 7 8 σ) t → Q (.threw x) t))))))) : jX4_typeSort_36 G s0 l K T lev st0 Q a0 x1 x2 x4 σ := by
  obtain ⟨hg1, h⟩ := h
  refine jg_new (c := 6) (N := 8) (C := "PureHouse$Fault") (by decide) ⟨rfl, rfl⟩ q1400 q989 q143 hg1 dX4_typeSort_36 ?_
  have hk2 := gk_new (t := 7) (n := 8) hg1.2.2
  refine j_dup dX4_typeSort_39 rfl ?_
  refine j_bipush (v := iI 8) dX4_typeSort_40 rfl ?_
  refine j_aload_n (r := x1) dX4_typeSort_42 rfl ?_
  obtain ⟨a3, ea3, hm4, h⟩ := h
  refine kg_getT (j := 1) (a := a3) (by decide) ea3 flX4_188 hm4 dX4_typeSort_43 ?_
  refine jg_callv (rest := [va_rf (some (gn σ))]) (kg_lkI (As := [.int (iI 8), .int (gi (gmk 7 8 σ) a3 1)]) (a := (gn σ)) kiX8_init (Or.inl q1401) rfl rfl dX4_typeSort_46) cwX8_init (Nat.le_of_ble_eq_true rfl) rfl dX4_typeSort_46 (Nat.succ_le_succ (Nat.zero_le _)) (h.mono (onV_mono (fun t5 h hlt5 => ?_) (fun _ _ h => h)))
  replace h := h hlt5
  replace hk2 := hlt5.tag hk2 (by decide)
  replace hm4 := hm4.le hlt5
  exact kg_athrow (a := (gn σ)) rfl rfl dX4_typeSort_49 h
theorem tX4_judge {G : GPl} {s0 : State} {l : Launch} {K : Nat → Option Nat} {T : Nat → Nat} {lev : Nat} {Q : Outcome → GSt → Prop} {a0 : Nat} {x1 : Option Nat} {x2 : Option Nat} {σ : GSt} (h : (∃ a1, x1 = some a1 ∧ (isTmA σ a1 ∧ ((isA σ x1 11 → (gk σ a0 = 4 ∧ (CQ (wP G s0 l K T) mX4_bound lev (.ref a0 :: [va_rf x1, va_rf x2]) σ (onV (fun t6 => gle σ t6 → Q (.returned none) t6) (fun x t => gle σ t → Q (.threw x) t))))) ∧ (¬ isA σ x1 11 → ((isA σ x1 12 → (gk σ a0 = 4 ∧ (CQ (wP G s0 l K T) mX4_free lev (.ref a0 :: [va_rf x1]) σ (onV (fun t11 => gle σ t11 → Q (.returned none) t11) (fun x t => gle σ t → Q (.threw x) t))))) ∧ (¬ isA σ x1 12 → ((isA σ x1 8 → (gk σ a0 = 4 ∧ (CQ (wP G s0 l K T) mX4_lambda lev (.ref a0 :: [va_rf x1, va_rf x2]) σ (onV (fun t16 => gle σ t16 → Q (.returned none) t16) (fun x t => gle σ t → Q (.threw x) t))))) ∧ (¬ isA σ x1 8 → ((isA σ x1 9 → (gk σ a0 = 4 ∧ (CQ (wP G s0 l K T) mX4_product lev (.ref a0 :: [va_rf x1, va_rf x2]) σ (onV (fun t21 => gle σ t21 → Q (.returned none) t21) (fun x t => gle σ t → Q (.threw x) t))))) ∧ (¬ isA σ x1 9 → ((isA σ x1 13 → (gk σ a0 = 4 ∧ (CQ (wP G s0 l K T) mX4_use lev (.ref a0 :: [va_rf x1, va_rf x2]) σ (onV (fun t26 => gle σ t26 → Q (.returned none) t26) (fun x t => gle σ t → Q (.threw x) t))))) ∧ (¬ isA σ x1 13 → ((isA σ x1 10 → (gk σ a0 = 4 ∧ (CQ (wP G s0 l K T) mX4_let lev (.ref a0 :: [va_rf x1, va_rf x2]) σ (onV (fun t31 => gle σ t31 → Q (.returned none) t31) (fun x t => gle σ t → Q (.threw x) t))))) ∧ (¬ isA σ x1 10 → Q (.returned none) σ))))))))))))))) : CQ (wP G s0 l K T) mX4_judge (lev + 1) [.ref a0, va_rf x1, va_rf x2] σ Q := by
  refine CQ.of3 6 (lv := [some (va_rf (some a0)), some (va_rf x1), some (va_rf x2), none, none, none, none, none, none]) (by decide) (Nat.le_of_ble_eq_true rfl) (cat1_cons rfl (cat1_cons (rf_cat _) (cat1_cons (rf_cat _) cat1_nil))) rfl ?_
  refine j_aload_n (r := x1) dX4_judge_0 rfl ?_
  obtain ⟨a1, ea1, hm2, h⟩ := h
  refine jg_inst (r := x1) 10 (by decide) q1384 (isTmA.tm (a := a1) hm2 ea1) dX4_judge_1 (fun c3 => ?_) (fun c3 => ?_)
  · replace h := h.1 c3
    have hk4 := isA.tag c3 ea1
    refine j_if_eq 21 dX4_judge_4 (by decide) (fun q_ => absurd q_ (by decide)) (fun _ => ?_)
    refine j_aload_n (r := x1) dX4_judge_7 rfl ?_
    refine jg_cast (r := x1) cs_PureHouse_Bound q1384 (Or.inr ⟨a1, ea1, by rw [hk4]; decide⟩) dX4_judge_8 ?_
    refine j_astore_n (r := x1) (lv' := [some (va_rf (some a0)), some (va_rf x1), some (va_rf x2), some (va_rf x1), none, none, none, none, none]) dX4_judge_11 (by decide) rfl ?_
    refine j_aload_n (r := some a0) dX4_judge_12 rfl ?_
    refine j_aload_n (r := x1) dX4_judge_13 rfl ?_
    refine j_aload_n (r := x2) dX4_judge_14 rfl ?_
    obtain ⟨hk5, h⟩ := h
    refine jg_callv (rest := []) (kg_lkV (As := [va_rf x1, va_rf x2]) (a := a0) (c := 3) kgX4_bound_3 (by decide) rfl hk5 q1385 rfl rfl dX4_judge_15) cwX4_bound (Nat.le_of_ble_eq_true rfl) rfl dX4_judge_15 (Nat.succ_le_succ (Nat.zero_le _)) (h.mono (onV_mono (fun t6 h hlt6 => ?_) (fun _ _ h => h)))
    replace h := h hlt6
    replace hk4 := hlt6.tag hk4 (by decide)
    replace hk5 := hlt6.tag hk5 (by decide)
    replace hm2 := hm2.le hlt6
    refine j_goto 132 dX4_judge_18 (by decide) ?_
    exact j_return rfl dX4_judge_132 h
  · replace h := h.2 c3
    refine j_if_eq 21 dX4_judge_4 (by decide) (fun _ => ?_) (fun q_ => absurd (by decide) q_)
    refine j_aload_n (r := x1) dX4_judge_21 rfl ?_
    refine jg_inst (r := x1) 11 (by decide) q1393 (isTmA.tm (a := a1) hm2 ea1) dX4_judge_22 (fun c8 => ?_) (fun c8 => ?_)
    · replace h := h.1 c8
      have hk9 := isA.tag c8 ea1
      refine j_if_eq 43 dX4_judge_25 (by decide) (fun q_ => absurd q_ (by decide)) (fun _ => ?_)
      refine j_aload_n (r := x1) dX4_judge_28 rfl ?_
      refine jg_cast (r := x1) cs_PureHouse_Free q1393 (Or.inr ⟨a1, ea1, by rw [hk9]; decide⟩) dX4_judge_29 ?_
      refine j_astore (r := x1) (lv' := [some (va_rf (some a0)), some (va_rf x1), some (va_rf x2), none, some (va_rf x1), none, none, none, none]) dX4_judge_32 (by decide) rfl ?_
      refine j_aload_n (r := some a0) dX4_judge_34 rfl ?_
      refine j_aload (r := x1) dX4_judge_35 rfl ?_
      obtain ⟨hk10, h⟩ := h
      refine jg_callv (rest := []) (kg_lkV (As := [va_rf x1]) (a := a0) (c := 3) kgX4_free_3 (by decide) rfl hk10 q1394 rfl rfl dX4_judge_37) cwX4_free (Nat.le_of_ble_eq_true rfl) rfl dX4_judge_37 (Nat.succ_le_succ (Nat.zero_le _)) (h.mono (onV_mono (fun t11 h hlt11 => ?_) (fun _ _ h => h)))
      replace h := h hlt11
      replace hk9 := hlt11.tag hk9 (by decide)
      replace hk10 := hlt11.tag hk10 (by decide)
      replace hm2 := hm2.le hlt11
      refine j_goto 132 dX4_judge_40 (by decide) ?_
      exact j_return rfl dX4_judge_132 h
    · replace h := h.2 c8
      refine j_if_eq 43 dX4_judge_25 (by decide) (fun _ => ?_) (fun q_ => absurd (by decide) q_)
      refine j_aload_n (r := x1) dX4_judge_43 rfl ?_
      refine jg_inst (r := x1) 7 (by decide) q1415 (isTmA.tm (a := a1) hm2 ea1) dX4_judge_44 (fun c13 => ?_) (fun c13 => ?_)
      · replace h := h.1 c13
        have hk14 := isA.tag c13 ea1
        refine j_if_eq 66 dX4_judge_47 (by decide) (fun q_ => absurd q_ (by decide)) (fun _ => ?_)
        refine j_aload_n (r := x1) dX4_judge_50 rfl ?_
        refine jg_cast (r := x1) cs_PureHouse_Lambda q1415 (Or.inr ⟨a1, ea1, by rw [hk14]; decide⟩) dX4_judge_51 ?_
        refine j_astore (r := x1) (lv' := [some (va_rf (some a0)), some (va_rf x1), some (va_rf x2), none, none, some (va_rf x1), none, none, none]) dX4_judge_54 (by decide) rfl ?_
        refine j_aload_n (r := some a0) dX4_judge_56 rfl ?_
        refine j_aload (r := x1) dX4_judge_57 rfl ?_
        refine j_aload_n (r := x2) dX4_judge_59 rfl ?_
        obtain ⟨hk15, h⟩ := h
        refine jg_callv (rest := []) (kg_lkV (As := [va_rf x1, va_rf x2]) (a := a0) (c := 3) kgX4_lambda_3 (by decide) rfl hk15 q1416 rfl rfl dX4_judge_60) cwX4_lambda (Nat.le_of_ble_eq_true rfl) rfl dX4_judge_60 (Nat.succ_le_succ (Nat.zero_le _)) (h.mono (onV_mono (fun t16 h hlt16 => ?_) (fun _ _ h => h)))
        replace h := h hlt16
        replace hk14 := hlt16.tag hk14 (by decide)
        replace hk15 := hlt16.tag hk15 (by decide)
        replace hm2 := hm2.le hlt16
        refine j_goto 132 dX4_judge_63 (by decide) ?_
        exact j_return rfl dX4_judge_132 h
      · replace h := h.2 c13
        refine j_if_eq 66 dX4_judge_47 (by decide) (fun _ => ?_) (fun q_ => absurd (by decide) q_)
        refine j_aload_n (r := x1) dX4_judge_66 rfl ?_
        refine jg_inst (r := x1) 8 (by decide) q1421 (isTmA.tm (a := a1) hm2 ea1) dX4_judge_67 (fun c18 => ?_) (fun c18 => ?_)
        · replace h := h.1 c18
          have hk19 := isA.tag c18 ea1
          refine j_if_eq 89 dX4_judge_70 (by decide) (fun q_ => absurd q_ (by decide)) (fun _ => ?_)
          refine j_aload_n (r := x1) dX4_judge_73 rfl ?_
          refine jg_cast (r := x1) cs_PureHouse_Product q1421 (Or.inr ⟨a1, ea1, by rw [hk19]; decide⟩) dX4_judge_74 ?_
          refine j_astore (r := x1) (lv' := [some (va_rf (some a0)), some (va_rf x1), some (va_rf x2), none, none, none, some (va_rf x1), none, none]) dX4_judge_77 (by decide) rfl ?_
          refine j_aload_n (r := some a0) dX4_judge_79 rfl ?_
          refine j_aload (r := x1) dX4_judge_80 rfl ?_
          refine j_aload_n (r := x2) dX4_judge_82 rfl ?_
          obtain ⟨hk20, h⟩ := h
          refine jg_callv (rest := []) (kg_lkV (As := [va_rf x1, va_rf x2]) (a := a0) (c := 3) kgX4_product_3 (by decide) rfl hk20 q1682 rfl rfl dX4_judge_83) cwX4_product (Nat.le_of_ble_eq_true rfl) rfl dX4_judge_83 (Nat.succ_le_succ (Nat.zero_le _)) (h.mono (onV_mono (fun t21 h hlt21 => ?_) (fun _ _ h => h)))
          replace h := h hlt21
          replace hk19 := hlt21.tag hk19 (by decide)
          replace hk20 := hlt21.tag hk20 (by decide)
          replace hm2 := hm2.le hlt21
          refine j_goto 132 dX4_judge_86 (by decide) ?_
          exact j_return rfl dX4_judge_132 h
        · replace h := h.2 c18
          refine j_if_eq 89 dX4_judge_70 (by decide) (fun _ => ?_) (fun q_ => absurd (by decide) q_)
          refine j_aload_n (r := x1) dX4_judge_89 rfl ?_
          refine jg_inst (r := x1) 12 (by decide) q1686 (isTmA.tm (a := a1) hm2 ea1) dX4_judge_90 (fun c23 => ?_) (fun c23 => ?_)
          · replace h := h.1 c23
            have hk24 := isA.tag c23 ea1
            refine j_if_eq 112 dX4_judge_93 (by decide) (fun q_ => absurd q_ (by decide)) (fun _ => ?_)
            refine j_aload_n (r := x1) dX4_judge_96 rfl ?_
            refine jg_cast (r := x1) cs_PureHouse_Use q1686 (Or.inr ⟨a1, ea1, by rw [hk24]; decide⟩) dX4_judge_97 ?_
            refine j_astore (r := x1) (lv' := [some (va_rf (some a0)), some (va_rf x1), some (va_rf x2), none, none, none, none, some (va_rf x1), none]) dX4_judge_100 (by decide) rfl ?_
            refine j_aload_n (r := some a0) dX4_judge_102 rfl ?_
            refine j_aload (r := x1) dX4_judge_103 rfl ?_
            refine j_aload_n (r := x2) dX4_judge_105 rfl ?_
            obtain ⟨hk25, h⟩ := h
            refine jg_callv (rest := []) (kg_lkV (As := [va_rf x1, va_rf x2]) (a := a0) (c := 3) kgX4_use_3 (by decide) rfl hk25 q1687 rfl rfl dX4_judge_106) cwX4_use (Nat.le_of_ble_eq_true rfl) rfl dX4_judge_106 (Nat.succ_le_succ (Nat.zero_le _)) (h.mono (onV_mono (fun t26 h hlt26 => ?_) (fun _ _ h => h)))
            replace h := h hlt26
            replace hk24 := hlt26.tag hk24 (by decide)
            replace hk25 := hlt26.tag hk25 (by decide)
            replace hm2 := hm2.le hlt26
            refine j_goto 132 dX4_judge_109 (by decide) ?_
            exact j_return rfl dX4_judge_132 h
          · replace h := h.2 c23
            refine j_if_eq 112 dX4_judge_93 (by decide) (fun _ => ?_) (fun q_ => absurd (by decide) q_)
            refine j_aload_n (r := x1) dX4_judge_112 rfl ?_
            refine jg_inst (r := x1) 9 (by decide) q1721 (isTmA.tm (a := a1) hm2 ea1) dX4_judge_113 (fun c28 => ?_) (fun c28 => ?_)
            · replace h := h.1 c28
              have hk29 := isA.tag c28 ea1
              refine j_if_eq 132 dX4_judge_116 (by decide) (fun q_ => absurd q_ (by decide)) (fun _ => ?_)
              refine j_aload_n (r := x1) dX4_judge_119 rfl ?_
              refine jg_cast (r := x1) cs_PureHouse_Let q1721 (Or.inr ⟨a1, ea1, by rw [hk29]; decide⟩) dX4_judge_120 ?_
              refine j_astore (r := x1) (lv' := [some (va_rf (some a0)), some (va_rf x1), some (va_rf x2), none, none, none, none, none, some (va_rf x1)]) dX4_judge_123 (by decide) rfl ?_
              refine j_aload_n (r := some a0) dX4_judge_125 rfl ?_
              refine j_aload (r := x1) dX4_judge_126 rfl ?_
              refine j_aload_n (r := x2) dX4_judge_128 rfl ?_
              obtain ⟨hk30, h⟩ := h
              refine jg_callv (rest := []) (kg_lkV (As := [va_rf x1, va_rf x2]) (a := a0) (c := 3) kgX4_let_3 (by decide) rfl hk30 q1722 rfl rfl dX4_judge_129) cwX4_let (Nat.le_of_ble_eq_true rfl) rfl dX4_judge_129 (Nat.succ_le_succ (Nat.zero_le _)) (h.mono (onV_mono (fun t31 h hlt31 => ?_) (fun _ _ h => h)))
              replace h := h hlt31
              replace hk29 := hlt31.tag hk29 (by decide)
              replace hk30 := hlt31.tag hk30 (by decide)
              replace hm2 := hm2.le hlt31
              exact j_return rfl dX4_judge_132 h
            · replace h := h.2 c28
              refine j_if_eq 132 dX4_judge_116 (by decide) (fun _ => ?_) (fun q_ => absurd (by decide) q_)
              exact j_return rfl dX4_judge_132 h
abbrev jX4_bound_5 (G : GPl) (s0 : State) (l : Launch) (K : Nat → Option Nat) (T : Nat → Nat) (lev : Nat) (st0 : GSt) (Q : Outcome → GSt → Prop) (a0 : Nat) (x1 : Option Nat) (x2 : Option Nat) (x3 : Option Nat) (x4 : Int32) (σ : GSt) : Prop := JQ (wP G s0 l K T) mX4_bound (lev + 1) st0 5 [some (va_rf (some a0)), some (va_rf x1), some (va_rf x2), some (va_rf x3), some (.int x4)] [] σ Q
theorem tX4_bound {G : GPl} {s0 : State} {l : Launch} {K : Nat → Option Nat} {T : Nat → Nat} {lev : Nat} {Q : Outcome → GSt → Prop} {a0 : Nat} {x1 : Option Nat} {x2 : Option Nat} {σ : GSt} (h : jX4_bound_5 G s0 l K T lev σ Q a0 x1 x2 x2 (iI 0) σ) : CQ (wP G s0 l K T) mX4_bound (lev + 1) [.ref a0, va_rf x1, va_rf x2] σ Q := by
  refine CQ.of3 2 (lv := [some (va_rf (some a0)), some (va_rf x1), some (va_rf x2), none, none]) (by decide) (Nat.le_of_ble_eq_true rfl) (cat1_cons rfl (cat1_cons (rf_cat _) (cat1_cons (rf_cat _) cat1_nil))) rfl ?_
  refine j_aload_n (r := x2) dX4_bound_0 rfl ?_
  refine j_astore_n (r := x2) (lv' := [some (va_rf (some a0)), some (va_rf x1), some (va_rf x2), some (va_rf x2), none]) dX4_bound_1 (by decide) rfl ?_
  refine j_iconst (v := iI 0) dX4_bound_2 rfl ?_
  refine j_istore (lv' := [some (va_rf (some a0)), some (va_rf x1), some (va_rf x2), some (va_rf x2), some (.int (iI 0))]) dX4_bound_3 (by decide) rfl ?_
  exact h
theorem tX4_bound_5 {G : GPl} {s0 : State} {l : Launch} {K : Nat → Option Nat} {T : Nat → Nat} {lev : Nat} {st0 : GSt} {Q : Outcome → GSt → Prop} {a0 : Nat} {x1 : Option Nat} {x2 : Option Nat} {x3 : Option Nat} {x4 : Int32} {σ : GSt} (h : (∃ a1, x1 = some a1 ∧ (gk σ a1 = 11 ∧ (((gi σ a1 2) ≤ x4 → (∃ a3, x3 = some a3 ∧ (gk σ a3 = 15 ∧ (gk σ a0 = 4 ∧ (CQ (wP G s0 l K T) mX4_is lev (.ref a0 :: [va_rf (gr σ a3 1), va_rf (gr σ a3 2), .int (gi σ a3 3)]) σ (onV (fun t6 => gle σ t6 → Q (.returned none) t6) (fun x t => gle σ t → Q (.threw x) t))))))) ∧ (¬ (gi σ a1 2) ≤ x4 → (∃ a8, x3 = some a8 ∧ (gk σ a8 = 15 ∧ jX4_bound_5 G s0 l K T lev st0 Q a0 x1 x2 (gr σ a8 4) (x4 + iI 1) σ))))))) : jX4_bound_5 G s0 l K T lev st0 Q a0 x1 x2 x3 x4 σ := by
  refine j_iload dX4_bound_5 rfl ?_
  refine j_aload_n (r := x1) dX4_bound_7 rfl ?_
  obtain ⟨a1, ea1, hk2, h⟩ := h
  refine kg_geti (a := a1) (j := 2) ea1 gfX4_140 (by decide) hk2 dX4_bound_8 ?_
  refine j_icmp_ge 25 dX4_bound_11 (by decide) (fun c10 => ?_) (fun c10 => ?_)
  · replace h := h.1 c10
    refine j_aload_n (r := some a0) dX4_bound_25 rfl ?_
    refine j_aload_n (r := x3) dX4_bound_26 rfl ?_
    obtain ⟨a3, ea3, hk4, h⟩ := h
    refine kg_getr (a := a3) (j := 1) ea3 gfX4_148 hk4 dX4_bound_27 ?_
    refine j_aload_n (r := x3) dX4_bound_30 rfl ?_
    refine kg_getr (a := a3) (j := 2) ea3 gfX4_149 hk4 dX4_bound_31 ?_
    refine j_aload_n (r := x3) dX4_bound_34 rfl ?_
    refine kg_geti (a := a3) (j := 3) ea3 gfX4_150 (by decide) hk4 dX4_bound_35 ?_
    obtain ⟨hk5, h⟩ := h
    refine jg_callv (rest := []) (kg_lkV (As := [va_rf (gr σ a3 1), va_rf (gr σ a3 2), .int (gi σ a3 3)]) (a := a0) (c := 3) kgX4_is_3 (by decide) rfl hk5 q1389 rfl rfl dX4_bound_38) cwX4_is (Nat.le_of_ble_eq_true rfl) rfl dX4_bound_38 (Nat.succ_le_succ (Nat.zero_le _)) (h.mono (onV_mono (fun t6 h hlt6 => ?_) (fun _ _ h => h)))
    replace h := h hlt6
    replace hk2 := hlt6.tag hk2 (by decide)
    replace hk4 := hlt6.tag hk4 (by decide)
    replace hk5 := hlt6.tag hk5 (by decide)
    exact j_return rfl dX4_bound_41 h
  · replace h := h.2 c10
    refine j_aload_n (r := x3) dX4_bound_14 rfl ?_
    obtain ⟨a8, ea8, hk9, h⟩ := h
    refine kg_getr (a := a8) (j := 4) ea8 gfX4_143 hk9 dX4_bound_15 ?_
    refine j_astore_n (r := gr σ a8 4) (lv' := [some (va_rf (some a0)), some (va_rf x1), some (va_rf x2), some (va_rf (gr σ a8 4)), some (.int x4)]) dX4_bound_18 (by decide) rfl ?_
    refine j_iinc (lv' := [some (va_rf (some a0)), some (va_rf x1), some (va_rf x2), some (va_rf (gr σ a8 4)), some (.int (x4 + iI 1))]) dX4_bound_19 rfl (by decide) rfl ?_
    refine j_goto 5 dX4_bound_22 (by decide) ?_
    exact h
theorem tX4_is {G : GPl} {s0 : State} {l : Launch} {K : Nat → Option Nat} {T : Nat → Nat} {lev : Nat} {Q : Outcome → GSt → Prop} {a0 : Nat} {x1 : Option Nat} {x2 : Option Nat} {x3 : Int32} {σ : GSt} (h : (gk σ a0 = 4 ∧ Q (.returned none) (gpi a0 5 x3 (gpr a0 4 x2 (gpr a0 3 x1 σ))))) : CQ (wP G s0 l K T) mX4_is (lev + 1) [.ref a0, va_rf x1, va_rf x2, .int x3] σ Q := by
  refine CQ.of3 0 (lv := [some (va_rf (some a0)), some (va_rf x1), some (va_rf x2), some (.int x3)]) (by decide) (Nat.le_of_ble_eq_true rfl) (cat1_cons rfl (cat1_cons (rf_cat _) (cat1_cons (rf_cat _) (cat1_cons rfl cat1_nil)))) rfl ?_
  refine j_aload_n (r := some a0) dX4_is_0 rfl ?_
  refine j_aload_n (r := x1) dX4_is_1 rfl ?_
  obtain ⟨hk1, h⟩ := h
  refine kg_putr (a := a0) (x := x1) rfl gfX4_46 (Or.inl rfl) hk1 (Or.inl (by decide)) dX4_is_2 ?_
  refine j_aload_n (r := some a0) dX4_is_5 rfl ?_
  refine j_aload_n (r := x2) dX4_is_6 rfl ?_
  refine kg_putr (a := a0) (x := x2) rfl gfX4_50 (Or.inl rfl) hk1 (Or.inl (by decide)) dX4_is_7 ?_
  refine j_aload_n (r := some a0) dX4_is_10 rfl ?_
  refine j_iload_n dX4_is_11 rfl ?_
  refine kg_puti (a := a0) rfl gfX4_54 (Or.inl rfl) hk1 (Or.inl (by decide)) dX4_is_12 ?_
  exact j_return rfl dX4_is_15 h
theorem tX4_free {G : GPl} {s0 : State} {l : Launch} {K : Nat → Option Nat} {T : Nat → Nat} {lev : Nat} {Q : Outcome → GSt → Prop} {a0 : Nat} {x1 : Option Nat} {σ : GSt} (h : (∃ a1, x1 = some a1 ∧ (gk σ a1 = 12 ∧ (gk σ a0 = 4 ∧ (CQ (wP G s0 l K T) mX4_find lev (.ref a0 :: [va_rf (gr σ a1 2)]) σ (onR (fun r5 t4 => gle σ t4 → ((gr (gpr a1 3 r5 t4) a1 3 = none → (∃ a7, gr (gpr a1 3 r5 t4) a0 0 = some a7 ∧ (gk (gpr a1 3 r5 t4) a7 = 2 ∧ (CQ (wP G s0 l K T) mX2_find lev (.ref a7 :: [va_rf (gr (gpr a1 3 r5 t4) a1 2)]) (gpr a1 3 r5 t4) (onI (fun r10 t9 => gle (gpr a1 3 r5 t4) t9 → (((gi (gpi a1 4 r10 t9) a1 4) = (iI (-1)) → (groom G 8 (gpi a1 4 r10 t9) ∧ (CQ (wP G s0 l K T) mX8_init lev (.ref (gn (gpi a1 4 r10 t9)) :: [.int (iI 3), .int (gi (gmk 7 8 (gpi a1 4 r10 t9)) a1 0)]) (gmk 7 8 (gpi a1 4 r10 t9)) (onV (fun t24 => gle (gmk 7 8 (gpi a1 4 r10 t9)) t24 → Q (.threw (gn (gpi a1 4 r10 t9))) t24) (fun x t => gle (gmk 7 8 (gpi a1 4 r10 t9)) t → Q (.threw x) t))))) ∧ (¬ (gi (gpi a1 4 r10 t9) a1 4) = (iI (-1)) → (∃ a11, gr (gpi a1 4 r10 t9) a0 0 = some a11 ∧ (gk (gpi a1 4 r10 t9) a11 = 2 ∧ (CQ (wP G s0 l K T) mX2_axiom lev (.ref a11 :: [.int (gi (gpi a1 4 r10 t9) a1 4)]) (gpi a1 4 r10 t9) (onI (fun r14 t13 => gle (gpi a1 4 r10 t9) t13 → ((r14 = (iI (-1)) → (groom G 8 t13 ∧ (CQ (wP G s0 l K T) mX8_init lev (.ref (gn t13) :: [.int (iI 7), .int (gi (gmk 7 8 t13) a1 0)]) (gmk 7 8 t13) (onV (fun t19 => gle (gmk 7 8 t13) t19 → Q (.threw (gn t13)) t19) (fun x t => gle (gmk 7 8 t13) t → Q (.threw x) t))))) ∧ (¬ r14 = (iI (-1)) → (CQ (wP G s0 l K T) mX4_isSort lev (.ref a0 :: [.int r14]) t13 (onV (fun t15 => gle t13 t15 → Q (.returned none) t15) (fun x t => gle t13 t → Q (.threw x) t)))))) (fun x t => gle (gpi a1 4 r10 t9) t → Q (.threw x) t)))))))) (fun x t => gle (gpr a1 3 r5 t4) t → Q (.threw x) t)))))) ∧ (∀ a6, gr (gpr a1 3 r5 t4) a1 3 = some a6 → (gk (gpr a1 3 r5 t4) a6 = 21 ∧ (CQ (wP G s0 l K T) mX4_is lev (.ref a0 :: [va_rf (gr (gpr a1 3 r5 t4) a6 1), va_rf none, .int (gi (gpr a1 3 r5 t4) a6 2)]) (gpr a1 3 r5 t4) (onV (fun t28 => gle (gpr a1 3 r5 t4) t28 → Q (.returned none) t28) (fun x t => gle (gpr a1 3 r5 t4) t → Q (.threw x) t))))))) (fun x t => gle σ t → Q (.threw x) t))))))) : CQ (wP G s0 l K T) mX4_free (lev + 1) [.ref a0, va_rf x1] σ Q := by
  refine CQ.of3 1 (lv := [some (va_rf (some a0)), some (va_rf x1), none]) (by decide) (Nat.le_of_ble_eq_true rfl) (cat1_cons rfl (cat1_cons (rf_cat _) cat1_nil)) rfl ?_
  refine j_aload_n (r := x1) dX4_free_0 rfl ?_
  refine j_aload_n (r := some a0) dX4_free_1 rfl ?_
  refine j_aload_n (r := x1) dX4_free_2 rfl ?_
  obtain ⟨a1, ea1, hk2, h⟩ := h
  refine kg_getr (a := a1) (j := 2) ea1 gfX4_151 hk2 dX4_free_3 ?_
  obtain ⟨hk3, h⟩ := h
  refine jg_callr (rest := [va_rf x1]) (kg_lkV (As := [va_rf (gr σ a1 2)]) (a := a0) (c := 3) kgX4_find_3 (by decide) rfl hk3 q1398 rfl rfl dX4_free_6) cwX4_find (rm_ok (cat1_cons (rf_cat _) cat1_nil) (Nat.le_of_ble_eq_true rfl)) rfl dX4_free_6 (Nat.succ_le_succ (Nat.zero_le _)) (h.mono (onR_mono (fun r5 t4 h hlt4 => ?_) (fun _ _ h => h)))
  replace h := h hlt4
  replace hk2 := hlt4.tag hk2 (by decide)
  replace hk3 := hlt4.tag hk3 (by decide)
  refine kg_putr (a := a1) (x := r5) ea1 gfX4_156 (Or.inl rfl) hk2 (Or.inl (by decide)) dX4_free_9 ?_
  refine j_aload_n (r := x1) dX4_free_12 rfl ?_
  refine kg_getr (a := a1) (j := 3) ea1 gfX4_156 hk2 dX4_free_13 ?_
  refine j_ifnull (r := gr (gpr a1 3 r5 t4) a1 3) 39 dX4_free_16 (by decide) (fun ea6 => ?_) (fun a6 ea6 => ?_)
  · replace h := h.1 ea6
    refine j_aload_n (r := x1) dX4_free_39 rfl ?_
    refine j_aload_n (r := some a0) dX4_free_40 rfl ?_
    refine kg_getr (a := a0) (j := 0) rfl gfX4_18 hk3 dX4_free_41 ?_
    refine j_aload_n (r := x1) dX4_free_44 rfl ?_
    refine kg_getr (a := a1) (j := 2) ea1 gfX4_151 hk2 dX4_free_45 ?_
    obtain ⟨a7, ea7, hk8, h⟩ := h
    refine jg_calli (rest := [va_rf x1]) (kg_lkV (As := [va_rf (gr (gpr a1 3 r5 t4) a1 2)]) (a := a7) (c := 1) kgX2_find_1 (by decide) rfl hk8 q1399 rfl (by rw [ea7]; rfl) dX4_free_48) cwX2_find (rm_ok (cat1_cons (rf_cat _) cat1_nil) (Nat.le_of_ble_eq_true rfl)) rfl dX4_free_48 (Nat.succ_le_succ (Nat.zero_le _)) (h.mono (onI_mono (fun r10 t9 h hlt9 => ?_) (fun _ _ h => h)))
    replace h := h hlt9
    replace hk2 := hlt9.tag hk2 (by decide)
    replace hk3 := hlt9.tag hk3 (by decide)
    replace hk8 := hlt9.tag hk8 (by decide)
    refine kg_puti (a := a1) ea1 gfX4_69 (Or.inl rfl) hk2 (Or.inl (by decide)) dX4_free_51 ?_
    refine j_aload_n (r := x1) dX4_free_54 rfl ?_
    refine kg_geti (a := a1) (j := 4) ea1 gfX4_69 (by decide) hk2 dX4_free_55 ?_
    refine j_iconst (v := iI (-1)) dX4_free_58 rfl ?_
    refine j_icmp_ne 75 dX4_free_59 (by decide) (fun c26 => ?_) (fun c26 => ?_)
    · replace h := h.2 c26
      refine j_aload_n (r := some a0) dX4_free_75 rfl ?_
      refine kg_getr (a := a0) (j := 0) rfl gfX4_18 hk3 dX4_free_76 ?_
      refine j_aload_n (r := x1) dX4_free_79 rfl ?_
      refine kg_geti (a := a1) (j := 4) ea1 gfX4_69 (by decide) hk2 dX4_free_80 ?_
      obtain ⟨a11, ea11, hk12, h⟩ := h
      refine jg_calli (rest := []) (kg_lkV (As := [.int (gi (gpi a1 4 r10 t9) a1 4)]) (a := a11) (c := 1) kgX2_axiom_1 (by decide) rfl hk12 q1402 rfl (by rw [ea11]; rfl) dX4_free_83) cwX2_axiom (Nat.le_of_ble_eq_true rfl) rfl dX4_free_83 (Nat.succ_le_succ (Nat.zero_le _)) (h.mono (onI_mono (fun r14 t13 h hlt13 => ?_) (fun _ _ h => h)))
      replace h := h hlt13
      replace hk2 := hlt13.tag hk2 (by decide)
      replace hk3 := hlt13.tag hk3 (by decide)
      replace hk8 := hlt13.tag hk8 (by decide)
      replace hk12 := hlt13.tag hk12 (by decide)
      refine j_istore_n (lv' := [some (va_rf (some a0)), some (va_rf x1), some (.int r14)]) dX4_free_86 (by decide) rfl ?_
      refine j_iload_n dX4_free_87 rfl ?_
      refine j_iconst (v := iI (-1)) dX4_free_88 rfl ?_
      refine j_icmp_ne 106 dX4_free_89 (by decide) (fun c21 => ?_) (fun c21 => ?_)
      · replace h := h.2 c21
        refine j_aload_n (r := some a0) dX4_free_106 rfl ?_
        refine j_iload_n dX4_free_107 rfl ?_
        refine jg_callv (rest := []) (kg_lkV (As := [.int r14]) (a := a0) (c := 3) kgX4_isSort_3 (by decide) rfl hk3 q1406 rfl rfl dX4_free_108) cwX4_isSort (Nat.le_of_ble_eq_true rfl) rfl dX4_free_108 (Nat.succ_le_succ (Nat.zero_le _)) (h.mono (onV_mono (fun t15 h hlt15 => ?_) (fun _ _ h => h)))
        replace h := h hlt15
        replace hk2 := hlt15.tag hk2 (by decide)
        replace hk3 := hlt15.tag hk3 (by decide)
        replace hk8 := hlt15.tag hk8 (by decide)
        replace hk12 := hlt15.tag hk12 (by decide)
        exact j_return rfl dX4_free_111 h
      · replace h := h.1 c21
        obtain ⟨hg17, h⟩ := h
        refine jg_new (c := 6) (N := 8) (C := "PureHouse$Fault") (by decide) ⟨rfl, rfl⟩ q1400 q989 q143 hg17 dX4_free_92 ?_
        replace hk2 := gk_mk (t := 7) (n := 8) hk2 (by decide)
        replace hk3 := gk_mk (t := 7) (n := 8) hk3 (by decide)
        replace hk8 := gk_mk (t := 7) (n := 8) hk8 (by decide)
        replace hk12 := gk_mk (t := 7) (n := 8) hk12 (by decide)
        have hk18 := gk_new (t := 7) (n := 8) hg17.2.2
        refine j_dup dX4_free_95 rfl ?_
        refine j_bipush (v := iI 7) dX4_free_96 rfl ?_
        refine j_aload_n (r := x1) dX4_free_98 rfl ?_
        refine kg_geti (a := a1) (j := 0) ea1 gfX4_167 (by decide) hk2 dX4_free_99 ?_
        refine jg_callv (rest := [va_rf (some (gn t13))]) (kg_lkI (As := [.int (iI 7), .int (gi (gmk 7 8 t13) a1 0)]) (a := (gn t13)) kiX8_init (Or.inl q1401) rfl rfl dX4_free_102) cwX8_init (Nat.le_of_ble_eq_true rfl) rfl dX4_free_102 (Nat.succ_le_succ (Nat.zero_le _)) (h.mono (onV_mono (fun t19 h hlt19 => ?_) (fun _ _ h => h)))
        replace h := h hlt19
        replace hk2 := hlt19.tag hk2 (by decide)
        replace hk3 := hlt19.tag hk3 (by decide)
        replace hk8 := hlt19.tag hk8 (by decide)
        replace hk12 := hlt19.tag hk12 (by decide)
        replace hk18 := hlt19.tag hk18 (by decide)
        exact kg_athrow (a := (gn t13)) rfl rfl dX4_free_105 h
    · replace h := h.1 c26
      obtain ⟨hg22, h⟩ := h
      refine jg_new (c := 6) (N := 8) (C := "PureHouse$Fault") (by decide) ⟨rfl, rfl⟩ q1400 q989 q143 hg22 dX4_free_62 ?_
      replace hk2 := gk_mk (t := 7) (n := 8) hk2 (by decide)
      replace hk3 := gk_mk (t := 7) (n := 8) hk3 (by decide)
      replace hk8 := gk_mk (t := 7) (n := 8) hk8 (by decide)
      have hk23 := gk_new (t := 7) (n := 8) hg22.2.2
      refine j_dup dX4_free_65 rfl ?_
      refine j_iconst (v := iI 3) dX4_free_66 rfl ?_
      refine j_aload_n (r := x1) dX4_free_67 rfl ?_
      refine kg_geti (a := a1) (j := 0) ea1 gfX4_167 (by decide) hk2 dX4_free_68 ?_
      refine jg_callv (rest := [va_rf (some (gn (gpi a1 4 r10 t9)))]) (kg_lkI (As := [.int (iI 3), .int (gi (gmk 7 8 (gpi a1 4 r10 t9)) a1 0)]) (a := (gn (gpi a1 4 r10 t9))) kiX8_init (Or.inl q1401) rfl rfl dX4_free_71) cwX8_init (Nat.le_of_ble_eq_true rfl) rfl dX4_free_71 (Nat.succ_le_succ (Nat.zero_le _)) (h.mono (onV_mono (fun t24 h hlt24 => ?_) (fun _ _ h => h)))
      replace h := h hlt24
      replace hk2 := hlt24.tag hk2 (by decide)
      replace hk3 := hlt24.tag hk3 (by decide)
      replace hk8 := hlt24.tag hk8 (by decide)
      replace hk23 := hlt24.tag hk23 (by decide)
      exact kg_athrow (a := (gn (gpi a1 4 r10 t9))) rfl rfl dX4_free_74 h
  · replace h := h.2 a6 ea6
    refine j_aload_n (r := some a0) dX4_free_19 rfl ?_
    refine j_aload_n (r := x1) dX4_free_20 rfl ?_
    refine kg_getr (a := a1) (j := 3) ea1 gfX4_156 hk2 dX4_free_21 ?_
    obtain ⟨hk27, h⟩ := h
    refine kg_getr (a := a6) (j := 1) ea6 gfX4_160 hk27 dX4_free_24 ?_
    refine j_null dX4_free_27 ?_
    refine j_aload_n (r := x1) dX4_free_28 rfl ?_
    refine kg_getr (a := a1) (j := 3) ea1 gfX4_156 hk2 dX4_free_29 ?_
    refine kg_geti (a := a6) (j := 2) ea6 gfX4_161 (by decide) hk27 dX4_free_32 ?_
    refine jg_callv (rest := []) (kg_lkV (As := [va_rf (gr (gpr a1 3 r5 t4) a6 1), va_rf none, .int (gi (gpr a1 3 r5 t4) a6 2)]) (a := a0) (c := 3) kgX4_is_3 (by decide) rfl hk3 q1389 rfl rfl dX4_free_35) cwX4_is (Nat.le_of_ble_eq_true rfl) rfl dX4_free_35 (Nat.succ_le_succ (Nat.zero_le _)) (h.mono (onV_mono (fun t28 h hlt28 => ?_) (fun _ _ h => h)))
    replace h := h hlt28
    replace hk2 := hlt28.tag hk2 (by decide)
    replace hk3 := hlt28.tag hk3 (by decide)
    replace hk27 := hlt28.tag hk27 (by decide)
    exact j_return rfl dX4_free_38 h
theorem tX4_isSort {G : GPl} {s0 : State} {l : Launch} {K : Nat → Option Nat} {T : Nat → Nat} {lev : Nat} {Q : Outcome → GSt → Prop} {a0 : Nat} {x1 : Int32} {σ : GSt} (h : (gk σ a0 = 4 ∧ (CQ (wP G s0 l K T) mX4_sortTerm lev (.ref a0 :: [.int x1]) σ (onR (fun r3 t2 => gle σ t2 → (∃ a4, gr t2 a0 0 = some a4 ∧ (gk t2 a4 = 2 ∧ (CQ (wP G s0 l K T) mX2_axiom lev (.ref a4 :: [.int x1]) t2 (onI (fun r7 t6 => gle t2 t6 → (CQ (wP G s0 l K T) mX4_is lev (.ref a0 :: [va_rf r3, va_rf none, .int r7]) t6 (onV (fun t8 => gle t6 t8 → Q (.returned none) t8) (fun x t => gle t6 t → Q (.threw x) t)))) (fun x t => gle t2 t → Q (.threw x) t)))))) (fun x t => gle σ t → Q (.threw x) t))))) : CQ (wP G s0 l K T) mX4_isSort (lev + 1) [.ref a0, .int x1] σ Q := by
  refine CQ.of3 0 (lv := [some (va_rf (some a0)), some (.int x1)]) (by decide) (Nat.le_of_ble_eq_true rfl) (cat1_cons rfl (cat1_cons rfl cat1_nil)) rfl ?_
  refine j_aload_n (r := some a0) dX4_isSort_0 rfl ?_
  refine j_aload_n (r := some a0) dX4_isSort_1 rfl ?_
  refine j_iload_n dX4_isSort_2 rfl ?_
  obtain ⟨hk1, h⟩ := h
  refine jg_callr (rest := [va_rf (some a0)]) (kg_lkV (As := [.int x1]) (a := a0) (c := 3) kgX4_sortTerm_3 (by decide) rfl hk1 q1410 rfl rfl dX4_isSort_3) cwX4_sortTerm (Nat.le_of_ble_eq_true rfl) rfl dX4_isSort_3 (Nat.succ_le_succ (Nat.zero_le _)) (h.mono (onR_mono (fun r3 t2 h hlt2 => ?_) (fun _ _ h => h)))
  replace h := h hlt2
  replace hk1 := hlt2.tag hk1 (by decide)
  refine j_null dX4_isSort_6 ?_
  refine j_aload_n (r := some a0) dX4_isSort_7 rfl ?_
  refine kg_getr (a := a0) (j := 0) rfl gfX4_18 hk1 dX4_isSort_8 ?_
  refine j_iload_n dX4_isSort_11 rfl ?_
  obtain ⟨a4, ea4, hk5, h⟩ := h
  refine jg_calli (rest := [va_rf none, va_rf r3, va_rf (some a0)]) (kg_lkV (As := [.int x1]) (a := a4) (c := 1) kgX2_axiom_1 (by decide) rfl hk5 q1402 rfl (by rw [ea4]; rfl) dX4_isSort_12) cwX2_axiom (rm_ok (cat1_cons rfl (cat1_cons (rf_cat _) (cat1_cons rfl cat1_nil))) (Nat.le_of_ble_eq_true rfl)) rfl dX4_isSort_12 (Nat.succ_le_succ (Nat.zero_le _)) (h.mono (onI_mono (fun r7 t6 h hlt6 => ?_) (fun _ _ h => h)))
  replace h := h hlt6
  replace hk1 := hlt6.tag hk1 (by decide)
  replace hk5 := hlt6.tag hk5 (by decide)
  refine jg_callv (rest := []) (kg_lkV (As := [va_rf r3, va_rf none, .int r7]) (a := a0) (c := 3) kgX4_is_3 (by decide) rfl hk1 q1389 rfl rfl dX4_isSort_15) cwX4_is (Nat.le_of_ble_eq_true rfl) rfl dX4_isSort_15 (Nat.succ_le_succ (Nat.zero_le _)) (h.mono (onV_mono (fun t8 h hlt8 => ?_) (fun _ _ h => h)))
  replace h := h hlt8
  replace hk1 := hlt8.tag hk1 (by decide)
  replace hk5 := hlt8.tag hk5 (by decide)
  exact j_return rfl dX4_isSort_18 h
theorem tX4_sortTerm {G : GPl} {s0 : State} {l : Launch} {K : Nat → Option Nat} {T : Nat → Nat} {lev : Nat} {Q : Outcome → GSt → Prop} {a0 : Nat} {x1 : Int32} {σ : GSt} (h : (groom G 5 σ ∧ (gk (gmk 12 5 σ) a0 = 4 ∧ (∃ a4, gr (gmk 12 5 σ) a0 0 = some a4 ∧ (gk (gmk 12 5 σ) a4 = 2 ∧ (∃ a6, gr (gmk 12 5 σ) a4 0 = some a6 ∧ (gk (gmk 12 5 σ) a6 = 104 ∧ (inr x1 (gl (gmk 12 5 σ) a6) ∧ (CQ (wP G s0 l K T) mX14_init lev (.ref (gn σ) :: [va_rf (gr (gmk 12 5 σ) a6 (ix x1))]) (gmk 12 5 σ) (onV (fun t9 => gle (gmk 12 5 σ) t9 → Q (.returned (some (va_rf (some (gn σ))))) (gpi (gn σ) 4 x1 t9)) (fun x t => gle (gmk 12 5 σ) t → Q (.threw x) t))))))))))) : CQ (wP G s0 l K T) mX4_sortTerm (lev + 1) [.ref a0, .int x1] σ Q := by
  refine CQ.of3 1 (lv := [some (va_rf (some a0)), some (.int x1), none]) (by decide) (Nat.le_of_ble_eq_true rfl) (cat1_cons rfl (cat1_cons rfl cat1_nil)) rfl ?_
  obtain ⟨hg1, h⟩ := h
  refine jg_new (c := 11) (N := 5) (C := "PureHouse$Free") (by decide) ⟨rfl, rfl⟩ q1393 q1251 q150 hg1 dX4_sortTerm_0 ?_
  have hk2 := gk_new (t := 12) (n := 5) hg1.2.2
  refine j_dup dX4_sortTerm_3 rfl ?_
  refine j_aload_n (r := some a0) dX4_sortTerm_4 rfl ?_
  obtain ⟨hk3, h⟩ := h
  refine kg_getr (a := a0) (j := 0) rfl gfX4_18 hk3 dX4_sortTerm_5 ?_
  obtain ⟨a4, ea4, hk5, h⟩ := h
  refine kg_getr (a := a4) (j := 0) ea4 gfX4_60 hk5 dX4_sortTerm_8 ?_
  refine j_iload_n dX4_sortTerm_11 rfl ?_
  obtain ⟨a6, ea6, hk7, hi8, h⟩ := h
  refine kg_aald (a := a6) ea6 hk7 (by decide) hi8 dX4_sortTerm_12 ?_
  refine jg_callv (rest := [va_rf (some (gn σ))]) (kg_lkI (As := [va_rf (gr (gmk 12 5 σ) a6 (ix x1))]) (a := (gn σ)) kiX14_init (Or.inl q1414) rfl rfl dX4_sortTerm_13) cwX14_init (Nat.le_of_ble_eq_true rfl) rfl dX4_sortTerm_13 (Nat.succ_le_succ (Nat.zero_le _)) (h.mono (onV_mono (fun t9 h hlt9 => ?_) (fun _ _ h => h)))
  replace h := h hlt9
  replace hk2 := hlt9.tag hk2 (by decide)
  replace hk3 := hlt9.tag hk3 (by decide)
  replace hk5 := hlt9.tag hk5 (by decide)
  replace hk7 := hlt9.tag hk7 (by decide)
  refine j_astore_n (r := some (gn σ)) (lv' := [some (va_rf (some a0)), some (.int x1), some (va_rf (some (gn σ)))]) dX4_sortTerm_16 (by decide) rfl ?_
  refine j_aload_n (r := some (gn σ)) dX4_sortTerm_17 rfl ?_
  refine j_iload_n dX4_sortTerm_18 rfl ?_
  refine kg_puti (a := (gn σ)) rfl gfX4_69 (Or.inl rfl) hk2 (Or.inl (by decide)) dX4_sortTerm_19 ?_
  refine j_aload_n (r := some (gn σ)) dX4_sortTerm_22 rfl ?_
  exact j_areturn (r := some (gn σ)) rfl (Or.inl ⟨_, rfl⟩) dX4_sortTerm_23 h
theorem tX4_lambda {G : GPl} {s0 : State} {l : Launch} {K : Nat → Option Nat} {T : Nat → Nat} {lev : Nat} {Q : Outcome → GSt → Prop} {a0 : Nat} {x1 : Option Nat} {x2 : Option Nat} {σ : GSt} (h : (∃ a1, x1 = some a1 ∧ (gk σ a1 = 8 ∧ (gk σ a0 = 4 ∧ (CQ (wP G s0 l K T) mX4_typeSort lev (.ref a0 :: [va_rf (gr σ a1 2), va_rf x2]) σ (onI (fun r5 t4 => gle σ t4 → (groom G 6 t4 ∧ (CQ (wP G s0 l K T) mX4_normal lev (.ref a0 :: [va_rf (gr (gmk 9 6 t4) a1 2), va_rf x2]) (gmk 9 6 t4) (onR (fun r9 t8 => gle (gmk 9 6 t4) t8 → (CQ (wP G s0 l K T) mX11_init lev (.ref (gn t4) :: [va_rf r9]) t8 (onV (fun t10 => gle t8 t10 → (CQ (wP G s0 l K T) mX4_with lev (.ref a0 :: [va_rf (gr t10 (gn t4) 2), .int r5, va_rf x2]) t10 (onR (fun r13 t12 => gle t10 t12 → (CQ (wP G s0 l K T) mX4_judge lev (.ref a0 :: [va_rf (gr t12 a1 3), va_rf r13]) t12 (onV (fun t14 => gle t12 t14 → (((gi t14 a0 5) = (iI (-1)) → (groom G 8 t14 ∧ (CQ (wP G s0 l K T) mX8_init lev (.ref (gn t14) :: [.int (iI 7), .int (gi (gmk 7 8 t14) a1 0)]) (gmk 7 8 t14) (onV (fun t37 => gle (gmk 7 8 t14) t37 → Q (.threw (gn t14)) t37) (fun x t => gle (gmk 7 8 t14) t → Q (.threw x) t))))) ∧ (¬ (gi t14 a0 5) = (iI (-1)) → (∃ a16, gr t14 a0 0 = some a16 ∧ (gk t14 a16 = 2 ∧ (CQ (wP G s0 l K T) mX2_rule lev (.ref a16 :: [.int r5, .int (gi t14 a0 5)]) t14 (onI (fun r19 t18 => gle t14 t18 → ((r19 = (iI (-1)) → (groom G 8 t18 ∧ (CQ (wP G s0 l K T) mX8_init lev (.ref (gn t18) :: [.int (iI 9), .int (gi (gmk 7 8 t18) a1 0)]) (gmk 7 8 t18) (onV (fun t32 => gle (gmk 7 8 t18) t32 → Q (.threw (gn t18)) t32) (fun x t => gle (gmk 7 8 t18) t → Q (.threw x) t))))) ∧ (¬ r19 = (iI (-1)) → (∃ a20, r13 = some a20 ∧ (gk t18 a20 = 15 ∧ (CQ (wP G s0 l K T) mX18_depth lev [va_rf (gr t18 a20 0)] t18 (onI (fun r23 t22 => gle t18 t22 → (CQ (wP G s0 l K T) mX4_lifted lev (.ref a0 :: [.int r23]) t22 (onR (fun r25 t24 => gle t22 t24 → (CQ (wP G s0 l K T) mX17_of lev [va_rf x2] (gpi (gn t4) 5 (gi (gpi (gn t4) 4 r5 (gpr (gn t4) 3 r25 t24)) a0 5) (gpi (gn t4) 4 r5 (gpr (gn t4) 3 r25 t24))) (onR (fun r27 t26 => gle (gpi (gn t4) 5 (gi (gpi (gn t4) 4 r5 (gpr (gn t4) 3 r25 t24)) a0 5) (gpi (gn t4) 4 r5 (gpr (gn t4) 3 r25 t24))) t26 → (CQ (wP G s0 l K T) mX4_is lev (.ref a0 :: [va_rf (some (gn t4)), va_rf r27, .int r19]) t26 (onV (fun t28 => gle t26 t28 → Q (.returned none) t28) (fun x t => gle t26 t → Q (.threw x) t)))) (fun x t => gle (gpi (gn t4) 5 (gi (gpi (gn t4) 4 r5 (gpr (gn t4) 3 r25 t24)) a0 5) (gpi (gn t4) 4 r5 (gpr (gn t4) 3 r25 t24))) t → Q (.threw x) t)))) (fun x t => gle t22 t → Q (.threw x) t)))) (fun x t => gle t18 t → Q (.threw x) t)))))))) (fun x t => gle t14 t → Q (.threw x) t)))))))) (fun x t => gle t12 t → Q (.threw x) t)))) (fun x t => gle t10 t → Q (.threw x) t)))) (fun x t => gle t8 t → Q (.threw x) t)))) (fun x t => gle (gmk 9 6 t4) t → Q (.threw x) t))))) (fun x t => gle σ t → Q (.threw x) t))))))) : CQ (wP G s0 l K T) mX4_lambda (lev + 1) [.ref a0, va_rf x1, va_rf x2] σ Q := by
  refine CQ.of3 4 (lv := [some (va_rf (some a0)), some (va_rf x1), some (va_rf x2), none, none, none, none]) (by decide) (Nat.le_of_ble_eq_true rfl) (cat1_cons rfl (cat1_cons (rf_cat _) (cat1_cons (rf_cat _) cat1_nil))) rfl ?_
  refine j_aload_n (r := some a0) dX4_lambda_0 rfl ?_
  refine j_aload_n (r := x1) dX4_lambda_1 rfl ?_
  obtain ⟨a1, ea1, hk2, h⟩ := h
  refine kg_getr (a := a1) (j := 2) ea1 gfX4_240 hk2 dX4_lambda_2 ?_
  refine j_aload_n (r := x2) dX4_lambda_5 rfl ?_
  obtain ⟨hk3, h⟩ := h
  refine jg_calli (rest := []) (kg_lkV (As := [va_rf (gr σ a1 2), va_rf x2]) (a := a0) (c := 3) kgX4_typeSort_3 (by decide) rfl hk3 q1420 rfl rfl dX4_lambda_6) cwX4_typeSort (Nat.le_of_ble_eq_true rfl) rfl dX4_lambda_6 (Nat.succ_le_succ (Nat.zero_le _)) (h.mono (onI_mono (fun r5 t4 h hlt4 => ?_) (fun _ _ h => h)))
  replace h := h hlt4
  replace hk2 := hlt4.tag hk2 (by decide)
  replace hk3 := hlt4.tag hk3 (by decide)
  refine j_istore_n (lv' := [some (va_rf (some a0)), some (va_rf x1), some (va_rf x2), some (.int r5), none, none, none]) dX4_lambda_9 (by decide) rfl ?_
  obtain ⟨hg6, h⟩ := h
  refine jg_new (c := 8) (N := 6) (C := "PureHouse$Product") (by decide) ⟨rfl, rfl⟩ q1421 q1160 q147 hg6 dX4_lambda_10 ?_
  replace hk2 := gk_mk (t := 9) (n := 6) hk2 (by decide)
  replace hk3 := gk_mk (t := 9) (n := 6) hk3 (by decide)
  have hk7 := gk_new (t := 9) (n := 6) hg6.2.2
  refine j_dup dX4_lambda_13 rfl ?_
  refine j_aload_n (r := some a0) dX4_lambda_14 rfl ?_
  refine j_aload_n (r := x1) dX4_lambda_15 rfl ?_
  refine kg_getr (a := a1) (j := 2) ea1 gfX4_240 hk2 dX4_lambda_16 ?_
  refine j_aload_n (r := x2) dX4_lambda_19 rfl ?_
  refine jg_callr (rest := [va_rf (some (gn t4)), va_rf (some (gn t4))]) (kg_lkV (As := [va_rf (gr (gmk 9 6 t4) a1 2), va_rf x2]) (a := a0) (c := 3) kgX4_normal_3 (by decide) rfl hk3 q1422 rfl rfl dX4_lambda_20) cwX4_normal (Nat.le_of_ble_eq_true rfl) rfl dX4_lambda_20 (Nat.succ_le_succ (Nat.zero_le _)) (h.mono (onR_mono (fun r9 t8 h hlt8 => ?_) (fun _ _ h => h)))
  replace h := h hlt8
  replace hk2 := hlt8.tag hk2 (by decide)
  replace hk3 := hlt8.tag hk3 (by decide)
  replace hk7 := hlt8.tag hk7 (by decide)
  refine jg_callv (rest := [va_rf (some (gn t4))]) (kg_lkI (As := [va_rf r9]) (a := (gn t4)) kiX11_init (Or.inl q1623) rfl rfl dX4_lambda_23) cwX11_init (Nat.le_of_ble_eq_true rfl) rfl dX4_lambda_23 (Nat.succ_le_succ (Nat.zero_le _)) (h.mono (onV_mono (fun t10 h hlt10 => ?_) (fun _ _ h => h)))
  replace h := h hlt10
  replace hk2 := hlt10.tag hk2 (by decide)
  replace hk3 := hlt10.tag hk3 (by decide)
  replace hk7 := hlt10.tag hk7 (by decide)
  refine j_astore (r := some (gn t4)) (lv' := [some (va_rf (some a0)), some (va_rf x1), some (va_rf x2), some (.int r5), some (va_rf (some (gn t4))), none, none]) dX4_lambda_26 (by decide) rfl ?_
  refine j_aload_n (r := some a0) dX4_lambda_28 rfl ?_
  refine j_aload (r := some (gn t4)) dX4_lambda_29 rfl ?_
  refine kg_getr (a := (gn t4)) (j := 2) rfl gfX4_212 hk7 dX4_lambda_31 ?_
  refine j_iload_n dX4_lambda_34 rfl ?_
  refine j_aload_n (r := x2) dX4_lambda_35 rfl ?_
  refine jg_callr (rest := []) (kg_lkV (As := [va_rf (gr t10 (gn t4) 2), .int r5, va_rf x2]) (a := a0) (c := 3) kgX4_with_3 (by decide) rfl hk3 q1624 rfl rfl dX4_lambda_36) cwX4_with (Nat.le_of_ble_eq_true rfl) rfl dX4_lambda_36 (Nat.succ_le_succ (Nat.zero_le _)) (h.mono (onR_mono (fun r13 t12 h hlt12 => ?_) (fun _ _ h => h)))
  replace h := h hlt12
  replace hk2 := hlt12.tag hk2 (by decide)
  replace hk3 := hlt12.tag hk3 (by decide)
  replace hk7 := hlt12.tag hk7 (by decide)
  refine j_astore (r := r13) (lv' := [some (va_rf (some a0)), some (va_rf x1), some (va_rf x2), some (.int r5), some (va_rf (some (gn t4))), some (va_rf r13), none]) dX4_lambda_39 (by decide) rfl ?_
  refine j_aload_n (r := some a0) dX4_lambda_41 rfl ?_
  refine j_aload_n (r := x1) dX4_lambda_42 rfl ?_
  refine kg_getr (a := a1) (j := 3) ea1 gfX4_244 hk2 dX4_lambda_43 ?_
  refine j_aload (r := r13) dX4_lambda_46 rfl ?_
  refine jg_callv (rest := []) (kg_lkV (As := [va_rf (gr t12 a1 3), va_rf r13]) (a := a0) (c := 3) kgX4_judge_3 (by decide) rfl hk3 q1380 rfl rfl dX4_lambda_48) cwX4_judge (Nat.le_of_ble_eq_true rfl) rfl dX4_lambda_48 (Nat.succ_le_succ (Nat.zero_le _)) (h.mono (onV_mono (fun t14 h hlt14 => ?_) (fun _ _ h => h)))
  replace h := h hlt14
  replace hk2 := hlt14.tag hk2 (by decide)
  replace hk3 := hlt14.tag hk3 (by decide)
  replace hk7 := hlt14.tag hk7 (by decide)
  refine j_aload_n (r := some a0) dX4_lambda_51 rfl ?_
  refine kg_geti (a := a0) (j := 5) rfl gfX4_54 (by decide) hk3 dX4_lambda_52 ?_
  refine j_iconst (v := iI (-1)) dX4_lambda_55 rfl ?_
  refine j_icmp_ne 73 dX4_lambda_56 (by decide) (fun c39 => ?_) (fun c39 => ?_)
  · replace h := h.2 c39
    refine j_aload_n (r := some a0) dX4_lambda_73 rfl ?_
    refine kg_getr (a := a0) (j := 0) rfl gfX4_18 hk3 dX4_lambda_74 ?_
    refine j_iload_n dX4_lambda_77 rfl ?_
    refine j_aload_n (r := some a0) dX4_lambda_78 rfl ?_
    refine kg_geti (a := a0) (j := 5) rfl gfX4_54 (by decide) hk3 dX4_lambda_79 ?_
    obtain ⟨a16, ea16, hk17, h⟩ := h
    refine jg_calli (rest := []) (kg_lkV (As := [.int r5, .int (gi t14 a0 5)]) (a := a16) (c := 1) kgX2_rule_1 (by decide) rfl hk17 q1660 rfl (by rw [ea16]; rfl) dX4_lambda_82) cwX2_rule (Nat.le_of_ble_eq_true rfl) rfl dX4_lambda_82 (Nat.succ_le_succ (Nat.zero_le _)) (h.mono (onI_mono (fun r19 t18 h hlt18 => ?_) (fun _ _ h => h)))
    replace h := h hlt18
    replace hk2 := hlt18.tag hk2 (by decide)
    replace hk3 := hlt18.tag hk3 (by decide)
    replace hk7 := hlt18.tag hk7 (by decide)
    replace hk17 := hlt18.tag hk17 (by decide)
    refine j_istore (lv' := [some (va_rf (some a0)), some (va_rf x1), some (va_rf x2), some (.int r5), some (va_rf (some (gn t4))), some (va_rf r13), some (.int r19)]) dX4_lambda_85 (by decide) rfl ?_
    refine j_iload dX4_lambda_87 rfl ?_
    refine j_iconst (v := iI (-1)) dX4_lambda_89 rfl ?_
    refine j_icmp_ne 107 dX4_lambda_90 (by decide) (fun c34 => ?_) (fun c34 => ?_)
    · replace h := h.2 c34
      refine j_aload (r := some (gn t4)) dX4_lambda_107 rfl ?_
      refine j_aload_n (r := some a0) dX4_lambda_109 rfl ?_
      refine j_aload (r := r13) dX4_lambda_110 rfl ?_
      obtain ⟨a20, ea20, hk21, h⟩ := h
      refine kg_getr (a := a20) (j := 0) ea20 gfX4_246 hk21 dX4_lambda_112 ?_
      refine jg_calli (rest := [va_rf (some a0), va_rf (some (gn t4))]) (kg_lkS (As := [va_rf (gr t18 a20 0)]) ktX18_depth q1446 rfl rfl dX4_lambda_115) cwX18_depth (Nat.le_of_ble_eq_true rfl) rfl dX4_lambda_115 (Nat.succ_le_succ (Nat.zero_le _)) (h.mono (onI_mono (fun r23 t22 h hlt22 => ?_) (fun _ _ h => h)))
      replace h := h hlt22
      replace hk2 := hlt22.tag hk2 (by decide)
      replace hk3 := hlt22.tag hk3 (by decide)
      replace hk7 := hlt22.tag hk7 (by decide)
      replace hk17 := hlt22.tag hk17 (by decide)
      replace hk21 := hlt22.tag hk21 (by decide)
      refine jg_callr (rest := [va_rf (some (gn t4))]) (kg_lkV (As := [.int r23]) (a := a0) (c := 3) kgX4_lifted_3 (by decide) rfl hk3 q1661 rfl rfl dX4_lambda_118) cwX4_lifted (Nat.le_of_ble_eq_true rfl) rfl dX4_lambda_118 (Nat.succ_le_succ (Nat.zero_le _)) (h.mono (onR_mono (fun r25 t24 h hlt24 => ?_) (fun _ _ h => h)))
      replace h := h hlt24
      replace hk2 := hlt24.tag hk2 (by decide)
      replace hk3 := hlt24.tag hk3 (by decide)
      replace hk7 := hlt24.tag hk7 (by decide)
      replace hk17 := hlt24.tag hk17 (by decide)
      replace hk21 := hlt24.tag hk21 (by decide)
      refine kg_putr (a := (gn t4)) (x := r25) rfl gfX4_222 (Or.inl rfl) hk7 (Or.inl (by decide)) dX4_lambda_121 ?_
      refine j_aload (r := some (gn t4)) dX4_lambda_124 rfl ?_
      refine j_iload_n dX4_lambda_126 rfl ?_
      refine kg_puti (a := (gn t4)) rfl gfX4_219 (Or.inl rfl) hk7 (Or.inl (by decide)) dX4_lambda_127 ?_
      refine j_aload (r := some (gn t4)) dX4_lambda_130 rfl ?_
      refine j_aload_n (r := some a0) dX4_lambda_132 rfl ?_
      refine kg_geti (a := a0) (j := 5) rfl gfX4_54 (by decide) hk3 dX4_lambda_133 ?_
      refine kg_puti (a := (gn t4)) rfl gfX4_232 (Or.inl rfl) hk7 (Or.inl (by decide)) dX4_lambda_136 ?_
      refine j_aload_n (r := some a0) dX4_lambda_139 rfl ?_
      refine j_aload (r := some (gn t4)) dX4_lambda_140 rfl ?_
      refine j_aload_n (r := x2) dX4_lambda_142 rfl ?_
      refine jg_callr (rest := [va_rf (some (gn t4)), va_rf (some a0)]) (kg_lkS (As := [va_rf x2]) ktX17_of q1428 rfl rfl dX4_lambda_143) cwX17_of (Nat.le_of_ble_eq_true rfl) rfl dX4_lambda_143 (Nat.succ_le_succ (Nat.zero_le _)) (h.mono (onR_mono (fun r27 t26 h hlt26 => ?_) (fun _ _ h => h)))
      replace h := h hlt26
      replace hk2 := hlt26.tag hk2 (by decide)
      replace hk3 := hlt26.tag hk3 (by decide)
      replace hk7 := hlt26.tag hk7 (by decide)
      replace hk17 := hlt26.tag hk17 (by decide)
      replace hk21 := hlt26.tag hk21 (by decide)
      refine j_iload dX4_lambda_146 rfl ?_
      refine jg_callv (rest := []) (kg_lkV (As := [va_rf (some (gn t4)), va_rf r27, .int r19]) (a := a0) (c := 3) kgX4_is_3 (by decide) rfl hk3 q1389 rfl rfl dX4_lambda_148) cwX4_is (Nat.le_of_ble_eq_true rfl) rfl dX4_lambda_148 (Nat.succ_le_succ (Nat.zero_le _)) (h.mono (onV_mono (fun t28 h hlt28 => ?_) (fun _ _ h => h)))
      replace h := h hlt28
      replace hk2 := hlt28.tag hk2 (by decide)
      replace hk3 := hlt28.tag hk3 (by decide)
      replace hk7 := hlt28.tag hk7 (by decide)
      replace hk17 := hlt28.tag hk17 (by decide)
      replace hk21 := hlt28.tag hk21 (by decide)
      exact j_return rfl dX4_lambda_151 h
    · replace h := h.1 c34
      obtain ⟨hg30, h⟩ := h
      refine jg_new (c := 6) (N := 8) (C := "PureHouse$Fault") (by decide) ⟨rfl, rfl⟩ q1400 q989 q143 hg30 dX4_lambda_93 ?_
      replace hk2 := gk_mk (t := 7) (n := 8) hk2 (by decide)
      replace hk3 := gk_mk (t := 7) (n := 8) hk3 (by decide)
      replace hk7 := gk_mk (t := 7) (n := 8) hk7 (by decide)
      replace hk17 := gk_mk (t := 7) (n := 8) hk17 (by decide)
      have hk31 := gk_new (t := 7) (n := 8) hg30.2.2
      refine j_dup dX4_lambda_96 rfl ?_
      refine j_bipush (v := iI 9) dX4_lambda_97 rfl ?_
      refine j_aload_n (r := x1) dX4_lambda_99 rfl ?_
      refine kg_geti (a := a1) (j := 0) ea1 gfX4_245 (by decide) hk2 dX4_lambda_100 ?_
      refine jg_callv (rest := [va_rf (some (gn t18))]) (kg_lkI (As := [.int (iI 9), .int (gi (gmk 7 8 t18) a1 0)]) (a := (gn t18)) kiX8_init (Or.inl q1401) rfl rfl dX4_lambda_103) cwX8_init (Nat.le_of_ble_eq_true rfl) rfl dX4_lambda_103 (Nat.succ_le_succ (Nat.zero_le _)) (h.mono (onV_mono (fun t32 h hlt32 => ?_) (fun _ _ h => h)))
      replace h := h hlt32
      replace hk2 := hlt32.tag hk2 (by decide)
      replace hk3 := hlt32.tag hk3 (by decide)
      replace hk7 := hlt32.tag hk7 (by decide)
      replace hk17 := hlt32.tag hk17 (by decide)
      replace hk31 := hlt32.tag hk31 (by decide)
      exact kg_athrow (a := (gn t18)) rfl rfl dX4_lambda_106 h
  · replace h := h.1 c39
    obtain ⟨hg35, h⟩ := h
    refine jg_new (c := 6) (N := 8) (C := "PureHouse$Fault") (by decide) ⟨rfl, rfl⟩ q1400 q989 q143 hg35 dX4_lambda_59 ?_
    replace hk2 := gk_mk (t := 7) (n := 8) hk2 (by decide)
    replace hk3 := gk_mk (t := 7) (n := 8) hk3 (by decide)
    replace hk7 := gk_mk (t := 7) (n := 8) hk7 (by decide)
    have hk36 := gk_new (t := 7) (n := 8) hg35.2.2
    refine j_dup dX4_lambda_62 rfl ?_
    refine j_bipush (v := iI 7) dX4_lambda_63 rfl ?_
    refine j_aload_n (r := x1) dX4_lambda_65 rfl ?_
    refine kg_geti (a := a1) (j := 0) ea1 gfX4_245 (by decide) hk2 dX4_lambda_66 ?_
    refine jg_callv (rest := [va_rf (some (gn t14))]) (kg_lkI (As := [.int (iI 7), .int (gi (gmk 7 8 t14) a1 0)]) (a := (gn t14)) kiX8_init (Or.inl q1401) rfl rfl dX4_lambda_69) cwX8_init (Nat.le_of_ble_eq_true rfl) rfl dX4_lambda_69 (Nat.succ_le_succ (Nat.zero_le _)) (h.mono (onV_mono (fun t37 h hlt37 => ?_) (fun _ _ h => h)))
    replace h := h hlt37
    replace hk2 := hlt37.tag hk2 (by decide)
    replace hk3 := hlt37.tag hk3 (by decide)
    replace hk7 := hlt37.tag hk7 (by decide)
    replace hk36 := hlt37.tag hk36 (by decide)
    exact kg_athrow (a := (gn t14)) rfl rfl dX4_lambda_72 h
theorem tX4_normal {G : GPl} {s0 : State} {l : Launch} {K : Nat → Option Nat} {T : Nat → Nat} {lev : Nat} {Q : Outcome → GSt → Prop} {a0 : Nat} {x1 : Option Nat} {x2 : Option Nat} {σ : GSt} (h : (gk σ a0 = 4 ∧ (groom G 2 σ ∧ (CQ (wP G s0 l K T) mX17_of lev [va_rf x2] (gmk 14 2 σ) (onR (fun r5 t4 => gle (gmk 14 2 σ) t4 → (CQ (wP G s0 l K T) mX16_init lev (.ref (gn σ) :: [va_rf x1, va_rf r5]) t4 (onV (fun t6 => gle t4 t6 → (CQ (wP G s0 l K T) mX17_of lev [va_rf x2] t6 (onR (fun r9 t8 => gle t6 t8 → (CQ (wP G s0 l K T) mX18_depth lev [va_rf r9] t8 (onI (fun r11 t10 => gle t8 t10 → (∃ a12, gr σ a0 1 = some a12 ∧ (gk t10 a12 = 3 ∧ (CQ (wP G s0 l K T) mX3_normal lev (.ref a12 :: [va_rf (some (gn σ)), .int r11]) t10 (onR (fun r15 t14 => gle t10 t14 → Q (.returned (some (va_rf r15))) t14) (fun x t => gle t10 t → Q (.threw x) t)))))) (fun x t => gle t8 t → Q (.threw x) t)))) (fun x t => gle t6 t → Q (.threw x) t)))) (fun x t => gle t4 t → Q (.threw x) t)))) (fun x t => gle (gmk 14 2 σ) t → Q (.threw x) t)))))) : CQ (wP G s0 l K T) mX4_normal (lev + 1) [.ref a0, va_rf x1, va_rf x2] σ Q := by
  refine CQ.of3 0 (lv := [some (va_rf (some a0)), some (va_rf x1), some (va_rf x2)]) (by decide) (Nat.le_of_ble_eq_true rfl) (cat1_cons rfl (cat1_cons (rf_cat _) (cat1_cons (rf_cat _) cat1_nil))) rfl ?_
  refine j_aload_n (r := some a0) dX4_normal_0 rfl ?_
  obtain ⟨hk1, h⟩ := h
  refine kg_getr (a := a0) (j := 1) rfl gfX4_22 hk1 dX4_normal_1 ?_
  obtain ⟨hg2, h⟩ := h
  refine jg_new (c := 13) (N := 2) (C := "PureHouse$Closure") (by decide) ⟨rfl, rfl⟩ q1426 q1427 q152 hg2 dX4_normal_4 ?_
  replace hk1 := gk_mk (t := 14) (n := 2) hk1 (by decide)
  have hk3 := gk_new (t := 14) (n := 2) hg2.2.2
  refine j_dup dX4_normal_7 rfl ?_
  refine j_aload_n (r := x1) dX4_normal_8 rfl ?_
  refine j_aload_n (r := x2) dX4_normal_9 rfl ?_
  refine jg_callr (rest := [va_rf x1, va_rf (some (gn σ)), va_rf (some (gn σ)), va_rf (gr σ a0 1)]) (kg_lkS (As := [va_rf x2]) ktX17_of q1428 rfl rfl dX4_normal_10) cwX17_of (rm_ok (cat1_cons (rf_cat _) (cat1_cons rfl (cat1_cons rfl (cat1_cons (rf_cat _) cat1_nil)))) (Nat.le_of_ble_eq_true rfl)) rfl dX4_normal_10 (Nat.succ_le_succ (Nat.zero_le _)) (h.mono (onR_mono (fun r5 t4 h hlt4 => ?_) (fun _ _ h => h)))
  replace h := h hlt4
  replace hk1 := hlt4.tag hk1 (by decide)
  replace hk3 := hlt4.tag hk3 (by decide)
  refine jg_callv (rest := [va_rf (some (gn σ)), va_rf (gr σ a0 1)]) (kg_lkI (As := [va_rf x1, va_rf r5]) (a := (gn σ)) kiX16_init (Or.inl q1431) rfl rfl dX4_normal_13) cwX16_init (rm_ok (cat1_cons rfl (cat1_cons (rf_cat _) cat1_nil)) (Nat.le_of_ble_eq_true rfl)) rfl dX4_normal_13 (Nat.succ_le_succ (Nat.zero_le _)) (h.mono (onV_mono (fun t6 h hlt6 => ?_) (fun _ _ h => h)))
  replace h := h hlt6
  replace hk1 := hlt6.tag hk1 (by decide)
  replace hk3 := hlt6.tag hk3 (by decide)
  refine j_aload_n (r := x2) dX4_normal_16 rfl ?_
  refine jg_callr (rest := [va_rf (some (gn σ)), va_rf (gr σ a0 1)]) (kg_lkS (As := [va_rf x2]) ktX17_of q1428 rfl rfl dX4_normal_17) cwX17_of (rm_ok (cat1_cons rfl (cat1_cons (rf_cat _) cat1_nil)) (Nat.le_of_ble_eq_true rfl)) rfl dX4_normal_17 (Nat.succ_le_succ (Nat.zero_le _)) (h.mono (onR_mono (fun r9 t8 h hlt8 => ?_) (fun _ _ h => h)))
  replace h := h hlt8
  replace hk1 := hlt8.tag hk1 (by decide)
  replace hk3 := hlt8.tag hk3 (by decide)
  refine jg_calli (rest := [va_rf (some (gn σ)), va_rf (gr σ a0 1)]) (kg_lkS (As := [va_rf r9]) ktX18_depth q1446 rfl rfl dX4_normal_20) cwX18_depth (rm_ok (cat1_cons rfl (cat1_cons (rf_cat _) cat1_nil)) (Nat.le_of_ble_eq_true rfl)) rfl dX4_normal_20 (Nat.succ_le_succ (Nat.zero_le _)) (h.mono (onI_mono (fun r11 t10 h hlt10 => ?_) (fun _ _ h => h)))
  replace h := h hlt10
  replace hk1 := hlt10.tag hk1 (by decide)
  replace hk3 := hlt10.tag hk3 (by decide)
  obtain ⟨a12, ea12, hk13, h⟩ := h
  refine jg_callr (rest := []) (kg_lkV (As := [va_rf (some (gn σ)), .int r11]) (a := a12) (c := 2) kgX3_normal_2 (by decide) rfl hk13 q1449 rfl (by rw [ea12]; rfl) dX4_normal_23) cwX3_normal (Nat.le_of_ble_eq_true rfl) rfl dX4_normal_23 (Nat.succ_le_succ (Nat.zero_le _)) (h.mono (onR_mono (fun r15 t14 h hlt14 => ?_) (fun _ _ h => h)))
  replace h := h hlt14
  replace hk1 := hlt14.tag hk1 (by decide)
  replace hk3 := hlt14.tag hk3 (by decide)
  replace hk13 := hlt14.tag hk13 (by decide)
  exact j_areturn (r := r15) rfl (Or.inl ⟨_, rfl⟩) dX4_normal_26 h
theorem tX4_with {G : GPl} {s0 : State} {l : Launch} {K : Nat → Option Nat} {T : Nat → Nat} {lev : Nat} {Q : Outcome → GSt → Prop} {a0 : Nat} {x1 : Option Nat} {x2 : Int32} {x3 : Option Nat} {σ : GSt} (h : (groom G 5 σ ∧ (groom G 2 (gmk 15 5 σ) ∧ (groom G 4 (gmk 14 2 (gmk 15 5 σ)) ∧ (CQ (wP G s0 l K T) mX17_of lev [va_rf x3] (gmk 18 4 (gmk 14 2 (gmk 15 5 σ))) (onR (fun r8 t7 => gle (gmk 18 4 (gmk 14 2 (gmk 15 5 σ))) t7 → (CQ (wP G s0 l K T) mX18_depth lev [va_rf r8] t7 (onI (fun r10 t9 => gle t7 t9 → (CQ (wP G s0 l K T) mX20_init lev (.ref (gn (gmk 14 2 (gmk 15 5 σ))) :: [.int (iI (-1)), .int r10]) t9 (onV (fun t11 => gle t9 t11 → (CQ (wP G s0 l K T) mX16_init lev (.ref (gn (gmk 15 5 σ)) :: [va_rf (some (gn (gmk 14 2 (gmk 15 5 σ)))), va_rf none]) t11 (onV (fun t13 => gle t11 t13 → (CQ (wP G s0 l K T) mX17_of lev [va_rf x3] t13 (onR (fun r16 t15 => gle t13 t15 → (CQ (wP G s0 l K T) mX17_init lev (.ref (gn σ) :: [va_rf (some (gn (gmk 15 5 σ))), va_rf x1, va_rf r16, .int x2, va_rf x3]) t15 (onV (fun t17 => gle t15 t17 → Q (.returned (some (va_rf (some (gn σ))))) t17) (fun x t => gle t15 t → Q (.threw x) t)))) (fun x t => gle t13 t → Q (.threw x) t)))) (fun x t => gle t11 t → Q (.threw x) t)))) (fun x t => gle t9 t → Q (.threw x) t)))) (fun x t => gle t7 t → Q (.threw x) t)))) (fun x t => gle (gmk 18 4 (gmk 14 2 (gmk 15 5 σ))) t → Q (.threw x) t))))))) : CQ (wP G s0 l K T) mX4_with (lev + 1) [.ref a0, va_rf x1, .int x2, va_rf x3] σ Q := by
  refine CQ.of3 0 (lv := [some (va_rf (some a0)), some (va_rf x1), some (.int x2), some (va_rf x3)]) (by decide) (Nat.le_of_ble_eq_true rfl) (cat1_cons rfl (cat1_cons (rf_cat _) (cat1_cons rfl (cat1_cons (rf_cat _) cat1_nil)))) rfl ?_
  obtain ⟨hg1, h⟩ := h
  refine jg_new (c := 14) (N := 5) (C := "PureHouse$Scope") (by decide) ⟨rfl, rfl⟩ q1628 q1629 q153 hg1 dX4_with_0 ?_
  have hk2 := gk_new (t := 15) (n := 5) hg1.2.2
  refine j_dup dX4_with_3 rfl ?_
  obtain ⟨hg3, h⟩ := h
  refine jg_new (c := 13) (N := 2) (C := "PureHouse$Closure") (by decide) ⟨rfl, rfl⟩ q1426 q1427 q152 hg3 dX4_with_4 ?_
  replace hk2 := gk_mk (t := 14) (n := 2) hk2 (by decide)
  have hk4 := gk_new (t := 14) (n := 2) hg3.2.2
  refine j_dup dX4_with_7 rfl ?_
  obtain ⟨hg5, h⟩ := h
  refine jg_new (c := 17) (N := 4) (C := "PureHouse$Local") (by decide) ⟨rfl, rfl⟩ q1630 q1588 q156 hg5 dX4_with_8 ?_
  replace hk2 := gk_mk (t := 18) (n := 4) hk2 (by decide)
  replace hk4 := gk_mk (t := 18) (n := 4) hk4 (by decide)
  have hk6 := gk_new (t := 18) (n := 4) hg5.2.2
  refine j_dup dX4_with_11 rfl ?_
  refine j_iconst (v := iI (-1)) dX4_with_12 rfl ?_
  refine j_aload_n (r := x3) dX4_with_13 rfl ?_
  refine jg_callr (rest := [.int (iI (-1)), va_rf (some (gn (gmk 14 2 (gmk 15 5 σ)))), va_rf (some (gn (gmk 14 2 (gmk 15 5 σ)))), va_rf (some (gn (gmk 15 5 σ))), va_rf (some (gn (gmk 15 5 σ))), va_rf (some (gn σ)), va_rf (some (gn σ))]) (kg_lkS (As := [va_rf x3]) ktX17_of q1428 rfl rfl dX4_with_14) cwX17_of (Nat.le_of_ble_eq_true rfl) rfl dX4_with_14 (Nat.succ_le_succ (Nat.zero_le _)) (h.mono (onR_mono (fun r8 t7 h hlt7 => ?_) (fun _ _ h => h)))
  replace h := h hlt7
  replace hk2 := hlt7.tag hk2 (by decide)
  replace hk4 := hlt7.tag hk4 (by decide)
  replace hk6 := hlt7.tag hk6 (by decide)
  refine jg_calli (rest := [.int (iI (-1)), va_rf (some (gn (gmk 14 2 (gmk 15 5 σ)))), va_rf (some (gn (gmk 14 2 (gmk 15 5 σ)))), va_rf (some (gn (gmk 15 5 σ))), va_rf (some (gn (gmk 15 5 σ))), va_rf (some (gn σ)), va_rf (some (gn σ))]) (kg_lkS (As := [va_rf r8]) ktX18_depth q1446 rfl rfl dX4_with_17) cwX18_depth (Nat.le_of_ble_eq_true rfl) rfl dX4_with_17 (Nat.succ_le_succ (Nat.zero_le _)) (h.mono (onI_mono (fun r10 t9 h hlt9 => ?_) (fun _ _ h => h)))
  replace h := h hlt9
  replace hk2 := hlt9.tag hk2 (by decide)
  replace hk4 := hlt9.tag hk4 (by decide)
  replace hk6 := hlt9.tag hk6 (by decide)
  refine jg_callv (rest := [va_rf (some (gn (gmk 14 2 (gmk 15 5 σ)))), va_rf (some (gn (gmk 15 5 σ))), va_rf (some (gn (gmk 15 5 σ))), va_rf (some (gn σ)), va_rf (some (gn σ))]) (kg_lkI (As := [.int (iI (-1)), .int r10]) (a := (gn (gmk 14 2 (gmk 15 5 σ)))) kiX20_init (Or.inl q1631) rfl rfl dX4_with_20) cwX20_init (Nat.le_of_ble_eq_true rfl) rfl dX4_with_20 (Nat.succ_le_succ (Nat.zero_le _)) (h.mono (onV_mono (fun t11 h hlt11 => ?_) (fun _ _ h => h)))
  replace h := h hlt11
  replace hk2 := hlt11.tag hk2 (by decide)
  replace hk4 := hlt11.tag hk4 (by decide)
  replace hk6 := hlt11.tag hk6 (by decide)
  refine j_null dX4_with_23 ?_
  refine jg_callv (rest := [va_rf (some (gn (gmk 15 5 σ))), va_rf (some (gn σ)), va_rf (some (gn σ))]) (kg_lkI (As := [va_rf (some (gn (gmk 14 2 (gmk 15 5 σ)))), va_rf none]) (a := (gn (gmk 15 5 σ))) kiX16_init (Or.inl q1431) rfl rfl dX4_with_24) cwX16_init (Nat.le_of_ble_eq_true rfl) rfl dX4_with_24 (Nat.succ_le_succ (Nat.zero_le _)) (h.mono (onV_mono (fun t13 h hlt13 => ?_) (fun _ _ h => h)))
  replace h := h hlt13
  replace hk2 := hlt13.tag hk2 (by decide)
  replace hk4 := hlt13.tag hk4 (by decide)
  replace hk6 := hlt13.tag hk6 (by decide)
  refine j_aload_n (r := x1) dX4_with_27 rfl ?_
  refine j_aload_n (r := x3) dX4_with_28 rfl ?_
  refine jg_callr (rest := [va_rf x1, va_rf (some (gn (gmk 15 5 σ))), va_rf (some (gn σ)), va_rf (some (gn σ))]) (kg_lkS (As := [va_rf x3]) ktX17_of q1428 rfl rfl dX4_with_29) cwX17_of (rm_ok (cat1_cons (rf_cat _) (cat1_cons rfl (cat1_cons rfl (cat1_cons rfl cat1_nil)))) (Nat.le_of_ble_eq_true rfl)) rfl dX4_with_29 (Nat.succ_le_succ (Nat.zero_le _)) (h.mono (onR_mono (fun r16 t15 h hlt15 => ?_) (fun _ _ h => h)))
  replace h := h hlt15
  replace hk2 := hlt15.tag hk2 (by decide)
  replace hk4 := hlt15.tag hk4 (by decide)
  replace hk6 := hlt15.tag hk6 (by decide)
  refine j_iload_n dX4_with_32 rfl ?_
  refine j_aload_n (r := x3) dX4_with_33 rfl ?_
  refine jg_callv (rest := [va_rf (some (gn σ))]) (kg_lkI (As := [va_rf (some (gn (gmk 15 5 σ))), va_rf x1, va_rf r16, .int x2, va_rf x3]) (a := (gn σ)) kiX17_init (Or.inl q1632) rfl rfl dX4_with_34) cwX17_init (Nat.le_of_ble_eq_true rfl) rfl dX4_with_34 (Nat.succ_le_succ (Nat.zero_le _)) (h.mono (onV_mono (fun t17 h hlt17 => ?_) (fun _ _ h => h)))
  replace h := h hlt17
  replace hk2 := hlt17.tag hk2 (by decide)
  replace hk4 := hlt17.tag hk4 (by decide)
  replace hk6 := hlt17.tag hk6 (by decide)
  exact j_areturn (r := some (gn σ)) rfl (Or.inl ⟨_, rfl⟩) dX4_with_37 h
theorem tX4_lifted {G : GPl} {s0 : State} {l : Launch} {K : Nat → Option Nat} {T : Nat → Nat} {lev : Nat} {Q : Outcome → GSt → Prop} {a0 : Nat} {x1 : Int32} {σ : GSt} (h : (gk σ a0 = 4 ∧ (CQ (wP G s0 l K T) mX18_depth lev [va_rf (gr σ a0 4)] σ (onI (fun r3 t2 => gle σ t2 → (((x1 - r3) = 0 → Q (.returned (some (va_rf (gr t2 a0 3)))) t2) ∧ (¬ (x1 - r3) = 0 → (groom G 4 t2 ∧ (CQ (wP G s0 l K T) mX21_init lev (.ref (gn t2) :: [va_rf (gr (gmk 19 4 t2) a0 3), .int (x1 - r3)]) (gmk 19 4 t2) (onV (fun t6 => gle (gmk 19 4 t2) t6 → Q (.returned (some (va_rf (some (gn t2))))) t6) (fun x t => gle (gmk 19 4 t2) t → Q (.threw x) t))))))) (fun x t => gle σ t → Q (.threw x) t))))) : CQ (wP G s0 l K T) mX4_lifted (lev + 1) [.ref a0, .int x1] σ Q := by
  refine CQ.of3 1 (lv := [some (va_rf (some a0)), some (.int x1), none]) (by decide) (Nat.le_of_ble_eq_true rfl) (cat1_cons rfl (cat1_cons rfl cat1_nil)) rfl ?_
  refine j_iload_n dX4_lifted_0 rfl ?_
  refine j_aload_n (r := some a0) dX4_lifted_1 rfl ?_
  obtain ⟨hk1, h⟩ := h
  refine kg_getr (a := a0) (j := 4) rfl gfX4_50 hk1 dX4_lifted_2 ?_
  refine jg_calli (rest := [.int x1]) (kg_lkS (As := [va_rf (gr σ a0 4)]) ktX18_depth q1446 rfl rfl dX4_lifted_5) cwX18_depth (Nat.le_of_ble_eq_true rfl) rfl dX4_lifted_5 (Nat.succ_le_succ (Nat.zero_le _)) (h.mono (onI_mono (fun r3 t2 h hlt2 => ?_) (fun _ _ h => h)))
  replace h := h hlt2
  replace hk1 := hlt2.tag hk1 (by decide)
  refine j_isub dX4_lifted_8 ?_
  refine j_istore_n (lv' := [some (va_rf (some a0)), some (.int x1), some (.int (x1 - r3))]) dX4_lifted_9 (by decide) rfl ?_
  refine j_iload_n dX4_lifted_10 rfl ?_
  refine j_if_ne 21 dX4_lifted_11 (by decide) (fun c8 => ?_) (fun c8 => ?_)
  · replace h := h.2 c8
    obtain ⟨hg4, h⟩ := h
    refine jg_new (c := 18) (N := 4) (C := "PureHouse$Lifted") (by decide) ⟨rfl, rfl⟩ q1665 q1666 q157 hg4 dX4_lifted_21 ?_
    replace hk1 := gk_mk (t := 19) (n := 4) hk1 (by decide)
    have hk5 := gk_new (t := 19) (n := 4) hg4.2.2
    refine j_dup dX4_lifted_24 rfl ?_
    refine j_aload_n (r := some a0) dX4_lifted_25 rfl ?_
    refine kg_getr (a := a0) (j := 3) rfl gfX4_46 hk1 dX4_lifted_26 ?_
    refine j_iload_n dX4_lifted_29 rfl ?_
    refine jg_callv (rest := [va_rf (some (gn t2))]) (kg_lkI (As := [va_rf (gr (gmk 19 4 t2) a0 3), .int (x1 - r3)]) (a := (gn t2)) kiX21_init (Or.inl q1667) rfl rfl dX4_lifted_30) cwX21_init (Nat.le_of_ble_eq_true rfl) rfl dX4_lifted_30 (Nat.succ_le_succ (Nat.zero_le _)) (h.mono (onV_mono (fun t6 h hlt6 => ?_) (fun _ _ h => h)))
    replace h := h hlt6
    replace hk1 := hlt6.tag hk1 (by decide)
    replace hk5 := hlt6.tag hk5 (by decide)
    exact j_areturn (r := some (gn t2)) rfl (Or.inl ⟨_, rfl⟩) dX4_lifted_33 h
  · replace h := h.1 c8
    refine j_aload_n (r := some a0) dX4_lifted_14 rfl ?_
    refine kg_getr (a := a0) (j := 3) rfl gfX4_46 hk1 dX4_lifted_15 ?_
    refine j_goto 33 dX4_lifted_18 (by decide) ?_
    exact j_areturn (r := gr t2 a0 3) rfl (Or.inl ⟨_, rfl⟩) dX4_lifted_33 h
theorem tX4_product {G : GPl} {s0 : State} {l : Launch} {K : Nat → Option Nat} {T : Nat → Nat} {lev : Nat} {Q : Outcome → GSt → Prop} {a0 : Nat} {x1 : Option Nat} {x2 : Option Nat} {σ : GSt} (h : (∃ a1, x1 = some a1 ∧ (gk σ a1 = 9 ∧ (gk σ a0 = 4 ∧ (CQ (wP G s0 l K T) mX4_typeSort lev (.ref a0 :: [va_rf (gr σ a1 2), va_rf x2]) σ (onI (fun r5 t4 => gle σ t4 → (CQ (wP G s0 l K T) mX4_normal lev (.ref a0 :: [va_rf (gr (gpi a1 4 r5 t4) a1 2), va_rf x2]) (gpi a1 4 r5 t4) (onR (fun r7 t6 => gle (gpi a1 4 r5 t4) t6 → (CQ (wP G s0 l K T) mX4_with lev (.ref a0 :: [va_rf r7, .int (gi t6 a1 4), va_rf x2]) t6 (onR (fun r9 t8 => gle t6 t8 → (CQ (wP G s0 l K T) mX4_typeSort lev (.ref a0 :: [va_rf (gr (gpi a1 4 r5 t4) a1 3), va_rf r9]) t8 (onI (fun r11 t10 => gle t8 t10 → (∃ a12, gr (gpi a1 5 r11 t10) a0 0 = some a12 ∧ (gk (gpi a1 5 r11 t10) a12 = 2 ∧ (CQ (wP G s0 l K T) mX2_rule lev (.ref a12 :: [.int (gi (gpi a1 5 r11 t10) a1 4), .int (gi (gpi a1 5 r11 t10) a1 5)]) (gpi a1 5 r11 t10) (onI (fun r15 t14 => gle (gpi a1 5 r11 t10) t14 → ((r15 = (iI (-1)) → (groom G 8 t14 ∧ (CQ (wP G s0 l K T) mX8_init lev (.ref (gn t14) :: [.int (iI 9), .int (gi (gmk 7 8 t14) a1 0)]) (gmk 7 8 t14) (onV (fun t20 => gle (gmk 7 8 t14) t20 → Q (.threw (gn t14)) t20) (fun x t => gle (gmk 7 8 t14) t → Q (.threw x) t))))) ∧ (¬ r15 = (iI (-1)) → (CQ (wP G s0 l K T) mX4_isSort lev (.ref a0 :: [.int r15]) t14 (onV (fun t16 => gle t14 t16 → Q (.returned none) t16) (fun x t => gle t14 t → Q (.threw x) t)))))) (fun x t => gle (gpi a1 5 r11 t10) t → Q (.threw x) t)))))) (fun x t => gle t8 t → Q (.threw x) t)))) (fun x t => gle t6 t → Q (.threw x) t)))) (fun x t => gle (gpi a1 4 r5 t4) t → Q (.threw x) t)))) (fun x t => gle σ t → Q (.threw x) t))))))) : CQ (wP G s0 l K T) mX4_product (lev + 1) [.ref a0, va_rf x1, va_rf x2] σ Q := by
  refine CQ.of3 1 (lv := [some (va_rf (some a0)), some (va_rf x1), some (va_rf x2), none]) (by decide) (Nat.le_of_ble_eq_true rfl) (cat1_cons rfl (cat1_cons (rf_cat _) (cat1_cons (rf_cat _) cat1_nil))) rfl ?_
  refine j_aload_n (r := x1) dX4_product_0 rfl ?_
  refine j_aload_n (r := some a0) dX4_product_1 rfl ?_
  refine j_aload_n (r := x1) dX4_product_2 rfl ?_
  obtain ⟨a1, ea1, hk2, h⟩ := h
  refine kg_getr (a := a1) (j := 2) ea1 gfX4_212 hk2 dX4_product_3 ?_
  refine j_aload_n (r := x2) dX4_product_6 rfl ?_
  obtain ⟨hk3, h⟩ := h
  refine jg_calli (rest := [va_rf x1]) (kg_lkV (As := [va_rf (gr σ a1 2), va_rf x2]) (a := a0) (c := 3) kgX4_typeSort_3 (by decide) rfl hk3 q1420 rfl rfl dX4_product_7) cwX4_typeSort (rm_ok (cat1_cons (rf_cat _) cat1_nil) (Nat.le_of_ble_eq_true rfl)) rfl dX4_product_7 (Nat.succ_le_succ (Nat.zero_le _)) (h.mono (onI_mono (fun r5 t4 h hlt4 => ?_) (fun _ _ h => h)))
  replace h := h hlt4
  replace hk2 := hlt4.tag hk2 (by decide)
  replace hk3 := hlt4.tag hk3 (by decide)
  refine kg_puti (a := a1) ea1 gfX4_219 (Or.inl rfl) hk2 (Or.inl (by decide)) dX4_product_10 ?_
  refine j_aload_n (r := x1) dX4_product_13 rfl ?_
  refine j_aload_n (r := some a0) dX4_product_14 rfl ?_
  refine j_aload_n (r := x1) dX4_product_15 rfl ?_
  refine kg_getr (a := a1) (j := 3) ea1 gfX4_222 hk2 dX4_product_16 ?_
  refine j_aload_n (r := some a0) dX4_product_19 rfl ?_
  refine j_aload_n (r := some a0) dX4_product_20 rfl ?_
  refine j_aload_n (r := x1) dX4_product_21 rfl ?_
  refine kg_getr (a := a1) (j := 2) ea1 gfX4_212 hk2 dX4_product_22 ?_
  refine j_aload_n (r := x2) dX4_product_25 rfl ?_
  refine jg_callr (rest := [va_rf (some a0), va_rf (gr (gpi a1 4 r5 t4) a1 3), va_rf (some a0), va_rf x1]) (kg_lkV (As := [va_rf (gr (gpi a1 4 r5 t4) a1 2), va_rf x2]) (a := a0) (c := 3) kgX4_normal_3 (by decide) rfl hk3 q1422 rfl rfl dX4_product_26) cwX4_normal (rm_ok (cat1_cons rfl (cat1_cons (rf_cat _) (cat1_cons rfl (cat1_cons (rf_cat _) cat1_nil)))) (Nat.le_of_ble_eq_true rfl)) rfl dX4_product_26 (Nat.succ_le_succ (Nat.zero_le _)) (h.mono (onR_mono (fun r7 t6 h hlt6 => ?_) (fun _ _ h => h)))
  replace h := h hlt6
  replace hk2 := hlt6.tag hk2 (by decide)
  replace hk3 := hlt6.tag hk3 (by decide)
  refine j_aload_n (r := x1) dX4_product_29 rfl ?_
  refine kg_geti (a := a1) (j := 4) ea1 gfX4_219 (by decide) hk2 dX4_product_30 ?_
  refine j_aload_n (r := x2) dX4_product_33 rfl ?_
  refine jg_callr (rest := [va_rf (gr (gpi a1 4 r5 t4) a1 3), va_rf (some a0), va_rf x1]) (kg_lkV (As := [va_rf r7, .int (gi t6 a1 4), va_rf x2]) (a := a0) (c := 3) kgX4_with_3 (by decide) rfl hk3 q1624 rfl rfl dX4_product_34) cwX4_with (rm_ok (cat1_cons (rf_cat _) (cat1_cons rfl (cat1_cons (rf_cat _) cat1_nil))) (Nat.le_of_ble_eq_true rfl)) rfl dX4_product_34 (Nat.succ_le_succ (Nat.zero_le _)) (h.mono (onR_mono (fun r9 t8 h hlt8 => ?_) (fun _ _ h => h)))
  replace h := h hlt8
  replace hk2 := hlt8.tag hk2 (by decide)
  replace hk3 := hlt8.tag hk3 (by decide)
  refine jg_calli (rest := [va_rf x1]) (kg_lkV (As := [va_rf (gr (gpi a1 4 r5 t4) a1 3), va_rf r9]) (a := a0) (c := 3) kgX4_typeSort_3 (by decide) rfl hk3 q1420 rfl rfl dX4_product_37) cwX4_typeSort (rm_ok (cat1_cons (rf_cat _) cat1_nil) (Nat.le_of_ble_eq_true rfl)) rfl dX4_product_37 (Nat.succ_le_succ (Nat.zero_le _)) (h.mono (onI_mono (fun r11 t10 h hlt10 => ?_) (fun _ _ h => h)))
  replace h := h hlt10
  replace hk2 := hlt10.tag hk2 (by decide)
  replace hk3 := hlt10.tag hk3 (by decide)
  refine kg_puti (a := a1) ea1 gfX4_232 (Or.inl rfl) hk2 (Or.inl (by decide)) dX4_product_40 ?_
  refine j_aload_n (r := some a0) dX4_product_43 rfl ?_
  refine kg_getr (a := a0) (j := 0) rfl gfX4_18 hk3 dX4_product_44 ?_
  refine j_aload_n (r := x1) dX4_product_47 rfl ?_
  refine kg_geti (a := a1) (j := 4) ea1 gfX4_219 (by decide) hk2 dX4_product_48 ?_
  refine j_aload_n (r := x1) dX4_product_51 rfl ?_
  refine kg_geti (a := a1) (j := 5) ea1 gfX4_232 (by decide) hk2 dX4_product_52 ?_
  obtain ⟨a12, ea12, hk13, h⟩ := h
  refine jg_calli (rest := []) (kg_lkV (As := [.int (gi (gpi a1 5 r11 t10) a1 4), .int (gi (gpi a1 5 r11 t10) a1 5)]) (a := a12) (c := 1) kgX2_rule_1 (by decide) rfl hk13 q1660 rfl (by rw [ea12]; rfl) dX4_product_55) cwX2_rule (Nat.le_of_ble_eq_true rfl) rfl dX4_product_55 (Nat.succ_le_succ (Nat.zero_le _)) (h.mono (onI_mono (fun r15 t14 h hlt14 => ?_) (fun _ _ h => h)))
  replace h := h hlt14
  replace hk2 := hlt14.tag hk2 (by decide)
  replace hk3 := hlt14.tag hk3 (by decide)
  replace hk13 := hlt14.tag hk13 (by decide)
  refine j_istore_n (lv' := [some (va_rf (some a0)), some (va_rf x1), some (va_rf x2), some (.int r15)]) dX4_product_58 (by decide) rfl ?_
  refine j_iload_n dX4_product_59 rfl ?_
  refine j_iconst (v := iI (-1)) dX4_product_60 rfl ?_
  refine j_icmp_ne 78 dX4_product_61 (by decide) (fun c22 => ?_) (fun c22 => ?_)
  · replace h := h.2 c22
    refine j_aload_n (r := some a0) dX4_product_78 rfl ?_
    refine j_iload_n dX4_product_79 rfl ?_
    refine jg_callv (rest := []) (kg_lkV (As := [.int r15]) (a := a0) (c := 3) kgX4_isSort_3 (by decide) rfl hk3 q1406 rfl rfl dX4_product_80) cwX4_isSort (Nat.le_of_ble_eq_true rfl) rfl dX4_product_80 (Nat.succ_le_succ (Nat.zero_le _)) (h.mono (onV_mono (fun t16 h hlt16 => ?_) (fun _ _ h => h)))
    replace h := h hlt16
    replace hk2 := hlt16.tag hk2 (by decide)
    replace hk3 := hlt16.tag hk3 (by decide)
    replace hk13 := hlt16.tag hk13 (by decide)
    exact j_return rfl dX4_product_83 h
  · replace h := h.1 c22
    obtain ⟨hg18, h⟩ := h
    refine jg_new (c := 6) (N := 8) (C := "PureHouse$Fault") (by decide) ⟨rfl, rfl⟩ q1400 q989 q143 hg18 dX4_product_64 ?_
    replace hk2 := gk_mk (t := 7) (n := 8) hk2 (by decide)
    replace hk3 := gk_mk (t := 7) (n := 8) hk3 (by decide)
    replace hk13 := gk_mk (t := 7) (n := 8) hk13 (by decide)
    have hk19 := gk_new (t := 7) (n := 8) hg18.2.2
    refine j_dup dX4_product_67 rfl ?_
    refine j_bipush (v := iI 9) dX4_product_68 rfl ?_
    refine j_aload_n (r := x1) dX4_product_70 rfl ?_
    refine kg_geti (a := a1) (j := 0) ea1 gfX4_239 (by decide) hk2 dX4_product_71 ?_
    refine jg_callv (rest := [va_rf (some (gn t14))]) (kg_lkI (As := [.int (iI 9), .int (gi (gmk 7 8 t14) a1 0)]) (a := (gn t14)) kiX8_init (Or.inl q1401) rfl rfl dX4_product_74) cwX8_init (Nat.le_of_ble_eq_true rfl) rfl dX4_product_74 (Nat.succ_le_succ (Nat.zero_le _)) (h.mono (onV_mono (fun t20 h hlt20 => ?_) (fun _ _ h => h)))
    replace h := h hlt20
    replace hk2 := hlt20.tag hk2 (by decide)
    replace hk3 := hlt20.tag hk3 (by decide)
    replace hk13 := hlt20.tag hk13 (by decide)
    replace hk19 := hlt20.tag hk19 (by decide)
    exact kg_athrow (a := (gn t14)) rfl rfl dX4_product_77 h
abbrev jX4_use_11 (G : GPl) (s0 : State) (l : Launch) (K : Nat → Option Nat) (T : Nat → Nat) (lev : Nat) (st0 : GSt) (Q : Outcome → GSt → Prop) (a0 : Nat) (x1 : Option Nat) (x2 : Option Nat) (x3 : Int32) (σ : GSt) : Prop := JQ (wP G s0 l K T) mX4_use (lev + 1) st0 11 [some (va_rf (some a0)), some (va_rf x1), some (va_rf x2), some (.int x3), none, none, none, none] [] σ Q
theorem tX4_use {G : GPl} {s0 : State} {l : Launch} {K : Nat → Option Nat} {T : Nat → Nat} {lev : Nat} {Q : Outcome → GSt → Prop} {a0 : Nat} {x1 : Option Nat} {x2 : Option Nat} {σ : GSt} (h : (∃ a1, x1 = some a1 ∧ (gk σ a1 = 13 ∧ (gk σ a0 = 4 ∧ (CQ (wP G s0 l K T) mX4_judge lev (.ref a0 :: [va_rf (gr σ a1 2), va_rf x2]) σ (onV (fun t4 => gle σ t4 → jX4_use_11 G s0 l K T lev σ Q a0 x1 x2 (iI 0) t4) (fun x t => gle σ t → Q (.threw x) t))))))) : CQ (wP G s0 l K T) mX4_use (lev + 1) [.ref a0, va_rf x1, va_rf x2] σ Q := by
  refine CQ.of3 5 (lv := [some (va_rf (some a0)), some (va_rf x1), some (va_rf x2), none, none, none, none, none]) (by decide) (Nat.le_of_ble_eq_true rfl) (cat1_cons rfl (cat1_cons (rf_cat _) (cat1_cons (rf_cat _) cat1_nil))) rfl ?_
  refine j_aload_n (r := some a0) dX4_use_0 rfl ?_
  refine j_aload_n (r := x1) dX4_use_1 rfl ?_
  obtain ⟨a1, ea1, hk2, h⟩ := h
  refine kg_getr (a := a1) (j := 2) ea1 gfX4_255 hk2 dX4_use_2 ?_
  refine j_aload_n (r := x2) dX4_use_5 rfl ?_
  obtain ⟨hk3, h⟩ := h
  refine jg_callv (rest := []) (kg_lkV (As := [va_rf (gr σ a1 2), va_rf x2]) (a := a0) (c := 3) kgX4_judge_3 (by decide) rfl hk3 q1380 rfl rfl dX4_use_6) cwX4_judge (Nat.le_of_ble_eq_true rfl) rfl dX4_use_6 (Nat.succ_le_succ (Nat.zero_le _)) (h.mono (onV_mono (fun t4 h hlt4 => ?_) (fun _ _ h => h)))
  replace h := h hlt4
  replace hk2 := hlt4.tag hk2 (by decide)
  replace hk3 := hlt4.tag hk3 (by decide)
  refine j_iconst (v := iI 0) dX4_use_9 rfl ?_
  refine j_istore_n (lv' := [some (va_rf (some a0)), some (va_rf x1), some (va_rf x2), some (.int (iI 0)), none, none, none, none]) dX4_use_10 (by decide) rfl ?_
  exact h
theorem tX4_use_11 {G : GPl} {s0 : State} {l : Launch} {K : Nat → Option Nat} {T : Nat → Nat} {lev : Nat} {st0 : GSt} {Q : Outcome → GSt → Prop} {a0 : Nat} {x1 : Option Nat} {x2 : Option Nat} {x3 : Int32} {σ : GSt} (h : (∃ a1, x1 = some a1 ∧ (gk σ a1 = 13 ∧ (∃ a3, gr σ a1 3 = some a3 ∧ (gk σ a3 = 22 ∧ (CQ (wP G s0 l K T) mJ2_size lev (.ref a3 :: []) σ (onI (fun r6 t5 => gle σ t5 → ((r6 ≤ x3 → Q (.returned none) t5) ∧ (¬ r6 ≤ x3 → (gk t5 a0 = 4 ∧ (CQ (wP G s0 l K T) mX4_found lev (.ref a0 :: []) t5 (onR (fun r9 t8 => gle t5 t8 → (∃ a10, r9 = some a10 ∧ (gk t8 a10 = 14 ∧ (∃ a12, gr t8 a10 0 = some a12 ∧ (isTmA t8 a12 ∧ ((isA t8 (gr t8 a10 0) 9 → (∃ a16, gr t8 a1 3 = some a16 ∧ (gk t8 a16 = 22 ∧ (CQ (wP G s0 l K T) mJ2_get lev (.ref a16 :: [.int x3]) t8 (onR (fun r19 t18 => gle t8 t18 → (inT t18 r19 [8, 9, 10, 11, 12, 13, 18, 19, 20] ∧ (CQ (wP G s0 l K T) mX4_judge lev (.ref a0 :: [va_rf r19, va_rf x2]) t18 (onV (fun t21 => gle t18 t21 → (CQ (wP G s0 l K T) mX3_domain lev [va_rf r9] t21 (onR (fun r24 t23 => gle t21 t23 → (CQ (wP G s0 l K T) mX4_found lev (.ref a0 :: []) t23 (onR (fun r26 t25 => gle t23 t25 → (∃ a27, gr t21 a0 1 = some a27 ∧ (gk t25 a27 = 3 ∧ (CQ (wP G s0 l K T) mX3_same lev (.ref a27 :: [va_rf r24, va_rf r26]) t25 (onI (fun r30 t29 => gle t25 t29 → ((r30 = 0 → (groom G 8 t29 ∧ (∃ a49, r19 = some a49 ∧ (isTmA (gmk 7 8 t29) a49 ∧ (CQ (wP G s0 l K T) mX8_init lev (.ref (gn t29) :: [.int (iI 11), .int (gi (gmk 7 8 t29) a49 1)]) (gmk 7 8 t29) (onV (fun t51 => gle (gmk 7 8 t29) t51 → Q (.threw (gn t29)) t51) (fun x t => gle (gmk 7 8 t29) t → Q (.threw x) t))))))) ∧ (¬ r30 = 0 → (CQ (wP G s0 l K T) mX17_of lev [va_rf x2] t29 (onR (fun r32 t31 => gle t29 t31 → (groom G 2 t31 ∧ (CQ (wP G s0 l K T) mX16_init lev (.ref (gn t31) :: [va_rf r19, va_rf r32]) (gmk 14 2 t31) (onV (fun t35 => gle (gmk 14 2 t31) t35 → (CQ (wP G s0 l K T) mX3_body lev [va_rf r9, va_rf (some (gn t31))] t35 (onR (fun r38 t37 => gle t35 t37 → (CQ (wP G s0 l K T) mX18_depth lev [va_rf r32] t37 (onI (fun r40 t39 => gle t37 t39 → (∃ a41, gr t31 a0 1 = some a41 ∧ (gk t39 a41 = 3 ∧ (CQ (wP G s0 l K T) mX3_normal lev (.ref a41 :: [va_rf r38, .int r40]) t39 (onR (fun r44 t43 => gle t39 t43 → (CQ (wP G s0 l K T) mX4_is lev (.ref a0 :: [va_rf r44, va_rf r32, .int (gi t43 a12 5)]) t43 (onV (fun t45 => gle t43 t45 → jX4_use_11 G s0 l K T lev st0 Q a0 x1 x2 (x3 + iI 1) t45) (fun x t => gle t43 t → Q (.threw x) t)))) (fun x t => gle t39 t → Q (.threw x) t)))))) (fun x t => gle t37 t → Q (.threw x) t)))) (fun x t => gle t35 t → Q (.threw x) t)))) (fun x t => gle (gmk 14 2 t31) t → Q (.threw x) t))))) (fun x t => gle t29 t → Q (.threw x) t)))))) (fun x t => gle t25 t → Q (.threw x) t)))))) (fun x t => gle t23 t → Q (.threw x) t)))) (fun x t => gle t21 t → Q (.threw x) t)))) (fun x t => gle t18 t → Q (.threw x) t))))) (fun x t => gle t8 t → Q (.threw x) t)))))) ∧ (¬ isA t8 (gr t8 a10 0) 9 → (groom G 8 t8 ∧ (CQ (wP G s0 l K T) mX8_init lev (.ref (gn t8) :: [.int (iI 10), .int (gi (gmk 7 8 t8) a1 0)]) (gmk 7 8 t8) (onV (fun t56 => gle (gmk 7 8 t8) t56 → Q (.threw (gn t8)) t56) (fun x t => gle (gmk 7 8 t8) t → Q (.threw x) t))))))))))) (fun x t => gle t5 t → Q (.threw x) t))))))) (fun x t => gle σ t → Q (.threw x) t)))))))) : jX4_use_11 G s0 l K T lev st0 Q a0 x1 x2 x3 σ := by
  refine j_iload_n dX4_use_11 rfl ?_
  refine j_aload_n (r := x1) dX4_use_12 rfl ?_
  obtain ⟨a1, ea1, hk2, h⟩ := h
  refine kg_getr (a := a1) (j := 3) ea1 gfX4_258 hk2 dX4_use_13 ?_
  obtain ⟨a3, ea3, hk4, h⟩ := h
  refine jg_calli (rest := [.int x3]) (kg_lkV (As := []) (a := a3) (c := 21) kgJ2_size_21 (by decide) rfl hk4 q1372 rfl (by rw [ea3]; rfl) dX4_use_16) cwJ2_size (Nat.le_of_ble_eq_true rfl) rfl dX4_use_16 (Nat.succ_le_succ (Nat.zero_le _)) (h.mono (onI_mono (fun r6 t5 h hlt5 => ?_) (fun _ _ h => h)))
  replace h := h hlt5
  replace hk2 := hlt5.tag hk2 (by decide)
  replace hk4 := hlt5.tag hk4 (by decide)
  refine j_icmp_ge 172 dX4_use_19 (by decide) (fun c58 => ?_) (fun c58 => ?_)
  · replace h := h.1 c58
    exact j_return rfl dX4_use_172 h
  · replace h := h.2 c58
    refine j_aload_n (r := some a0) dX4_use_22 rfl ?_
    obtain ⟨hk7, h⟩ := h
    refine jg_callr (rest := []) (kg_lkV (As := []) (a := a0) (c := 3) kgX4_found_3 (by decide) rfl hk7 q1691 rfl rfl dX4_use_23) cwX4_found (Nat.le_of_ble_eq_true rfl) rfl dX4_use_23 (Nat.succ_le_succ (Nat.zero_le _)) (h.mono (onR_mono (fun r9 t8 h hlt8 => ?_) (fun _ _ h => h)))
    replace h := h hlt8
    replace hk2 := hlt8.tag hk2 (by decide)
    replace hk4 := hlt8.tag hk4 (by decide)
    replace hk7 := hlt8.tag hk7 (by decide)
    refine j_astore (r := r9) (lv' := [some (va_rf (some a0)), some (va_rf x1), some (va_rf x2), some (.int x3), some (va_rf r9), none, none, none]) dX4_use_26 (by decide) rfl ?_
    refine j_aload (r := r9) dX4_use_28 rfl ?_
    obtain ⟨a10, ea10, hk11, h⟩ := h
    refine kg_getr (a := a10) (j := 0) ea10 gfX4_185 hk11 dX4_use_30 ?_
    refine j_astore (r := gr t8 a10 0) (lv' := [some (va_rf (some a0)), some (va_rf x1), some (va_rf x2), some (.int x3), some (va_rf r9), none, some (va_rf (gr t8 a10 0)), none]) dX4_use_33 (by decide) rfl ?_
    refine j_aload (r := gr t8 a10 0) dX4_use_35 rfl ?_
    obtain ⟨a12, ea12, hm13, h⟩ := h
    refine jg_inst (r := gr t8 a10 0) 8 (by decide) q1421 (isTmA.tm (a := a12) hm13 ea12) dX4_use_37 (fun c14 => ?_) (fun c14 => ?_)
    · replace h := h.1 c14
      have hk15 := isA.tag c14 ea12
      refine j_if_eq 53 dX4_use_40 (by decide) (fun q_ => absurd q_ (by decide)) (fun _ => ?_)
      refine j_aload (r := gr t8 a10 0) dX4_use_43 rfl ?_
      refine jg_cast (r := gr t8 a10 0) cs_PureHouse_Product q1421 (Or.inr ⟨a12, ea12, by rw [hk15]; decide⟩) dX4_use_45 ?_
      refine j_astore (r := gr t8 a10 0) (lv' := [some (va_rf (some a0)), some (va_rf x1), some (va_rf x2), some (.int x3), some (va_rf r9), some (va_rf (gr t8 a10 0)), some (va_rf (gr t8 a10 0)), none]) dX4_use_48 (by decide) rfl ?_
      refine j_goto 67 dX4_use_50 (by decide) ?_
      refine j_aload_n (r := x1) dX4_use_67 rfl ?_
      refine kg_getr (a := a1) (j := 3) ea1 gfX4_258 hk2 dX4_use_68 ?_
      refine j_iload_n dX4_use_71 rfl ?_
      obtain ⟨a16, ea16, hk17, h⟩ := h
      refine jg_callr (rest := []) (kg_lkV (As := [.int x3]) (a := a16) (c := 21) kgJ2_get_21 (by decide) rfl hk17 q1373 rfl (by rw [ea16]; rfl) dX4_use_72) cwJ2_get (Nat.le_of_ble_eq_true rfl) rfl dX4_use_72 (Nat.succ_le_succ (Nat.zero_le _)) (h.mono (onR_mono (fun r19 t18 h hlt18 => ?_) (fun _ _ h => h)))
      replace h := h hlt18
      replace hk2 := hlt18.tag hk2 (by decide)
      replace hk4 := hlt18.tag hk4 (by decide)
      replace hk7 := hlt18.tag hk7 (by decide)
      replace hk11 := hlt18.tag hk11 (by decide)
      replace hk15 := hlt18.tag hk15 (by decide)
      replace hk17 := hlt18.tag hk17 (by decide)
      replace hm13 := hm13.le hlt18
      obtain ⟨hc20, h⟩ := h
      refine jg_cast (r := r19) cs_PureHouse_Term q1698 hc20 dX4_use_75 ?_
      refine j_astore (r := r19) (lv' := [some (va_rf (some a0)), some (va_rf x1), some (va_rf x2), some (.int x3), some (va_rf r9), some (va_rf (gr t8 a10 0)), some (va_rf r19), none]) dX4_use_78 (by decide) rfl ?_
      refine j_aload_n (r := some a0) dX4_use_80 rfl ?_
      refine j_aload (r := r19) dX4_use_81 rfl ?_
      refine j_aload_n (r := x2) dX4_use_83 rfl ?_
      refine jg_callv (rest := []) (kg_lkV (As := [va_rf r19, va_rf x2]) (a := a0) (c := 3) kgX4_judge_3 (by decide) rfl hk7 q1380 rfl rfl dX4_use_84) cwX4_judge (Nat.le_of_ble_eq_true rfl) rfl dX4_use_84 (Nat.succ_le_succ (Nat.zero_le _)) (h.mono (onV_mono (fun t21 h hlt21 => ?_) (fun _ _ h => h)))
      replace h := h hlt21
      replace hk2 := hlt21.tag hk2 (by decide)
      replace hk4 := hlt21.tag hk4 (by decide)
      replace hk7 := hlt21.tag hk7 (by decide)
      replace hk11 := hlt21.tag hk11 (by decide)
      replace hk15 := hlt21.tag hk15 (by decide)
      replace hk17 := hlt21.tag hk17 (by decide)
      replace hm13 := hm13.le hlt21
      refine j_aload_n (r := some a0) dX4_use_87 rfl ?_
      refine kg_getr (a := a0) (j := 1) rfl gfX4_22 hk7 dX4_use_88 ?_
      refine j_aload (r := r9) dX4_use_91 rfl ?_
      refine jg_callr (rest := [va_rf (gr t21 a0 1)]) (kg_lkSN (As := [va_rf r9]) ktX3_domain q1699 rfl rfl dX4_use_93) cwX3_domain (rm_ok (cat1_cons (rf_cat _) cat1_nil) (Nat.le_of_ble_eq_true rfl)) rfl dX4_use_93 (Nat.succ_le_succ (Nat.zero_le _)) (h.mono (onR_mono (fun r24 t23 h hlt23 => ?_) (fun _ _ h => h)))
      replace h := h hlt23
      replace hk2 := hlt23.tag hk2 (by decide)
      replace hk4 := hlt23.tag hk4 (by decide)
      replace hk7 := hlt23.tag hk7 (by decide)
      replace hk11 := hlt23.tag hk11 (by decide)
      replace hk15 := hlt23.tag hk15 (by decide)
      replace hk17 := hlt23.tag hk17 (by decide)
      replace hm13 := hm13.le hlt23
      refine j_aload_n (r := some a0) dX4_use_96 rfl ?_
      refine jg_callr (rest := [va_rf r24, va_rf (gr t21 a0 1)]) (kg_lkV (As := []) (a := a0) (c := 3) kgX4_found_3 (by decide) rfl hk7 q1691 rfl rfl dX4_use_97) cwX4_found (rm_ok (cat1_cons (rf_cat _) (cat1_cons (rf_cat _) cat1_nil)) (Nat.le_of_ble_eq_true rfl)) rfl dX4_use_97 (Nat.succ_le_succ (Nat.zero_le _)) (h.mono (onR_mono (fun r26 t25 h hlt25 => ?_) (fun _ _ h => h)))
      replace h := h hlt25
      replace hk2 := hlt25.tag hk2 (by decide)
      replace hk4 := hlt25.tag hk4 (by decide)
      replace hk7 := hlt25.tag hk7 (by decide)
      replace hk11 := hlt25.tag hk11 (by decide)
      replace hk15 := hlt25.tag hk15 (by decide)
      replace hk17 := hlt25.tag hk17 (by decide)
      replace hm13 := hm13.le hlt25
      obtain ⟨a27, ea27, hk28, h⟩ := h
      refine jg_calli (rest := []) (kg_lkV (As := [va_rf r24, va_rf r26]) (a := a27) (c := 2) kgX3_same_2 (by decide) rfl hk28 q1700 rfl (by rw [ea27]; rfl) dX4_use_100) cwX3_same (Nat.le_of_ble_eq_true rfl) rfl dX4_use_100 (Nat.succ_le_succ (Nat.zero_le _)) (h.mono (onI_mono (fun r30 t29 h hlt29 => ?_) (fun _ _ h => h)))
      replace h := h hlt29
      replace hk2 := hlt29.tag hk2 (by decide)
      replace hk4 := hlt29.tag hk4 (by decide)
      replace hk7 := hlt29.tag hk7 (by decide)
      replace hk11 := hlt29.tag hk11 (by decide)
      replace hk15 := hlt29.tag hk15 (by decide)
      replace hk17 := hlt29.tag hk17 (by decide)
      replace hk28 := hlt29.tag hk28 (by decide)
      replace hm13 := hm13.le hlt29
      refine j_if_ne 121 dX4_use_103 (by decide) (fun c53 => ?_) (fun c53 => ?_)
      · replace h := h.2 c53
        refine j_aload_n (r := x2) dX4_use_121 rfl ?_
        refine jg_callr (rest := []) (kg_lkS (As := [va_rf x2]) ktX17_of q1428 rfl rfl dX4_use_122) cwX17_of (Nat.le_of_ble_eq_true rfl) rfl dX4_use_122 (Nat.succ_le_succ (Nat.zero_le _)) (h.mono (onR_mono (fun r32 t31 h hlt31 => ?_) (fun _ _ h => h)))
        replace h := h hlt31
        replace hk2 := hlt31.tag hk2 (by decide)
        replace hk4 := hlt31.tag hk4 (by decide)
        replace hk7 := hlt31.tag hk7 (by decide)
        replace hk11 := hlt31.tag hk11 (by decide)
        replace hk15 := hlt31.tag hk15 (by decide)
        replace hk17 := hlt31.tag hk17 (by decide)
        replace hk28 := hlt31.tag hk28 (by decide)
        replace hm13 := hm13.le hlt31
        refine j_astore (r := r32) (lv' := [some (va_rf (some a0)), some (va_rf x1), some (va_rf x2), some (.int x3), some (va_rf r9), some (va_rf (gr t8 a10 0)), some (va_rf r19), some (va_rf r32)]) dX4_use_125 (by decide) rfl ?_
        refine j_aload_n (r := some a0) dX4_use_127 rfl ?_
        refine j_aload_n (r := some a0) dX4_use_128 rfl ?_
        refine kg_getr (a := a0) (j := 1) rfl gfX4_22 hk7 dX4_use_129 ?_
        refine j_aload (r := r9) dX4_use_132 rfl ?_
        obtain ⟨hg33, h⟩ := h
        refine jg_new (c := 13) (N := 2) (C := "PureHouse$Closure") (by decide) ⟨rfl, rfl⟩ q1426 q1427 q152 hg33 dX4_use_134 ?_
        replace hk2 := gk_mk (t := 14) (n := 2) hk2 (by decide)
        replace hk4 := gk_mk (t := 14) (n := 2) hk4 (by decide)
        replace hk7 := gk_mk (t := 14) (n := 2) hk7 (by decide)
        replace hk11 := gk_mk (t := 14) (n := 2) hk11 (by decide)
        replace hk15 := gk_mk (t := 14) (n := 2) hk15 (by decide)
        replace hk17 := gk_mk (t := 14) (n := 2) hk17 (by decide)
        replace hk28 := gk_mk (t := 14) (n := 2) hk28 (by decide)
        replace hm13 := isTmA.mk (t := 14) (n := 2) hm13
        have hk34 := gk_new (t := 14) (n := 2) hg33.2.2
        refine j_dup dX4_use_137 rfl ?_
        refine j_aload (r := r19) dX4_use_138 rfl ?_
        refine j_aload (r := r32) dX4_use_140 rfl ?_
        refine jg_callv (rest := [va_rf (some (gn t31)), va_rf r9, va_rf (gr t31 a0 1), va_rf (some a0)]) (kg_lkI (As := [va_rf r19, va_rf r32]) (a := (gn t31)) kiX16_init (Or.inl q1431) rfl rfl dX4_use_142) cwX16_init (rm_ok (cat1_cons rfl (cat1_cons (rf_cat _) (cat1_cons (rf_cat _) (cat1_cons rfl cat1_nil)))) (Nat.le_of_ble_eq_true rfl)) rfl dX4_use_142 (Nat.succ_le_succ (Nat.zero_le _)) (h.mono (onV_mono (fun t35 h hlt35 => ?_) (fun _ _ h => h)))
        replace h := h hlt35
        replace hk2 := hlt35.tag hk2 (by decide)
        replace hk4 := hlt35.tag hk4 (by decide)
        replace hk7 := hlt35.tag hk7 (by decide)
        replace hk11 := hlt35.tag hk11 (by decide)
        replace hk15 := hlt35.tag hk15 (by decide)
        replace hk17 := hlt35.tag hk17 (by decide)
        replace hk28 := hlt35.tag hk28 (by decide)
        replace hk34 := hlt35.tag hk34 (by decide)
        replace hm13 := hm13.le hlt35
        refine jg_callr (rest := [va_rf (gr t31 a0 1), va_rf (some a0)]) (kg_lkSN (As := [va_rf r9, va_rf (some (gn t31))]) ktX3_body q1720 rfl rfl dX4_use_145) cwX3_body (rm_ok (cat1_cons (rf_cat _) (cat1_cons rfl cat1_nil)) (Nat.le_of_ble_eq_true rfl)) rfl dX4_use_145 (Nat.succ_le_succ (Nat.zero_le _)) (h.mono (onR_mono (fun r38 t37 h hlt37 => ?_) (fun _ _ h => h)))
        replace h := h hlt37
        replace hk2 := hlt37.tag hk2 (by decide)
        replace hk4 := hlt37.tag hk4 (by decide)
        replace hk7 := hlt37.tag hk7 (by decide)
        replace hk11 := hlt37.tag hk11 (by decide)
        replace hk15 := hlt37.tag hk15 (by decide)
        replace hk17 := hlt37.tag hk17 (by decide)
        replace hk28 := hlt37.tag hk28 (by decide)
        replace hk34 := hlt37.tag hk34 (by decide)
        replace hm13 := hm13.le hlt37
        refine j_aload (r := r32) dX4_use_148 rfl ?_
        refine jg_calli (rest := [va_rf r38, va_rf (gr t31 a0 1), va_rf (some a0)]) (kg_lkS (As := [va_rf r32]) ktX18_depth q1446 rfl rfl dX4_use_150) cwX18_depth (rm_ok (cat1_cons (rf_cat _) (cat1_cons (rf_cat _) (cat1_cons rfl cat1_nil))) (Nat.le_of_ble_eq_true rfl)) rfl dX4_use_150 (Nat.succ_le_succ (Nat.zero_le _)) (h.mono (onI_mono (fun r40 t39 h hlt39 => ?_) (fun _ _ h => h)))
        replace h := h hlt39
        replace hk2 := hlt39.tag hk2 (by decide)
        replace hk4 := hlt39.tag hk4 (by decide)
        replace hk7 := hlt39.tag hk7 (by decide)
        replace hk11 := hlt39.tag hk11 (by decide)
        replace hk15 := hlt39.tag hk15 (by decide)
        replace hk17 := hlt39.tag hk17 (by decide)
        replace hk28 := hlt39.tag hk28 (by decide)
        replace hk34 := hlt39.tag hk34 (by decide)
        replace hm13 := hm13.le hlt39
        obtain ⟨a41, ea41, hk42, h⟩ := h
        refine jg_callr (rest := [va_rf (some a0)]) (kg_lkV (As := [va_rf r38, .int r40]) (a := a41) (c := 2) kgX3_normal_2 (by decide) rfl hk42 q1449 rfl (by rw [ea41]; rfl) dX4_use_153) cwX3_normal (Nat.le_of_ble_eq_true rfl) rfl dX4_use_153 (Nat.succ_le_succ (Nat.zero_le _)) (h.mono (onR_mono (fun r44 t43 h hlt43 => ?_) (fun _ _ h => h)))
        replace h := h hlt43
        replace hk2 := hlt43.tag hk2 (by decide)
        replace hk4 := hlt43.tag hk4 (by decide)
        replace hk7 := hlt43.tag hk7 (by decide)
        replace hk11 := hlt43.tag hk11 (by decide)
        replace hk15 := hlt43.tag hk15 (by decide)
        replace hk17 := hlt43.tag hk17 (by decide)
        replace hk28 := hlt43.tag hk28 (by decide)
        replace hk34 := hlt43.tag hk34 (by decide)
        replace hk42 := hlt43.tag hk42 (by decide)
        replace hm13 := hm13.le hlt43
        refine j_aload (r := r32) dX4_use_156 rfl ?_
        refine j_aload (r := gr t8 a10 0) dX4_use_158 rfl ?_
        refine kg_geti (a := a12) (j := 5) ea12 gfX4_232 (by decide) hk15 dX4_use_160 ?_
        refine jg_callv (rest := []) (kg_lkV (As := [va_rf r44, va_rf r32, .int (gi t43 a12 5)]) (a := a0) (c := 3) kgX4_is_3 (by decide) rfl hk7 q1389 rfl rfl dX4_use_163) cwX4_is (Nat.le_of_ble_eq_true rfl) rfl dX4_use_163 (Nat.succ_le_succ (Nat.zero_le _)) (h.mono (onV_mono (fun t45 h hlt45 => ?_) (fun _ _ h => h)))
        replace h := h hlt45
        replace hk2 := hlt45.tag hk2 (by decide)
        replace hk4 := hlt45.tag hk4 (by decide)
        replace hk7 := hlt45.tag hk7 (by decide)
        replace hk11 := hlt45.tag hk11 (by decide)
        replace hk15 := hlt45.tag hk15 (by decide)
        replace hk17 := hlt45.tag hk17 (by decide)
        replace hk28 := hlt45.tag hk28 (by decide)
        replace hk34 := hlt45.tag hk34 (by decide)
        replace hk42 := hlt45.tag hk42 (by decide)
        replace hm13 := hm13.le hlt45
        refine j_iinc (lv' := [some (va_rf (some a0)), some (va_rf x1), some (va_rf x2), some (.int (x3 + iI 1)), some (va_rf r9), some (va_rf (gr t8 a10 0)), some (va_rf r19), some (va_rf r32)]) dX4_use_166 rfl (by decide) rfl ?_
        refine j_goto 11 dX4_use_169 (by decide) ?_
        exact j_mask [true, true, true, true, false, false, false, false] rfl h
      · replace h := h.1 c53
        obtain ⟨hg47, h⟩ := h
        refine jg_new (c := 6) (N := 8) (C := "PureHouse$Fault") (by decide) ⟨rfl, rfl⟩ q1400 q989 q143 hg47 dX4_use_106 ?_
        replace hk2 := gk_mk (t := 7) (n := 8) hk2 (by decide)
        replace hk4 := gk_mk (t := 7) (n := 8) hk4 (by decide)
        replace hk7 := gk_mk (t := 7) (n := 8) hk7 (by decide)
        replace hk11 := gk_mk (t := 7) (n := 8) hk11 (by decide)
        replace hk15 := gk_mk (t := 7) (n := 8) hk15 (by decide)
        replace hk17 := gk_mk (t := 7) (n := 8) hk17 (by decide)
        replace hk28 := gk_mk (t := 7) (n := 8) hk28 (by decide)
        replace hm13 := isTmA.mk (t := 7) (n := 8) hm13
        have hk48 := gk_new (t := 7) (n := 8) hg47.2.2
        refine j_dup dX4_use_109 rfl ?_
        refine j_bipush (v := iI 11) dX4_use_110 rfl ?_
        refine j_aload (r := r19) dX4_use_112 rfl ?_
        obtain ⟨a49, ea49, hm50, h⟩ := h
        refine kg_getT (j := 1) (a := a49) (by decide) ea49 flX4_188 hm50 dX4_use_114 ?_
        refine jg_callv (rest := [va_rf (some (gn t29))]) (kg_lkI (As := [.int (iI 11), .int (gi (gmk 7 8 t29) a49 1)]) (a := (gn t29)) kiX8_init (Or.inl q1401) rfl rfl dX4_use_117) cwX8_init (Nat.le_of_ble_eq_true rfl) rfl dX4_use_117 (Nat.succ_le_succ (Nat.zero_le _)) (h.mono (onV_mono (fun t51 h hlt51 => ?_) (fun _ _ h => h)))
        replace h := h hlt51
        replace hk2 := hlt51.tag hk2 (by decide)
        replace hk4 := hlt51.tag hk4 (by decide)
        replace hk7 := hlt51.tag hk7 (by decide)
        replace hk11 := hlt51.tag hk11 (by decide)
        replace hk15 := hlt51.tag hk15 (by decide)
        replace hk17 := hlt51.tag hk17 (by decide)
        replace hk28 := hlt51.tag hk28 (by decide)
        replace hk48 := hlt51.tag hk48 (by decide)
        replace hm13 := hm13.le hlt51
        replace hm50 := hm50.le hlt51
        exact kg_athrow (a := (gn t29)) rfl rfl dX4_use_120 h
    · replace h := h.2 c14
      refine j_if_eq 53 dX4_use_40 (by decide) (fun _ => ?_) (fun q_ => absurd (by decide) q_)
      obtain ⟨hg54, h⟩ := h
      refine jg_new (c := 6) (N := 8) (C := "PureHouse$Fault") (by decide) ⟨rfl, rfl⟩ q1400 q989 q143 hg54 dX4_use_53 ?_
      replace hk2 := gk_mk (t := 7) (n := 8) hk2 (by decide)
      replace hk4 := gk_mk (t := 7) (n := 8) hk4 (by decide)
      replace hk7 := gk_mk (t := 7) (n := 8) hk7 (by decide)
      replace hk11 := gk_mk (t := 7) (n := 8) hk11 (by decide)
      replace hm13 := isTmA.mk (t := 7) (n := 8) hm13
      have hk55 := gk_new (t := 7) (n := 8) hg54.2.2
      refine j_dup dX4_use_56 rfl ?_
      refine j_bipush (v := iI 10) dX4_use_57 rfl ?_
      refine j_aload_n (r := x1) dX4_use_59 rfl ?_
      refine kg_geti (a := a1) (j := 0) ea1 gfX4_261 (by decide) hk2 dX4_use_60 ?_
      refine jg_callv (rest := [va_rf (some (gn t8))]) (kg_lkI (As := [.int (iI 10), .int (gi (gmk 7 8 t8) a1 0)]) (a := (gn t8)) kiX8_init (Or.inl q1401) rfl rfl dX4_use_63) cwX8_init (Nat.le_of_ble_eq_true rfl) rfl dX4_use_63 (Nat.succ_le_succ (Nat.zero_le _)) (h.mono (onV_mono (fun t56 h hlt56 => ?_) (fun _ _ h => h)))
      replace h := h hlt56
      replace hk2 := hlt56.tag hk2 (by decide)
      replace hk4 := hlt56.tag hk4 (by decide)
      replace hk7 := hlt56.tag hk7 (by decide)
      replace hk11 := hlt56.tag hk11 (by decide)
      replace hk55 := hlt56.tag hk55 (by decide)
      replace hm13 := hm13.le hlt56
      exact kg_athrow (a := (gn t8)) rfl rfl dX4_use_66 h
abbrev jX4_found_10 (G : GPl) (s0 : State) (l : Launch) (K : Nat → Option Nat) (T : Nat → Nat) (lev : Nat) (st0 : GSt) (Q : Outcome → GSt → Prop) (a0 : Nat) (x1 : Option Nat) (x2 : Option Nat) (σ : GSt) : Prop := JQ (wP G s0 l K T) mX4_found (lev + 1) st0 10 [some (va_rf (some a0)), some (va_rf x1), some (va_rf x2), none, none] [] σ Q
abbrev jX4_found_24 (G : GPl) (s0 : State) (l : Launch) (K : Nat → Option Nat) (T : Nat → Nat) (lev : Nat) (st0 : GSt) (Q : Outcome → GSt → Prop) (a0 : Nat) (x1 : Option Nat) (x2 : Option Nat) (σ : GSt) : Prop := JQ (wP G s0 l K T) mX4_found (lev + 1) st0 24 [some (va_rf (some a0)), some (va_rf x1), some (va_rf x2), none, none] [] σ Q
abbrev jX4_found_39 (G : GPl) (s0 : State) (l : Launch) (K : Nat → Option Nat) (T : Nat → Nat) (lev : Nat) (st0 : GSt) (Q : Outcome → GSt → Prop) (a0 : Nat) (x1 : Option Nat) (x2 : Option Nat) (x3 : Option Nat) (x4 : Int32) (σ : GSt) : Prop := JQ (wP G s0 l K T) mX4_found (lev + 1) st0 39 [some (va_rf (some a0)), some (va_rf x1), some (va_rf x2), some (va_rf x3), some (.int x4)] [] σ Q
theorem tX4_found {G : GPl} {s0 : State} {l : Launch} {K : Nat → Option Nat} {T : Nat → Nat} {lev : Nat} {Q : Outcome → GSt → Prop} {a0 : Nat} {σ : GSt} (h : (gk σ a0 = 4 ∧ jX4_found_10 G s0 l K T lev σ Q a0 (gr σ a0 3) (gr σ a0 4) σ)) : CQ (wP G s0 l K T) mX4_found (lev + 1) [.ref a0] σ Q := by
  refine CQ.of3 4 (lv := [some (va_rf (some a0)), none, none, none, none]) (by decide) (Nat.le_of_ble_eq_true rfl) (cat1_cons rfl cat1_nil) rfl ?_
  refine j_aload_n (r := some a0) dX4_found_0 rfl ?_
  obtain ⟨hk1, h⟩ := h
  refine kg_getr (a := a0) (j := 3) rfl gfX4_46 hk1 dX4_found_1 ?_
  refine j_astore_n (r := gr σ a0 3) (lv' := [some (va_rf (some a0)), some (va_rf (gr σ a0 3)), none, none, none]) dX4_found_4 (by decide) rfl ?_
  refine j_aload_n (r := some a0) dX4_found_5 rfl ?_
  refine kg_getr (a := a0) (j := 4) rfl gfX4_50 hk1 dX4_found_6 ?_
  refine j_astore_n (r := gr σ a0 4) (lv' := [some (va_rf (some a0)), some (va_rf (gr σ a0 3)), some (va_rf (gr σ a0 4)), none, none]) dX4_found_9 (by decide) rfl ?_
  exact h
theorem tX4_found_10 {G : GPl} {s0 : State} {l : Launch} {K : Nat → Option Nat} {T : Nat → Nat} {lev : Nat} {st0 : GSt} {Q : Outcome → GSt → Prop} {a0 : Nat} {x1 : Option Nat} {x2 : Option Nat} {σ : GSt} (h : (∃ a1, x1 = some a1 ∧ (isTmA σ a1 ∧ ((isA σ x1 19 → jX4_found_24 G s0 l K T lev st0 Q a0 x1 x2 σ) ∧ (¬ isA σ x1 19 → ((isA σ x1 20 → jX4_found_24 G s0 l K T lev st0 Q a0 x1 x2 σ) ∧ (¬ isA σ x1 20 → (groom G 2 σ ∧ (CQ (wP G s0 l K T) mX16_init lev (.ref (gn σ) :: [va_rf x1, va_rf x2]) (gmk 14 2 σ) (onV (fun t9 => gle (gmk 14 2 σ) t9 → Q (.returned (some (va_rf (some (gn σ))))) t9) (fun x t => gle (gmk 14 2 σ) t → Q (.threw x) t))))))))))) : jX4_found_10 G s0 l K T lev st0 Q a0 x1 x2 σ := by
  refine j_aload_n (r := x1) dX4_found_10 rfl ?_
  obtain ⟨a1, ea1, hm2, h⟩ := h
  refine jg_inst (r := x1) 18 (by decide) q1665 (isTmA.tm (a := a1) hm2 ea1) dX4_found_11 (fun c3 => ?_) (fun c3 => ?_)
  · replace h := h.1 c3
    have hk4 := isA.tag c3 ea1
    refine j_if_ne 24 dX4_found_14 (by decide) (fun _ => ?_) (fun q_ => absurd q_ (by decide))
    exact h
  · replace h := h.2 c3
    refine j_if_ne 24 dX4_found_14 (by decide) (fun q_ => absurd (by decide) q_) (fun _ => ?_)
    refine j_aload_n (r := x1) dX4_found_17 rfl ?_
    refine jg_inst (r := x1) 19 (by decide) q1695 (isTmA.tm (a := a1) hm2 ea1) dX4_found_18 (fun c5 => ?_) (fun c5 => ?_)
    · replace h := h.1 c5
      have hk6 := isA.tag c5 ea1
      refine j_if_eq 88 dX4_found_21 (by decide) (fun q_ => absurd q_ (by decide)) (fun _ => ?_)
      exact h
    · replace h := h.2 c5
      refine j_if_eq 88 dX4_found_21 (by decide) (fun _ => ?_) (fun q_ => absurd (by decide) q_)
      obtain ⟨hg7, h⟩ := h
      refine jg_new (c := 13) (N := 2) (C := "PureHouse$Closure") (by decide) ⟨rfl, rfl⟩ q1426 q1427 q152 hg7 dX4_found_88 ?_
      replace hm2 := isTmA.mk (t := 14) (n := 2) hm2
      have hk8 := gk_new (t := 14) (n := 2) hg7.2.2
      refine j_dup dX4_found_91 rfl ?_
      refine j_aload_n (r := x1) dX4_found_92 rfl ?_
      refine j_aload_n (r := x2) dX4_found_93 rfl ?_
      refine jg_callv (rest := [va_rf (some (gn σ))]) (kg_lkI (As := [va_rf x1, va_rf x2]) (a := (gn σ)) kiX16_init (Or.inl q1431) rfl rfl dX4_found_94) cwX16_init (Nat.le_of_ble_eq_true rfl) rfl dX4_found_94 (Nat.succ_le_succ (Nat.zero_le _)) (h.mono (onV_mono (fun t9 h hlt9 => ?_) (fun _ _ h => h)))
      replace h := h hlt9
      replace hk8 := hlt9.tag hk8 (by decide)
      replace hm2 := hm2.le hlt9
      exact j_areturn (r := some (gn σ)) rfl (Or.inl ⟨_, rfl⟩) dX4_found_97 h
theorem tX4_found_24 {G : GPl} {s0 : State} {l : Launch} {K : Nat → Option Nat} {T : Nat → Nat} {lev : Nat} {st0 : GSt} {Q : Outcome → GSt → Prop} {a0 : Nat} {x1 : Option Nat} {x2 : Option Nat} {σ : GSt} (h : (∃ a1, x1 = some a1 ∧ (isTmA σ a1 ∧ ((isA σ x1 19 → jX4_found_39 G s0 l K T lev st0 Q a0 x1 x2 x1 (iI 0) σ) ∧ (¬ isA σ x1 19 → (groom G 3 σ ∧ (CQ (wP G s0 l K T) mX18_init lev (.ref (gn σ) :: [va_rf none, va_rf x2]) (gmk 16 3 σ) (onV (fun t7 => gle (gmk 16 3 σ) t7 → (inT t7 x1 [20] ∧ (gk t7 a1 = 20 ∧ jX4_found_10 G s0 l K T lev st0 Q a0 (gr t7 a1 2) (some (gn σ)) t7))) (fun x t => gle (gmk 16 3 σ) t → Q (.threw x) t))))))))) : jX4_found_24 G s0 l K T lev st0 Q a0 x1 x2 σ := by
  refine j_aload_n (r := x1) dX4_found_24 rfl ?_
  obtain ⟨a1, ea1, hm2, h⟩ := h
  refine jg_inst (r := x1) 18 (by decide) q1665 (isTmA.tm (a := a1) hm2 ea1) dX4_found_25 (fun c3 => ?_) (fun c3 => ?_)
  · replace h := h.1 c3
    have hk4 := isA.tag c3 ea1
    refine j_if_eq 67 dX4_found_28 (by decide) (fun q_ => absurd q_ (by decide)) (fun _ => ?_)
    refine j_aload_n (r := x1) dX4_found_31 rfl ?_
    refine jg_cast (r := x1) cs_PureHouse_Lifted q1665 (Or.inr ⟨a1, ea1, by rw [hk4]; decide⟩) dX4_found_32 ?_
    refine j_astore_n (r := x1) (lv' := [some (va_rf (some a0)), some (va_rf x1), some (va_rf x2), some (va_rf x1), none]) dX4_found_35 (by decide) rfl ?_
    refine j_iconst (v := iI 0) dX4_found_36 rfl ?_
    refine j_istore (lv' := [some (va_rf (some a0)), some (va_rf x1), some (va_rf x2), some (va_rf x1), some (.int (iI 0))]) dX4_found_37 (by decide) rfl ?_
    exact h
  · replace h := h.2 c3
    refine j_if_eq 67 dX4_found_28 (by decide) (fun _ => ?_) (fun q_ => absurd (by decide) q_)
    obtain ⟨hg5, h⟩ := h
    refine jg_new (c := 15) (N := 3) (C := "PureHouse$Env") (by decide) ⟨rfl, rfl⟩ q1696 q1494 q154 hg5 dX4_found_67 ?_
    replace hm2 := isTmA.mk (t := 16) (n := 3) hm2
    have hk6 := gk_new (t := 16) (n := 3) hg5.2.2
    refine j_dup dX4_found_70 rfl ?_
    refine j_null dX4_found_71 ?_
    refine j_aload_n (r := x2) dX4_found_72 rfl ?_
    refine jg_callv (rest := [va_rf (some (gn σ))]) (kg_lkI (As := [va_rf none, va_rf x2]) (a := (gn σ)) kiX18_init (Or.inl q1697) rfl rfl dX4_found_73) cwX18_init (Nat.le_of_ble_eq_true rfl) rfl dX4_found_73 (Nat.succ_le_succ (Nat.zero_le _)) (h.mono (onV_mono (fun t7 h hlt7 => ?_) (fun _ _ h => h)))
    replace h := h hlt7
    replace hk6 := hlt7.tag hk6 (by decide)
    replace hm2 := hm2.le hlt7
    refine j_astore_n (r := some (gn σ)) (lv' := [some (va_rf (some a0)), some (va_rf x1), some (va_rf (some (gn σ))), none, none]) dX4_found_76 (by decide) rfl ?_
    refine j_aload_n (r := x1) dX4_found_77 rfl ?_
    obtain ⟨hc9, h⟩ := h
    refine jg_cast (r := x1) cs_PureHouse_Sunk q1695 hc9 dX4_found_78 ?_
    obtain ⟨hk10, h⟩ := h
    refine kg_getr (a := a1) (j := 2) ea1 gfX4_100 hk10 dX4_found_81 ?_
    refine j_astore_n (r := gr t7 a1 2) (lv' := [some (va_rf (some a0)), some (va_rf (gr t7 a1 2)), some (va_rf (some (gn σ))), none, none]) dX4_found_84 (by decide) rfl ?_
    refine j_goto 10 dX4_found_85 (by decide) ?_
    exact h
theorem tX4_found_39 {G : GPl} {s0 : State} {l : Launch} {K : Nat → Option Nat} {T : Nat → Nat} {lev : Nat} {st0 : GSt} {Q : Outcome → GSt → Prop} {a0 : Nat} {x1 : Option Nat} {x2 : Option Nat} {x3 : Option Nat} {x4 : Int32} {σ : GSt} (h : (∃ a1, x3 = some a1 ∧ (gk σ a1 = 19 ∧ (((gi σ a1 3) ≤ x4 → jX4_found_10 G s0 l K T lev st0 Q a0 (gr σ a1 2) x2 σ) ∧ (¬ (gi σ a1 3) ≤ x4 → (∃ a3, x2 = some a3 ∧ (gk σ a3 = 16 ∧ jX4_found_39 G s0 l K T lev st0 Q a0 x1 (gr σ a3 1) x3 (x4 + iI 1) σ))))))) : jX4_found_39 G s0 l K T lev st0 Q a0 x1 x2 x3 x4 σ := by
  refine j_iload dX4_found_39 rfl ?_
  refine j_aload_n (r := x3) dX4_found_41 rfl ?_
  obtain ⟨a1, ea1, hk2, h⟩ := h
  refine kg_geti (a := a1) (j := 3) ea1 gfX4_86 (by decide) hk2 dX4_found_42 ?_
  refine j_icmp_ge 59 dX4_found_45 (by decide) (fun c5 => ?_) (fun c5 => ?_)
  · replace h := h.1 c5
    refine j_aload_n (r := x3) dX4_found_59 rfl ?_
    refine kg_getr (a := a1) (j := 2) ea1 gfX4_94 hk2 dX4_found_60 ?_
    refine j_astore_n (r := gr σ a1 2) (lv' := [some (va_rf (some a0)), some (va_rf (gr σ a1 2)), some (va_rf x2), some (va_rf x3), some (.int x4)]) dX4_found_63 (by decide) rfl ?_
    refine j_goto 10 dX4_found_64 (by decide) ?_
    exact j_mask [true, true, true, false, false] rfl h
  · replace h := h.2 c5
    refine j_aload_n (r := x2) dX4_found_48 rfl ?_
    obtain ⟨a3, ea3, hk4, h⟩ := h
    refine kg_getr (a := a3) (j := 1) ea3 gfX4_89 hk4 dX4_found_49 ?_
    refine j_astore_n (r := gr σ a3 1) (lv' := [some (va_rf (some a0)), some (va_rf x1), some (va_rf (gr σ a3 1)), some (va_rf x3), some (.int x4)]) dX4_found_52 (by decide) rfl ?_
    refine j_iinc (lv' := [some (va_rf (some a0)), some (va_rf x1), some (va_rf (gr σ a3 1)), some (va_rf x3), some (.int (x4 + iI 1))]) dX4_found_53 rfl (by decide) rfl ?_
    refine j_goto 39 dX4_found_56 (by decide) ?_
    exact h
theorem tX4_let {G : GPl} {s0 : State} {l : Launch} {K : Nat → Option Nat} {T : Nat → Nat} {lev : Nat} {Q : Outcome → GSt → Prop} {a0 : Nat} {x1 : Option Nat} {x2 : Option Nat} {σ : GSt} (h : (∃ a1, x1 = some a1 ∧ (gk σ a1 = 10 ∧ (gk σ a0 = 4 ∧ (CQ (wP G s0 l K T) mX4_judge lev (.ref a0 :: [va_rf (gr σ a1 2), va_rf x2]) σ (onV (fun t4 => gle σ t4 → (groom G 2 t4 ∧ (CQ (wP G s0 l K T) mX17_of lev [va_rf x2] (gmk 14 2 t4) (onR (fun r9 t8 => gle (gmk 14 2 t4) t8 → (CQ (wP G s0 l K T) mX16_init lev (.ref (gn t4) :: [va_rf (gr (gmk 14 2 t4) a1 2), va_rf r9]) t8 (onV (fun t10 => gle t8 t10 → (groom G 5 t10 ∧ (CQ (wP G s0 l K T) mX17_init lev (.ref (gn t10) :: [va_rf (some (gn t4)), va_rf (gr (gmk 15 5 t10) a0 3), va_rf (gr (gmk 15 5 t10) a0 4), .int (gi (gmk 15 5 t10) a0 5), va_rf x2]) (gmk 15 5 t10) (onV (fun t14 => gle (gmk 15 5 t10) t14 → (CQ (wP G s0 l K T) mX4_judge lev (.ref a0 :: [va_rf (gr t10 a1 3), va_rf (some (gn t10))]) t14 (onV (fun t16 => gle t14 t16 → (CQ (wP G s0 l K T) mX17_of lev [va_rf x2] t16 (onR (fun r19 t18 => gle t16 t18 → (CQ (wP G s0 l K T) mX18_depth lev [va_rf (gr t18 a0 4)] t18 (onI (fun r21 t20 => gle t18 t20 → (CQ (wP G s0 l K T) mX18_depth lev [va_rf r19] t20 (onI (fun r23 t22 => gle t20 t22 → ((r21 ≤ r23 → Q (.returned none) t22) ∧ (¬ r21 ≤ r23 → (groom G 3 t22 ∧ (CQ (wP G s0 l K T) mX22_init lev (.ref (gn t22) :: [va_rf (gr (gmk 20 3 t22) a0 3)]) (gmk 20 3 t22) (onV (fun t26 => gle (gmk 20 3 t22) t26 → (CQ (wP G s0 l K T) mX4_is lev (.ref a0 :: [va_rf (some (gn t22)), va_rf r19, .int (gi t26 a0 5)]) t26 (onV (fun t28 => gle t26 t28 → Q (.returned none) t28) (fun x t => gle t26 t → Q (.threw x) t)))) (fun x t => gle (gmk 20 3 t22) t → Q (.threw x) t))))))) (fun x t => gle t20 t → Q (.threw x) t)))) (fun x t => gle t18 t → Q (.threw x) t)))) (fun x t => gle t16 t → Q (.threw x) t)))) (fun x t => gle t14 t → Q (.threw x) t)))) (fun x t => gle (gmk 15 5 t10) t → Q (.threw x) t))))) (fun x t => gle t8 t → Q (.threw x) t)))) (fun x t => gle (gmk 14 2 t4) t → Q (.threw x) t))))) (fun x t => gle σ t → Q (.threw x) t))))))) : CQ (wP G s0 l K T) mX4_let (lev + 1) [.ref a0, va_rf x1, va_rf x2] σ Q := by
  refine CQ.of3 2 (lv := [some (va_rf (some a0)), some (va_rf x1), some (va_rf x2), none, none]) (by decide) (Nat.le_of_ble_eq_true rfl) (cat1_cons rfl (cat1_cons (rf_cat _) (cat1_cons (rf_cat _) cat1_nil))) rfl ?_
  refine j_aload_n (r := some a0) dX4_let_0 rfl ?_
  refine j_aload_n (r := x1) dX4_let_1 rfl ?_
  obtain ⟨a1, ea1, hk2, h⟩ := h
  refine kg_getr (a := a1) (j := 2) ea1 gfX4_272 hk2 dX4_let_2 ?_
  refine j_aload_n (r := x2) dX4_let_5 rfl ?_
  obtain ⟨hk3, h⟩ := h
  refine jg_callv (rest := []) (kg_lkV (As := [va_rf (gr σ a1 2), va_rf x2]) (a := a0) (c := 3) kgX4_judge_3 (by decide) rfl hk3 q1380 rfl rfl dX4_let_6) cwX4_judge (Nat.le_of_ble_eq_true rfl) rfl dX4_let_6 (Nat.succ_le_succ (Nat.zero_le _)) (h.mono (onV_mono (fun t4 h hlt4 => ?_) (fun _ _ h => h)))
  replace h := h hlt4
  replace hk2 := hlt4.tag hk2 (by decide)
  replace hk3 := hlt4.tag hk3 (by decide)
  obtain ⟨hg6, h⟩ := h
  refine jg_new (c := 13) (N := 2) (C := "PureHouse$Closure") (by decide) ⟨rfl, rfl⟩ q1426 q1427 q152 hg6 dX4_let_9 ?_
  replace hk2 := gk_mk (t := 14) (n := 2) hk2 (by decide)
  replace hk3 := gk_mk (t := 14) (n := 2) hk3 (by decide)
  have hk7 := gk_new (t := 14) (n := 2) hg6.2.2
  refine j_dup dX4_let_12 rfl ?_
  refine j_aload_n (r := x1) dX4_let_13 rfl ?_
  refine kg_getr (a := a1) (j := 2) ea1 gfX4_272 hk2 dX4_let_14 ?_
  refine j_aload_n (r := x2) dX4_let_17 rfl ?_
  refine jg_callr (rest := [va_rf (gr (gmk 14 2 t4) a1 2), va_rf (some (gn t4)), va_rf (some (gn t4))]) (kg_lkS (As := [va_rf x2]) ktX17_of q1428 rfl rfl dX4_let_18) cwX17_of (rm_ok (cat1_cons (rf_cat _) (cat1_cons rfl (cat1_cons rfl cat1_nil))) (Nat.le_of_ble_eq_true rfl)) rfl dX4_let_18 (Nat.succ_le_succ (Nat.zero_le _)) (h.mono (onR_mono (fun r9 t8 h hlt8 => ?_) (fun _ _ h => h)))
  replace h := h hlt8
  replace hk2 := hlt8.tag hk2 (by decide)
  replace hk3 := hlt8.tag hk3 (by decide)
  replace hk7 := hlt8.tag hk7 (by decide)
  refine jg_callv (rest := [va_rf (some (gn t4))]) (kg_lkI (As := [va_rf (gr (gmk 14 2 t4) a1 2), va_rf r9]) (a := (gn t4)) kiX16_init (Or.inl q1431) rfl rfl dX4_let_21) cwX16_init (Nat.le_of_ble_eq_true rfl) rfl dX4_let_21 (Nat.succ_le_succ (Nat.zero_le _)) (h.mono (onV_mono (fun t10 h hlt10 => ?_) (fun _ _ h => h)))
  replace h := h hlt10
  replace hk2 := hlt10.tag hk2 (by decide)
  replace hk3 := hlt10.tag hk3 (by decide)
  replace hk7 := hlt10.tag hk7 (by decide)
  refine j_astore_n (r := some (gn t4)) (lv' := [some (va_rf (some a0)), some (va_rf x1), some (va_rf x2), some (va_rf (some (gn t4))), none]) dX4_let_24 (by decide) rfl ?_
  refine j_aload_n (r := some a0) dX4_let_25 rfl ?_
  refine j_aload_n (r := x1) dX4_let_26 rfl ?_
  refine kg_getr (a := a1) (j := 3) ea1 gfX4_275 hk2 dX4_let_27 ?_
  obtain ⟨hg12, h⟩ := h
  refine jg_new (c := 14) (N := 5) (C := "PureHouse$Scope") (by decide) ⟨rfl, rfl⟩ q1628 q1629 q153 hg12 dX4_let_30 ?_
  replace hk2 := gk_mk (t := 15) (n := 5) hk2 (by decide)
  replace hk3 := gk_mk (t := 15) (n := 5) hk3 (by decide)
  replace hk7 := gk_mk (t := 15) (n := 5) hk7 (by decide)
  have hk13 := gk_new (t := 15) (n := 5) hg12.2.2
  refine j_dup dX4_let_33 rfl ?_
  refine j_aload_n (r := some (gn t4)) dX4_let_34 rfl ?_
  refine j_aload_n (r := some a0) dX4_let_35 rfl ?_
  refine kg_getr (a := a0) (j := 3) rfl gfX4_46 hk3 dX4_let_36 ?_
  refine j_aload_n (r := some a0) dX4_let_39 rfl ?_
  refine kg_getr (a := a0) (j := 4) rfl gfX4_50 hk3 dX4_let_40 ?_
  refine j_aload_n (r := some a0) dX4_let_43 rfl ?_
  refine kg_geti (a := a0) (j := 5) rfl gfX4_54 (by decide) hk3 dX4_let_44 ?_
  refine j_aload_n (r := x2) dX4_let_47 rfl ?_
  refine jg_callv (rest := [va_rf (some (gn t10)), va_rf (gr t10 a1 3), va_rf (some a0)]) (kg_lkI (As := [va_rf (some (gn t4)), va_rf (gr (gmk 15 5 t10) a0 3), va_rf (gr (gmk 15 5 t10) a0 4), .int (gi (gmk 15 5 t10) a0 5), va_rf x2]) (a := (gn t10)) kiX17_init (Or.inl q1632) rfl rfl dX4_let_48) cwX17_init (rm_ok (cat1_cons rfl (cat1_cons (rf_cat _) (cat1_cons rfl cat1_nil))) (Nat.le_of_ble_eq_true rfl)) rfl dX4_let_48 (Nat.succ_le_succ (Nat.zero_le _)) (h.mono (onV_mono (fun t14 h hlt14 => ?_) (fun _ _ h => h)))
  replace h := h hlt14
  replace hk2 := hlt14.tag hk2 (by decide)
  replace hk3 := hlt14.tag hk3 (by decide)
  replace hk7 := hlt14.tag hk7 (by decide)
  replace hk13 := hlt14.tag hk13 (by decide)
  refine jg_callv (rest := []) (kg_lkV (As := [va_rf (gr t10 a1 3), va_rf (some (gn t10))]) (a := a0) (c := 3) kgX4_judge_3 (by decide) rfl hk3 q1380 rfl rfl dX4_let_51) cwX4_judge (Nat.le_of_ble_eq_true rfl) rfl dX4_let_51 (Nat.succ_le_succ (Nat.zero_le _)) (h.mono (onV_mono (fun t16 h hlt16 => ?_) (fun _ _ h => h)))
  replace h := h hlt16
  replace hk2 := hlt16.tag hk2 (by decide)
  replace hk3 := hlt16.tag hk3 (by decide)
  replace hk7 := hlt16.tag hk7 (by decide)
  replace hk13 := hlt16.tag hk13 (by decide)
  refine j_aload_n (r := x2) dX4_let_54 rfl ?_
  refine jg_callr (rest := []) (kg_lkS (As := [va_rf x2]) ktX17_of q1428 rfl rfl dX4_let_55) cwX17_of (Nat.le_of_ble_eq_true rfl) rfl dX4_let_55 (Nat.succ_le_succ (Nat.zero_le _)) (h.mono (onR_mono (fun r19 t18 h hlt18 => ?_) (fun _ _ h => h)))
  replace h := h hlt18
  replace hk2 := hlt18.tag hk2 (by decide)
  replace hk3 := hlt18.tag hk3 (by decide)
  replace hk7 := hlt18.tag hk7 (by decide)
  replace hk13 := hlt18.tag hk13 (by decide)
  refine j_astore (r := r19) (lv' := [some (va_rf (some a0)), some (va_rf x1), some (va_rf x2), some (va_rf (some (gn t4))), some (va_rf r19)]) dX4_let_58 (by decide) rfl ?_
  refine j_aload_n (r := some a0) dX4_let_60 rfl ?_
  refine kg_getr (a := a0) (j := 4) rfl gfX4_50 hk3 dX4_let_61 ?_
  refine jg_calli (rest := []) (kg_lkS (As := [va_rf (gr t18 a0 4)]) ktX18_depth q1446 rfl rfl dX4_let_64) cwX18_depth (Nat.le_of_ble_eq_true rfl) rfl dX4_let_64 (Nat.succ_le_succ (Nat.zero_le _)) (h.mono (onI_mono (fun r21 t20 h hlt20 => ?_) (fun _ _ h => h)))
  replace h := h hlt20
  replace hk2 := hlt20.tag hk2 (by decide)
  replace hk3 := hlt20.tag hk3 (by decide)
  replace hk7 := hlt20.tag hk7 (by decide)
  replace hk13 := hlt20.tag hk13 (by decide)
  refine j_aload (r := r19) dX4_let_67 rfl ?_
  refine jg_calli (rest := [.int r21]) (kg_lkS (As := [va_rf r19]) ktX18_depth q1446 rfl rfl dX4_let_69) cwX18_depth (Nat.le_of_ble_eq_true rfl) rfl dX4_let_69 (Nat.succ_le_succ (Nat.zero_le _)) (h.mono (onI_mono (fun r23 t22 h hlt22 => ?_) (fun _ _ h => h)))
  replace h := h hlt22
  replace hk2 := hlt22.tag hk2 (by decide)
  replace hk3 := hlt22.tag hk3 (by decide)
  replace hk7 := hlt22.tag hk7 (by decide)
  replace hk13 := hlt22.tag hk13 (by decide)
  refine j_icmp_le 96 dX4_let_72 (by decide) (fun c30 => ?_) (fun c30 => ?_)
  · replace h := h.1 c30
    exact j_return rfl dX4_let_96 h
  · replace h := h.2 c30
    refine j_aload_n (r := some a0) dX4_let_75 rfl ?_
    obtain ⟨hg24, h⟩ := h
    refine jg_new (c := 19) (N := 3) (C := "PureHouse$Sunk") (by decide) ⟨rfl, rfl⟩ q1695 q1726 q158 hg24 dX4_let_76 ?_
    replace hk2 := gk_mk (t := 20) (n := 3) hk2 (by decide)
    replace hk3 := gk_mk (t := 20) (n := 3) hk3 (by decide)
    replace hk7 := gk_mk (t := 20) (n := 3) hk7 (by decide)
    replace hk13 := gk_mk (t := 20) (n := 3) hk13 (by decide)
    have hk25 := gk_new (t := 20) (n := 3) hg24.2.2
    refine j_dup dX4_let_79 rfl ?_
    refine j_aload_n (r := some a0) dX4_let_80 rfl ?_
    refine kg_getr (a := a0) (j := 3) rfl gfX4_46 hk3 dX4_let_81 ?_
    refine jg_callv (rest := [va_rf (some (gn t22)), va_rf (some a0)]) (kg_lkI (As := [va_rf (gr (gmk 20 3 t22) a0 3)]) (a := (gn t22)) kiX22_init (Or.inl q1727) rfl rfl dX4_let_84) cwX22_init (Nat.le_of_ble_eq_true rfl) rfl dX4_let_84 (Nat.succ_le_succ (Nat.zero_le _)) (h.mono (onV_mono (fun t26 h hlt26 => ?_) (fun _ _ h => h)))
    replace h := h hlt26
    replace hk2 := hlt26.tag hk2 (by decide)
    replace hk3 := hlt26.tag hk3 (by decide)
    replace hk7 := hlt26.tag hk7 (by decide)
    replace hk13 := hlt26.tag hk13 (by decide)
    replace hk25 := hlt26.tag hk25 (by decide)
    refine j_aload (r := r19) dX4_let_87 rfl ?_
    refine j_aload_n (r := some a0) dX4_let_89 rfl ?_
    refine kg_geti (a := a0) (j := 5) rfl gfX4_54 (by decide) hk3 dX4_let_90 ?_
    refine jg_callv (rest := []) (kg_lkV (As := [va_rf (some (gn t22)), va_rf r19, .int (gi t26 a0 5)]) (a := a0) (c := 3) kgX4_is_3 (by decide) rfl hk3 q1389 rfl rfl dX4_let_93) cwX4_is (Nat.le_of_ble_eq_true rfl) rfl dX4_let_93 (Nat.succ_le_succ (Nat.zero_le _)) (h.mono (onV_mono (fun t28 h hlt28 => ?_) (fun _ _ h => h)))
    replace h := h hlt28
    replace hk2 := hlt28.tag hk2 (by decide)
    replace hk3 := hlt28.tag hk3 (by decide)
    replace hk7 := hlt28.tag hk7 (by decide)
    replace hk13 := hlt28.tag hk13 (by decide)
    replace hk25 := hlt28.tag hk25 (by decide)
    exact j_return rfl dX4_let_96 h
