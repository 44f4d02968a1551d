/-! trees (made by gen/geng.py) -/
set_option maxRecDepth 100000
theorem tX3_init {G : GPl} {s0 : State} {l : Launch} {K : Nat → Option Nat} {T : Nat → Nat} {lev : Nat} {Q : Outcome → GSt → Prop} {a0 : Nat} {x1 : Option Nat} {σ : GSt} (h : (groom G 6 σ ∧ (gk (gmk 101 6 σ) a0 = 3 ∧ (groom G 3000 (gpi a0 7 (iI 5000) (gpr a0 4 (some (gn σ)) (gmk 101 6 σ))) ∧ Q (.returned none) (gpr a0 0 x1 (gpr a0 9 (some (gn (gpi a0 7 (iI 5000) (gpr a0 4 (some (gn σ)) (gmk 101 6 σ))))) (gmk 102 3000 (gpi a0 7 (iI 5000) (gpr a0 4 (some (gn σ)) (gmk 101 6 σ)))))))))) : CQ (wP G s0 l K T) mX3_init (lev + 1) [.ref a0, va_rf x1] σ Q := by
  refine CQ.of3 0 (lv := [some (va_rf (some a0)), some (va_rf x1)]) (by decide) (Nat.le_of_ble_eq_true rfl) (cat1_cons rfl (cat1_cons (rf_cat _) cat1_nil)) rfl ?_
  refine j_aload_n (r := some a0) dX3_init_0 rfl ?_
  refine jg_objI q204 q168 q169 (Nat.succ_le_succ (Nat.zero_le _)) (Nat.le_of_ble_eq_true rfl) dX3_init_1 ?_
  refine j_aload_n (r := some a0) dX3_init_4 rfl ?_
  refine j_bipush (v := iI 6) dX3_init_5 rfl ?_
  obtain ⟨hg1, h⟩ := h
  refine jg_newarr (n0 := 6) (Or.inl ⟨rfl, rfl, rfl⟩) q198 ⟨by decide, by decide⟩ (by decide) hg1 dX3_init_7 ?_
  have hk2 := gk_new (t := 101) (n := 6) hg1.2.2
  obtain ⟨hk3, h⟩ := h
  refine kg_putr (a := a0) (x := some (gn σ)) rfl gfX3_9 (Or.inr ⟨rfl, rfl⟩) hk3 (Or.inl (by decide)) dX3_init_9 ?_
  refine j_aload_n (r := some a0) dX3_init_12 rfl ?_
  refine j_sipush (v := iI 5000) dX3_init_13 rfl ?_
  refine kg_puti (a := a0) rfl gfX3_15 (Or.inl rfl) hk3 (Or.inl (by decide)) dX3_init_16 ?_
  refine j_aload_n (r := some a0) dX3_init_19 rfl ?_
  refine j_sipush (v := iI 3000) dX3_init_20 rfl ?_
  obtain ⟨hg4, h⟩ := h
  refine jg_newarr (n0 := 3000) (Or.inr ⟨rfl, rfl, rfl⟩) q197 ⟨by decide, by decide⟩ (by decide) hg4 dX3_init_23 ?_
  replace hk2 := gk_mk (t := 102) (n := 3000) hk2 (by decide)
  replace hk3 := gk_mk (t := 102) (n := 3000) hk3 (by decide)
  have hk5 := gk_new (t := 102) (n := 3000) hg4.2.2
  refine kg_putr (a := a0) (x := some (gn (gpi a0 7 (iI 5000) (gpr a0 4 (some (gn σ)) (gmk 101 6 σ))))) rfl gfX3_19 (Or.inr ⟨rfl, rfl⟩) hk3 (Or.inl (by decide)) dX3_init_25 ?_
  refine j_aload_n (r := some a0) dX3_init_28 rfl ?_
  refine j_aload_n (r := x1) dX3_init_29 rfl ?_
  refine kg_putr (a := a0) (x := x1) rfl gfX3_23 (Or.inr ⟨rfl, rfl⟩) hk3 (Or.inl (by decide)) dX3_init_30 ?_
  exact j_return rfl dX3_init_33 h
abbrev jX3_begins_2 (G : GPl) (s0 : State) (l : Launch) (K : Nat → Option Nat) (T : Nat → Nat) (lev : Nat) (st0 : GSt) (Q : Outcome → GSt → Prop) (a0 : Nat) (x1 : Int32) (σ : GSt) : Prop := JQ (wP G s0 l K T) mX3_begins (lev + 1) st0 2 [some (va_rf (some a0)), some (.int x1)] [] σ Q
theorem tX3_begins {G : GPl} {s0 : State} {l : Launch} {K : Nat → Option Nat} {T : Nat → Nat} {lev : Nat} {Q : Outcome → GSt → Prop} {a0 : Nat} {σ : GSt} (h : jX3_begins_2 G s0 l K T lev σ Q a0 (iI 0) σ) : CQ (wP G s0 l K T) mX3_begins (lev + 1) [.ref a0] σ Q := by
  refine CQ.of3 1 (lv := [some (va_rf (some a0)), none]) (by decide) (Nat.le_of_ble_eq_true rfl) (cat1_cons rfl cat1_nil) rfl ?_
  refine j_iconst (v := iI 0) dX3_begins_0 rfl ?_
  refine j_istore_n (lv' := [some (va_rf (some a0)), some (.int (iI 0))]) dX3_begins_1 (by decide) rfl ?_
  exact h
theorem tX3_begins_2 {G : GPl} {s0 : State} {l : Launch} {K : Nat → Option Nat} {T : Nat → Nat} {lev : Nat} {st0 : GSt} {Q : Outcome → GSt → Prop} {a0 : Nat} {x1 : Int32} {σ : GSt} (h : (((iI 6) ≤ x1 → (gk σ a0 = 3 ∧ Q (.returned none) (gpi a0 8 (iI 0) (gpi a0 5 (iI 0) σ)))) ∧ (¬ (iI 6) ≤ x1 → (gk σ a0 = 3 ∧ (∃ a3, gr σ a0 4 = some a3 ∧ (gk σ a3 = 101 ∧ (inr x1 (gl σ a3) ∧ jX3_begins_2 G s0 l K T lev st0 Q a0 (x1 + iI 1) (gpi a3 (ix x1) (iI 0) σ)))))))) : jX3_begins_2 G s0 l K T lev st0 Q a0 x1 σ := by
  refine j_iload_n dX3_begins_2 rfl ?_
  refine j_bipush (v := iI 6) dX3_begins_3 rfl ?_
  refine j_icmp_ge 21 dX3_begins_5 (by decide) (fun c6 => ?_) (fun c6 => ?_)
  · replace h := h.1 c6
    refine j_aload_n (r := some a0) dX3_begins_21 rfl ?_
    refine j_iconst (v := iI 0) dX3_begins_22 rfl ?_
    obtain ⟨hk1, h⟩ := h
    refine kg_puti (a := a0) rfl gfX3_27 (Or.inl rfl) hk1 (Or.inl (by decide)) dX3_begins_23 ?_
    refine j_aload_n (r := some a0) dX3_begins_26 rfl ?_
    refine j_iconst (v := iI 0) dX3_begins_27 rfl ?_
    refine kg_puti (a := a0) rfl gfX3_30 (Or.inl rfl) hk1 (Or.inl (by decide)) dX3_begins_28 ?_
    exact j_return rfl dX3_begins_31 h
  · replace h := h.2 c6
    refine j_aload_n (r := some a0) dX3_begins_8 rfl ?_
    obtain ⟨hk2, h⟩ := h
    refine kg_getr (a := a0) (j := 4) rfl gfX3_9 hk2 dX3_begins_9 ?_
    refine j_iload_n dX3_begins_12 rfl ?_
    refine j_iconst (v := iI 0) dX3_begins_13 rfl ?_
    obtain ⟨a3, ea3, hk4, hi5, h⟩ := h
    refine kg_ast (a := a3) ea3 hk4 hi5 dX3_begins_14 ?_
    refine j_iinc (lv' := [some (va_rf (some a0)), some (.int (x1 + iI 1))]) dX3_begins_15 rfl (by decide) rfl ?_
    refine j_goto 2 dX3_begins_18 (by decide) ?_
    exact h
theorem tX3_normal {G : GPl} {s0 : State} {l : Launch} {K : Nat → Option Nat} {T : Nat → Nat} {lev : Nat} {Q : Outcome → GSt → Prop} {a0 : Nat} {x1 : Option Nat} {x2 : Int32} {σ : GSt} (h : (gk σ a0 = 3 ∧ (CQ (wP G s0 l K T) mX3_looks lev (.ref a0 :: []) σ (onV (fun t2 => gle σ t2 → (CQ (wP G s0 l K T) mX3_head lev (.ref a0 :: [va_rf x1]) t2 (onV (fun t4 => gle t2 t4 → (CQ (wP G s0 l K T) mX3_here lev (.ref a0 :: []) t4 (onR (fun r7 t6 => gle t4 t6 → (∃ a8, r7 = some a8 ∧ (gk (gpi a0 8 ((gi t6 a0 8) + (iI 1)) t6) a8 = 14 ∧ (∃ a10, gr (gpi a0 8 ((gi t6 a0 8) + (iI 1)) t6) a8 0 = some a10 ∧ (isTmA (gpi a0 8 ((gi t6 a0 8) + (iI 1)) t6) a10 ∧ ((isA (gpi a0 8 ((gi t6 a0 8) + (iI 1)) t6) (gr (gpi a0 8 ((gi t6 a0 8) + (iI 1)) t6) a8 0) 8 → (CQ (wP G s0 l K T) mX3_normalLambda lev (.ref a0 :: [va_rf r7, .int x2]) (gpi a0 8 ((gi t6 a0 8) + (iI 1)) t6) (onR (fun r15 t14 => gle (gpi a0 8 ((gi t6 a0 8) + (iI 1)) t6) t14 → Q (.returned (some (va_rf r15))) (gpi a0 8 ((gi t14 a0 8) - (iI 1)) t14)) (fun x t => gle (gpi a0 8 ((gi t6 a0 8) + (iI 1)) t6) t → Q (.threw x) t)))) ∧ (¬ isA (gpi a0 8 ((gi t6 a0 8) + (iI 1)) t6) (gr (gpi a0 8 ((gi t6 a0 8) + (iI 1)) t6) a8 0) 8 → ((isA (gpi a0 8 ((gi t6 a0 8) + (iI 1)) t6) (gr (gpi a0 8 ((gi t6 a0 8) + (iI 1)) t6) a8 0) 9 → (CQ (wP G s0 l K T) mX3_normalProduct lev (.ref a0 :: [va_rf r7, va_rf (gr (gpi a0 8 ((gi t6 a0 8) + (iI 1)) t6) a8 0), .int x2]) (gpi a0 8 ((gi t6 a0 8) + (iI 1)) t6) (onR (fun r19 t18 => gle (gpi a0 8 ((gi t6 a0 8) + (iI 1)) t6) t18 → Q (.returned (some (va_rf r19))) (gpi a0 8 ((gi t18 a0 8) - (iI 1)) t18)) (fun x t => gle (gpi a0 8 ((gi t6 a0 8) + (iI 1)) t6) t → Q (.threw x) t)))) ∧ (¬ isA (gpi a0 8 ((gi t6 a0 8) + (iI 1)) t6) (gr (gpi a0 8 ((gi t6 a0 8) + (iI 1)) t6) a8 0) 9 → (CQ (wP G s0 l K T) mX3_normalFront lev (.ref a0 :: [va_rf (gr (gpi a0 8 ((gi t6 a0 8) + (iI 1)) t6) a8 0), va_rf (gr t6 a0 3), .int x2]) (gpi a0 8 ((gi t6 a0 8) + (iI 1)) t6) (onR (fun r21 t20 => gle (gpi a0 8 ((gi t6 a0 8) + (iI 1)) t6) t20 → Q (.returned (some (va_rf r21))) (gpi a0 8 ((gi t20 a0 8) - (iI 1)) t20)) (fun x t => gle (gpi a0 8 ((gi t6 a0 8) + (iI 1)) t6) t → Q (.threw x) t)))))))))))) (fun x t => gle t4 t → Q (.threw x) t)))) (fun x t => gle t2 t → Q (.threw x) t)))) (fun x t => gle σ t → Q (.threw x) t))))) : CQ (wP G s0 l K T) mX3_normal (lev + 1) [.ref a0, va_rf x1, .int x2] σ Q := by
  refine CQ.of3 5 (lv := [some (va_rf (some a0)), some (va_rf x1), some (.int x2), none, none, none, none, none]) (by decide) (Nat.le_of_ble_eq_true rfl) (cat1_cons rfl (cat1_cons (rf_cat _) (cat1_cons rfl cat1_nil))) rfl ?_
  refine j_aload_n (r := some a0) dX3_normal_0 rfl ?_
  obtain ⟨hk1, h⟩ := h
  refine jg_callv (rest := []) (kg_lkV (As := []) (a := a0) (c := 2) kgX3_looks_2 (by decide) rfl hk1 q1453 rfl rfl dX3_normal_1) cwX3_looks (Nat.le_of_ble_eq_true rfl) rfl dX3_normal_1 (Nat.succ_le_succ (Nat.zero_le _)) (h.mono (onV_mono (fun t2 h hlt2 => ?_) (fun _ _ h => h)))
  replace h := h hlt2
  replace hk1 := hlt2.tag hk1 (by decide)
  refine j_aload_n (r := some a0) dX3_normal_4 rfl ?_
  refine j_aload_n (r := x1) dX3_normal_5 rfl ?_
  refine jg_callv (rest := []) (kg_lkV (As := [va_rf x1]) (a := a0) (c := 2) kgX3_head_2 (by decide) rfl hk1 q1464 rfl rfl dX3_normal_6) cwX3_head (Nat.le_of_ble_eq_true rfl) rfl dX3_normal_6 (Nat.succ_le_succ (Nat.zero_le _)) (h.mono (onV_mono (fun t4 h hlt4 => ?_) (fun _ _ h => h)))
  replace h := h hlt4
  replace hk1 := hlt4.tag hk1 (by decide)
  refine j_aload_n (r := some a0) dX3_normal_9 rfl ?_
  refine jg_callr (rest := []) (kg_lkV (As := []) (a := a0) (c := 2) kgX3_here_2 (by decide) rfl hk1 q1567 rfl rfl dX3_normal_10) cwX3_here (Nat.le_of_ble_eq_true rfl) rfl dX3_normal_10 (Nat.succ_le_succ (Nat.zero_le _)) (h.mono (onR_mono (fun r7 t6 h hlt6 => ?_) (fun _ _ h => h)))
  replace h := h hlt6
  replace hk1 := hlt6.tag hk1 (by decide)
  refine j_astore_n (r := r7) (lv' := [some (va_rf (some a0)), some (va_rf x1), some (.int x2), some (va_rf r7), none, none, none, none]) dX3_normal_13 (by decide) rfl ?_
  refine j_aload_n (r := some a0) dX3_normal_14 rfl ?_
  refine kg_getr (a := a0) (j := 3) rfl gfX3_62 hk1 dX3_normal_15 ?_
  refine j_astore (r := gr t6 a0 3) (lv' := [some (va_rf (some a0)), some (va_rf x1), some (.int x2), some (va_rf r7), some (va_rf (gr t6 a0 3)), none, none, none]) dX3_normal_18 (by decide) rfl ?_
  refine j_aload_n (r := some a0) dX3_normal_20 rfl ?_
  refine j_dup dX3_normal_21 rfl ?_
  refine kg_geti (a := a0) (j := 8) rfl gfX3_30 (by decide) hk1 dX3_normal_22 ?_
  refine j_iconst (v := iI 1) dX3_normal_25 rfl ?_
  refine j_iadd dX3_normal_26 ?_
  refine kg_puti (a := a0) rfl gfX3_30 (Or.inl rfl) hk1 (Or.inl (by decide)) dX3_normal_27 ?_
  refine j_aload_n (r := r7) dX3_normal_30 rfl ?_
  obtain ⟨a8, ea8, hk9, h⟩ := h
  refine kg_getr (a := a8) (j := 0) ea8 gfX3_54 hk9 dX3_normal_31 ?_
  obtain ⟨a10, ea10, hm11, h⟩ := h
  refine jg_inst (r := gr (gpi a0 8 ((gi t6 a0 8) + (iI 1)) t6) a8 0) 7 (by decide) q1573 (isTmA.tm (a := a10) hm11 ea10) dX3_normal_34 (fun c12 => ?_) (fun c12 => ?_)
  · replace h := h.1 c12
    have hk13 := isA.tag c12 ea10
    refine j_if_eq 49 dX3_normal_37 (by decide) (fun q_ => absurd q_ (by decide)) (fun _ => ?_)
    refine j_aload_n (r := some a0) dX3_normal_40 rfl ?_
    refine j_aload_n (r := r7) dX3_normal_41 rfl ?_
    refine j_iload_n dX3_normal_42 rfl ?_
    refine jg_callr (rest := []) (kg_lkV (As := [va_rf r7, .int x2]) (a := a0) (c := 2) kgX3_normalLambda_2 (by decide) rfl hk1 q1574 rfl rfl dX3_normal_43) cwX3_normalLambda (Nat.le_of_ble_eq_true rfl) rfl dX3_normal_43 (Nat.succ_le_succ (Nat.zero_le _)) (h.mono (onR_mono (fun r15 t14 h hlt14 => ?_) (fun _ _ h => h)))
    replace h := h hlt14
    replace hk1 := hlt14.tag hk1 (by decide)
    replace hk9 := hlt14.tag hk9 (by decide)
    replace hk13 := hlt14.tag hk13 (by decide)
    replace hm11 := hm11.le hlt14
    refine j_goto 92 dX3_normal_46 (by decide) ?_
    refine j_astore (r := r15) (lv' := [some (va_rf (some a0)), some (va_rf x1), some (.int x2), some (va_rf r7), some (va_rf (gr t6 a0 3)), some (va_rf r15), none, none]) dX3_normal_92 (by decide) rfl ?_
    refine j_aload_n (r := some a0) dX3_normal_94 rfl ?_
    refine j_dup dX3_normal_95 rfl ?_
    refine kg_geti (a := a0) (j := 8) rfl gfX3_30 (by decide) hk1 dX3_normal_96 ?_
    refine j_iconst (v := iI 1) dX3_normal_99 rfl ?_
    refine j_isub dX3_normal_100 ?_
    refine kg_puti (a := a0) rfl gfX3_30 (Or.inl rfl) hk1 (Or.inl (by decide)) dX3_normal_101 ?_
    refine j_aload (r := r15) dX3_normal_104 rfl ?_
    exact j_areturn (r := r15) rfl (Or.inl ⟨_, rfl⟩) dX3_normal_106 h
  · replace h := h.2 c12
    refine j_if_eq 49 dX3_normal_37 (by decide) (fun _ => ?_) (fun q_ => absurd (by decide) q_)
    refine j_aload_n (r := r7) dX3_normal_49 rfl ?_
    refine kg_getr (a := a8) (j := 0) ea8 gfX3_54 hk9 dX3_normal_50 ?_
    refine j_astore (r := gr (gpi a0 8 ((gi t6 a0 8) + (iI 1)) t6) a8 0) (lv' := [some (va_rf (some a0)), some (va_rf x1), some (.int x2), some (va_rf r7), some (va_rf (gr t6 a0 3)), none, none, some (va_rf (gr (gpi a0 8 ((gi t6 a0 8) + (iI 1)) t6) a8 0))]) dX3_normal_53 (by decide) rfl ?_
    refine j_aload (r := gr (gpi a0 8 ((gi t6 a0 8) + (iI 1)) t6) a8 0) dX3_normal_55 rfl ?_
    refine jg_inst (r := gr (gpi a0 8 ((gi t6 a0 8) + (iI 1)) t6) a8 0) 8 (by decide) q1581 (isTmA.tm (a := a10) hm11 ea10) dX3_normal_57 (fun c16 => ?_) (fun c16 => ?_)
    · replace h := h.1 c16
      have hk17 := isA.tag c16 ea10
      refine j_if_eq 81 dX3_normal_60 (by decide) (fun q_ => absurd q_ (by decide)) (fun _ => ?_)
      refine j_aload (r := gr (gpi a0 8 ((gi t6 a0 8) + (iI 1)) t6) a8 0) dX3_normal_63 rfl ?_
      refine jg_cast (r := gr (gpi a0 8 ((gi t6 a0 8) + (iI 1)) t6) a8 0) cs_PureHouse_Product q1581 (Or.inr ⟨a10, ea10, by rw [hk17]; decide⟩) dX3_normal_65 ?_
      refine j_astore (r := gr (gpi a0 8 ((gi t6 a0 8) + (iI 1)) t6) a8 0) (lv' := [some (va_rf (some a0)), some (va_rf x1), some (.int x2), some (va_rf r7), some (va_rf (gr t6 a0 3)), none, some (va_rf (gr (gpi a0 8 ((gi t6 a0 8) + (iI 1)) t6) a8 0)), some (va_rf (gr (gpi a0 8 ((gi t6 a0 8) + (iI 1)) t6) a8 0))]) dX3_normal_68 (by decide) rfl ?_
      refine j_aload_n (r := some a0) dX3_normal_70 rfl ?_
      refine j_aload_n (r := r7) dX3_normal_71 rfl ?_
      refine j_aload (r := gr (gpi a0 8 ((gi t6 a0 8) + (iI 1)) t6) a8 0) dX3_normal_72 rfl ?_
      refine j_iload_n dX3_normal_74 rfl ?_
      refine jg_callr (rest := []) (kg_lkV (As := [va_rf r7, va_rf (gr (gpi a0 8 ((gi t6 a0 8) + (iI 1)) t6) a8 0), .int x2]) (a := a0) (c := 2) kgX3_normalProduct_2 (by decide) rfl hk1 q1609 rfl rfl dX3_normal_75) cwX3_normalProduct (Nat.le_of_ble_eq_true rfl) rfl dX3_normal_75 (Nat.succ_le_succ (Nat.zero_le _)) (h.mono (onR_mono (fun r19 t18 h hlt18 => ?_) (fun _ _ h => h)))
      replace h := h hlt18
      replace hk1 := hlt18.tag hk1 (by decide)
      replace hk9 := hlt18.tag hk9 (by decide)
      replace hk17 := hlt18.tag hk17 (by decide)
      replace hm11 := hm11.le hlt18
      refine j_goto 92 dX3_normal_78 (by decide) ?_
      refine j_astore (r := r19) (lv' := [some (va_rf (some a0)), some (va_rf x1), some (.int x2), some (va_rf r7), some (va_rf (gr t6 a0 3)), some (va_rf r19), some (va_rf (gr (gpi a0 8 ((gi t6 a0 8) + (iI 1)) t6) a8 0)), some (va_rf (gr (gpi a0 8 ((gi t6 a0 8) + (iI 1)) t6) a8 0))]) dX3_normal_92 (by decide) rfl ?_
      refine j_aload_n (r := some a0) dX3_normal_94 rfl ?_
      refine j_dup dX3_normal_95 rfl ?_
      refine kg_geti (a := a0) (j := 8) rfl gfX3_30 (by decide) hk1 dX3_normal_96 ?_
      refine j_iconst (v := iI 1) dX3_normal_99 rfl ?_
      refine j_isub dX3_normal_100 ?_
      refine kg_puti (a := a0) rfl gfX3_30 (Or.inl rfl) hk1 (Or.inl (by decide)) dX3_normal_101 ?_
      refine j_aload (r := r19) dX3_normal_104 rfl ?_
      exact j_areturn (r := r19) rfl (Or.inl ⟨_, rfl⟩) dX3_normal_106 h
    · replace h := h.2 c16
      refine j_if_eq 81 dX3_normal_60 (by decide) (fun _ => ?_) (fun q_ => absurd (by decide) q_)
      refine j_aload_n (r := some a0) dX3_normal_81 rfl ?_
      refine j_aload_n (r := r7) dX3_normal_82 rfl ?_
      refine kg_getr (a := a8) (j := 0) ea8 gfX3_54 hk9 dX3_normal_83 ?_
      refine j_aload (r := gr t6 a0 3) dX3_normal_86 rfl ?_
      refine j_iload_n dX3_normal_88 rfl ?_
      refine jg_callr (rest := []) (kg_lkV (As := [va_rf (gr (gpi a0 8 ((gi t6 a0 8) + (iI 1)) t6) a8 0), va_rf (gr t6 a0 3), .int x2]) (a := a0) (c := 2) kgX3_normalFront_2 (by decide) rfl hk1 q1614 rfl rfl dX3_normal_89) cwX3_normalFront (Nat.le_of_ble_eq_true rfl) rfl dX3_normal_89 (Nat.succ_le_succ (Nat.zero_le _)) (h.mono (onR_mono (fun r21 t20 h hlt20 => ?_) (fun _ _ h => h)))
      replace h := h hlt20
      replace hk1 := hlt20.tag hk1 (by decide)
      replace hk9 := hlt20.tag hk9 (by decide)
      replace hm11 := hm11.le hlt20
      refine j_astore (r := r21) (lv' := [some (va_rf (some a0)), some (va_rf x1), some (.int x2), some (va_rf r7), some (va_rf (gr t6 a0 3)), some (va_rf r21), none, some (va_rf (gr (gpi a0 8 ((gi t6 a0 8) + (iI 1)) t6) a8 0))]) dX3_normal_92 (by decide) rfl ?_
      refine j_aload_n (r := some a0) dX3_normal_94 rfl ?_
      refine j_dup dX3_normal_95 rfl ?_
      refine kg_geti (a := a0) (j := 8) rfl gfX3_30 (by decide) hk1 dX3_normal_96 ?_
      refine j_iconst (v := iI 1) dX3_normal_99 rfl ?_
      refine j_isub dX3_normal_100 ?_
      refine kg_puti (a := a0) rfl gfX3_30 (Or.inl rfl) hk1 (Or.inl (by decide)) dX3_normal_101 ?_
      refine j_aload (r := r21) dX3_normal_104 rfl ?_
      exact j_areturn (r := r21) rfl (Or.inl ⟨_, rfl⟩) dX3_normal_106 h
theorem tX3_looks {G : GPl} {s0 : State} {l : Launch} {K : Nat → Option Nat} {T : Nat → Nat} {lev : Nat} {Q : Outcome → GSt → Prop} {a0 : Nat} {σ : GSt} (h : (gk σ a0 = 3 ∧ (((gi σ a0 8) < (iI 100) → (CQ (wP G s0 l K T) mX3_spend lev (.ref a0 :: [.int (iI 5)]) σ (onV (fun t2 => gle σ t2 → Q (.returned none) t2) (fun x t => gle σ t → Q (.threw x) t)))) ∧ (¬ (gi σ a0 8) < (iI 100) → (groom G 8 σ ∧ (CQ (wP G s0 l K T) mX8_init lev (.ref (gn σ) :: [.int (iI 13), .int (iI (-1))]) (gmk 7 8 σ) (onV (fun t6 => gle (gmk 7 8 σ) t6 → Q (.threw (gn σ)) t6) (fun x t => gle (gmk 7 8 σ) t → Q (.threw x) t)))))))) : CQ (wP G s0 l K T) mX3_looks (lev + 1) [.ref a0] σ Q := by
  refine CQ.of3 0 (lv := [some (va_rf (some a0))]) (by decide) (Nat.le_of_ble_eq_true rfl) (cat1_cons rfl cat1_nil) rfl ?_
  refine j_aload_n (r := some a0) dX3_looks_0 rfl ?_
  obtain ⟨hk1, h⟩ := h
  refine kg_geti (a := a0) (j := 8) rfl gfX3_30 (by decide) hk1 dX3_looks_1 ?_
  refine j_bipush (v := iI 100) dX3_looks_4 rfl ?_
  refine j_icmp_lt 20 dX3_looks_6 (by decide) (fun c8 => ?_) (fun c8 => ?_)
  · replace h := h.1 c8
    refine j_aload_n (r := some a0) dX3_looks_20 rfl ?_
    refine j_iconst (v := iI 5) dX3_looks_21 rfl ?_
    refine jg_callv (rest := []) (kg_lkV (As := [.int (iI 5)]) (a := a0) (c := 2) kgX3_spend_2 (by decide) rfl hk1 q1459 rfl rfl dX3_looks_22) cwX3_spend (Nat.le_of_ble_eq_true rfl) rfl dX3_looks_22 (Nat.succ_le_succ (Nat.zero_le _)) (h.mono (onV_mono (fun t2 h hlt2 => ?_) (fun _ _ h => h)))
    replace h := h hlt2
    replace hk1 := hlt2.tag hk1 (by decide)
    exact j_return rfl dX3_looks_25 h
  · replace h := h.2 c8
    obtain ⟨hg4, h⟩ := h
    refine jg_new (c := 6) (N := 8) (C := "PureHouse$Fault") (by decide) ⟨rfl, rfl⟩ q1457 q989 q143 hg4 dX3_looks_9 ?_
    replace hk1 := gk_mk (t := 7) (n := 8) hk1 (by decide)
    have hk5 := gk_new (t := 7) (n := 8) hg4.2.2
    refine j_dup dX3_looks_12 rfl ?_
    refine j_bipush (v := iI 13) dX3_looks_13 rfl ?_
    refine j_iconst (v := iI (-1)) dX3_looks_15 rfl ?_
    refine jg_callv (rest := [va_rf (some (gn σ))]) (kg_lkI (As := [.int (iI 13), .int (iI (-1))]) (a := (gn σ)) kiX8_init (Or.inl q1458) rfl rfl dX3_looks_16) cwX8_init (Nat.le_of_ble_eq_true rfl) rfl dX3_looks_16 (Nat.succ_le_succ (Nat.zero_le _)) (h.mono (onV_mono (fun t6 h hlt6 => ?_) (fun _ _ h => h)))
    replace h := h hlt6
    replace hk1 := hlt6.tag hk1 (by decide)
    replace hk5 := hlt6.tag hk5 (by decide)
    exact kg_athrow (a := (gn σ)) rfl rfl dX3_looks_19 h
theorem tX3_spend {G : GPl} {s0 : State} {l : Launch} {K : Nat → Option Nat} {T : Nat → Nat} {lev : Nat} {Q : Outcome → GSt → Prop} {a0 : Nat} {x1 : Int32} {σ : GSt} (h : (gk σ a0 = 3 ∧ (((gi σ a0 5) = (gi σ a0 7) → (groom G 8 σ ∧ (CQ (wP G s0 l K T) mX8_init lev (.ref (gn σ) :: [.int (iI 12), .int (iI (-1))]) (gmk 7 8 σ) (onV (fun t13 => gle (gmk 7 8 σ) t13 → Q (.threw (gn σ)) t13) (fun x t => gle (gmk 7 8 σ) t → Q (.threw x) t))))) ∧ (¬ (gi σ a0 5) = (gi σ a0 7) → (((gi σ a0 6) = (iI 60000) → (groom G 8 σ ∧ (CQ (wP G s0 l K T) mX8_init lev (.ref (gn σ) :: [.int (iI 14), .int (iI (-1))]) (gmk 7 8 σ) (onV (fun t8 => gle (gmk 7 8 σ) t8 → Q (.threw (gn σ)) t8) (fun x t => gle (gmk 7 8 σ) t → Q (.threw x) t))))) ∧ (¬ (gi σ a0 6) = (iI 60000) → (∃ a2, gr σ a0 4 = some a2 ∧ (gk σ a2 = 101 ∧ (inr x1 (gl σ a2) ∧ (inr x1 (gl σ a2) ∧ Q (.returned none) (gpi a0 6 ((gi (gpi a0 5 ((gi (gpi a2 (ix x1) ((gi σ a2 (ix x1)) + (iI 1)) σ) a0 5) + (iI 1)) (gpi a2 (ix x1) ((gi σ a2 (ix x1)) + (iI 1)) σ)) a0 6) + (iI 1)) (gpi a0 5 ((gi (gpi a2 (ix x1) ((gi σ a2 (ix x1)) + (iI 1)) σ) a0 5) + (iI 1)) (gpi a2 (ix x1) ((gi σ a2 (ix x1)) + (iI 1)) σ))))))))))))) : CQ (wP G s0 l K T) mX3_spend (lev + 1) [.ref a0, .int x1] σ Q := by
  refine CQ.of3 0 (lv := [some (va_rf (some a0)), some (.int x1)]) (by decide) (Nat.le_of_ble_eq_true rfl) (cat1_cons rfl (cat1_cons rfl cat1_nil)) rfl ?_
  refine j_aload_n (r := some a0) dX3_spend_0 rfl ?_
  obtain ⟨hk1, h⟩ := h
  refine kg_geti (a := a0) (j := 5) rfl gfX3_27 (by decide) hk1 dX3_spend_1 ?_
  refine j_aload_n (r := some a0) dX3_spend_4 rfl ?_
  refine kg_geti (a := a0) (j := 7) rfl gfX3_15 (by decide) hk1 dX3_spend_5 ?_
  refine j_icmp_ne 22 dX3_spend_8 (by decide) (fun c15 => ?_) (fun c15 => ?_)
  · replace h := h.2 c15
    refine j_aload_n (r := some a0) dX3_spend_22 rfl ?_
    refine kg_geti (a := a0) (j := 6) rfl gfX3_38 (by decide) hk1 dX3_spend_23 ?_
    refine j_ldc (v := iI 60000) q1463 dX3_spend_26 (by decide) ?_
    refine j_icmp_ne 42 dX3_spend_28 (by decide) (fun c10 => ?_) (fun c10 => ?_)
    · replace h := h.2 c10
      refine j_aload_n (r := some a0) dX3_spend_42 rfl ?_
      refine kg_getr (a := a0) (j := 4) rfl gfX3_9 hk1 dX3_spend_43 ?_
      refine j_iload_n dX3_spend_46 rfl ?_
      refine j_dup2 dX3_spend_47 rfl (rf_cat _) ?_
      obtain ⟨a2, ea2, hk3, hi4, h⟩ := h
      refine kg_ald (a := a2) ea2 hk3 hi4 dX3_spend_48 ?_
      refine j_iconst (v := iI 1) dX3_spend_49 rfl ?_
      refine j_iadd dX3_spend_50 ?_
      obtain ⟨hi5, h⟩ := h
      refine kg_ast (a := a2) ea2 hk3 hi5 dX3_spend_51 ?_
      refine j_aload_n (r := some a0) dX3_spend_52 rfl ?_
      refine j_dup dX3_spend_53 rfl ?_
      refine kg_geti (a := a0) (j := 5) rfl gfX3_27 (by decide) hk1 dX3_spend_54 ?_
      refine j_iconst (v := iI 1) dX3_spend_57 rfl ?_
      refine j_iadd dX3_spend_58 ?_
      refine kg_puti (a := a0) rfl gfX3_27 (Or.inl rfl) hk1 (Or.inl (by decide)) dX3_spend_59 ?_
      refine j_aload_n (r := some a0) dX3_spend_62 rfl ?_
      refine j_dup dX3_spend_63 rfl ?_
      refine kg_geti (a := a0) (j := 6) rfl gfX3_38 (by decide) hk1 dX3_spend_64 ?_
      refine j_iconst (v := iI 1) dX3_spend_67 rfl ?_
      refine j_iadd dX3_spend_68 ?_
      refine kg_puti (a := a0) rfl gfX3_38 (Or.inl rfl) hk1 (Or.inl (by decide)) dX3_spend_69 ?_
      exact j_return rfl dX3_spend_72 h
    · replace h := h.1 c10
      obtain ⟨hg6, h⟩ := h
      refine jg_new (c := 6) (N := 8) (C := "PureHouse$Fault") (by decide) ⟨rfl, rfl⟩ q1457 q989 q143 hg6 dX3_spend_31 ?_
      replace hk1 := gk_mk (t := 7) (n := 8) hk1 (by decide)
      have hk7 := gk_new (t := 7) (n := 8) hg6.2.2
      refine j_dup dX3_spend_34 rfl ?_
      refine j_bipush (v := iI 14) dX3_spend_35 rfl ?_
      refine j_iconst (v := iI (-1)) dX3_spend_37 rfl ?_
      refine jg_callv (rest := [va_rf (some (gn σ))]) (kg_lkI (As := [.int (iI 14), .int (iI (-1))]) (a := (gn σ)) kiX8_init (Or.inl q1458) rfl rfl dX3_spend_38) cwX8_init (Nat.le_of_ble_eq_true rfl) rfl dX3_spend_38 (Nat.succ_le_succ (Nat.zero_le _)) (h.mono (onV_mono (fun t8 h hlt8 => ?_) (fun _ _ h => h)))
      replace h := h hlt8
      replace hk1 := hlt8.tag hk1 (by decide)
      replace hk7 := hlt8.tag hk7 (by decide)
      exact kg_athrow (a := (gn σ)) rfl rfl dX3_spend_41 h
  · replace h := h.1 c15
    obtain ⟨hg11, h⟩ := h
    refine jg_new (c := 6) (N := 8) (C := "PureHouse$Fault") (by decide) ⟨rfl, rfl⟩ q1457 q989 q143 hg11 dX3_spend_11 ?_
    replace hk1 := gk_mk (t := 7) (n := 8) hk1 (by decide)
    have hk12 := gk_new (t := 7) (n := 8) hg11.2.2
    refine j_dup dX3_spend_14 rfl ?_
    refine j_bipush (v := iI 12) dX3_spend_15 rfl ?_
    refine j_iconst (v := iI (-1)) dX3_spend_17 rfl ?_
    refine jg_callv (rest := [va_rf (some (gn σ))]) (kg_lkI (As := [.int (iI 12), .int (iI (-1))]) (a := (gn σ)) kiX8_init (Or.inl q1458) rfl rfl dX3_spend_18) cwX8_init (Nat.le_of_ble_eq_true rfl) rfl dX3_spend_18 (Nat.succ_le_succ (Nat.zero_le _)) (h.mono (onV_mono (fun t13 h hlt13 => ?_) (fun _ _ h => h)))
    replace h := h hlt13
    replace hk1 := hlt13.tag hk1 (by decide)
    replace hk12 := hlt13.tag hk12 (by decide)
    exact kg_athrow (a := (gn σ)) rfl rfl dX3_spend_21 h
abbrev jX3_head_19 (G : GPl) (s0 : State) (l : Launch) (K : Nat → Option Nat) (T : Nat → Nat) (lev : Nat) (st0 : GSt) (Q : Outcome → GSt → Prop) (a0 : Nat) (x1 : Option Nat) (x2 : Int32) (σ : GSt) : Prop := JQ (wP G s0 l K T) mX3_head (lev + 1) st0 19 [some (va_rf (some a0)), some (va_rf x1), some (.int x2)] [] σ Q
theorem tX3_head {G : GPl} {s0 : State} {l : Launch} {K : Nat → Option Nat} {T : Nat → Nat} {lev : Nat} {Q : Outcome → GSt → Prop} {a0 : Nat} {x1 : Option Nat} {σ : GSt} (h : (∃ a1, x1 = some a1 ∧ (gk σ a1 = 14 ∧ (gk σ a0 = 3 ∧ (CQ (wP G s0 l K T) mX3_at lev (.ref a0 :: [va_rf (gr σ a1 0), va_rf (gr σ a1 1)]) σ (onV (fun t4 => gle σ t4 → jX3_head_19 G s0 l K T lev σ Q a0 x1 (iI 1) (gpr a0 3 none t4)) (fun x t => gle σ t → Q (.threw x) t))))))) : CQ (wP G s0 l K T) mX3_head (lev + 1) [.ref a0, va_rf x1] σ Q := by
  refine CQ.of3 1 (lv := [some (va_rf (some a0)), some (va_rf x1), none]) (by decide) (Nat.le_of_ble_eq_true rfl) (cat1_cons rfl (cat1_cons (rf_cat _) cat1_nil)) rfl ?_
  refine j_aload_n (r := some a0) dX3_head_0 rfl ?_
  refine j_aload_n (r := x1) dX3_head_1 rfl ?_
  obtain ⟨a1, ea1, hk2, h⟩ := h
  refine kg_getr (a := a1) (j := 0) ea1 gfX3_54 hk2 dX3_head_2 ?_
  refine j_aload_n (r := x1) dX3_head_5 rfl ?_
  refine kg_getr (a := a1) (j := 1) ea1 gfX3_57 hk2 dX3_head_6 ?_
  obtain ⟨hk3, h⟩ := h
  refine jg_callv (rest := []) (kg_lkV (As := [va_rf (gr σ a1 0), va_rf (gr σ a1 1)]) (a := a0) (c := 2) kgX3_at_2 (by decide) rfl hk3 q1468 rfl rfl dX3_head_9) cwX3_at (Nat.le_of_ble_eq_true rfl) rfl dX3_head_9 (Nat.succ_le_succ (Nat.zero_le _)) (h.mono (onV_mono (fun t4 h hlt4 => ?_) (fun _ _ h => h)))
  replace h := h hlt4
  replace hk2 := hlt4.tag hk2 (by decide)
  replace hk3 := hlt4.tag hk3 (by decide)
  refine j_aload_n (r := some a0) dX3_head_12 rfl ?_
  refine j_null dX3_head_13 ?_
  refine kg_putr (a := a0) (x := none) rfl gfX3_62 (Or.inl rfl) hk3 (Or.inl (by decide)) dX3_head_14 ?_
  refine j_iconst (v := iI 1) dX3_head_17 rfl ?_
  refine j_istore_n (lv' := [some (va_rf (some a0)), some (va_rf x1), some (.int (iI 1))]) dX3_head_18 (by decide) rfl ?_
  exact h
theorem tX3_head_19 {G : GPl} {s0 : State} {l : Launch} {K : Nat → Option Nat} {T : Nat → Nat} {lev : Nat} {st0 : GSt} {Q : Outcome → GSt → Prop} {a0 : Nat} {x1 : Option Nat} {x2 : Int32} {σ : GSt} (h : ((x2 = 0 → Q (.returned none) σ) ∧ (¬ x2 = 0 → (gk σ a0 = 3 ∧ (∃ a2, gr σ a0 1 = some a2 ∧ (isTmA σ a2 ∧ ((gk σ a2 = 8 → CQ (wP G s0 l K T) mX10_goes lev (.ref a2 :: [va_rf (some a0)]) σ (onI (fun r5 t4 => gle σ t4 → jX3_head_19 G s0 l K T lev st0 Q a0 x1 r5 t4) (fun x t => gle σ t → Q (.threw x) t))) ∧ (gk σ a2 = 9 → CQ (wP G s0 l K T) mX11_goes lev (.ref a2 :: [va_rf (some a0)]) σ (onI (fun r5 t4 => gle σ t4 → jX3_head_19 G s0 l K T lev st0 Q a0 x1 r5 t4) (fun x t => gle σ t → Q (.threw x) t))) ∧ (gk σ a2 = 10 → CQ (wP G s0 l K T) mX12_goes lev (.ref a2 :: [va_rf (some a0)]) σ (onI (fun r5 t4 => gle σ t4 → jX3_head_19 G s0 l K T lev st0 Q a0 x1 r5 t4) (fun x t => gle σ t → Q (.threw x) t))) ∧ (gk σ a2 = 11 → CQ (wP G s0 l K T) mX13_goes lev (.ref a2 :: [va_rf (some a0)]) σ (onI (fun r5 t4 => gle σ t4 → jX3_head_19 G s0 l K T lev st0 Q a0 x1 r5 t4) (fun x t => gle σ t → Q (.threw x) t))) ∧ (gk σ a2 = 12 → CQ (wP G s0 l K T) mX14_goes lev (.ref a2 :: [va_rf (some a0)]) σ (onI (fun r5 t4 => gle σ t4 → jX3_head_19 G s0 l K T lev st0 Q a0 x1 r5 t4) (fun x t => gle σ t → Q (.threw x) t))) ∧ (gk σ a2 = 13 → CQ (wP G s0 l K T) mX15_goes lev (.ref a2 :: [va_rf (some a0)]) σ (onI (fun r5 t4 => gle σ t4 → jX3_head_19 G s0 l K T lev st0 Q a0 x1 r5 t4) (fun x t => gle σ t → Q (.threw x) t))) ∧ (gk σ a2 = 18 → CQ (wP G s0 l K T) mX20_goes lev (.ref a2 :: [va_rf (some a0)]) σ (onI (fun r5 t4 => gle σ t4 → jX3_head_19 G s0 l K T lev st0 Q a0 x1 r5 t4) (fun x t => gle σ t → Q (.threw x) t))) ∧ (gk σ a2 = 19 → CQ (wP G s0 l K T) mX21_goes lev (.ref a2 :: [va_rf (some a0)]) σ (onI (fun r5 t4 => gle σ t4 → jX3_head_19 G s0 l K T lev st0 Q a0 x1 r5 t4) (fun x t => gle σ t → Q (.threw x) t))) ∧ (gk σ a2 = 20 → CQ (wP G s0 l K T) mX22_goes lev (.ref a2 :: [va_rf (some a0)]) σ (onI (fun r5 t4 => gle σ t4 → jX3_head_19 G s0 l K T lev st0 Q a0 x1 r5 t4) (fun x t => gle σ t → Q (.threw x) t)))))))))) : jX3_head_19 G s0 l K T lev st0 Q a0 x1 x2 σ := by
  refine j_iload_n dX3_head_19 rfl ?_
  refine j_if_eq 35 dX3_head_20 (by decide) (fun c6 => ?_) (fun c6 => ?_)
  · replace h := h.1 c6
    exact j_return rfl dX3_head_35 h
  · replace h := h.2 c6
    refine j_aload_n (r := some a0) dX3_head_23 rfl ?_
    obtain ⟨hk1, h⟩ := h
    refine kg_getr (a := a0) (j := 1) rfl gfX3_46 hk1 dX3_head_24 ?_
    refine j_aload_n (r := some a0) dX3_head_27 rfl ?_
    obtain ⟨a2, ea2, hm3, h⟩ := h
    obtain ⟨c_, hc_, hk_⟩ := hm3
    simp only [tmC, List.mem_cons, List.not_mem_nil, or_false] at hc_
    rcases hc_ with rfl | rfl | rfl | rfl | rfl | rfl | rfl | rfl | rfl
    · replace h := h.1 hk_
      have hm3 : isTmA _ _ := ⟨7, by decide, hk_⟩
      refine jg_calli (rest := []) (jg_lkU (c := 7) (n := 1) (owner := "PureHouse$Term") (x := ⟨"PureHouse$Term", "goes", "(LPureHouse$Machine;)Z"⟩) (mdc := mX10_goes) (As := [va_rf (some a0)]) (b := a2) (by decide) hk_ q1472 q1474 (Or.inl q1473) q1489 q1490 ⟨by decide, by decide⟩ (parLen_of (by decide +kernel)) rfl (by rw [ea2]; rfl) dX3_head_28) cwX10_goes (Nat.le_of_ble_eq_true rfl) rfl dX3_head_28 (Nat.succ_le_succ (Nat.zero_le _)) (h.mono (onI_mono (fun r5 t4 h hlt4 => ?_) (fun _ _ h => h)))
      replace h := h hlt4
      replace hk1 := hlt4.tag hk1 (by decide)
      replace hm3 := hm3.le hlt4
      refine j_istore_n (lv' := [some (va_rf (some a0)), some (va_rf x1), some (.int r5)]) dX3_head_31 (by decide) rfl ?_
      refine j_goto 19 dX3_head_32 (by decide) ?_
      exact h
    · replace h := h.2.1 hk_
      have hm3 : isTmA _ _ := ⟨8, by decide, hk_⟩
      refine jg_calli (rest := []) (jg_lkU (c := 8) (n := 1) (owner := "PureHouse$Term") (x := ⟨"PureHouse$Term", "goes", "(LPureHouse$Machine;)Z"⟩) (mdc := mX11_goes) (As := [va_rf (some a0)]) (b := a2) (by decide) hk_ q1472 q1474 (Or.inl q1473) q1534 q1535 ⟨by decide, by decide⟩ (parLen_of (by decide +kernel)) rfl (by rw [ea2]; rfl) dX3_head_28) cwX11_goes (Nat.le_of_ble_eq_true rfl) rfl dX3_head_28 (Nat.succ_le_succ (Nat.zero_le _)) (h.mono (onI_mono (fun r5 t4 h hlt4 => ?_) (fun _ _ h => h)))
      replace h := h hlt4
      replace hk1 := hlt4.tag hk1 (by decide)
      replace hm3 := hm3.le hlt4
      refine j_istore_n (lv' := [some (va_rf (some a0)), some (va_rf x1), some (.int r5)]) dX3_head_31 (by decide) rfl ?_
      refine j_goto 19 dX3_head_32 (by decide) ?_
      exact h
    · replace h := h.2.2.1 hk_
      have hm3 : isTmA _ _ := ⟨9, by decide, hk_⟩
      refine jg_calli (rest := []) (jg_lkU (c := 9) (n := 1) (owner := "PureHouse$Term") (x := ⟨"PureHouse$Term", "goes", "(LPureHouse$Machine;)Z"⟩) (mdc := mX12_goes) (As := [va_rf (some a0)]) (b := a2) (by decide) hk_ q1472 q1474 (Or.inl q1473) q1518 q1519 ⟨by decide, by decide⟩ (parLen_of (by decide +kernel)) rfl (by rw [ea2]; rfl) dX3_head_28) cwX12_goes (Nat.le_of_ble_eq_true rfl) rfl dX3_head_28 (Nat.succ_le_succ (Nat.zero_le _)) (h.mono (onI_mono (fun r5 t4 h hlt4 => ?_) (fun _ _ h => h)))
      replace h := h hlt4
      replace hk1 := hlt4.tag hk1 (by decide)
      replace hm3 := hm3.le hlt4
      refine j_istore_n (lv' := [some (va_rf (some a0)), some (va_rf x1), some (.int r5)]) dX3_head_31 (by decide) rfl ?_
      refine j_goto 19 dX3_head_32 (by decide) ?_
      exact h
    · replace h := h.2.2.2.1 hk_
      have hm3 : isTmA _ _ := ⟨10, by decide, hk_⟩
      refine jg_calli (rest := []) (jg_lkU (c := 10) (n := 1) (owner := "PureHouse$Term") (x := ⟨"PureHouse$Term", "goes", "(LPureHouse$Machine;)Z"⟩) (mdc := mX13_goes) (As := [va_rf (some a0)]) (b := a2) (by decide) hk_ q1472 q1474 (Or.inl q1473) q1475 q1476 ⟨by decide, by decide⟩ (parLen_of (by decide +kernel)) rfl (by rw [ea2]; rfl) dX3_head_28) cwX13_goes (Nat.le_of_ble_eq_true rfl) rfl dX3_head_28 (Nat.succ_le_succ (Nat.zero_le _)) (h.mono (onI_mono (fun r5 t4 h hlt4 => ?_) (fun _ _ h => h)))
      replace h := h hlt4
      replace hk1 := hlt4.tag hk1 (by decide)
      replace hm3 := hm3.le hlt4
      refine j_istore_n (lv' := [some (va_rf (some a0)), some (va_rf x1), some (.int r5)]) dX3_head_31 (by decide) rfl ?_
      refine j_goto 19 dX3_head_32 (by decide) ?_
      exact h
    · replace h := h.2.2.2.2.1 hk_
      have hm3 : isTmA _ _ := ⟨11, by decide, hk_⟩
      refine jg_calli (rest := []) (jg_lkU (c := 11) (n := 1) (owner := "PureHouse$Term") (x := ⟨"PureHouse$Term", "goes", "(LPureHouse$Machine;)Z"⟩) (mdc := mX14_goes) (As := [va_rf (some a0)]) (b := a2) (by decide) hk_ q1472 q1474 (Or.inl q1473) q1484 q1485 ⟨by decide, by decide⟩ (parLen_of (by decide +kernel)) rfl (by rw [ea2]; rfl) dX3_head_28) cwX14_goes (Nat.le_of_ble_eq_true rfl) rfl dX3_head_28 (Nat.succ_le_succ (Nat.zero_le _)) (h.mono (onI_mono (fun r5 t4 h hlt4 => ?_) (fun _ _ h => h)))
      replace h := h hlt4
      replace hk1 := hlt4.tag hk1 (by decide)
      replace hm3 := hm3.le hlt4
      refine j_istore_n (lv' := [some (va_rf (some a0)), some (va_rf x1), some (.int r5)]) dX3_head_31 (by decide) rfl ?_
      refine j_goto 19 dX3_head_32 (by decide) ?_
      exact h
    · replace h := h.2.2.2.2.2.1 hk_
      have hm3 : isTmA _ _ := ⟨12, by decide, hk_⟩
      refine jg_calli (rest := []) (jg_lkU (c := 12) (n := 1) (owner := "PureHouse$Term") (x := ⟨"PureHouse$Term", "goes", "(LPureHouse$Machine;)Z"⟩) (mdc := mX15_goes) (As := [va_rf (some a0)]) (b := a2) (by decide) hk_ q1472 q1474 (Or.inl q1473) q1543 q1544 ⟨by decide, by decide⟩ (parLen_of (by decide +kernel)) rfl (by rw [ea2]; rfl) dX3_head_28) cwX15_goes (Nat.le_of_ble_eq_true rfl) rfl dX3_head_28 (Nat.succ_le_succ (Nat.zero_le _)) (h.mono (onI_mono (fun r5 t4 h hlt4 => ?_) (fun _ _ h => h)))
      replace h := h hlt4
      replace hk1 := hlt4.tag hk1 (by decide)
      replace hm3 := hm3.le hlt4
      refine j_istore_n (lv' := [some (va_rf (some a0)), some (va_rf x1), some (.int r5)]) dX3_head_31 (by decide) rfl ?_
      refine j_goto 19 dX3_head_32 (by decide) ?_
      exact h
    · replace h := h.2.2.2.2.2.2.1 hk_
      have hm3 : isTmA _ _ := ⟨17, by decide, hk_⟩
      refine jg_calli (rest := []) (jg_lkU (c := 17) (n := 1) (owner := "PureHouse$Term") (x := ⟨"PureHouse$Term", "goes", "(LPureHouse$Machine;)Z"⟩) (mdc := mX20_goes) (As := [va_rf (some a0)]) (b := a2) (by decide) hk_ q1472 q1474 (Or.inl q1473) q1531 q1532 ⟨by decide, by decide⟩ (parLen_of (by decide +kernel)) rfl (by rw [ea2]; rfl) dX3_head_28) cwX20_goes (Nat.le_of_ble_eq_true rfl) rfl dX3_head_28 (Nat.succ_le_succ (Nat.zero_le _)) (h.mono (onI_mono (fun r5 t4 h hlt4 => ?_) (fun _ _ h => h)))
      replace h := h hlt4
      replace hk1 := hlt4.tag hk1 (by decide)
      replace hm3 := hm3.le hlt4
      refine j_istore_n (lv' := [some (va_rf (some a0)), some (va_rf x1), some (.int r5)]) dX3_head_31 (by decide) rfl ?_
      refine j_goto 19 dX3_head_32 (by decide) ?_
      exact h
    · replace h := h.2.2.2.2.2.2.2.1 hk_
      have hm3 : isTmA _ _ := ⟨18, by decide, hk_⟩
      refine jg_calli (rest := []) (jg_lkU (c := 18) (n := 1) (owner := "PureHouse$Term") (x := ⟨"PureHouse$Term", "goes", "(LPureHouse$Machine;)Z"⟩) (mdc := mX21_goes) (As := [va_rf (some a0)]) (b := a2) (by decide) hk_ q1472 q1474 (Or.inl q1473) q1527 q1528 ⟨by decide, by decide⟩ (parLen_of (by decide +kernel)) rfl (by rw [ea2]; rfl) dX3_head_28) cwX21_goes (Nat.le_of_ble_eq_true rfl) rfl dX3_head_28 (Nat.succ_le_succ (Nat.zero_le _)) (h.mono (onI_mono (fun r5 t4 h hlt4 => ?_) (fun _ _ h => h)))
      replace h := h hlt4
      replace hk1 := hlt4.tag hk1 (by decide)
      replace hm3 := hm3.le hlt4
      refine j_istore_n (lv' := [some (va_rf (some a0)), some (va_rf x1), some (.int r5)]) dX3_head_31 (by decide) rfl ?_
      refine j_goto 19 dX3_head_32 (by decide) ?_
      exact h
    · replace h := h.2.2.2.2.2.2.2.2 hk_
      have hm3 : isTmA _ _ := ⟨19, by decide, hk_⟩
      refine jg_calli (rest := []) (jg_lkU (c := 19) (n := 1) (owner := "PureHouse$Term") (x := ⟨"PureHouse$Term", "goes", "(LPureHouse$Machine;)Z"⟩) (mdc := mX22_goes) (As := [va_rf (some a0)]) (b := a2) (by decide) hk_ q1472 q1474 (Or.inl q1473) q1537 q1538 ⟨by decide, by decide⟩ (parLen_of (by decide +kernel)) rfl (by rw [ea2]; rfl) dX3_head_28) cwX22_goes (Nat.le_of_ble_eq_true rfl) rfl dX3_head_28 (Nat.succ_le_succ (Nat.zero_le _)) (h.mono (onI_mono (fun r5 t4 h hlt4 => ?_) (fun _ _ h => h)))
      replace h := h hlt4
      replace hk1 := hlt4.tag hk1 (by decide)
      replace hm3 := hm3.le hlt4
      refine j_istore_n (lv' := [some (va_rf (some a0)), some (va_rf x1), some (.int r5)]) dX3_head_31 (by decide) rfl ?_
      refine j_goto 19 dX3_head_32 (by decide) ?_
      exact h
theorem tX3_at {G : GPl} {s0 : State} {l : Launch} {K : Nat → Option Nat} {T : Nat → Nat} {lev : Nat} {Q : Outcome → GSt → Prop} {a0 : Nat} {x1 : Option Nat} {x2 : Option Nat} {σ : GSt} (h : (gk σ a0 = 3 ∧ Q (.returned none) (gpr a0 2 x2 (gpr a0 1 x1 σ)))) : CQ (wP G s0 l K T) mX3_at (lev + 1) [.ref a0, va_rf x1, va_rf x2] σ Q := by
  refine CQ.of3 0 (lv := [some (va_rf (some a0)), some (va_rf x1), some (va_rf x2)]) (by decide) (Nat.le_of_ble_eq_true rfl) (cat1_cons rfl (cat1_cons (rf_cat _) (cat1_cons (rf_cat _) cat1_nil))) rfl ?_
  refine j_aload_n (r := some a0) dX3_at_0 rfl ?_
  refine j_aload_n (r := x1) dX3_at_1 rfl ?_
  obtain ⟨hk1, h⟩ := h
  refine kg_putr (a := a0) (x := x1) rfl gfX3_46 (Or.inl rfl) hk1 (Or.inl (by decide)) dX3_at_2 ?_
  refine j_aload_n (r := some a0) dX3_at_5 rfl ?_
  refine j_aload_n (r := x2) dX3_at_6 rfl ?_
  refine kg_putr (a := a0) (x := x2) rfl gfX3_50 (Or.inl rfl) hk1 (Or.inl (by decide)) dX3_at_7 ?_
  exact j_return rfl dX3_at_10 h
theorem tX3_enter {G : GPl} {s0 : State} {l : Launch} {K : Nat → Option Nat} {T : Nat → Nat} {lev : Nat} {Q : Outcome → GSt → Prop} {a0 : Nat} {x1 : Option Nat} {σ : GSt} (h : (∃ a1, x1 = some a1 ∧ (gk σ a1 = 14 ∧ (gk σ a0 = 3 ∧ (CQ (wP G s0 l K T) mX3_at lev (.ref a0 :: [va_rf (gr σ a1 0), va_rf (gr σ a1 1)]) σ (onV (fun t4 => gle σ t4 → Q (.returned none) t4) (fun x t => gle σ t → Q (.threw x) t))))))) : CQ (wP G s0 l K T) mX3_enter (lev + 1) [.ref a0, va_rf x1] σ Q := by
  refine CQ.of3 0 (lv := [some (va_rf (some a0)), some (va_rf x1)]) (by decide) (Nat.le_of_ble_eq_true rfl) (cat1_cons rfl (cat1_cons (rf_cat _) cat1_nil)) rfl ?_
  refine j_aload_n (r := some a0) dX3_enter_0 rfl ?_
  refine j_aload_n (r := x1) dX3_enter_1 rfl ?_
  obtain ⟨a1, ea1, hk2, h⟩ := h
  refine kg_getr (a := a1) (j := 0) ea1 gfX3_54 hk2 dX3_enter_2 ?_
  refine j_aload_n (r := x1) dX3_enter_5 rfl ?_
  refine kg_getr (a := a1) (j := 1) ea1 gfX3_57 hk2 dX3_enter_6 ?_
  obtain ⟨hk3, h⟩ := h
  refine jg_callv (rest := []) (kg_lkV (As := [va_rf (gr σ a1 0), va_rf (gr σ a1 1)]) (a := a0) (c := 2) kgX3_at_2 (by decide) rfl hk3 q1468 rfl rfl dX3_enter_9) cwX3_at (Nat.le_of_ble_eq_true rfl) rfl dX3_enter_9 (Nat.succ_le_succ (Nat.zero_le _)) (h.mono (onV_mono (fun t4 h hlt4 => ?_) (fun _ _ h => h)))
  replace h := h hlt4
  replace hk2 := hlt4.tag hk2 (by decide)
  replace hk3 := hlt4.tag hk3 (by decide)
  exact j_return rfl dX3_enter_12 h
theorem tX3_pull {G : GPl} {s0 : State} {l : Launch} {K : Nat → Option Nat} {T : Nat → Nat} {lev : Nat} {Q : Outcome → GSt → Prop} {a0 : Nat} {σ : GSt} (h : (gk σ a0 = 3 ∧ (∃ a2, gr σ a0 3 = some a2 ∧ (gk σ a2 = 17 ∧ Q (.returned (some (va_rf (gr σ a2 0)))) (gpr a0 3 (gr σ a2 1) σ))))) : CQ (wP G s0 l K T) mX3_pull (lev + 1) [.ref a0] σ Q := by
  refine CQ.of3 1 (lv := [some (va_rf (some a0)), none]) (by decide) (Nat.le_of_ble_eq_true rfl) (cat1_cons rfl cat1_nil) rfl ?_
  refine j_aload_n (r := some a0) dX3_pull_0 rfl ?_
  obtain ⟨hk1, h⟩ := h
  refine kg_getr (a := a0) (j := 3) rfl gfX3_62 hk1 dX3_pull_1 ?_
  obtain ⟨a2, ea2, hk3, h⟩ := h
  refine kg_getr (a := a2) (j := 0) ea2 gfX3_66 hk3 dX3_pull_4 ?_
  refine j_astore_n (r := gr σ a2 0) (lv' := [some (va_rf (some a0)), some (va_rf (gr σ a2 0))]) dX3_pull_7 (by decide) rfl ?_
  refine j_aload_n (r := some a0) dX3_pull_8 rfl ?_
  refine j_aload_n (r := some a0) dX3_pull_9 rfl ?_
  refine kg_getr (a := a0) (j := 3) rfl gfX3_62 hk1 dX3_pull_10 ?_
  refine kg_getr (a := a2) (j := 1) ea2 gfX3_72 hk3 dX3_pull_13 ?_
  refine kg_putr (a := a0) (x := gr σ a2 1) rfl gfX3_62 (Or.inl rfl) hk1 (Or.inl (by decide)) dX3_pull_16 ?_
  refine j_aload_n (r := gr σ a2 0) dX3_pull_19 rfl ?_
  exact j_areturn (r := gr σ a2 0) rfl (Or.inl ⟨_, rfl⟩) dX3_pull_20 h
theorem tX3_here {G : GPl} {s0 : State} {l : Launch} {K : Nat → Option Nat} {T : Nat → Nat} {lev : Nat} {Q : Outcome → GSt → Prop} {a0 : Nat} {σ : GSt} (h : (groom G 2 σ ∧ (gk (gmk 14 2 σ) a0 = 3 ∧ (CQ (wP G s0 l K T) mX16_init lev (.ref (gn σ) :: [va_rf (gr (gmk 14 2 σ) a0 1), va_rf (gr (gmk 14 2 σ) a0 2)]) (gmk 14 2 σ) (onV (fun t4 => gle (gmk 14 2 σ) t4 → Q (.returned (some (va_rf (some (gn σ))))) t4) (fun x t => gle (gmk 14 2 σ) t → Q (.threw x) t)))))) : CQ (wP G s0 l K T) mX3_here (lev + 1) [.ref a0] σ Q := by
  refine CQ.of3 0 (lv := [some (va_rf (some a0))]) (by decide) (Nat.le_of_ble_eq_true rfl) (cat1_cons rfl cat1_nil) rfl ?_
  obtain ⟨hg1, h⟩ := h
  refine jg_new (c := 13) (N := 2) (C := "PureHouse$Closure") (by decide) ⟨rfl, rfl⟩ q1571 q1427 q152 hg1 dX3_here_0 ?_
  have hk2 := gk_new (t := 14) (n := 2) hg1.2.2
  refine j_dup dX3_here_3 rfl ?_
  refine j_aload_n (r := some a0) dX3_here_4 rfl ?_
  obtain ⟨hk3, h⟩ := h
  refine kg_getr (a := a0) (j := 1) rfl gfX3_46 hk3 dX3_here_5 ?_
  refine j_aload_n (r := some a0) dX3_here_8 rfl ?_
  refine kg_getr (a := a0) (j := 2) rfl gfX3_50 hk3 dX3_here_9 ?_
  refine jg_callv (rest := [va_rf (some (gn σ))]) (kg_lkI (As := [va_rf (gr (gmk 14 2 σ) a0 1), va_rf (gr (gmk 14 2 σ) a0 2)]) (a := (gn σ)) kiX16_init (Or.inl q1572) rfl rfl dX3_here_12) cwX16_init (Nat.le_of_ble_eq_true rfl) rfl dX3_here_12 (Nat.succ_le_succ (Nat.zero_le _)) (h.mono (onV_mono (fun t4 h hlt4 => ?_) (fun _ _ h => h)))
  replace h := h hlt4
  replace hk2 := hlt4.tag hk2 (by decide)
  replace hk3 := hlt4.tag hk3 (by decide)
  exact j_areturn (r := some (gn σ)) rfl (Or.inl ⟨_, rfl⟩) dX3_here_15 h
theorem tX3_normalLambda {G : GPl} {s0 : State} {l : Launch} {K : Nat → Option Nat} {T : Nat → Nat} {lev : Nat} {Q : Outcome → GSt → Prop} {a0 : Nat} {x1 : Option Nat} {x2 : Int32} {σ : GSt} (h : (groom G 4 σ ∧ (CQ (wP G s0 l K T) mX3_domain lev [va_rf x1] (gmk 8 4 σ) (onR (fun r4 t3 => gle (gmk 8 4 σ) t3 → (gk t3 a0 = 3 ∧ (CQ (wP G s0 l K T) mX3_normal lev (.ref a0 :: [va_rf r4, .int x2]) t3 (onR (fun r7 t6 => gle t3 t6 → (CQ (wP G s0 l K T) mX10_init lev (.ref (gn σ) :: [va_rf r7]) t6 (onV (fun t8 => gle t6 t8 → (CQ (wP G s0 l K T) mX3_bound lev [.int (iI (-1)), .int x2] t8 (onR (fun r11 t10 => gle t8 t10 → (CQ (wP G s0 l K T) mX3_body lev [va_rf x1, va_rf r11] t10 (onR (fun r13 t12 => gle t10 t12 → (CQ (wP G s0 l K T) mX3_normal lev (.ref a0 :: [va_rf r13, .int (x2 + (iI 1))]) t12 (onR (fun r15 t14 => gle t12 t14 → Q (.returned (some (va_rf (some (gn σ))))) (gpr (gn σ) 3 r15 t14)) (fun x t => gle t12 t → Q (.threw x) t)))) (fun x t => gle t10 t → Q (.threw x) t)))) (fun x t => gle t8 t → Q (.threw x) t)))) (fun x t => gle t6 t → Q (.threw x) t)))) (fun x t => gle t3 t → Q (.threw x) t))))) (fun x t => gle (gmk 8 4 σ) t → Q (.threw x) t))))) : CQ (wP G s0 l K T) mX3_normalLambda (lev + 1) [.ref a0, va_rf x1, .int x2] σ Q := by
  refine CQ.of3 1 (lv := [some (va_rf (some a0)), some (va_rf x1), some (.int x2), none]) (by decide) (Nat.le_of_ble_eq_true rfl) (cat1_cons rfl (cat1_cons (rf_cat _) (cat1_cons rfl cat1_nil))) rfl ?_
  obtain ⟨hg1, h⟩ := h
  refine jg_new (c := 7) (N := 4) (C := "PureHouse$Lambda") (by decide) ⟨rfl, rfl⟩ q1573 q1028 q145 hg1 dX3_normalLambda_0 ?_
  have hk2 := gk_new (t := 8) (n := 4) hg1.2.2
  refine j_dup dX3_normalLambda_3 rfl ?_
  refine j_aload_n (r := some a0) dX3_normalLambda_4 rfl ?_
  refine j_aload_n (r := x1) dX3_normalLambda_5 rfl ?_
  refine jg_callr (rest := [va_rf (some a0), va_rf (some (gn σ)), va_rf (some (gn σ))]) (kg_lkS (As := [va_rf x1]) ktX3_domain q1578 rfl rfl dX3_normalLambda_6) cwX3_domain (Nat.le_of_ble_eq_true rfl) rfl dX3_normalLambda_6 (Nat.succ_le_succ (Nat.zero_le _)) (h.mono (onR_mono (fun r4 t3 h hlt3 => ?_) (fun _ _ h => h)))
  replace h := h hlt3
  replace hk2 := hlt3.tag hk2 (by decide)
  refine j_iload_n dX3_normalLambda_9 rfl ?_
  obtain ⟨hk5, h⟩ := h
  refine jg_callr (rest := [va_rf (some (gn σ)), va_rf (some (gn σ))]) (kg_lkV (As := [va_rf r4, .int x2]) (a := a0) (c := 2) kgX3_normal_2 (by decide) rfl hk5 q1582 rfl rfl dX3_normalLambda_10) cwX3_normal (Nat.le_of_ble_eq_true rfl) rfl dX3_normalLambda_10 (Nat.succ_le_succ (Nat.zero_le _)) (h.mono (onR_mono (fun r7 t6 h hlt6 => ?_) (fun _ _ h => h)))
  replace h := h hlt6
  replace hk2 := hlt6.tag hk2 (by decide)
  replace hk5 := hlt6.tag hk5 (by decide)
  refine jg_callv (rest := [va_rf (some (gn σ))]) (kg_lkI (As := [va_rf r7]) (a := (gn σ)) kiX10_init (Or.inl q1583) rfl rfl dX3_normalLambda_13) cwX10_init (Nat.le_of_ble_eq_true rfl) rfl dX3_normalLambda_13 (Nat.succ_le_succ (Nat.zero_le _)) (h.mono (onV_mono (fun t8 h hlt8 => ?_) (fun _ _ h => h)))
  replace h := h hlt8
  replace hk2 := hlt8.tag hk2 (by decide)
  replace hk5 := hlt8.tag hk5 (by decide)
  refine j_astore_n (r := some (gn σ)) (lv' := [some (va_rf (some a0)), some (va_rf x1), some (.int x2), some (va_rf (some (gn σ)))]) dX3_normalLambda_16 (by decide) rfl ?_
  refine j_aload_n (r := some (gn σ)) dX3_normalLambda_17 rfl ?_
  refine j_aload_n (r := some a0) dX3_normalLambda_18 rfl ?_
  refine j_aload_n (r := x1) dX3_normalLambda_19 rfl ?_
  refine j_iconst (v := iI (-1)) dX3_normalLambda_20 rfl ?_
  refine j_iload_n dX3_normalLambda_21 rfl ?_
  refine jg_callr (rest := [va_rf x1, va_rf (some a0), va_rf (some (gn σ))]) (kg_lkS (As := [.int (iI (-1)), .int x2]) ktX3_bound q1584 rfl rfl dX3_normalLambda_22) cwX3_bound (rm_ok (cat1_cons (rf_cat _) (cat1_cons rfl (cat1_cons rfl cat1_nil))) (Nat.le_of_ble_eq_true rfl)) rfl dX3_normalLambda_22 (Nat.succ_le_succ (Nat.zero_le _)) (h.mono (onR_mono (fun r11 t10 h hlt10 => ?_) (fun _ _ h => h)))
  replace h := h hlt10
  replace hk2 := hlt10.tag hk2 (by decide)
  replace hk5 := hlt10.tag hk5 (by decide)
  refine jg_callr (rest := [va_rf (some a0), va_rf (some (gn σ))]) (kg_lkS (As := [va_rf x1, va_rf r11]) ktX3_body q1604 rfl rfl dX3_normalLambda_25) cwX3_body (Nat.le_of_ble_eq_true rfl) rfl dX3_normalLambda_25 (Nat.succ_le_succ (Nat.zero_le _)) (h.mono (onR_mono (fun r13 t12 h hlt12 => ?_) (fun _ _ h => h)))
  replace h := h hlt12
  replace hk2 := hlt12.tag hk2 (by decide)
  replace hk5 := hlt12.tag hk5 (by decide)
  refine j_iload_n dX3_normalLambda_28 rfl ?_
  refine j_iconst (v := iI 1) dX3_normalLambda_29 rfl ?_
  refine j_iadd dX3_normalLambda_30 ?_
  refine jg_callr (rest := [va_rf (some (gn σ))]) (kg_lkV (As := [va_rf r13, .int (x2 + (iI 1))]) (a := a0) (c := 2) kgX3_normal_2 (by decide) rfl hk5 q1582 rfl rfl dX3_normalLambda_31) cwX3_normal (Nat.le_of_ble_eq_true rfl) rfl dX3_normalLambda_31 (Nat.succ_le_succ (Nat.zero_le _)) (h.mono (onR_mono (fun r15 t14 h hlt14 => ?_) (fun _ _ h => h)))
  replace h := h hlt14
  replace hk2 := hlt14.tag hk2 (by decide)
  replace hk5 := hlt14.tag hk5 (by decide)
  refine kg_putr (a := (gn σ)) (x := r15) rfl gfX3_91 (Or.inl rfl) hk2 (Or.inl (by decide)) dX3_normalLambda_34 ?_
  refine j_aload_n (r := some (gn σ)) dX3_normalLambda_37 rfl ?_
  exact j_areturn (r := some (gn σ)) rfl (Or.inl ⟨_, rfl⟩) dX3_normalLambda_38 h
theorem tX3_domain {G : GPl} {s0 : State} {l : Launch} {K : Nat → Option Nat} {T : Nat → Nat} {lev : Nat} {Q : Outcome → GSt → Prop} {x0 : Option Nat} {σ : GSt} (h : (groom G 2 σ ∧ (∃ a3, x0 = some a3 ∧ (gk (gmk 14 2 σ) a3 = 14 ∧ (∃ a5, gr (gmk 14 2 σ) a3 0 = some a5 ∧ (isTmA (gmk 14 2 σ) a5 ∧ ((isA (gmk 14 2 σ) (gr (gmk 14 2 σ) a3 0) 8 → (CQ (wP G s0 l K T) mX16_init lev (.ref (gn σ) :: [va_rf (gr (gmk 14 2 σ) a5 2), va_rf (gr (gmk 14 2 σ) a3 1)]) (gmk 14 2 σ) (onV (fun t9 => gle (gmk 14 2 σ) t9 → Q (.returned (some (va_rf (some (gn σ))))) t9) (fun x t => gle (gmk 14 2 σ) t → Q (.threw x) t)))) ∧ (¬ isA (gmk 14 2 σ) (gr (gmk 14 2 σ) a3 0) 8 → (inT (gmk 14 2 σ) (gr (gmk 14 2 σ) a3 0) [9] ∧ (gk (gmk 14 2 σ) a5 = 9 ∧ (CQ (wP G s0 l K T) mX16_init lev (.ref (gn σ) :: [va_rf (gr (gmk 14 2 σ) a5 2), va_rf (gr (gmk 14 2 σ) a3 1)]) (gmk 14 2 σ) (onV (fun t13 => gle (gmk 14 2 σ) t13 → Q (.returned (some (va_rf (some (gn σ))))) t13) (fun x t => gle (gmk 14 2 σ) t → Q (.threw x) t))))))))))))) : CQ (wP G s0 l K T) mX3_domain (lev + 1) [va_rf x0] σ Q := by
  refine CQ.of3 2 (lv := [some (va_rf x0), none, none]) (by decide) (Nat.le_of_ble_eq_true rfl) (cat1_cons (rf_cat _) cat1_nil) rfl ?_
  obtain ⟨hg1, h⟩ := h
  refine jg_new (c := 13) (N := 2) (C := "PureHouse$Closure") (by decide) ⟨rfl, rfl⟩ q1571 q1427 q152 hg1 dX3_domain_0 ?_
  have hk2 := gk_new (t := 14) (n := 2) hg1.2.2
  refine j_dup dX3_domain_3 rfl ?_
  refine j_aload_n (r := x0) dX3_domain_4 rfl ?_
  obtain ⟨a3, ea3, hk4, h⟩ := h
  refine kg_getr (a := a3) (j := 0) ea3 gfX3_54 hk4 dX3_domain_5 ?_
  refine j_astore_n (r := gr (gmk 14 2 σ) a3 0) (lv' := [some (va_rf x0), none, some (va_rf (gr (gmk 14 2 σ) a3 0))]) dX3_domain_8 (by decide) rfl ?_
  refine j_aload_n (r := gr (gmk 14 2 σ) a3 0) dX3_domain_9 rfl ?_
  obtain ⟨a5, ea5, hm6, h⟩ := h
  refine jg_inst (r := gr (gmk 14 2 σ) a3 0) 7 (by decide) q1573 (isTmA.tm (a := a5) hm6 ea5) dX3_domain_10 (fun c7 => ?_) (fun c7 => ?_)
  · replace h := h.1 c7
    have hk8 := isA.tag c7 ea5
    refine j_if_eq 28 dX3_domain_13 (by decide) (fun q_ => absurd q_ (by decide)) (fun _ => ?_)
    refine j_aload_n (r := gr (gmk 14 2 σ) a3 0) dX3_domain_16 rfl ?_
    refine jg_cast (r := gr (gmk 14 2 σ) a3 0) cs_PureHouse_Lambda q1573 (Or.inr ⟨a5, ea5, by rw [hk8]; decide⟩) dX3_domain_17 ?_
    refine j_astore_n (r := gr (gmk 14 2 σ) a3 0) (lv' := [some (va_rf x0), some (va_rf (gr (gmk 14 2 σ) a3 0)), some (va_rf (gr (gmk 14 2 σ) a3 0))]) dX3_domain_20 (by decide) rfl ?_
    refine j_aload_n (r := gr (gmk 14 2 σ) a3 0) dX3_domain_21 rfl ?_
    refine kg_getr (a := a5) (j := 2) ea5 gfX3_85 hk8 dX3_domain_22 ?_
    refine j_goto 38 dX3_domain_25 (by decide) ?_
    refine j_aload_n (r := x0) dX3_domain_38 rfl ?_
    refine kg_getr (a := a3) (j := 1) ea3 gfX3_57 hk4 dX3_domain_39 ?_
    refine jg_callv (rest := [va_rf (some (gn σ))]) (kg_lkI (As := [va_rf (gr (gmk 14 2 σ) a5 2), va_rf (gr (gmk 14 2 σ) a3 1)]) (a := (gn σ)) kiX16_init (Or.inl q1572) rfl rfl dX3_domain_42) cwX16_init (Nat.le_of_ble_eq_true rfl) rfl dX3_domain_42 (Nat.succ_le_succ (Nat.zero_le _)) (h.mono (onV_mono (fun t9 h hlt9 => ?_) (fun _ _ h => h)))
    replace h := h hlt9
    replace hk2 := hlt9.tag hk2 (by decide)
    replace hk4 := hlt9.tag hk4 (by decide)
    replace hk8 := hlt9.tag hk8 (by decide)
    replace hm6 := hm6.le hlt9
    exact j_areturn (r := some (gn σ)) rfl (Or.inl ⟨_, rfl⟩) dX3_domain_45 h
  · replace h := h.2 c7
    refine j_if_eq 28 dX3_domain_13 (by decide) (fun _ => ?_) (fun q_ => absurd (by decide) q_)
    refine j_aload_n (r := x0) dX3_domain_28 rfl ?_
    refine kg_getr (a := a3) (j := 0) ea3 gfX3_54 hk4 dX3_domain_29 ?_
    obtain ⟨hc11, h⟩ := h
    refine jg_cast (r := gr (gmk 14 2 σ) a3 0) cs_PureHouse_Product q1581 hc11 dX3_domain_32 ?_
    obtain ⟨hk12, h⟩ := h
    refine kg_getr (a := a5) (j := 2) ea5 gfX3_90 hk12 dX3_domain_35 ?_
    refine j_aload_n (r := x0) dX3_domain_38 rfl ?_
    refine kg_getr (a := a3) (j := 1) ea3 gfX3_57 hk4 dX3_domain_39 ?_
    refine jg_callv (rest := [va_rf (some (gn σ))]) (kg_lkI (As := [va_rf (gr (gmk 14 2 σ) a5 2), va_rf (gr (gmk 14 2 σ) a3 1)]) (a := (gn σ)) kiX16_init (Or.inl q1572) rfl rfl dX3_domain_42) cwX16_init (Nat.le_of_ble_eq_true rfl) rfl dX3_domain_42 (Nat.succ_le_succ (Nat.zero_le _)) (h.mono (onV_mono (fun t13 h hlt13 => ?_) (fun _ _ h => h)))
    replace h := h hlt13
    replace hk2 := hlt13.tag hk2 (by decide)
    replace hk4 := hlt13.tag hk4 (by decide)
    replace hk12 := hlt13.tag hk12 (by decide)
    replace hm6 := hm6.le hlt13
    exact j_areturn (r := some (gn σ)) rfl (Or.inl ⟨_, rfl⟩) dX3_domain_45 h
theorem tX3_bound {G : GPl} {s0 : State} {l : Launch} {K : Nat → Option Nat} {T : Nat → Nat} {lev : Nat} {Q : Outcome → GSt → Prop} {x0 : Int32} {x1 : Int32} {σ : GSt} (h : (groom G 2 σ ∧ (groom G 4 (gmk 14 2 σ) ∧ (CQ (wP G s0 l K T) mX20_init lev (.ref (gn (gmk 14 2 σ)) :: [.int x0, .int x1]) (gmk 18 4 (gmk 14 2 σ)) (onV (fun t5 => gle (gmk 18 4 (gmk 14 2 σ)) t5 → (CQ (wP G s0 l K T) mX16_init lev (.ref (gn σ) :: [va_rf (some (gn (gmk 14 2 σ))), va_rf none]) t5 (onV (fun t7 => gle t5 t7 → Q (.returned (some (va_rf (some (gn σ))))) t7) (fun x t => gle t5 t → Q (.threw x) t)))) (fun x t => gle (gmk 18 4 (gmk 14 2 σ)) t → Q (.threw x) t)))))) : CQ (wP G s0 l K T) mX3_bound (lev + 1) [.int x0, .int x1] σ Q := by
  refine CQ.of3 0 (lv := [some (.int x0), some (.int x1)]) (by decide) (Nat.le_of_ble_eq_true rfl) (cat1_cons rfl (cat1_cons rfl cat1_nil)) rfl ?_
  obtain ⟨hg1, h⟩ := h
  refine jg_new (c := 13) (N := 2) (C := "PureHouse$Closure") (by decide) ⟨rfl, rfl⟩ q1571 q1427 q152 hg1 dX3_bound_0 ?_
  have hk2 := gk_new (t := 14) (n := 2) hg1.2.2
  refine j_dup dX3_bound_3 rfl ?_
  obtain ⟨hg3, h⟩ := h
  refine jg_new (c := 17) (N := 4) (C := "PureHouse$Local") (by decide) ⟨rfl, rfl⟩ q1587 q1588 q156 hg3 dX3_bound_4 ?_
  replace hk2 := gk_mk (t := 18) (n := 4) hk2 (by decide)
  have hk4 := gk_new (t := 18) (n := 4) hg3.2.2
  refine j_dup dX3_bound_7 rfl ?_
  refine j_iload_n dX3_bound_8 rfl ?_
  refine j_iload_n dX3_bound_9 rfl ?_
  refine jg_callv (rest := [va_rf (some (gn (gmk 14 2 σ))), va_rf (some (gn σ)), va_rf (some (gn σ))]) (kg_lkI (As := [.int x0, .int x1]) (a := (gn (gmk 14 2 σ))) kiX20_init (Or.inl q1589) rfl rfl dX3_bound_10) cwX20_init (Nat.le_of_ble_eq_true rfl) rfl dX3_bound_10 (Nat.succ_le_succ (Nat.zero_le _)) (h.mono (onV_mono (fun t5 h hlt5 => ?_) (fun _ _ h => h)))
  replace h := h hlt5
  replace hk2 := hlt5.tag hk2 (by decide)
  replace hk4 := hlt5.tag hk4 (by decide)
  refine j_null dX3_bound_13 ?_
  refine jg_callv (rest := [va_rf (some (gn σ))]) (kg_lkI (As := [va_rf (some (gn (gmk 14 2 σ))), va_rf none]) (a := (gn σ)) kiX16_init (Or.inl q1572) rfl rfl dX3_bound_14) cwX16_init (Nat.le_of_ble_eq_true rfl) rfl dX3_bound_14 (Nat.succ_le_succ (Nat.zero_le _)) (h.mono (onV_mono (fun t7 h hlt7 => ?_) (fun _ _ h => h)))
  replace h := h hlt7
  replace hk2 := hlt7.tag hk2 (by decide)
  replace hk4 := hlt7.tag hk4 (by decide)
  exact j_areturn (r := some (gn σ)) rfl (Or.inl ⟨_, rfl⟩) dX3_bound_17 h
theorem tX3_body {G : GPl} {s0 : State} {l : Launch} {K : Nat → Option Nat} {T : Nat → Nat} {lev : Nat} {Q : Outcome → GSt → Prop} {x0 : Option Nat} {x1 : Option Nat} {σ : GSt} (h : (groom G 2 σ ∧ (∃ a3, x0 = some a3 ∧ (gk (gmk 14 2 σ) a3 = 14 ∧ (∃ a5, gr (gmk 14 2 σ) a3 0 = some a5 ∧ (isTmA (gmk 14 2 σ) a5 ∧ ((isA (gmk 14 2 σ) (gr (gmk 14 2 σ) a3 0) 8 → (groom G 3 (gmk 14 2 σ) ∧ (CQ (wP G s0 l K T) mX18_init lev (.ref (gn (gmk 14 2 σ)) :: [va_rf x1, va_rf (gr (gmk 16 3 (gmk 14 2 σ)) a3 1)]) (gmk 16 3 (gmk 14 2 σ)) (onV (fun t11 => gle (gmk 16 3 (gmk 14 2 σ)) t11 → (CQ (wP G s0 l K T) mX16_init lev (.ref (gn σ) :: [va_rf (gr (gmk 14 2 σ) a5 3), va_rf (some (gn (gmk 14 2 σ)))]) t11 (onV (fun t13 => gle t11 t13 → Q (.returned (some (va_rf (some (gn σ))))) t13) (fun x t => gle t11 t → Q (.threw x) t)))) (fun x t => gle (gmk 16 3 (gmk 14 2 σ)) t → Q (.threw x) t))))) ∧ (¬ isA (gmk 14 2 σ) (gr (gmk 14 2 σ) a3 0) 8 → (inT (gmk 14 2 σ) (gr (gmk 14 2 σ) a3 0) [9] ∧ (gk (gmk 14 2 σ) a5 = 9 ∧ (groom G 3 (gmk 14 2 σ) ∧ (CQ (wP G s0 l K T) mX18_init lev (.ref (gn (gmk 14 2 σ)) :: [va_rf x1, va_rf (gr (gmk 16 3 (gmk 14 2 σ)) a3 1)]) (gmk 16 3 (gmk 14 2 σ)) (onV (fun t19 => gle (gmk 16 3 (gmk 14 2 σ)) t19 → (CQ (wP G s0 l K T) mX16_init lev (.ref (gn σ) :: [va_rf (gr (gmk 14 2 σ) a5 3), va_rf (some (gn (gmk 14 2 σ)))]) t19 (onV (fun t21 => gle t19 t21 → Q (.returned (some (va_rf (some (gn σ))))) t21) (fun x t => gle t19 t → Q (.threw x) t)))) (fun x t => gle (gmk 16 3 (gmk 14 2 σ)) t → Q (.threw x) t)))))))))))))) : CQ (wP G s0 l K T) mX3_body (lev + 1) [va_rf x0, va_rf x1] σ Q := by
  refine CQ.of3 2 (lv := [some (va_rf x0), some (va_rf x1), none, none]) (by decide) (Nat.le_of_ble_eq_true rfl) (cat1_cons (rf_cat _) (cat1_cons (rf_cat _) cat1_nil)) rfl ?_
  obtain ⟨hg1, h⟩ := h
  refine jg_new (c := 13) (N := 2) (C := "PureHouse$Closure") (by decide) ⟨rfl, rfl⟩ q1571 q1427 q152 hg1 dX3_body_0 ?_
  have hk2 := gk_new (t := 14) (n := 2) hg1.2.2
  refine j_dup dX3_body_3 rfl ?_
  refine j_aload_n (r := x0) dX3_body_4 rfl ?_
  obtain ⟨a3, ea3, hk4, h⟩ := h
  refine kg_getr (a := a3) (j := 0) ea3 gfX3_54 hk4 dX3_body_5 ?_
  refine j_astore_n (r := gr (gmk 14 2 σ) a3 0) (lv' := [some (va_rf x0), some (va_rf x1), none, some (va_rf (gr (gmk 14 2 σ) a3 0))]) dX3_body_8 (by decide) rfl ?_
  refine j_aload_n (r := gr (gmk 14 2 σ) a3 0) dX3_body_9 rfl ?_
  obtain ⟨a5, ea5, hm6, h⟩ := h
  refine jg_inst (r := gr (gmk 14 2 σ) a3 0) 7 (by decide) q1573 (isTmA.tm (a := a5) hm6 ea5) dX3_body_10 (fun c7 => ?_) (fun c7 => ?_)
  · replace h := h.1 c7
    have hk8 := isA.tag c7 ea5
    refine j_if_eq 28 dX3_body_13 (by decide) (fun q_ => absurd q_ (by decide)) (fun _ => ?_)
    refine j_aload_n (r := gr (gmk 14 2 σ) a3 0) dX3_body_16 rfl ?_
    refine jg_cast (r := gr (gmk 14 2 σ) a3 0) cs_PureHouse_Lambda q1573 (Or.inr ⟨a5, ea5, by rw [hk8]; decide⟩) dX3_body_17 ?_
    refine j_astore_n (r := gr (gmk 14 2 σ) a3 0) (lv' := [some (va_rf x0), some (va_rf x1), some (va_rf (gr (gmk 14 2 σ) a3 0)), some (va_rf (gr (gmk 14 2 σ) a3 0))]) dX3_body_20 (by decide) rfl ?_
    refine j_aload_n (r := gr (gmk 14 2 σ) a3 0) dX3_body_21 rfl ?_
    refine kg_getr (a := a5) (j := 3) ea5 gfX3_91 hk8 dX3_body_22 ?_
    refine j_goto 38 dX3_body_25 (by decide) ?_
    obtain ⟨hg9, h⟩ := h
    refine jg_new (c := 15) (N := 3) (C := "PureHouse$Env") (by decide) ⟨rfl, rfl⟩ q1607 q1494 q154 hg9 dX3_body_38 ?_
    replace hk2 := gk_mk (t := 16) (n := 3) hk2 (by decide)
    replace hk4 := gk_mk (t := 16) (n := 3) hk4 (by decide)
    replace hk8 := gk_mk (t := 16) (n := 3) hk8 (by decide)
    replace hm6 := isTmA.mk (t := 16) (n := 3) hm6
    have hk10 := gk_new (t := 16) (n := 3) hg9.2.2
    refine j_dup dX3_body_41 rfl ?_
    refine j_aload_n (r := x1) dX3_body_42 rfl ?_
    refine j_aload_n (r := x0) dX3_body_43 rfl ?_
    refine kg_getr (a := a3) (j := 1) ea3 gfX3_57 hk4 dX3_body_44 ?_
    refine jg_callv (rest := [va_rf (some (gn (gmk 14 2 σ))), va_rf (gr (gmk 14 2 σ) a5 3), va_rf (some (gn σ)), va_rf (some (gn σ))]) (kg_lkI (As := [va_rf x1, va_rf (gr (gmk 16 3 (gmk 14 2 σ)) a3 1)]) (a := (gn (gmk 14 2 σ))) kiX18_init (Or.inl q1608) rfl rfl dX3_body_47) cwX18_init (rm_ok (cat1_cons rfl (cat1_cons (rf_cat _) (cat1_cons rfl (cat1_cons rfl cat1_nil)))) (Nat.le_of_ble_eq_true rfl)) rfl dX3_body_47 (Nat.succ_le_succ (Nat.zero_le _)) (h.mono (onV_mono (fun t11 h hlt11 => ?_) (fun _ _ h => h)))
    replace h := h hlt11
    replace hk2 := hlt11.tag hk2 (by decide)
    replace hk4 := hlt11.tag hk4 (by decide)
    replace hk8 := hlt11.tag hk8 (by decide)
    replace hk10 := hlt11.tag hk10 (by decide)
    replace hm6 := hm6.le hlt11
    refine jg_callv (rest := [va_rf (some (gn σ))]) (kg_lkI (As := [va_rf (gr (gmk 14 2 σ) a5 3), va_rf (some (gn (gmk 14 2 σ)))]) (a := (gn σ)) kiX16_init (Or.inl q1572) rfl rfl dX3_body_50) cwX16_init (Nat.le_of_ble_eq_true rfl) rfl dX3_body_50 (Nat.succ_le_succ (Nat.zero_le _)) (h.mono (onV_mono (fun t13 h hlt13 => ?_) (fun _ _ h => h)))
    replace h := h hlt13
    replace hk2 := hlt13.tag hk2 (by decide)
    replace hk4 := hlt13.tag hk4 (by decide)
    replace hk8 := hlt13.tag hk8 (by decide)
    replace hk10 := hlt13.tag hk10 (by decide)
    replace hm6 := hm6.le hlt13
    exact j_areturn (r := some (gn σ)) rfl (Or.inl ⟨_, rfl⟩) dX3_body_53 h
  · replace h := h.2 c7
    refine j_if_eq 28 dX3_body_13 (by decide) (fun _ => ?_) (fun q_ => absurd (by decide) q_)
    refine j_aload_n (r := x0) dX3_body_28 rfl ?_
    refine kg_getr (a := a3) (j := 0) ea3 gfX3_54 hk4 dX3_body_29 ?_
    obtain ⟨hc15, h⟩ := h
    refine jg_cast (r := gr (gmk 14 2 σ) a3 0) cs_PureHouse_Product q1581 hc15 dX3_body_32 ?_
    obtain ⟨hk16, h⟩ := h
    refine kg_getr (a := a5) (j := 3) ea5 gfX3_94 hk16 dX3_body_35 ?_
    obtain ⟨hg17, h⟩ := h
    refine jg_new (c := 15) (N := 3) (C := "PureHouse$Env") (by decide) ⟨rfl, rfl⟩ q1607 q1494 q154 hg17 dX3_body_38 ?_
    replace hk2 := gk_mk (t := 16) (n := 3) hk2 (by decide)
    replace hk4 := gk_mk (t := 16) (n := 3) hk4 (by decide)
    replace hk16 := gk_mk (t := 16) (n := 3) hk16 (by decide)
    replace hm6 := isTmA.mk (t := 16) (n := 3) hm6
    have hk18 := gk_new (t := 16) (n := 3) hg17.2.2
    refine j_dup dX3_body_41 rfl ?_
    refine j_aload_n (r := x1) dX3_body_42 rfl ?_
    refine j_aload_n (r := x0) dX3_body_43 rfl ?_
    refine kg_getr (a := a3) (j := 1) ea3 gfX3_57 hk4 dX3_body_44 ?_
    refine jg_callv (rest := [va_rf (some (gn (gmk 14 2 σ))), va_rf (gr (gmk 14 2 σ) a5 3), va_rf (some (gn σ)), va_rf (some (gn σ))]) (kg_lkI (As := [va_rf x1, va_rf (gr (gmk 16 3 (gmk 14 2 σ)) a3 1)]) (a := (gn (gmk 14 2 σ))) kiX18_init (Or.inl q1608) rfl rfl dX3_body_47) cwX18_init (rm_ok (cat1_cons rfl (cat1_cons (rf_cat _) (cat1_cons rfl (cat1_cons rfl cat1_nil)))) (Nat.le_of_ble_eq_true rfl)) rfl dX3_body_47 (Nat.succ_le_succ (Nat.zero_le _)) (h.mono (onV_mono (fun t19 h hlt19 => ?_) (fun _ _ h => h)))
    replace h := h hlt19
    replace hk2 := hlt19.tag hk2 (by decide)
    replace hk4 := hlt19.tag hk4 (by decide)
    replace hk16 := hlt19.tag hk16 (by decide)
    replace hk18 := hlt19.tag hk18 (by decide)
    replace hm6 := hm6.le hlt19
    refine jg_callv (rest := [va_rf (some (gn σ))]) (kg_lkI (As := [va_rf (gr (gmk 14 2 σ) a5 3), va_rf (some (gn (gmk 14 2 σ)))]) (a := (gn σ)) kiX16_init (Or.inl q1572) rfl rfl dX3_body_50) cwX16_init (Nat.le_of_ble_eq_true rfl) rfl dX3_body_50 (Nat.succ_le_succ (Nat.zero_le _)) (h.mono (onV_mono (fun t21 h hlt21 => ?_) (fun _ _ h => h)))
    replace h := h hlt21
    replace hk2 := hlt21.tag hk2 (by decide)
    replace hk4 := hlt21.tag hk4 (by decide)
    replace hk16 := hlt21.tag hk16 (by decide)
    replace hk18 := hlt21.tag hk18 (by decide)
    replace hm6 := hm6.le hlt21
    exact j_areturn (r := some (gn σ)) rfl (Or.inl ⟨_, rfl⟩) dX3_body_53 h
theorem tX3_normalProduct {G : GPl} {s0 : State} {l : Launch} {K : Nat → Option Nat} {T : Nat → Nat} {lev : Nat} {Q : Outcome → GSt → Prop} {a0 : Nat} {x1 : Option Nat} {x2 : Option Nat} {x3 : Int32} {σ : GSt} (h : (groom G 6 σ ∧ (CQ (wP G s0 l K T) mX3_domain lev [va_rf x1] (gmk 9 6 σ) (onR (fun r4 t3 => gle (gmk 9 6 σ) t3 → (gk t3 a0 = 3 ∧ (CQ (wP G s0 l K T) mX3_normal lev (.ref a0 :: [va_rf r4, .int x3]) t3 (onR (fun r7 t6 => gle t3 t6 → (CQ (wP G s0 l K T) mX11_init lev (.ref (gn σ) :: [va_rf r7]) t6 (onV (fun t8 => gle t6 t8 → (CQ (wP G s0 l K T) mX3_bound lev [.int (iI (-1)), .int x3] t8 (onR (fun r11 t10 => gle t8 t10 → (CQ (wP G s0 l K T) mX3_body lev [va_rf x1, va_rf r11] t10 (onR (fun r13 t12 => gle t10 t12 → (CQ (wP G s0 l K T) mX3_normal lev (.ref a0 :: [va_rf r13, .int (x3 + (iI 1))]) t12 (onR (fun r15 t14 => gle t12 t14 → (∃ a16, x2 = some a16 ∧ (gk (gpr (gn σ) 3 r15 t14) a16 = 9 ∧ Q (.returned (some (va_rf (some (gn σ))))) (gpi (gn σ) 5 (gi (gpi (gn σ) 4 (gi (gpr (gn σ) 3 r15 t14) a16 4) (gpr (gn σ) 3 r15 t14)) a16 5) (gpi (gn σ) 4 (gi (gpr (gn σ) 3 r15 t14) a16 4) (gpr (gn σ) 3 r15 t14)))))) (fun x t => gle t12 t → Q (.threw x) t)))) (fun x t => gle t10 t → Q (.threw x) t)))) (fun x t => gle t8 t → Q (.threw x) t)))) (fun x t => gle t6 t → Q (.threw x) t)))) (fun x t => gle t3 t → Q (.threw x) t))))) (fun x t => gle (gmk 9 6 σ) t → Q (.threw x) t))))) : CQ (wP G s0 l K T) mX3_normalProduct (lev + 1) [.ref a0, va_rf x1, va_rf x2, .int x3] σ Q := by
  refine CQ.of3 1 (lv := [some (va_rf (some a0)), some (va_rf x1), some (va_rf x2), some (.int x3), none]) (by decide) (Nat.le_of_ble_eq_true rfl) (cat1_cons rfl (cat1_cons (rf_cat _) (cat1_cons (rf_cat _) (cat1_cons rfl cat1_nil)))) rfl ?_
  obtain ⟨hg1, h⟩ := h
  refine jg_new (c := 8) (N := 6) (C := "PureHouse$Product") (by decide) ⟨rfl, rfl⟩ q1581 q1160 q147 hg1 dX3_normalProduct_0 ?_
  have hk2 := gk_new (t := 9) (n := 6) hg1.2.2
  refine j_dup dX3_normalProduct_3 rfl ?_
  refine j_aload_n (r := some a0) dX3_normalProduct_4 rfl ?_
  refine j_aload_n (r := x1) dX3_normalProduct_5 rfl ?_
  refine jg_callr (rest := [va_rf (some a0), va_rf (some (gn σ)), va_rf (some (gn σ))]) (kg_lkS (As := [va_rf x1]) ktX3_domain q1578 rfl rfl dX3_normalProduct_6) cwX3_domain (Nat.le_of_ble_eq_true rfl) rfl dX3_normalProduct_6 (Nat.succ_le_succ (Nat.zero_le _)) (h.mono (onR_mono (fun r4 t3 h hlt3 => ?_) (fun _ _ h => h)))
  replace h := h hlt3
  replace hk2 := hlt3.tag hk2 (by decide)
  refine j_iload_n dX3_normalProduct_9 rfl ?_
  obtain ⟨hk5, h⟩ := h
  refine jg_callr (rest := [va_rf (some (gn σ)), va_rf (some (gn σ))]) (kg_lkV (As := [va_rf r4, .int x3]) (a := a0) (c := 2) kgX3_normal_2 (by decide) rfl hk5 q1582 rfl rfl dX3_normalProduct_10) cwX3_normal (Nat.le_of_ble_eq_true rfl) rfl dX3_normalProduct_10 (Nat.succ_le_succ (Nat.zero_le _)) (h.mono (onR_mono (fun r7 t6 h hlt6 => ?_) (fun _ _ h => h)))
  replace h := h hlt6
  replace hk2 := hlt6.tag hk2 (by decide)
  replace hk5 := hlt6.tag hk5 (by decide)
  refine jg_callv (rest := [va_rf (some (gn σ))]) (kg_lkI (As := [va_rf r7]) (a := (gn σ)) kiX11_init (Or.inl q1613) rfl rfl dX3_normalProduct_13) cwX11_init (Nat.le_of_ble_eq_true rfl) rfl dX3_normalProduct_13 (Nat.succ_le_succ (Nat.zero_le _)) (h.mono (onV_mono (fun t8 h hlt8 => ?_) (fun _ _ h => h)))
  replace h := h hlt8
  replace hk2 := hlt8.tag hk2 (by decide)
  replace hk5 := hlt8.tag hk5 (by decide)
  refine j_astore (r := some (gn σ)) (lv' := [some (va_rf (some a0)), some (va_rf x1), some (va_rf x2), some (.int x3), some (va_rf (some (gn σ)))]) dX3_normalProduct_16 (by decide) rfl ?_
  refine j_aload (r := some (gn σ)) dX3_normalProduct_18 rfl ?_
  refine j_aload_n (r := some a0) dX3_normalProduct_20 rfl ?_
  refine j_aload_n (r := x1) dX3_normalProduct_21 rfl ?_
  refine j_iconst (v := iI (-1)) dX3_normalProduct_22 rfl ?_
  refine j_iload_n dX3_normalProduct_23 rfl ?_
  refine jg_callr (rest := [va_rf x1, va_rf (some a0), va_rf (some (gn σ))]) (kg_lkS (As := [.int (iI (-1)), .int x3]) ktX3_bound q1584 rfl rfl dX3_normalProduct_24) cwX3_bound (rm_ok (cat1_cons (rf_cat _) (cat1_cons rfl (cat1_cons rfl cat1_nil))) (Nat.le_of_ble_eq_true rfl)) rfl dX3_normalProduct_24 (Nat.succ_le_succ (Nat.zero_le _)) (h.mono (onR_mono (fun r11 t10 h hlt10 => ?_) (fun _ _ h => h)))
  replace h := h hlt10
  replace hk2 := hlt10.tag hk2 (by decide)
  replace hk5 := hlt10.tag hk5 (by decide)
  refine jg_callr (rest := [va_rf (some a0), va_rf (some (gn σ))]) (kg_lkS (As := [va_rf x1, va_rf r11]) ktX3_body q1604 rfl rfl dX3_normalProduct_27) cwX3_body (Nat.le_of_ble_eq_true rfl) rfl dX3_normalProduct_27 (Nat.succ_le_succ (Nat.zero_le _)) (h.mono (onR_mono (fun r13 t12 h hlt12 => ?_) (fun _ _ h => h)))
  replace h := h hlt12
  replace hk2 := hlt12.tag hk2 (by decide)
  replace hk5 := hlt12.tag hk5 (by decide)
  refine j_iload_n dX3_normalProduct_30 rfl ?_
  refine j_iconst (v := iI 1) dX3_normalProduct_31 rfl ?_
  refine j_iadd dX3_normalProduct_32 ?_
  refine jg_callr (rest := [va_rf (some (gn σ))]) (kg_lkV (As := [va_rf r13, .int (x3 + (iI 1))]) (a := a0) (c := 2) kgX3_normal_2 (by decide) rfl hk5 q1582 rfl rfl dX3_normalProduct_33) cwX3_normal (Nat.le_of_ble_eq_true rfl) rfl dX3_normalProduct_33 (Nat.succ_le_succ (Nat.zero_le _)) (h.mono (onR_mono (fun r15 t14 h hlt14 => ?_) (fun _ _ h => h)))
  replace h := h hlt14
  replace hk2 := hlt14.tag hk2 (by decide)
  replace hk5 := hlt14.tag hk5 (by decide)
  refine kg_putr (a := (gn σ)) (x := r15) rfl gfX3_94 (Or.inl rfl) hk2 (Or.inl (by decide)) dX3_normalProduct_36 ?_
  refine j_aload (r := some (gn σ)) dX3_normalProduct_39 rfl ?_
  refine j_aload_n (r := x2) dX3_normalProduct_41 rfl ?_
  obtain ⟨a16, ea16, hk17, h⟩ := h
  refine kg_geti (a := a16) (j := 4) ea16 gfX3_171 (by decide) hk17 dX3_normalProduct_42 ?_
  refine kg_puti (a := (gn σ)) rfl gfX3_171 (Or.inl rfl) hk2 (Or.inl (by decide)) dX3_normalProduct_45 ?_
  refine j_aload (r := some (gn σ)) dX3_normalProduct_48 rfl ?_
  refine j_aload_n (r := x2) dX3_normalProduct_50 rfl ?_
  refine kg_geti (a := a16) (j := 5) ea16 gfX3_174 (by decide) hk17 dX3_normalProduct_51 ?_
  refine kg_puti (a := (gn σ)) rfl gfX3_174 (Or.inl rfl) hk2 (Or.inl (by decide)) dX3_normalProduct_54 ?_
  refine j_aload (r := some (gn σ)) dX3_normalProduct_57 rfl ?_
  exact j_areturn (r := some (gn σ)) rfl (Or.inl ⟨_, rfl⟩) dX3_normalProduct_59 h
abbrev jX3_normalFront_56 (G : GPl) (s0 : State) (l : Launch) (K : Nat → Option Nat) (T : Nat → Nat) (lev : Nat) (st0 : GSt) (Q : Outcome → GSt → Prop) (a0 : Nat) (x1 : Option Nat) (x2 : Option Nat) (x3 : Int32) (x4 : Option Nat) (x5 : Option Nat) (x6 : Option Nat) (σ : GSt) : Prop := JQ (wP G s0 l K T) mX3_normalFront (lev + 1) st0 56 [some (va_rf (some a0)), some (va_rf x1), some (va_rf x2), some (.int x3), some (va_rf x4), some (va_rf x5), some (va_rf x6)] [] σ Q
theorem tX3_normalFront {G : GPl} {s0 : State} {l : Launch} {K : Nat → Option Nat} {T : Nat → Nat} {lev : Nat} {Q : Outcome → GSt → Prop} {a0 : Nat} {x1 : Option Nat} {x2 : Option Nat} {x3 : Int32} {σ : GSt} (h : (∃ a1, x1 = some a1 ∧ (isTmA σ a1 ∧ ((isA σ x1 18 → (groom G 3 σ ∧ (CQ (wP G s0 l K T) mX13_init lev (.ref (gn σ) :: [.int ((x3 - (iI 1)) - (gi (gmk 11 3 σ) a1 3))]) (gmk 11 3 σ) (onV (fun t7 => gle (gmk 11 3 σ) t7 → ((x2 = none → Q (.returned (some (va_rf (some (gn σ))))) t7) ∧ (∀ a9, x2 = some a9 → (groom G 4 t7 ∧ (CQ (wP G s0 l K T) mX15_init lev (.ref (gn t7) :: [va_rf (some (gn σ))]) (gmk 13 4 t7) (onV (fun t12 => gle (gmk 13 4 t7) t12 → jX3_normalFront_56 G s0 l K T lev σ Q a0 x1 x2 x3 (some (gn σ)) (some (gn t7)) x2 t12) (fun x t => gle (gmk 13 4 t7) t → Q (.threw x) t))))))) (fun x t => gle (gmk 11 3 σ) t → Q (.threw x) t))))) ∧ (¬ isA σ x1 18 → ((x2 = none → Q (.returned (some (va_rf x1))) σ) ∧ (∀ a14, x2 = some a14 → (groom G 4 σ ∧ (CQ (wP G s0 l K T) mX15_init lev (.ref (gn σ) :: [va_rf x1]) (gmk 13 4 σ) (onV (fun t17 => gle (gmk 13 4 σ) t17 → jX3_normalFront_56 G s0 l K T lev σ Q a0 x1 x2 x3 x1 (some (gn σ)) x2 t17) (fun x t => gle (gmk 13 4 σ) t → Q (.threw x) t))))))))))) : CQ (wP G s0 l K T) mX3_normalFront (lev + 1) [.ref a0, va_rf x1, va_rf x2, .int x3] σ Q := by
  refine CQ.of3 3 (lv := [some (va_rf (some a0)), some (va_rf x1), some (va_rf x2), some (.int x3), none, none, none]) (by decide) (Nat.le_of_ble_eq_true rfl) (cat1_cons rfl (cat1_cons (rf_cat _) (cat1_cons (rf_cat _) (cat1_cons rfl cat1_nil)))) rfl ?_
  refine j_aload_n (r := x1) dX3_normalFront_0 rfl ?_
  obtain ⟨a1, ea1, hm2, h⟩ := h
  refine jg_inst (r := x1) 17 (by decide) q1587 (isTmA.tm (a := a1) hm2 ea1) dX3_normalFront_1 (fun c3 => ?_) (fun c3 => ?_)
  · replace h := h.1 c3
    have hk4 := isA.tag c3 ea1
    refine j_if_eq 32 dX3_normalFront_4 (by decide) (fun q_ => absurd q_ (by decide)) (fun _ => ?_)
    refine j_aload_n (r := x1) dX3_normalFront_7 rfl ?_
    refine jg_cast (r := x1) cs_PureHouse_Local q1587 (Or.inr ⟨a1, ea1, by rw [hk4]; decide⟩) dX3_normalFront_8 ?_
    refine j_astore (r := x1) (lv' := [some (va_rf (some a0)), some (va_rf x1), some (va_rf x2), some (.int x3), none, some (va_rf x1), none]) dX3_normalFront_11 (by decide) rfl ?_
    obtain ⟨hg5, h⟩ := h
    refine jg_new (c := 10) (N := 3) (C := "PureHouse$Bound") (by decide) ⟨rfl, rfl⟩ q1618 q1238 q149 hg5 dX3_normalFront_13 ?_
    replace hk4 := gk_mk (t := 11) (n := 3) hk4 (by decide)
    replace hm2 := isTmA.mk (t := 11) (n := 3) hm2
    have hk6 := gk_new (t := 11) (n := 3) hg5.2.2
    refine j_dup dX3_normalFront_16 rfl ?_
    refine j_iload_n dX3_normalFront_17 rfl ?_
    refine j_iconst (v := iI 1) dX3_normalFront_18 rfl ?_
    refine j_isub dX3_normalFront_19 ?_
    refine j_aload (r := x1) dX3_normalFront_20 rfl ?_
    refine kg_geti (a := a1) (j := 3) ea1 gfX3_179 (by decide) hk4 dX3_normalFront_22 ?_
    refine j_isub dX3_normalFront_25 ?_
    refine jg_callv (rest := [va_rf (some (gn σ))]) (kg_lkI (As := [.int ((x3 - (iI 1)) - (gi (gmk 11 3 σ) a1 3))]) (a := (gn σ)) kiX13_init (Or.inl q1619) rfl rfl dX3_normalFront_26) cwX13_init (Nat.le_of_ble_eq_true rfl) rfl dX3_normalFront_26 (Nat.succ_le_succ (Nat.zero_le _)) (h.mono (onV_mono (fun t7 h hlt7 => ?_) (fun _ _ h => h)))
    replace h := h hlt7
    replace hk4 := hlt7.tag hk4 (by decide)
    replace hk6 := hlt7.tag hk6 (by decide)
    replace hm2 := hm2.le hlt7
    refine j_goto 33 dX3_normalFront_29 (by decide) ?_
    refine j_astore (r := some (gn σ)) (lv' := [some (va_rf (some a0)), some (va_rf x1), some (va_rf x2), some (.int x3), some (va_rf (some (gn σ))), some (va_rf x1), none]) dX3_normalFront_33 (by decide) rfl ?_
    refine j_aload_n (r := x2) dX3_normalFront_35 rfl ?_
    refine j_ifnonnull (r := x2) 42 dX3_normalFront_36 (by decide) (fun a9 ea9 => ?_) (fun ea9 => ?_)
    · replace h := h.2 a9 ea9
      obtain ⟨hg10, h⟩ := h
      refine jg_new (c := 12) (N := 4) (C := "PureHouse$Use") (by decide) ⟨rfl, rfl⟩ q1620 q1275 q151 hg10 dX3_normalFront_42 ?_
      replace hk4 := gk_mk (t := 13) (n := 4) hk4 (by decide)
      replace hk6 := gk_mk (t := 13) (n := 4) hk6 (by decide)
      replace hm2 := isTmA.mk (t := 13) (n := 4) hm2
      have hk11 := gk_new (t := 13) (n := 4) hg10.2.2
      refine j_dup dX3_normalFront_45 rfl ?_
      refine j_aload (r := some (gn σ)) dX3_normalFront_46 rfl ?_
      refine jg_callv (rest := [va_rf (some (gn t7))]) (kg_lkI (As := [va_rf (some (gn σ))]) (a := (gn t7)) kiX15_init (Or.inl q1621) rfl rfl dX3_normalFront_48) cwX15_init (Nat.le_of_ble_eq_true rfl) rfl dX3_normalFront_48 (Nat.succ_le_succ (Nat.zero_le _)) (h.mono (onV_mono (fun t12 h hlt12 => ?_) (fun _ _ h => h)))
      replace h := h hlt12
      replace hk4 := hlt12.tag hk4 (by decide)
      replace hk6 := hlt12.tag hk6 (by decide)
      replace hk11 := hlt12.tag hk11 (by decide)
      replace hm2 := hm2.le hlt12
      refine j_astore (r := some (gn t7)) (lv' := [some (va_rf (some a0)), some (va_rf x1), some (va_rf x2), some (.int x3), some (va_rf (some (gn σ))), some (va_rf (some (gn t7))), none]) dX3_normalFront_51 (by decide) rfl ?_
      refine j_aload_n (r := x2) dX3_normalFront_53 rfl ?_
      refine j_astore (r := x2) (lv' := [some (va_rf (some a0)), some (va_rf x1), some (va_rf x2), some (.int x3), some (va_rf (some (gn σ))), some (va_rf (some (gn t7))), some (va_rf x2)]) dX3_normalFront_54 (by decide) rfl ?_
      exact h
    · replace h := h.1 ea9
      refine j_aload (r := some (gn σ)) dX3_normalFront_39 rfl ?_
      exact j_areturn (r := some (gn σ)) rfl (Or.inl ⟨_, rfl⟩) dX3_normalFront_41 h
  · replace h := h.2 c3
    refine j_if_eq 32 dX3_normalFront_4 (by decide) (fun _ => ?_) (fun q_ => absurd (by decide) q_)
    refine j_aload_n (r := x1) dX3_normalFront_32 rfl ?_
    refine j_astore (r := x1) (lv' := [some (va_rf (some a0)), some (va_rf x1), some (va_rf x2), some (.int x3), some (va_rf x1), none, none]) dX3_normalFront_33 (by decide) rfl ?_
    refine j_aload_n (r := x2) dX3_normalFront_35 rfl ?_
    refine j_ifnonnull (r := x2) 42 dX3_normalFront_36 (by decide) (fun a14 ea14 => ?_) (fun ea14 => ?_)
    · replace h := h.2 a14 ea14
      obtain ⟨hg15, h⟩ := h
      refine jg_new (c := 12) (N := 4) (C := "PureHouse$Use") (by decide) ⟨rfl, rfl⟩ q1620 q1275 q151 hg15 dX3_normalFront_42 ?_
      replace hm2 := isTmA.mk (t := 13) (n := 4) hm2
      have hk16 := gk_new (t := 13) (n := 4) hg15.2.2
      refine j_dup dX3_normalFront_45 rfl ?_
      refine j_aload (r := x1) dX3_normalFront_46 rfl ?_
      refine jg_callv (rest := [va_rf (some (gn σ))]) (kg_lkI (As := [va_rf x1]) (a := (gn σ)) kiX15_init (Or.inl q1621) rfl rfl dX3_normalFront_48) cwX15_init (Nat.le_of_ble_eq_true rfl) rfl dX3_normalFront_48 (Nat.succ_le_succ (Nat.zero_le _)) (h.mono (onV_mono (fun t17 h hlt17 => ?_) (fun _ _ h => h)))
      replace h := h hlt17
      replace hk16 := hlt17.tag hk16 (by decide)
      replace hm2 := hm2.le hlt17
      refine j_astore (r := some (gn σ)) (lv' := [some (va_rf (some a0)), some (va_rf x1), some (va_rf x2), some (.int x3), some (va_rf x1), some (va_rf (some (gn σ))), none]) dX3_normalFront_51 (by decide) rfl ?_
      refine j_aload_n (r := x2) dX3_normalFront_53 rfl ?_
      refine j_astore (r := x2) (lv' := [some (va_rf (some a0)), some (va_rf x1), some (va_rf x2), some (.int x3), some (va_rf x1), some (va_rf (some (gn σ))), some (va_rf x2)]) dX3_normalFront_54 (by decide) rfl ?_
      exact h
    · replace h := h.1 ea14
      refine j_aload (r := x1) dX3_normalFront_39 rfl ?_
      exact j_areturn (r := x1) rfl (Or.inl ⟨_, rfl⟩) dX3_normalFront_41 h
theorem tX3_normalFront_56 {G : GPl} {s0 : State} {l : Launch} {K : Nat → Option Nat} {T : Nat → Nat} {lev : Nat} {st0 : GSt} {Q : Outcome → GSt → Prop} {a0 : Nat} {x1 : Option Nat} {x2 : Option Nat} {x3 : Int32} {x4 : Option Nat} {x5 : Option Nat} {x6 : Option Nat} {σ : GSt} (h : ((x6 = none → Q (.returned (some (va_rf x5))) σ) ∧ (∀ a1, x6 = some a1 → (∃ a2, x5 = some a2 ∧ (gk σ a2 = 13 ∧ (gk σ a1 = 17 ∧ (gk σ a0 = 3 ∧ (CQ (wP G s0 l K T) mX3_normal lev (.ref a0 :: [va_rf (gr σ a1 0), .int x3]) σ (onR (fun r7 t6 => gle σ t6 → (∃ a8, gr σ a2 3 = some a8 ∧ (gk t6 a8 = 22 ∧ (CQ (wP G s0 l K T) mJ2_add lev (.ref a8 :: [va_rf r7]) t6 (onI (fun r11 t10 => gle t6 t10 → jX3_normalFront_56 G s0 l K T lev st0 Q a0 x1 x2 x3 x4 x5 (gr t10 a1 1) t10) (fun x t => gle t6 t → Q (.threw x) t)))))) (fun x t => gle σ t → Q (.threw x) t)))))))))) : jX3_normalFront_56 G s0 l K T lev st0 Q a0 x1 x2 x3 x4 x5 x6 σ := by
  refine j_aload (r := x6) dX3_normalFront_56 rfl ?_
  refine j_ifnull (r := x6) 90 dX3_normalFront_58 (by decide) (fun ea1 => ?_) (fun a1 ea1 => ?_)
  · replace h := h.1 ea1
    refine j_aload (r := x5) dX3_normalFront_90 rfl ?_
    exact j_areturn (r := x5) rfl (Or.inl ⟨_, rfl⟩) dX3_normalFront_92 h
  · replace h := h.2 a1 ea1
    refine j_aload (r := x5) dX3_normalFront_61 rfl ?_
    obtain ⟨a2, ea2, hk3, h⟩ := h
    refine kg_getr (a := a2) (j := 3) ea2 gfX3_187 hk3 dX3_normalFront_63 ?_
    refine j_aload_n (r := some a0) dX3_normalFront_66 rfl ?_
    refine j_aload (r := x6) dX3_normalFront_67 rfl ?_
    obtain ⟨hk4, h⟩ := h
    refine kg_getr (a := a1) (j := 0) ea1 gfX3_66 hk4 dX3_normalFront_69 ?_
    refine j_iload_n dX3_normalFront_72 rfl ?_
    obtain ⟨hk5, h⟩ := h
    refine jg_callr (rest := [va_rf (gr σ a2 3)]) (kg_lkV (As := [va_rf (gr σ a1 0), .int x3]) (a := a0) (c := 2) kgX3_normal_2 (by decide) rfl hk5 q1582 rfl rfl dX3_normalFront_73) cwX3_normal (rm_ok (cat1_cons (rf_cat _) cat1_nil) (Nat.le_of_ble_eq_true rfl)) rfl dX3_normalFront_73 (Nat.succ_le_succ (Nat.zero_le _)) (h.mono (onR_mono (fun r7 t6 h hlt6 => ?_) (fun _ _ h => h)))
    replace h := h hlt6
    replace hk3 := hlt6.tag hk3 (by decide)
    replace hk4 := hlt6.tag hk4 (by decide)
    replace hk5 := hlt6.tag hk5 (by decide)
    obtain ⟨a8, ea8, hk9, h⟩ := h
    refine jg_calli (rest := []) (kg_lkV (As := [va_rf r7]) (a := a8) (c := 21) kgJ2_add_21 (by decide) rfl hk9 q1622 rfl (by rw [ea8]; rfl) dX3_normalFront_76) cwJ2_add (Nat.le_of_ble_eq_true rfl) rfl dX3_normalFront_76 (Nat.succ_le_succ (Nat.zero_le _)) (h.mono (onI_mono (fun r11 t10 h hlt10 => ?_) (fun _ _ h => h)))
    replace h := h hlt10
    replace hk3 := hlt10.tag hk3 (by decide)
    replace hk4 := hlt10.tag hk4 (by decide)
    replace hk5 := hlt10.tag hk5 (by decide)
    replace hk9 := hlt10.tag hk9 (by decide)
    refine j_pop dX3_normalFront_79 rfl ?_
    refine j_aload (r := x6) dX3_normalFront_80 rfl ?_
    refine kg_getr (a := a1) (j := 1) ea1 gfX3_72 hk4 dX3_normalFront_82 ?_
    refine j_astore (r := gr t10 a1 1) (lv' := [some (va_rf (some a0)), some (va_rf x1), some (va_rf x2), some (.int x3), some (va_rf x4), some (va_rf x5), some (va_rf (gr t10 a1 1))]) dX3_normalFront_85 (by decide) rfl ?_
    refine j_goto 56 dX3_normalFront_87 (by decide) ?_
    exact h
abbrev jX3_same_82 (G : GPl) (s0 : State) (l : Launch) (K : Nat → Option Nat) (T : Nat → Nat) (lev : Nat) (st0 : GSt) (Q : Outcome → GSt → Prop) (a0 : Nat) (x1 : Option Nat) (x2 : Option Nat) (x3 : Option Nat) (x4 : Option Nat) (x5 : Option Nat) (x6 : Option Nat) (σ : GSt) : Prop := JQ (wP G s0 l K T) mX3_same (lev + 1) st0 82 [some (va_rf (some a0)), some (va_rf x1), some (va_rf x2), some (va_rf x3), some (va_rf x4), some (va_rf x5), some (va_rf x6), none] [] σ Q
abbrev jX3_same_121 (G : GPl) (s0 : State) (l : Launch) (K : Nat → Option Nat) (T : Nat → Nat) (lev : Nat) (st0 : GSt) (Q : Outcome → GSt → Prop) (a0 : Nat) (x1 : Option Nat) (x2 : Option Nat) (x3 : Option Nat) (x4 : Option Nat) (x5 : Option Nat) (x6 : Option Nat) (σ : GSt) : Prop := JQ (wP G s0 l K T) mX3_same (lev + 1) st0 121 [some (va_rf (some a0)), some (va_rf x1), some (va_rf x2), some (va_rf x3), some (va_rf x4), some (va_rf x5), some (va_rf x6), none] [] σ Q
abbrev jX3_same_155 (G : GPl) (s0 : State) (l : Launch) (K : Nat → Option Nat) (T : Nat → Nat) (lev : Nat) (st0 : GSt) (Q : Outcome → GSt → Prop) (a0 : Nat) (x1 : Option Nat) (x2 : Option Nat) (x3 : Option Nat) (x4 : Option Nat) (x5 : Option Nat) (x6 : Option Nat) (σ : GSt) : Prop := JQ (wP G s0 l K T) mX3_same (lev + 1) st0 155 [some (va_rf (some a0)), some (va_rf x1), some (va_rf x2), some (va_rf x3), some (va_rf x4), some (va_rf x5), some (va_rf x6), none] [] σ Q
theorem tX3_same {G : GPl} {s0 : State} {l : Launch} {K : Nat → Option Nat} {T : Nat → Nat} {lev : Nat} {Q : Outcome → GSt → Prop} {a0 : Nat} {x1 : Option Nat} {x2 : Option Nat} {σ : GSt} (h : (gk σ a0 = 3 ∧ (CQ (wP G s0 l K T) mX3_looks lev (.ref a0 :: []) σ (onV (fun t2 => gle σ t2 → (CQ (wP G s0 l K T) mX3_head lev (.ref a0 :: [va_rf x1]) t2 (onV (fun t4 => gle t2 t4 → (CQ (wP G s0 l K T) mX3_here lev (.ref a0 :: []) t4 (onR (fun r7 t6 => gle t4 t6 → (CQ (wP G s0 l K T) mX3_head lev (.ref a0 :: [va_rf x2]) t6 (onV (fun t8 => gle t6 t8 → (CQ (wP G s0 l K T) mX3_here lev (.ref a0 :: []) t8 (onR (fun r11 t10 => gle t8 t10 → (∃ a12, r7 = some a12 ∧ (gk (gpi a0 8 ((gi t10 a0 8) + (iI 1)) t10) a12 = 14 ∧ (∃ a14, gr (gpi a0 8 ((gi t10 a0 8) + (iI 1)) t10) a12 0 = some a14 ∧ (isTmA (gpi a0 8 ((gi t10 a0 8) + (iI 1)) t10) a14 ∧ ((isA (gpi a0 8 ((gi t10 a0 8) + (iI 1)) t10) (gr (gpi a0 8 ((gi t10 a0 8) + (iI 1)) t10) a12 0) 8 → (∃ a18, r11 = some a18 ∧ (gk (gpi a0 8 ((gi t10 a0 8) + (iI 1)) t10) a18 = 14 ∧ (∃ a20, gr (gpi a0 8 ((gi t10 a0 8) + (iI 1)) t10) a18 0 = some a20 ∧ (isTmA (gpi a0 8 ((gi t10 a0 8) + (iI 1)) t10) a20 ∧ ((isA (gpi a0 8 ((gi t10 a0 8) + (iI 1)) t10) (gr (gpi a0 8 ((gi t10 a0 8) + (iI 1)) t10) a18 0) 8 → (CQ (wP G s0 l K T) mX3_sameParts lev (.ref a0 :: [va_rf r7, va_rf r11]) (gpi a0 8 ((gi t10 a0 8) + (iI 1)) t10) (onI (fun r25 t24 => gle (gpi a0 8 ((gi t10 a0 8) + (iI 1)) t10) t24 → ((r25 = 0 → jX3_same_82 G s0 l K T lev σ Q a0 x1 x2 r7 (gr t6 a0 3) r11 (gr t10 a0 3) t24) ∧ (¬ r25 = 0 → Q (.returned (some (.int (iI 1)))) (gpi a0 8 ((gi t24 a0 8) - (iI 1)) t24)))) (fun x t => gle (gpi a0 8 ((gi t10 a0 8) + (iI 1)) t10) t → Q (.threw x) t)))) ∧ (¬ isA (gpi a0 8 ((gi t10 a0 8) + (iI 1)) t10) (gr (gpi a0 8 ((gi t10 a0 8) + (iI 1)) t10) a18 0) 8 → jX3_same_82 G s0 l K T lev σ Q a0 x1 x2 r7 (gr t6 a0 3) r11 (gr t10 a0 3) (gpi a0 8 ((gi t10 a0 8) + (iI 1)) t10)))))))) ∧ (¬ isA (gpi a0 8 ((gi t10 a0 8) + (iI 1)) t10) (gr (gpi a0 8 ((gi t10 a0 8) + (iI 1)) t10) a12 0) 8 → ((isA (gpi a0 8 ((gi t10 a0 8) + (iI 1)) t10) (gr (gpi a0 8 ((gi t10 a0 8) + (iI 1)) t10) a12 0) 9 → (∃ a29, r11 = some a29 ∧ (gk (gpi a0 8 ((gi t10 a0 8) + (iI 1)) t10) a29 = 14 ∧ (∃ a31, gr (gpi a0 8 ((gi t10 a0 8) + (iI 1)) t10) a29 0 = some a31 ∧ (isTmA (gpi a0 8 ((gi t10 a0 8) + (iI 1)) t10) a31 ∧ ((isA (gpi a0 8 ((gi t10 a0 8) + (iI 1)) t10) (gr (gpi a0 8 ((gi t10 a0 8) + (iI 1)) t10) a29 0) 9 → (CQ (wP G s0 l K T) mX3_sameParts lev (.ref a0 :: [va_rf r7, va_rf r11]) (gpi a0 8 ((gi t10 a0 8) + (iI 1)) t10) (onI (fun r36 t35 => gle (gpi a0 8 ((gi t10 a0 8) + (iI 1)) t10) t35 → ((r36 = 0 → jX3_same_121 G s0 l K T lev σ Q a0 x1 x2 r7 (gr t6 a0 3) r11 (gr t10 a0 3) t35) ∧ (¬ r36 = 0 → Q (.returned (some (.int (iI 1)))) (gpi a0 8 ((gi t35 a0 8) - (iI 1)) t35)))) (fun x t => gle (gpi a0 8 ((gi t10 a0 8) + (iI 1)) t10) t → Q (.threw x) t)))) ∧ (¬ isA (gpi a0 8 ((gi t10 a0 8) + (iI 1)) t10) (gr (gpi a0 8 ((gi t10 a0 8) + (iI 1)) t10) a29 0) 9 → jX3_same_121 G s0 l K T lev σ Q a0 x1 x2 r7 (gr t6 a0 3) r11 (gr t10 a0 3) (gpi a0 8 ((gi t10 a0 8) + (iI 1)) t10)))))))) ∧ (¬ isA (gpi a0 8 ((gi t10 a0 8) + (iI 1)) t10) (gr (gpi a0 8 ((gi t10 a0 8) + (iI 1)) t10) a12 0) 9 → (∃ a38, r11 = some a38 ∧ (gk (gpi a0 8 ((gi t10 a0 8) + (iI 1)) t10) a38 = 14 ∧ (CQ (wP G s0 l K T) mX3_isFront lev [va_rf (gr (gpi a0 8 ((gi t10 a0 8) + (iI 1)) t10) a12 0), va_rf (gr (gpi a0 8 ((gi t10 a0 8) + (iI 1)) t10) a38 0)] (gpi a0 8 ((gi t10 a0 8) + (iI 1)) t10) (onI (fun r41 t40 => gle (gpi a0 8 ((gi t10 a0 8) + (iI 1)) t10) t40 → ((r41 = 0 → jX3_same_155 G s0 l K T lev σ Q a0 x1 x2 r7 (gr t6 a0 3) r11 (gr t10 a0 3) t40) ∧ (¬ r41 = 0 → (CQ (wP G s0 l K T) mX3_sameArgs lev (.ref a0 :: [va_rf (gr t6 a0 3), va_rf (gr t10 a0 3)]) t40 (onI (fun r43 t42 => gle t40 t42 → ((r43 = 0 → jX3_same_155 G s0 l K T lev σ Q a0 x1 x2 r7 (gr t6 a0 3) r11 (gr t10 a0 3) t42) ∧ (¬ r43 = 0 → Q (.returned (some (.int (iI 1)))) (gpi a0 8 ((gi t42 a0 8) - (iI 1)) t42)))) (fun x t => gle t40 t → Q (.threw x) t)))))) (fun x t => gle (gpi a0 8 ((gi t10 a0 8) + (iI 1)) t10) t → Q (.threw x) t)))))))))))))) (fun x t => gle t8 t → Q (.threw x) t)))) (fun x t => gle t6 t → Q (.threw x) t)))) (fun x t => gle t4 t → Q (.threw x) t)))) (fun x t => gle t2 t → Q (.threw x) t)))) (fun x t => gle σ t → Q (.threw x) t))))) : CQ (wP G s0 l K T) mX3_same (lev + 1) [.ref a0, va_rf x1, va_rf x2] σ Q := by
  refine CQ.of3 5 (lv := [some (va_rf (some a0)), some (va_rf x1), some (va_rf x2), none, none, none, none, none]) (by decide) (Nat.le_of_ble_eq_true rfl) (cat1_cons rfl (cat1_cons (rf_cat _) (cat1_cons (rf_cat _) cat1_nil))) rfl ?_
  refine j_aload_n (r := some a0) dX3_same_0 rfl ?_
  obtain ⟨hk1, h⟩ := h
  refine jg_callv (rest := []) (kg_lkV (As := []) (a := a0) (c := 2) kgX3_looks_2 (by decide) rfl hk1 q1453 rfl rfl dX3_same_1) cwX3_looks (Nat.le_of_ble_eq_true rfl) rfl dX3_same_1 (Nat.succ_le_succ (Nat.zero_le _)) (h.mono (onV_mono (fun t2 h hlt2 => ?_) (fun _ _ h => h)))
  replace h := h hlt2
  replace hk1 := hlt2.tag hk1 (by decide)
  refine j_aload_n (r := some a0) dX3_same_4 rfl ?_
  refine j_aload_n (r := x1) dX3_same_5 rfl ?_
  refine jg_callv (rest := []) (kg_lkV (As := [va_rf x1]) (a := a0) (c := 2) kgX3_head_2 (by decide) rfl hk1 q1464 rfl rfl dX3_same_6) cwX3_head (Nat.le_of_ble_eq_true rfl) rfl dX3_same_6 (Nat.succ_le_succ (Nat.zero_le _)) (h.mono (onV_mono (fun t4 h hlt4 => ?_) (fun _ _ h => h)))
  replace h := h hlt4
  replace hk1 := hlt4.tag hk1 (by decide)
  refine j_aload_n (r := some a0) dX3_same_9 rfl ?_
  refine jg_callr (rest := []) (kg_lkV (As := []) (a := a0) (c := 2) kgX3_here_2 (by decide) rfl hk1 q1567 rfl rfl dX3_same_10) cwX3_here (Nat.le_of_ble_eq_true rfl) rfl dX3_same_10 (Nat.succ_le_succ (Nat.zero_le _)) (h.mono (onR_mono (fun r7 t6 h hlt6 => ?_) (fun _ _ h => h)))
  replace h := h hlt6
  replace hk1 := hlt6.tag hk1 (by decide)
  refine j_astore_n (r := r7) (lv' := [some (va_rf (some a0)), some (va_rf x1), some (va_rf x2), some (va_rf r7), none, none, none, none]) dX3_same_13 (by decide) rfl ?_
  refine j_aload_n (r := some a0) dX3_same_14 rfl ?_
  refine kg_getr (a := a0) (j := 3) rfl gfX3_62 hk1 dX3_same_15 ?_
  refine j_astore (r := gr t6 a0 3) (lv' := [some (va_rf (some a0)), some (va_rf x1), some (va_rf x2), some (va_rf r7), some (va_rf (gr t6 a0 3)), none, none, none]) dX3_same_18 (by decide) rfl ?_
  refine j_aload_n (r := some a0) dX3_same_20 rfl ?_
  refine j_aload_n (r := x2) dX3_same_21 rfl ?_
  refine jg_callv (rest := []) (kg_lkV (As := [va_rf x2]) (a := a0) (c := 2) kgX3_head_2 (by decide) rfl hk1 q1464 rfl rfl dX3_same_22) cwX3_head (Nat.le_of_ble_eq_true rfl) rfl dX3_same_22 (Nat.succ_le_succ (Nat.zero_le _)) (h.mono (onV_mono (fun t8 h hlt8 => ?_) (fun _ _ h => h)))
  replace h := h hlt8
  replace hk1 := hlt8.tag hk1 (by decide)
  refine j_aload_n (r := some a0) dX3_same_25 rfl ?_
  refine jg_callr (rest := []) (kg_lkV (As := []) (a := a0) (c := 2) kgX3_here_2 (by decide) rfl hk1 q1567 rfl rfl dX3_same_26) cwX3_here (Nat.le_of_ble_eq_true rfl) rfl dX3_same_26 (Nat.succ_le_succ (Nat.zero_le _)) (h.mono (onR_mono (fun r11 t10 h hlt10 => ?_) (fun _ _ h => h)))
  replace h := h hlt10
  replace hk1 := hlt10.tag hk1 (by decide)
  refine j_astore (r := r11) (lv' := [some (va_rf (some a0)), some (va_rf x1), some (va_rf x2), some (va_rf r7), some (va_rf (gr t6 a0 3)), some (va_rf r11), none, none]) dX3_same_29 (by decide) rfl ?_
  refine j_aload_n (r := some a0) dX3_same_31 rfl ?_
  refine kg_getr (a := a0) (j := 3) rfl gfX3_62 hk1 dX3_same_32 ?_
  refine j_astore (r := gr t10 a0 3) (lv' := [some (va_rf (some a0)), some (va_rf x1), some (va_rf x2), some (va_rf r7), some (va_rf (gr t6 a0 3)), some (va_rf r11), some (va_rf (gr t10 a0 3)), none]) dX3_same_35 (by decide) rfl ?_
  refine j_aload_n (r := some a0) dX3_same_37 rfl ?_
  refine j_dup dX3_same_38 rfl ?_
  refine kg_geti (a := a0) (j := 8) rfl gfX3_30 (by decide) hk1 dX3_same_39 ?_
  refine j_iconst (v := iI 1) dX3_same_42 rfl ?_
  refine j_iadd dX3_same_43 ?_
  refine kg_puti (a := a0) rfl gfX3_30 (Or.inl rfl) hk1 (Or.inl (by decide)) dX3_same_44 ?_
  refine j_aload_n (r := r7) dX3_same_47 rfl ?_
  obtain ⟨a12, ea12, hk13, h⟩ := h
  refine kg_getr (a := a12) (j := 0) ea12 gfX3_54 hk13 dX3_same_48 ?_
  obtain ⟨a14, ea14, hm15, h⟩ := h
  refine jg_inst (r := gr (gpi a0 8 ((gi t10 a0 8) + (iI 1)) t10) a12 0) 7 (by decide) q1573 (isTmA.tm (a := a14) hm15 ea14) dX3_same_51 (fun c16 => ?_) (fun c16 => ?_)
  · replace h := h.1 c16
    have hk17 := isA.tag c16 ea14
    refine j_if_eq 86 dX3_same_54 (by decide) (fun q_ => absurd q_ (by decide)) (fun _ => ?_)
    refine j_aload (r := r11) dX3_same_57 rfl ?_
    obtain ⟨a18, ea18, hk19, h⟩ := h
    refine kg_getr (a := a18) (j := 0) ea18 gfX3_54 hk19 dX3_same_59 ?_
    obtain ⟨a20, ea20, hm21, h⟩ := h
    refine jg_inst (r := gr (gpi a0 8 ((gi t10 a0 8) + (iI 1)) t10) a18 0) 7 (by decide) q1573 (isTmA.tm (a := a20) hm21 ea20) dX3_same_62 (fun c22 => ?_) (fun c22 => ?_)
    · replace h := h.1 c22
      have hk23 := isA.tag c22 ea20
      refine j_if_eq 82 dX3_same_65 (by decide) (fun q_ => absurd q_ (by decide)) (fun _ => ?_)
      refine j_aload_n (r := some a0) dX3_same_68 rfl ?_
      refine j_aload_n (r := r7) dX3_same_69 rfl ?_
      refine j_aload (r := r11) dX3_same_70 rfl ?_
      refine jg_calli (rest := []) (kg_lkV (As := [va_rf r7, va_rf r11]) (a := a0) (c := 2) kgX3_sameParts_2 (by decide) rfl hk1 q1704 rfl rfl dX3_same_72) cwX3_sameParts (Nat.le_of_ble_eq_true rfl) rfl dX3_same_72 (Nat.succ_le_succ (Nat.zero_le _)) (h.mono (onI_mono (fun r25 t24 h hlt24 => ?_) (fun _ _ h => h)))
      replace h := h hlt24
      replace hk1 := hlt24.tag hk1 (by decide)
      replace hk13 := hlt24.tag hk13 (by decide)
      replace hk17 := hlt24.tag hk17 (by decide)
      replace hk19 := hlt24.tag hk19 (by decide)
      replace hk23 := hlt24.tag hk23 (by decide)
      replace hm15 := hm15.le hlt24
      replace hm21 := hm21.le hlt24
      refine j_if_eq 82 dX3_same_75 (by decide) (fun c26 => ?_) (fun c26 => ?_)
      · replace h := h.1 c26
        exact h
      · replace h := h.2 c26
        refine j_iconst (v := iI 1) dX3_same_78 rfl ?_
        refine j_goto 156 dX3_same_79 (by decide) ?_
        refine j_istore (lv' := [some (va_rf (some a0)), some (va_rf x1), some (va_rf x2), some (va_rf r7), some (va_rf (gr t6 a0 3)), some (va_rf r11), some (va_rf (gr t10 a0 3)), some (.int (iI 1))]) dX3_same_156 (by decide) rfl ?_
        refine j_aload_n (r := some a0) dX3_same_158 rfl ?_
        refine j_dup dX3_same_159 rfl ?_
        refine kg_geti (a := a0) (j := 8) rfl gfX3_30 (by decide) hk1 dX3_same_160 ?_
        refine j_iconst (v := iI 1) dX3_same_163 rfl ?_
        refine j_isub dX3_same_164 ?_
        refine kg_puti (a := a0) rfl gfX3_30 (Or.inl rfl) hk1 (Or.inl (by decide)) dX3_same_165 ?_
        refine j_iload dX3_same_168 rfl ?_
        exact j_ireturn (ty := .boolean) rfl rfl dX3_same_170 h
    · replace h := h.2 c22
      refine j_if_eq 82 dX3_same_65 (by decide) (fun _ => ?_) (fun q_ => absurd (by decide) q_)
      exact h
  · replace h := h.2 c16
    refine j_if_eq 86 dX3_same_54 (by decide) (fun _ => ?_) (fun q_ => absurd (by decide) q_)
    refine j_aload_n (r := r7) dX3_same_86 rfl ?_
    refine kg_getr (a := a12) (j := 0) ea12 gfX3_54 hk13 dX3_same_87 ?_
    refine jg_inst (r := gr (gpi a0 8 ((gi t10 a0 8) + (iI 1)) t10) a12 0) 8 (by decide) q1581 (isTmA.tm (a := a14) hm15 ea14) dX3_same_90 (fun c27 => ?_) (fun c27 => ?_)
    · replace h := h.1 c27
      have hk28 := isA.tag c27 ea14
      refine j_if_eq 125 dX3_same_93 (by decide) (fun q_ => absurd q_ (by decide)) (fun _ => ?_)
      refine j_aload (r := r11) dX3_same_96 rfl ?_
      obtain ⟨a29, ea29, hk30, h⟩ := h
      refine kg_getr (a := a29) (j := 0) ea29 gfX3_54 hk30 dX3_same_98 ?_
      obtain ⟨a31, ea31, hm32, h⟩ := h
      refine jg_inst (r := gr (gpi a0 8 ((gi t10 a0 8) + (iI 1)) t10) a29 0) 8 (by decide) q1581 (isTmA.tm (a := a31) hm32 ea31) dX3_same_101 (fun c33 => ?_) (fun c33 => ?_)
      · replace h := h.1 c33
        have hk34 := isA.tag c33 ea31
        refine j_if_eq 121 dX3_same_104 (by decide) (fun q_ => absurd q_ (by decide)) (fun _ => ?_)
        refine j_aload_n (r := some a0) dX3_same_107 rfl ?_
        refine j_aload_n (r := r7) dX3_same_108 rfl ?_
        refine j_aload (r := r11) dX3_same_109 rfl ?_
        refine jg_calli (rest := []) (kg_lkV (As := [va_rf r7, va_rf r11]) (a := a0) (c := 2) kgX3_sameParts_2 (by decide) rfl hk1 q1704 rfl rfl dX3_same_111) cwX3_sameParts (Nat.le_of_ble_eq_true rfl) rfl dX3_same_111 (Nat.succ_le_succ (Nat.zero_le _)) (h.mono (onI_mono (fun r36 t35 h hlt35 => ?_) (fun _ _ h => h)))
        replace h := h hlt35
        replace hk1 := hlt35.tag hk1 (by decide)
        replace hk13 := hlt35.tag hk13 (by decide)
        replace hk28 := hlt35.tag hk28 (by decide)
        replace hk30 := hlt35.tag hk30 (by decide)
        replace hk34 := hlt35.tag hk34 (by decide)
        replace hm15 := hm15.le hlt35
        replace hm32 := hm32.le hlt35
        refine j_if_eq 121 dX3_same_114 (by decide) (fun c37 => ?_) (fun c37 => ?_)
        · replace h := h.1 c37
          exact h
        · replace h := h.2 c37
          refine j_iconst (v := iI 1) dX3_same_117 rfl ?_
          refine j_goto 156 dX3_same_118 (by decide) ?_
          refine j_istore (lv' := [some (va_rf (some a0)), some (va_rf x1), some (va_rf x2), some (va_rf r7), some (va_rf (gr t6 a0 3)), some (va_rf r11), some (va_rf (gr t10 a0 3)), some (.int (iI 1))]) dX3_same_156 (by decide) rfl ?_
          refine j_aload_n (r := some a0) dX3_same_158 rfl ?_
          refine j_dup dX3_same_159 rfl ?_
          refine kg_geti (a := a0) (j := 8) rfl gfX3_30 (by decide) hk1 dX3_same_160 ?_
          refine j_iconst (v := iI 1) dX3_same_163 rfl ?_
          refine j_isub dX3_same_164 ?_
          refine kg_puti (a := a0) rfl gfX3_30 (Or.inl rfl) hk1 (Or.inl (by decide)) dX3_same_165 ?_
          refine j_iload dX3_same_168 rfl ?_
          exact j_ireturn (ty := .boolean) rfl rfl dX3_same_170 h
      · replace h := h.2 c33
        refine j_if_eq 121 dX3_same_104 (by decide) (fun _ => ?_) (fun q_ => absurd (by decide) q_)
        exact h
    · replace h := h.2 c27
      refine j_if_eq 125 dX3_same_93 (by decide) (fun _ => ?_) (fun q_ => absurd (by decide) q_)
      refine j_aload_n (r := r7) dX3_same_125 rfl ?_
      refine kg_getr (a := a12) (j := 0) ea12 gfX3_54 hk13 dX3_same_126 ?_
      refine j_aload (r := r11) dX3_same_129 rfl ?_
      obtain ⟨a38, ea38, hk39, h⟩ := h
      refine kg_getr (a := a38) (j := 0) ea38 gfX3_54 hk39 dX3_same_131 ?_
      refine jg_calli (rest := []) (kg_lkS (As := [va_rf (gr (gpi a0 8 ((gi t10 a0 8) + (iI 1)) t10) a12 0), va_rf (gr (gpi a0 8 ((gi t10 a0 8) + (iI 1)) t10) a38 0)]) ktX3_isFront q1709 rfl rfl dX3_same_134) cwX3_isFront (Nat.le_of_ble_eq_true rfl) rfl dX3_same_134 (Nat.succ_le_succ (Nat.zero_le _)) (h.mono (onI_mono (fun r41 t40 h hlt40 => ?_) (fun _ _ h => h)))
      replace h := h hlt40
      replace hk1 := hlt40.tag hk1 (by decide)
      replace hk13 := hlt40.tag hk13 (by decide)
      replace hk39 := hlt40.tag hk39 (by decide)
      replace hm15 := hm15.le hlt40
      refine j_if_eq 155 dX3_same_137 (by decide) (fun c45 => ?_) (fun c45 => ?_)
      · replace h := h.1 c45
        exact h
      · replace h := h.2 c45
        refine j_aload_n (r := some a0) dX3_same_140 rfl ?_
        refine j_aload (r := gr t6 a0 3) dX3_same_141 rfl ?_
        refine j_aload (r := gr t10 a0 3) dX3_same_143 rfl ?_
        refine jg_calli (rest := []) (kg_lkV (As := [va_rf (gr t6 a0 3), va_rf (gr t10 a0 3)]) (a := a0) (c := 2) kgX3_sameArgs_2 (by decide) rfl hk1 q1713 rfl rfl dX3_same_145) cwX3_sameArgs (Nat.le_of_ble_eq_true rfl) rfl dX3_same_145 (Nat.succ_le_succ (Nat.zero_le _)) (h.mono (onI_mono (fun r43 t42 h hlt42 => ?_) (fun _ _ h => h)))
        replace h := h hlt42
        replace hk1 := hlt42.tag hk1 (by decide)
        replace hk13 := hlt42.tag hk13 (by decide)
        replace hk39 := hlt42.tag hk39 (by decide)
        replace hm15 := hm15.le hlt42
        refine j_if_eq 155 dX3_same_148 (by decide) (fun c44 => ?_) (fun c44 => ?_)
        · replace h := h.1 c44
          exact h
        · replace h := h.2 c44
          refine j_iconst (v := iI 1) dX3_same_151 rfl ?_
          refine j_goto 156 dX3_same_152 (by decide) ?_
          refine j_istore (lv' := [some (va_rf (some a0)), some (va_rf x1), some (va_rf x2), some (va_rf r7), some (va_rf (gr t6 a0 3)), some (va_rf r11), some (va_rf (gr t10 a0 3)), some (.int (iI 1))]) dX3_same_156 (by decide) rfl ?_
          refine j_aload_n (r := some a0) dX3_same_158 rfl ?_
          refine j_dup dX3_same_159 rfl ?_
          refine kg_geti (a := a0) (j := 8) rfl gfX3_30 (by decide) hk1 dX3_same_160 ?_
          refine j_iconst (v := iI 1) dX3_same_163 rfl ?_
          refine j_isub dX3_same_164 ?_
          refine kg_puti (a := a0) rfl gfX3_30 (Or.inl rfl) hk1 (Or.inl (by decide)) dX3_same_165 ?_
          refine j_iload dX3_same_168 rfl ?_
          exact j_ireturn (ty := .boolean) rfl rfl dX3_same_170 h
theorem tX3_same_82 {G : GPl} {s0 : State} {l : Launch} {K : Nat → Option Nat} {T : Nat → Nat} {lev : Nat} {st0 : GSt} {Q : Outcome → GSt → Prop} {a0 : Nat} {x1 : Option Nat} {x2 : Option Nat} {x3 : Option Nat} {x4 : Option Nat} {x5 : Option Nat} {x6 : Option Nat} {σ : GSt} (h : (gk σ a0 = 3 ∧ Q (.returned (some (.int (iI 0)))) (gpi a0 8 ((gi σ a0 8) - (iI 1)) σ))) : jX3_same_82 G s0 l K T lev st0 Q a0 x1 x2 x3 x4 x5 x6 σ := by
  refine j_iconst (v := iI 0) dX3_same_82 rfl ?_
  refine j_goto 156 dX3_same_83 (by decide) ?_
  refine j_istore (lv' := [some (va_rf (some a0)), some (va_rf x1), some (va_rf x2), some (va_rf x3), some (va_rf x4), some (va_rf x5), some (va_rf x6), some (.int (iI 0))]) dX3_same_156 (by decide) rfl ?_
  refine j_aload_n (r := some a0) dX3_same_158 rfl ?_
  refine j_dup dX3_same_159 rfl ?_
  obtain ⟨hk1, h⟩ := h
  refine kg_geti (a := a0) (j := 8) rfl gfX3_30 (by decide) hk1 dX3_same_160 ?_
  refine j_iconst (v := iI 1) dX3_same_163 rfl ?_
  refine j_isub dX3_same_164 ?_
  refine kg_puti (a := a0) rfl gfX3_30 (Or.inl rfl) hk1 (Or.inl (by decide)) dX3_same_165 ?_
  refine j_iload dX3_same_168 rfl ?_
  exact j_ireturn (ty := .boolean) rfl rfl dX3_same_170 h
theorem tX3_same_121 {G : GPl} {s0 : State} {l : Launch} {K : Nat → Option Nat} {T : Nat → Nat} {lev : Nat} {st0 : GSt} {Q : Outcome → GSt → Prop} {a0 : Nat} {x1 : Option Nat} {x2 : Option Nat} {x3 : Option Nat} {x4 : Option Nat} {x5 : Option Nat} {x6 : Option Nat} {σ : GSt} (h : (gk σ a0 = 3 ∧ Q (.returned (some (.int (iI 0)))) (gpi a0 8 ((gi σ a0 8) - (iI 1)) σ))) : jX3_same_121 G s0 l K T lev st0 Q a0 x1 x2 x3 x4 x5 x6 σ := by
  refine j_iconst (v := iI 0) dX3_same_121 rfl ?_
  refine j_goto 156 dX3_same_122 (by decide) ?_
  refine j_istore (lv' := [some (va_rf (some a0)), some (va_rf x1), some (va_rf x2), some (va_rf x3), some (va_rf x4), some (va_rf x5), some (va_rf x6), some (.int (iI 0))]) dX3_same_156 (by decide) rfl ?_
  refine j_aload_n (r := some a0) dX3_same_158 rfl ?_
  refine j_dup dX3_same_159 rfl ?_
  obtain ⟨hk1, h⟩ := h
  refine kg_geti (a := a0) (j := 8) rfl gfX3_30 (by decide) hk1 dX3_same_160 ?_
  refine j_iconst (v := iI 1) dX3_same_163 rfl ?_
  refine j_isub dX3_same_164 ?_
  refine kg_puti (a := a0) rfl gfX3_30 (Or.inl rfl) hk1 (Or.inl (by decide)) dX3_same_165 ?_
  refine j_iload dX3_same_168 rfl ?_
  exact j_ireturn (ty := .boolean) rfl rfl dX3_same_170 h
theorem tX3_same_155 {G : GPl} {s0 : State} {l : Launch} {K : Nat → Option Nat} {T : Nat → Nat} {lev : Nat} {st0 : GSt} {Q : Outcome → GSt → Prop} {a0 : Nat} {x1 : Option Nat} {x2 : Option Nat} {x3 : Option Nat} {x4 : Option Nat} {x5 : Option Nat} {x6 : Option Nat} {σ : GSt} (h : (gk σ a0 = 3 ∧ Q (.returned (some (.int (iI 0)))) (gpi a0 8 ((gi σ a0 8) - (iI 1)) σ))) : jX3_same_155 G s0 l K T lev st0 Q a0 x1 x2 x3 x4 x5 x6 σ := by
  refine j_iconst (v := iI 0) dX3_same_155 rfl ?_
  refine j_istore (lv' := [some (va_rf (some a0)), some (va_rf x1), some (va_rf x2), some (va_rf x3), some (va_rf x4), some (va_rf x5), some (va_rf x6), some (.int (iI 0))]) dX3_same_156 (by decide) rfl ?_
  refine j_aload_n (r := some a0) dX3_same_158 rfl ?_
  refine j_dup dX3_same_159 rfl ?_
  obtain ⟨hk1, h⟩ := h
  refine kg_geti (a := a0) (j := 8) rfl gfX3_30 (by decide) hk1 dX3_same_160 ?_
  refine j_iconst (v := iI 1) dX3_same_163 rfl ?_
  refine j_isub dX3_same_164 ?_
  refine kg_puti (a := a0) rfl gfX3_30 (Or.inl rfl) hk1 (Or.inl (by decide)) dX3_same_165 ?_
  refine j_iload dX3_same_168 rfl ?_
  exact j_ireturn (ty := .boolean) rfl rfl dX3_same_170 h
theorem tX3_sameParts {G : GPl} {s0 : State} {l : Launch} {K : Nat → Option Nat} {T : Nat → Nat} {lev : Nat} {Q : Outcome → GSt → Prop} {a0 : Nat} {x1 : Option Nat} {x2 : Option Nat} {σ : GSt} (h : (CQ (wP G s0 l K T) mX3_domain lev [va_rf x1] σ (onR (fun r2 t1 => gle σ t1 → (CQ (wP G s0 l K T) mX3_domain lev [va_rf x2] t1 (onR (fun r4 t3 => gle t1 t3 → (gk t3 a0 = 3 ∧ (CQ (wP G s0 l K T) mX3_same lev (.ref a0 :: [va_rf r2, va_rf r4]) t3 (onI (fun r7 t6 => gle t3 t6 → ((r7 = 0 → Q (.returned (some (.int (iI 0)))) t6) ∧ (¬ r7 = 0 → (CQ (wP G s0 l K T) mX3_bound lev [.int (iI (-1)), .int (iI (-1))] t6 (onR (fun r9 t8 => gle t6 t8 → (CQ (wP G s0 l K T) mX3_body lev [va_rf x1, va_rf r9] t8 (onR (fun r11 t10 => gle t8 t10 → (CQ (wP G s0 l K T) mX3_body lev [va_rf x2, va_rf r9] t10 (onR (fun r13 t12 => gle t10 t12 → (CQ (wP G s0 l K T) mX3_same lev (.ref a0 :: [va_rf r11, va_rf r13]) t12 (onI (fun r15 t14 => gle t12 t14 → (isZ r15 ∧ Q (.returned (some (.int r15))) t14)) (fun x t => gle t12 t → Q (.threw x) t)))) (fun x t => gle t10 t → Q (.threw x) t)))) (fun x t => gle t8 t → Q (.threw x) t)))) (fun x t => gle t6 t → Q (.threw x) t)))))) (fun x t => gle t3 t → Q (.threw x) t))))) (fun x t => gle t1 t → Q (.threw x) t)))) (fun x t => gle σ t → Q (.threw x) t)))) : CQ (wP G s0 l K T) mX3_sameParts (lev + 1) [.ref a0, va_rf x1, va_rf x2] σ Q := by
  refine CQ.of3 1 (lv := [some (va_rf (some a0)), some (va_rf x1), some (va_rf x2), none]) (by decide) (Nat.le_of_ble_eq_true rfl) (cat1_cons rfl (cat1_cons (rf_cat _) (cat1_cons (rf_cat _) cat1_nil))) rfl ?_
  refine j_aload_n (r := some a0) dX3_sameParts_0 rfl ?_
  refine j_aload_n (r := x1) dX3_sameParts_1 rfl ?_
  refine jg_callr (rest := [va_rf (some a0)]) (kg_lkS (As := [va_rf x1]) ktX3_domain q1578 rfl rfl dX3_sameParts_2) cwX3_domain (Nat.le_of_ble_eq_true rfl) rfl dX3_sameParts_2 (Nat.succ_le_succ (Nat.zero_le _)) (h.mono (onR_mono (fun r2 t1 h hlt1 => ?_) (fun _ _ h => h)))
  replace h := h hlt1
  refine j_aload_n (r := x2) dX3_sameParts_5 rfl ?_
  refine jg_callr (rest := [va_rf r2, va_rf (some a0)]) (kg_lkS (As := [va_rf x2]) ktX3_domain q1578 rfl rfl dX3_sameParts_6) cwX3_domain (rm_ok (cat1_cons (rf_cat _) (cat1_cons rfl cat1_nil)) (Nat.le_of_ble_eq_true rfl)) rfl dX3_sameParts_6 (Nat.succ_le_succ (Nat.zero_le _)) (h.mono (onR_mono (fun r4 t3 h hlt3 => ?_) (fun _ _ h => h)))
  replace h := h hlt3
  obtain ⟨hk5, h⟩ := h
  refine jg_calli (rest := []) (kg_lkV (As := [va_rf r2, va_rf r4]) (a := a0) (c := 2) kgX3_same_2 (by decide) rfl hk5 q1708 rfl rfl dX3_sameParts_9) cwX3_same (Nat.le_of_ble_eq_true rfl) rfl dX3_sameParts_9 (Nat.succ_le_succ (Nat.zero_le _)) (h.mono (onI_mono (fun r7 t6 h hlt6 => ?_) (fun _ _ h => h)))
  replace h := h hlt6
  replace hk5 := hlt6.tag hk5 (by decide)
  refine j_if_ne 17 dX3_sameParts_12 (by decide) (fun c16 => ?_) (fun c16 => ?_)
  · replace h := h.2 c16
    refine j_iconst (v := iI (-1)) dX3_sameParts_17 rfl ?_
    refine j_iconst (v := iI (-1)) dX3_sameParts_18 rfl ?_
    refine jg_callr (rest := []) (kg_lkS (As := [.int (iI (-1)), .int (iI (-1))]) ktX3_bound q1584 rfl rfl dX3_sameParts_19) cwX3_bound (Nat.le_of_ble_eq_true rfl) rfl dX3_sameParts_19 (Nat.succ_le_succ (Nat.zero_le _)) (h.mono (onR_mono (fun r9 t8 h hlt8 => ?_) (fun _ _ h => h)))
    replace h := h hlt8
    replace hk5 := hlt8.tag hk5 (by decide)
    refine j_astore_n (r := r9) (lv' := [some (va_rf (some a0)), some (va_rf x1), some (va_rf x2), some (va_rf r9)]) dX3_sameParts_22 (by decide) rfl ?_
    refine j_aload_n (r := some a0) dX3_sameParts_23 rfl ?_
    refine j_aload_n (r := x1) dX3_sameParts_24 rfl ?_
    refine j_aload_n (r := r9) dX3_sameParts_25 rfl ?_
    refine jg_callr (rest := [va_rf (some a0)]) (kg_lkS (As := [va_rf x1, va_rf r9]) ktX3_body q1604 rfl rfl dX3_sameParts_26) cwX3_body (Nat.le_of_ble_eq_true rfl) rfl dX3_sameParts_26 (Nat.succ_le_succ (Nat.zero_le _)) (h.mono (onR_mono (fun r11 t10 h hlt10 => ?_) (fun _ _ h => h)))
    replace h := h hlt10
    replace hk5 := hlt10.tag hk5 (by decide)
    refine j_aload_n (r := x2) dX3_sameParts_29 rfl ?_
    refine j_aload_n (r := r9) dX3_sameParts_30 rfl ?_
    refine jg_callr (rest := [va_rf r11, va_rf (some a0)]) (kg_lkS (As := [va_rf x2, va_rf r9]) ktX3_body q1604 rfl rfl dX3_sameParts_31) cwX3_body (rm_ok (cat1_cons (rf_cat _) (cat1_cons rfl cat1_nil)) (Nat.le_of_ble_eq_true rfl)) rfl dX3_sameParts_31 (Nat.succ_le_succ (Nat.zero_le _)) (h.mono (onR_mono (fun r13 t12 h hlt12 => ?_) (fun _ _ h => h)))
    replace h := h hlt12
    replace hk5 := hlt12.tag hk5 (by decide)
    refine jg_calli (rest := []) (kg_lkV (As := [va_rf r11, va_rf r13]) (a := a0) (c := 2) kgX3_same_2 (by decide) rfl hk5 q1708 rfl rfl dX3_sameParts_34) cwX3_same (Nat.le_of_ble_eq_true rfl) rfl dX3_sameParts_34 (Nat.succ_le_succ (Nat.zero_le _)) (h.mono (onI_mono (fun r15 t14 h hlt14 => ?_) (fun _ _ h => h)))
    replace h := h hlt14
    replace hk5 := hlt14.tag hk5 (by decide)
    have hz := h.1
    replace h := h.2
    exact j_ireturn (ty := .boolean) rfl (nz hz) dX3_sameParts_37 h
  · replace h := h.1 c16
    refine j_iconst (v := iI 0) dX3_sameParts_15 rfl ?_
    exact j_ireturn (ty := .boolean) rfl rfl dX3_sameParts_16 h
theorem tX3_isFront {G : GPl} {s0 : State} {l : Launch} {K : Nat → Option Nat} {T : Nat → Nat} {lev : Nat} {Q : Outcome → GSt → Prop} {x0 : Option Nat} {x1 : Option Nat} {σ : GSt} (h : (∃ a1, x0 = some a1 ∧ (isTmA σ a1 ∧ ((isA σ x0 18 → ((x0 = x1 → Q (.returned (some (.int (iI 1)))) σ) ∧ (¬ x0 = x1 → Q (.returned (some (.int (iI 0)))) σ))) ∧ (¬ isA σ x0 18 → ((isA σ x0 12 → (∃ a8, x1 = some a8 ∧ (isTmA σ a8 ∧ ((isA σ x1 12 → (((gr σ a1 3) = (gr σ a8 3) → (((gi σ a1 4) = (gi σ a8 4) → Q (.returned (some (.int (iI 1)))) σ) ∧ (¬ (gi σ a1 4) = (gi σ a8 4) → Q (.returned (some (.int (iI 0)))) σ))) ∧ (¬ (gr σ a1 3) = (gr σ a8 3) → Q (.returned (some (.int (iI 0)))) σ))) ∧ (¬ isA σ x1 12 → Q (.returned (some (.int (iI 0)))) σ))))) ∧ (¬ isA σ x0 12 → Q (.returned (some (.int (iI 0)))) σ))))))) : CQ (wP G s0 l K T) mX3_isFront (lev + 1) [va_rf x0, va_rf x1] σ Q := by
  refine CQ.of3 2 (lv := [some (va_rf x0), some (va_rf x1), none, none]) (by decide) (Nat.le_of_ble_eq_true rfl) (cat1_cons (rf_cat _) (cat1_cons (rf_cat _) cat1_nil)) rfl ?_
  refine j_aload_n (r := x0) dX3_isFront_0 rfl ?_
  obtain ⟨a1, ea1, hm2, h⟩ := h
  refine jg_inst (r := x0) 17 (by decide) q1587 (isTmA.tm (a := a1) hm2 ea1) dX3_isFront_1 (fun c3 => ?_) (fun c3 => ?_)
  · replace h := h.1 c3
    have hk4 := isA.tag c3 ea1
    refine j_if_eq 18 dX3_isFront_4 (by decide) (fun q_ => absurd q_ (by decide)) (fun _ => ?_)
    refine j_aload_n (r := x0) dX3_isFront_7 rfl ?_
    refine j_aload_n (r := x1) dX3_isFront_8 rfl ?_
    refine j_acmp_ne (x := x0) (y := x1) 16 dX3_isFront_9 (by decide) (fun c5 => ?_) (fun c5 => ?_)
    · replace h := h.2 c5
      refine j_iconst (v := iI 0) dX3_isFront_16 rfl ?_
      exact j_ireturn (ty := .boolean) rfl rfl dX3_isFront_17 h
    · replace h := h.1 c5
      refine j_iconst (v := iI 1) dX3_isFront_12 rfl ?_
      refine j_goto 17 dX3_isFront_13 (by decide) ?_
      exact j_ireturn (ty := .boolean) rfl rfl dX3_isFront_17 h
  · replace h := h.2 c3
    refine j_if_eq 18 dX3_isFront_4 (by decide) (fun _ => ?_) (fun q_ => absurd (by decide) q_)
    refine j_aload_n (r := x0) dX3_isFront_18 rfl ?_
    refine jg_inst (r := x0) 11 (by decide) q1712 (isTmA.tm (a := a1) hm2 ea1) dX3_isFront_19 (fun c6 => ?_) (fun c6 => ?_)
    · replace h := h.1 c6
      have hk7 := isA.tag c6 ea1
      refine j_if_eq 68 dX3_isFront_22 (by decide) (fun q_ => absurd q_ (by decide)) (fun _ => ?_)
      refine j_aload_n (r := x0) dX3_isFront_25 rfl ?_
      refine jg_cast (r := x0) cs_PureHouse_Free q1712 (Or.inr ⟨a1, ea1, by rw [hk7]; decide⟩) dX3_isFront_26 ?_
      refine j_astore_n (r := x0) (lv' := [some (va_rf x0), some (va_rf x1), none, some (va_rf x0)]) dX3_isFront_29 (by decide) rfl ?_
      refine j_aload_n (r := x1) dX3_isFront_30 rfl ?_
      obtain ⟨a8, ea8, hm9, h⟩ := h
      refine jg_inst (r := x1) 11 (by decide) q1712 (isTmA.tm (a := a8) hm9 ea8) dX3_isFront_31 (fun c10 => ?_) (fun c10 => ?_)
      · replace h := h.1 c10
        have hk11 := isA.tag c10 ea8
        refine j_if_eq 68 dX3_isFront_34 (by decide) (fun q_ => absurd q_ (by decide)) (fun _ => ?_)
        refine j_aload_n (r := x1) dX3_isFront_37 rfl ?_
        refine jg_cast (r := x1) cs_PureHouse_Free q1712 (Or.inr ⟨a8, ea8, by rw [hk11]; decide⟩) dX3_isFront_38 ?_
        refine j_astore_n (r := x1) (lv' := [some (va_rf x0), some (va_rf x1), some (va_rf x1), some (va_rf x0)]) dX3_isFront_41 (by decide) rfl ?_
        refine j_aload_n (r := x0) dX3_isFront_42 rfl ?_
        refine kg_getr (a := a1) (j := 3) ea1 gfX3_141 hk7 dX3_isFront_43 ?_
        refine j_aload_n (r := x1) dX3_isFront_46 rfl ?_
        refine kg_getr (a := a8) (j := 3) ea8 gfX3_141 hk11 dX3_isFront_47 ?_
        refine j_acmp_ne (x := gr σ a1 3) (y := gr σ a8 3) 68 dX3_isFront_50 (by decide) (fun c13 => ?_) (fun c13 => ?_)
        · replace h := h.2 c13
          refine j_iconst (v := iI 0) dX3_isFront_68 rfl ?_
          exact j_ireturn (ty := .boolean) rfl rfl dX3_isFront_69 h
        · replace h := h.1 c13
          refine j_aload_n (r := x0) dX3_isFront_53 rfl ?_
          refine kg_geti (a := a1) (j := 4) ea1 gfX3_145 (by decide) hk7 dX3_isFront_54 ?_
          refine j_aload_n (r := x1) dX3_isFront_57 rfl ?_
          refine kg_geti (a := a8) (j := 4) ea8 gfX3_145 (by decide) hk11 dX3_isFront_58 ?_
          refine j_icmp_ne 68 dX3_isFront_61 (by decide) (fun c12 => ?_) (fun c12 => ?_)
          · replace h := h.2 c12
            refine j_iconst (v := iI 0) dX3_isFront_68 rfl ?_
            exact j_ireturn (ty := .boolean) rfl rfl dX3_isFront_69 h
          · replace h := h.1 c12
            refine j_iconst (v := iI 1) dX3_isFront_64 rfl ?_
            refine j_goto 69 dX3_isFront_65 (by decide) ?_
            exact j_ireturn (ty := .boolean) rfl rfl dX3_isFront_69 h
      · replace h := h.2 c10
        refine j_if_eq 68 dX3_isFront_34 (by decide) (fun _ => ?_) (fun q_ => absurd (by decide) q_)
        refine j_iconst (v := iI 0) dX3_isFront_68 rfl ?_
        exact j_ireturn (ty := .boolean) rfl rfl dX3_isFront_69 h
    · replace h := h.2 c6
      refine j_if_eq 68 dX3_isFront_22 (by decide) (fun _ => ?_) (fun q_ => absurd (by decide) q_)
      refine j_iconst (v := iI 0) dX3_isFront_68 rfl ?_
      exact j_ireturn (ty := .boolean) rfl rfl dX3_isFront_69 h
abbrev jX3_sameArgs_18 (G : GPl) (s0 : State) (l : Launch) (K : Nat → Option Nat) (T : Nat → Nat) (lev : Nat) (st0 : GSt) (Q : Outcome → GSt → Prop) (a0 : Nat) (x1 : Option Nat) (x2 : Option Nat) (x3 : Option Nat) (x4 : Option Nat) (σ : GSt) : Prop := JQ (wP G s0 l K T) mX3_sameArgs (lev + 1) st0 18 [some (va_rf (some a0)), some (va_rf x1), some (va_rf x2), some (va_rf x3), some (va_rf x4)] [] σ Q
theorem tX3_sameArgs {G : GPl} {s0 : State} {l : Launch} {K : Nat → Option Nat} {T : Nat → Nat} {lev : Nat} {Q : Outcome → GSt → Prop} {a0 : Nat} {x1 : Option Nat} {x2 : Option Nat} {σ : GSt} (h : (CQ (wP G s0 l K T) mX19_size lev [va_rf x1] σ (onI (fun r2 t1 => gle σ t1 → (CQ (wP G s0 l K T) mX19_size lev [va_rf x2] t1 (onI (fun r4 t3 => gle t1 t3 → ((r2 = r4 → jX3_sameArgs_18 G s0 l K T lev σ Q a0 x1 x2 x2 x1 t3) ∧ (¬ r2 = r4 → Q (.returned (some (.int (iI 0)))) t3))) (fun x t => gle t1 t → Q (.threw x) t)))) (fun x t => gle σ t → Q (.threw x) t)))) : CQ (wP G s0 l K T) mX3_sameArgs (lev + 1) [.ref a0, va_rf x1, va_rf x2] σ Q := by
  refine CQ.of3 2 (lv := [some (va_rf (some a0)), some (va_rf x1), some (va_rf x2), none, none]) (by decide) (Nat.le_of_ble_eq_true rfl) (cat1_cons rfl (cat1_cons (rf_cat _) (cat1_cons (rf_cat _) cat1_nil))) rfl ?_
  refine j_aload_n (r := x1) dX3_sameArgs_0 rfl ?_
  refine jg_calli (rest := []) (kg_lkS (As := [va_rf x1]) ktX19_size q1717 rfl rfl dX3_sameArgs_1) cwX19_size (Nat.le_of_ble_eq_true rfl) rfl dX3_sameArgs_1 (Nat.succ_le_succ (Nat.zero_le _)) (h.mono (onI_mono (fun r2 t1 h hlt1 => ?_) (fun _ _ h => h)))
  replace h := h hlt1
  refine j_aload_n (r := x2) dX3_sameArgs_4 rfl ?_
  refine jg_calli (rest := [.int r2]) (kg_lkS (As := [va_rf x2]) ktX19_size q1717 rfl rfl dX3_sameArgs_5) cwX19_size (Nat.le_of_ble_eq_true rfl) rfl dX3_sameArgs_5 (Nat.succ_le_succ (Nat.zero_le _)) (h.mono (onI_mono (fun r4 t3 h hlt3 => ?_) (fun _ _ h => h)))
  replace h := h hlt3
  refine j_icmp_eq 13 dX3_sameArgs_8 (by decide) (fun c5 => ?_) (fun c5 => ?_)
  · replace h := h.1 c5
    refine j_aload_n (r := x2) dX3_sameArgs_13 rfl ?_
    refine j_astore_n (r := x2) (lv' := [some (va_rf (some a0)), some (va_rf x1), some (va_rf x2), some (va_rf x2), none]) dX3_sameArgs_14 (by decide) rfl ?_
    refine j_aload_n (r := x1) dX3_sameArgs_15 rfl ?_
    refine j_astore (r := x1) (lv' := [some (va_rf (some a0)), some (va_rf x1), some (va_rf x2), some (va_rf x2), some (va_rf x1)]) dX3_sameArgs_16 (by decide) rfl ?_
    exact h
  · replace h := h.2 c5
    refine j_iconst (v := iI 0) dX3_sameArgs_11 rfl ?_
    exact j_ireturn (ty := .boolean) rfl rfl dX3_sameArgs_12 h
theorem tX3_sameArgs_18 {G : GPl} {s0 : State} {l : Launch} {K : Nat → Option Nat} {T : Nat → Nat} {lev : Nat} {st0 : GSt} {Q : Outcome → GSt → Prop} {a0 : Nat} {x1 : Option Nat} {x2 : Option Nat} {x3 : Option Nat} {x4 : Option Nat} {σ : GSt} (h : ((x4 = none → Q (.returned (some (.int (iI 1)))) σ) ∧ (∀ a1, x4 = some a1 → (gk σ a1 = 17 ∧ (∃ a3, x3 = some a3 ∧ (gk σ a3 = 17 ∧ (gk σ a0 = 3 ∧ (CQ (wP G s0 l K T) mX3_same lev (.ref a0 :: [va_rf (gr σ a1 0), va_rf (gr σ a3 0)]) σ (onI (fun r7 t6 => gle σ t6 → ((r7 = 0 → Q (.returned (some (.int (iI 0)))) t6) ∧ (¬ r7 = 0 → jX3_sameArgs_18 G s0 l K T lev st0 Q a0 x1 x2 (gr t6 a3 1) (gr t6 a1 1) t6))) (fun x t => gle σ t → Q (.threw x) t)))))))))) : jX3_sameArgs_18 G s0 l K T lev st0 Q a0 x1 x2 x3 x4 σ := by
  refine j_aload (r := x4) dX3_sameArgs_18 rfl ?_
  refine j_ifnull (r := x4) 56 dX3_sameArgs_20 (by decide) (fun ea1 => ?_) (fun a1 ea1 => ?_)
  · replace h := h.1 ea1
    refine j_iconst (v := iI 1) dX3_sameArgs_56 rfl ?_
    exact j_ireturn (ty := .boolean) rfl rfl dX3_sameArgs_57 h
  · replace h := h.2 a1 ea1
    refine j_aload_n (r := some a0) dX3_sameArgs_23 rfl ?_
    refine j_aload (r := x4) dX3_sameArgs_24 rfl ?_
    obtain ⟨hk2, h⟩ := h
    refine kg_getr (a := a1) (j := 0) ea1 gfX3_66 hk2 dX3_sameArgs_26 ?_
    refine j_aload_n (r := x3) dX3_sameArgs_29 rfl ?_
    obtain ⟨a3, ea3, hk4, h⟩ := h
    refine kg_getr (a := a3) (j := 0) ea3 gfX3_66 hk4 dX3_sameArgs_30 ?_
    obtain ⟨hk5, h⟩ := h
    refine jg_calli (rest := []) (kg_lkV (As := [va_rf (gr σ a1 0), va_rf (gr σ a3 0)]) (a := a0) (c := 2) kgX3_same_2 (by decide) rfl hk5 q1708 rfl rfl dX3_sameArgs_33) cwX3_same (Nat.le_of_ble_eq_true rfl) rfl dX3_sameArgs_33 (Nat.succ_le_succ (Nat.zero_le _)) (h.mono (onI_mono (fun r7 t6 h hlt6 => ?_) (fun _ _ h => h)))
    replace h := h hlt6
    replace hk2 := hlt6.tag hk2 (by decide)
    replace hk4 := hlt6.tag hk4 (by decide)
    replace hk5 := hlt6.tag hk5 (by decide)
    refine j_if_ne 41 dX3_sameArgs_36 (by decide) (fun c8 => ?_) (fun c8 => ?_)
    · replace h := h.2 c8
      refine j_aload_n (r := x3) dX3_sameArgs_41 rfl ?_
      refine kg_getr (a := a3) (j := 1) ea3 gfX3_72 hk4 dX3_sameArgs_42 ?_
      refine j_astore_n (r := gr t6 a3 1) (lv' := [some (va_rf (some a0)), some (va_rf x1), some (va_rf x2), some (va_rf (gr t6 a3 1)), some (va_rf x4)]) dX3_sameArgs_45 (by decide) rfl ?_
      refine j_aload (r := x4) dX3_sameArgs_46 rfl ?_
      refine kg_getr (a := a1) (j := 1) ea1 gfX3_72 hk2 dX3_sameArgs_48 ?_
      refine j_astore (r := gr t6 a1 1) (lv' := [some (va_rf (some a0)), some (va_rf x1), some (va_rf x2), some (va_rf (gr t6 a3 1)), some (va_rf (gr t6 a1 1))]) dX3_sameArgs_51 (by decide) rfl ?_
      refine j_goto 18 dX3_sameArgs_53 (by decide) ?_
      exact h
    · replace h := h.1 c8
      refine j_iconst (v := iI 0) dX3_sameArgs_39 rfl ?_
      exact j_ireturn (ty := .boolean) rfl rfl dX3_sameArgs_40 h
abbrev jX3_tell_43 (G : GPl) (s0 : State) (l : Launch) (K : Nat → Option Nat) (T : Nat → Nat) (lev : Nat) (st0 : GSt) (Q : Outcome → GSt → Prop) (a0 : Nat) (x1 : Option Nat) (x2 : Int32) (x3 : Int32) (x4 : Int32) (x5 : Option Nat) (x6 : Option Nat) (σ : GSt) : Prop := JQ (wP G s0 l K T) mX3_tell (lev + 1) st0 43 [some (va_rf (some a0)), some (va_rf x1), some (.int x2), some (.int x3), some (.int x4), some (va_rf x5), some (va_rf x6), none, none] [] σ Q
abbrev jX3_tell_73 (G : GPl) (s0 : State) (l : Launch) (K : Nat → Option Nat) (T : Nat → Nat) (lev : Nat) (st0 : GSt) (Q : Outcome → GSt → Prop) (a0 : Nat) (x1 : Option Nat) (x2 : Int32) (x3 : Int32) (x4 : Int32) (x5 : Option Nat) (x6 : Option Nat) (x7 : Int32) (σ : GSt) : Prop := JQ (wP G s0 l K T) mX3_tell (lev + 1) st0 73 [some (va_rf (some a0)), some (va_rf x1), some (.int x2), some (.int x3), some (.int x4), some (va_rf x5), some (va_rf x6), some (.int x7), none] [] σ Q
abbrev jX3_tell_97 (G : GPl) (s0 : State) (l : Launch) (K : Nat → Option Nat) (T : Nat → Nat) (lev : Nat) (st0 : GSt) (Q : Outcome → GSt → Prop) (a0 : Nat) (x1 : Option Nat) (x2 : Int32) (x3 : Int32) (x4 : Int32) (x5 : Option Nat) (x6 : Option Nat) (x7 : Int32) (x8 : Int32) (σ : GSt) : Prop := JQ (wP G s0 l K T) mX3_tell (lev + 1) st0 97 [some (va_rf (some a0)), some (va_rf x1), some (.int x2), some (.int x3), some (.int x4), some (va_rf x5), some (va_rf x6), some (.int x7), some (.int x8)] [] σ Q
abbrev jX3_tell_124 (G : GPl) (s0 : State) (l : Launch) (K : Nat → Option Nat) (T : Nat → Nat) (lev : Nat) (st0 : GSt) (Q : Outcome → GSt → Prop) (a0 : Nat) (x1 : Option Nat) (x2 : Int32) (x3 : Int32) (x4 : Int32) (x5 : Option Nat) (x6 : Option Nat) (x7 : Int32) (x8 : Int32) (σ : GSt) : Prop := JQ (wP G s0 l K T) mX3_tell (lev + 1) st0 124 [some (va_rf (some a0)), some (va_rf x1), some (.int x2), some (.int x3), some (.int x4), some (va_rf x5), some (va_rf x6), some (.int x7), some (.int x8)] [] σ Q
theorem tX3_tell {G : GPl} {s0 : State} {l : Launch} {K : Nat → Option Nat} {T : Nat → Nat} {lev : Nat} {Q : Outcome → GSt → Prop} {a0 : Nat} {x1 : Option Nat} {x2 : Int32} {x3 : Int32} {x4 : Int32} {σ : GSt} (h : (gk σ a0 = 3 ∧ (CQ (wP G s0 l K T) mX3_looks lev (.ref a0 :: []) σ (onV (fun t2 => gle σ t2 → (CQ (wP G s0 l K T) mX3_head lev (.ref a0 :: [va_rf x1]) t2 (onV (fun t4 => gle t2 t4 → (CQ (wP G s0 l K T) mX3_here lev (.ref a0 :: []) t4 (onR (fun r7 t6 => gle t4 t6 → (∃ a8, r7 = some a8 ∧ (gk t6 a8 = 14 ∧ (∃ a10, gr t6 a8 0 = some a10 ∧ (isTmA t6 a10 ∧ ((isA t6 (gr t6 a8 0) 8 → jX3_tell_43 G s0 l K T lev σ Q a0 x1 x2 x3 x4 r7 (gr t6 a0 3) t6) ∧ (¬ isA t6 (gr t6 a8 0) 8 → ((isA t6 (gr t6 a8 0) 9 → jX3_tell_43 G s0 l K T lev σ Q a0 x1 x2 x3 x4 r7 (gr t6 a0 3) t6) ∧ (¬ isA t6 (gr t6 a8 0) 9 → ((x3 = 0 → jX3_tell_73 G s0 l K T lev σ Q a0 x1 x2 x3 x4 r7 (gr t6 a0 3) (iI 0) t6) ∧ (¬ x3 = 0 → ((gr t6 a0 3 = none → jX3_tell_73 G s0 l K T lev σ Q a0 x1 x2 x3 x4 r7 (gr t6 a0 3) (iI 0) t6) ∧ (∀ a16, gr t6 a0 3 = some a16 → (CQ (wP G s0 l K T) mX3_put lev (.ref a0 :: [.int (iI 40)]) (gpi a0 8 ((gi t6 a0 8) + (iI 1)) t6) (onV (fun t17 => gle (gpi a0 8 ((gi t6 a0 8) + (iI 1)) t6) t17 → jX3_tell_97 G s0 l K T lev σ Q a0 x1 x2 x3 x4 r7 (gr t6 a0 3) (iI 0) (iI 1) t17) (fun x t => gle (gpi a0 8 ((gi t6 a0 8) + (iI 1)) t6) t → Q (.threw x) t)))))))))))))))) (fun x t => gle t4 t → Q (.threw x) t)))) (fun x t => gle t2 t → Q (.threw x) t)))) (fun x t => gle σ t → Q (.threw x) t))))) : CQ (wP G s0 l K T) mX3_tell (lev + 1) [.ref a0, va_rf x1, .int x2, .int x3, .int x4] σ Q := by
  refine CQ.of3 4 (lv := [some (va_rf (some a0)), some (va_rf x1), some (.int x2), some (.int x3), some (.int x4), none, none, none, none]) (by decide) (Nat.le_of_ble_eq_true rfl) (cat1_cons rfl (cat1_cons (rf_cat _) (cat1_cons rfl (cat1_cons rfl (cat1_cons rfl cat1_nil))))) rfl ?_
  refine j_aload_n (r := some a0) dX3_tell_0 rfl ?_
  obtain ⟨hk1, h⟩ := h
  refine jg_callv (rest := []) (kg_lkV (As := []) (a := a0) (c := 2) kgX3_looks_2 (by decide) rfl hk1 q1453 rfl rfl dX3_tell_1) cwX3_looks (Nat.le_of_ble_eq_true rfl) rfl dX3_tell_1 (Nat.succ_le_succ (Nat.zero_le _)) (h.mono (onV_mono (fun t2 h hlt2 => ?_) (fun _ _ h => h)))
  replace h := h hlt2
  replace hk1 := hlt2.tag hk1 (by decide)
  refine j_aload_n (r := some a0) dX3_tell_4 rfl ?_
  refine j_aload_n (r := x1) dX3_tell_5 rfl ?_
  refine jg_callv (rest := []) (kg_lkV (As := [va_rf x1]) (a := a0) (c := 2) kgX3_head_2 (by decide) rfl hk1 q1464 rfl rfl dX3_tell_6) cwX3_head (Nat.le_of_ble_eq_true rfl) rfl dX3_tell_6 (Nat.succ_le_succ (Nat.zero_le _)) (h.mono (onV_mono (fun t4 h hlt4 => ?_) (fun _ _ h => h)))
  replace h := h hlt4
  replace hk1 := hlt4.tag hk1 (by decide)
  refine j_aload_n (r := some a0) dX3_tell_9 rfl ?_
  refine jg_callr (rest := []) (kg_lkV (As := []) (a := a0) (c := 2) kgX3_here_2 (by decide) rfl hk1 q1567 rfl rfl dX3_tell_10) cwX3_here (Nat.le_of_ble_eq_true rfl) rfl dX3_tell_10 (Nat.succ_le_succ (Nat.zero_le _)) (h.mono (onR_mono (fun r7 t6 h hlt6 => ?_) (fun _ _ h => h)))
  replace h := h hlt6
  replace hk1 := hlt6.tag hk1 (by decide)
  refine j_astore (r := r7) (lv' := [some (va_rf (some a0)), some (va_rf x1), some (.int x2), some (.int x3), some (.int x4), some (va_rf r7), none, none, none]) dX3_tell_13 (by decide) rfl ?_
  refine j_aload_n (r := some a0) dX3_tell_15 rfl ?_
  refine kg_getr (a := a0) (j := 3) rfl gfX3_62 hk1 dX3_tell_16 ?_
  refine j_astore (r := gr t6 a0 3) (lv' := [some (va_rf (some a0)), some (va_rf x1), some (.int x2), some (.int x3), some (.int x4), some (va_rf r7), some (va_rf (gr t6 a0 3)), none, none]) dX3_tell_19 (by decide) rfl ?_
  refine j_aload (r := r7) dX3_tell_21 rfl ?_
  obtain ⟨a8, ea8, hk9, h⟩ := h
  refine kg_getr (a := a8) (j := 0) ea8 gfX3_54 hk9 dX3_tell_23 ?_
  obtain ⟨a10, ea10, hm11, h⟩ := h
  refine jg_inst (r := gr t6 a8 0) 7 (by decide) q1573 (isTmA.tm (a := a10) hm11 ea10) dX3_tell_26 (fun c12 => ?_) (fun c12 => ?_)
  · replace h := h.1 c12
    have hk13 := isA.tag c12 ea10
    refine j_if_ne 43 dX3_tell_29 (by decide) (fun _ => ?_) (fun q_ => absurd q_ (by decide))
    exact h
  · replace h := h.2 c12
    refine j_if_ne 43 dX3_tell_29 (by decide) (fun q_ => absurd (by decide) q_) (fun _ => ?_)
    refine j_aload (r := r7) dX3_tell_32 rfl ?_
    refine kg_getr (a := a8) (j := 0) ea8 gfX3_54 hk9 dX3_tell_34 ?_
    refine jg_inst (r := gr t6 a8 0) 8 (by decide) q1581 (isTmA.tm (a := a10) hm11 ea10) dX3_tell_37 (fun c14 => ?_) (fun c14 => ?_)
    · replace h := h.1 c14
      have hk15 := isA.tag c14 ea10
      refine j_if_eq 47 dX3_tell_40 (by decide) (fun q_ => absurd q_ (by decide)) (fun _ => ?_)
      exact h
    · replace h := h.2 c14
      refine j_if_eq 47 dX3_tell_40 (by decide) (fun _ => ?_) (fun q_ => absurd (by decide) q_)
      refine j_iconst (v := iI 0) dX3_tell_47 rfl ?_
      refine j_istore (lv' := [some (va_rf (some a0)), some (va_rf x1), some (.int x2), some (.int x3), some (.int x4), some (va_rf r7), some (va_rf (gr t6 a0 3)), some (.int (iI 0)), none]) dX3_tell_48 (by decide) rfl ?_
      refine j_iload dX3_tell_50 rfl ?_
      refine j_if_eq 60 dX3_tell_52 (by decide) (fun _ => ?_) (fun q_ => absurd (by decide) q_)
      refine j_iload_n dX3_tell_60 rfl ?_
      refine j_if_eq 73 dX3_tell_61 (by decide) (fun c19 => ?_) (fun c19 => ?_)
      · replace h := h.1 c19
        exact h
      · replace h := h.2 c19
        refine j_aload (r := gr t6 a0 3) dX3_tell_64 rfl ?_
        refine j_ifnull (r := gr t6 a0 3) 73 dX3_tell_66 (by decide) (fun ea16 => ?_) (fun a16 ea16 => ?_)
        · replace h := h.1 ea16
          exact h
        · replace h := h.2 a16 ea16
          refine j_iconst (v := iI 1) dX3_tell_69 rfl ?_
          refine j_goto 74 dX3_tell_70 (by decide) ?_
          refine j_istore (lv' := [some (va_rf (some a0)), some (va_rf x1), some (.int x2), some (.int x3), some (.int x4), some (va_rf r7), some (va_rf (gr t6 a0 3)), some (.int (iI 0)), some (.int (iI 1))]) dX3_tell_74 (by decide) rfl ?_
          refine j_aload_n (r := some a0) dX3_tell_76 rfl ?_
          refine j_dup dX3_tell_77 rfl ?_
          refine kg_geti (a := a0) (j := 8) rfl gfX3_30 (by decide) hk1 dX3_tell_78 ?_
          refine j_iconst (v := iI 1) dX3_tell_81 rfl ?_
          refine j_iadd dX3_tell_82 ?_
          refine kg_puti (a := a0) rfl gfX3_30 (Or.inl rfl) hk1 (Or.inl (by decide)) dX3_tell_83 ?_
          refine j_iload dX3_tell_86 rfl ?_
          refine j_if_eq 97 dX3_tell_88 (by decide) (fun q_ => absurd q_ (by decide)) (fun _ => ?_)
          refine j_aload_n (r := some a0) dX3_tell_91 rfl ?_
          refine j_bipush (v := iI 40) dX3_tell_92 rfl ?_
          refine jg_callv (rest := []) (kg_lkV (As := [.int (iI 40)]) (a := a0) (c := 2) kgX3_put_2 (by decide) rfl hk1 q1784 rfl rfl dX3_tell_94) cwX3_put (Nat.le_of_ble_eq_true rfl) rfl dX3_tell_94 (Nat.succ_le_succ (Nat.zero_le _)) (h.mono (onV_mono (fun t17 h hlt17 => ?_) (fun _ _ h => h)))
          replace h := h hlt17
          replace hk1 := hlt17.tag hk1 (by decide)
          replace hk9 := hlt17.tag hk9 (by decide)
          replace hm11 := hm11.le hlt17
          exact h
theorem tX3_tell_43 {G : GPl} {s0 : State} {l : Launch} {K : Nat → Option Nat} {T : Nat → Nat} {lev : Nat} {st0 : GSt} {Q : Outcome → GSt → Prop} {a0 : Nat} {x1 : Option Nat} {x2 : Int32} {x3 : Int32} {x4 : Int32} {x5 : Option Nat} {x6 : Option Nat} {σ : GSt} (h : (gk σ a0 = 3 ∧ ((x4 = 0 → jX3_tell_97 G s0 l K T lev st0 Q a0 x1 x2 x3 x4 x5 x6 (iI 1) x4 (gpi a0 8 ((gi σ a0 8) + (iI 1)) σ)) ∧ (¬ x4 = 0 → (CQ (wP G s0 l K T) mX3_put lev (.ref a0 :: [.int (iI 40)]) (gpi a0 8 ((gi σ a0 8) + (iI 1)) σ) (onV (fun t2 => gle (gpi a0 8 ((gi σ a0 8) + (iI 1)) σ) t2 → jX3_tell_97 G s0 l K T lev st0 Q a0 x1 x2 x3 x4 x5 x6 (iI 1) x4 t2) (fun x t => gle (gpi a0 8 ((gi σ a0 8) + (iI 1)) σ) t → Q (.threw x) t))))))) : jX3_tell_43 G s0 l K T lev st0 Q a0 x1 x2 x3 x4 x5 x6 σ := by
  refine j_iconst (v := iI 1) dX3_tell_43 rfl ?_
  refine j_goto 48 dX3_tell_44 (by decide) ?_
  refine j_istore (lv' := [some (va_rf (some a0)), some (va_rf x1), some (.int x2), some (.int x3), some (.int x4), some (va_rf x5), some (va_rf x6), some (.int (iI 1)), none]) dX3_tell_48 (by decide) rfl ?_
  refine j_iload dX3_tell_50 rfl ?_
  refine j_if_eq 60 dX3_tell_52 (by decide) (fun q_ => absurd q_ (by decide)) (fun _ => ?_)
  refine j_iload dX3_tell_55 rfl ?_
  refine j_goto 74 dX3_tell_57 (by decide) ?_
  refine j_istore (lv' := [some (va_rf (some a0)), some (va_rf x1), some (.int x2), some (.int x3), some (.int x4), some (va_rf x5), some (va_rf x6), some (.int (iI 1)), some (.int x4)]) dX3_tell_74 (by decide) rfl ?_
  refine j_aload_n (r := some a0) dX3_tell_76 rfl ?_
  refine j_dup dX3_tell_77 rfl ?_
  obtain ⟨hk1, h⟩ := h
  refine kg_geti (a := a0) (j := 8) rfl gfX3_30 (by decide) hk1 dX3_tell_78 ?_
  refine j_iconst (v := iI 1) dX3_tell_81 rfl ?_
  refine j_iadd dX3_tell_82 ?_
  refine kg_puti (a := a0) rfl gfX3_30 (Or.inl rfl) hk1 (Or.inl (by decide)) dX3_tell_83 ?_
  refine j_iload dX3_tell_86 rfl ?_
  refine j_if_eq 97 dX3_tell_88 (by decide) (fun c4 => ?_) (fun c4 => ?_)
  · replace h := h.1 c4
    exact h
  · replace h := h.2 c4
    refine j_aload_n (r := some a0) dX3_tell_91 rfl ?_
    refine j_bipush (v := iI 40) dX3_tell_92 rfl ?_
    refine jg_callv (rest := []) (kg_lkV (As := [.int (iI 40)]) (a := a0) (c := 2) kgX3_put_2 (by decide) rfl hk1 q1784 rfl rfl dX3_tell_94) cwX3_put (Nat.le_of_ble_eq_true rfl) rfl dX3_tell_94 (Nat.succ_le_succ (Nat.zero_le _)) (h.mono (onV_mono (fun t2 h hlt2 => ?_) (fun _ _ h => h)))
    replace h := h hlt2
    replace hk1 := hlt2.tag hk1 (by decide)
    exact h
theorem tX3_tell_73 {G : GPl} {s0 : State} {l : Launch} {K : Nat → Option Nat} {T : Nat → Nat} {lev : Nat} {st0 : GSt} {Q : Outcome → GSt → Prop} {a0 : Nat} {x1 : Option Nat} {x2 : Int32} {x3 : Int32} {x4 : Int32} {x5 : Option Nat} {x6 : Option Nat} {x7 : Int32} {σ : GSt} (h : (gk σ a0 = 3 ∧ jX3_tell_97 G s0 l K T lev st0 Q a0 x1 x2 x3 x4 x5 x6 x7 (iI 0) (gpi a0 8 ((gi σ a0 8) + (iI 1)) σ))) : jX3_tell_73 G s0 l K T lev st0 Q a0 x1 x2 x3 x4 x5 x6 x7 σ := by
  refine j_iconst (v := iI 0) dX3_tell_73 rfl ?_
  refine j_istore (lv' := [some (va_rf (some a0)), some (va_rf x1), some (.int x2), some (.int x3), some (.int x4), some (va_rf x5), some (va_rf x6), some (.int x7), some (.int (iI 0))]) dX3_tell_74 (by decide) rfl ?_
  refine j_aload_n (r := some a0) dX3_tell_76 rfl ?_
  refine j_dup dX3_tell_77 rfl ?_
  obtain ⟨hk1, h⟩ := h
  refine kg_geti (a := a0) (j := 8) rfl gfX3_30 (by decide) hk1 dX3_tell_78 ?_
  refine j_iconst (v := iI 1) dX3_tell_81 rfl ?_
  refine j_iadd dX3_tell_82 ?_
  refine kg_puti (a := a0) rfl gfX3_30 (Or.inl rfl) hk1 (Or.inl (by decide)) dX3_tell_83 ?_
  refine j_iload dX3_tell_86 rfl ?_
  refine j_if_eq 97 dX3_tell_88 (by decide) (fun _ => ?_) (fun q_ => absurd (by decide) q_)
  exact h
theorem tX3_tell_97 {G : GPl} {s0 : State} {l : Launch} {K : Nat → Option Nat} {T : Nat → Nat} {lev : Nat} {st0 : GSt} {Q : Outcome → GSt → Prop} {a0 : Nat} {x1 : Option Nat} {x2 : Int32} {x3 : Int32} {x4 : Int32} {x5 : Option Nat} {x6 : Option Nat} {x7 : Int32} {x8 : Int32} {σ : GSt} (h : ((x7 = 0 → (∃ a1, x5 = some a1 ∧ (gk σ a1 = 14 ∧ (gk σ a0 = 3 ∧ (CQ (wP G s0 l K T) mX3_front lev (.ref a0 :: [va_rf (gr σ a1 0), va_rf x6, .int x2]) σ (onV (fun t4 => gle σ t4 → jX3_tell_124 G s0 l K T lev st0 Q a0 x1 x2 x3 x4 x5 x6 x7 x8 t4) (fun x t => gle σ t → Q (.threw x) t))))))) ∧ (¬ x7 = 0 → (gk σ a0 = 3 ∧ (CQ (wP G s0 l K T) mX3_binder lev (.ref a0 :: [va_rf x5, .int x2]) σ (onV (fun t7 => gle σ t7 → jX3_tell_124 G s0 l K T lev st0 Q a0 x1 x2 x3 x4 x5 x6 x7 x8 t7) (fun x t => gle σ t → Q (.threw x) t))))))) : jX3_tell_97 G s0 l K T lev st0 Q a0 x1 x2 x3 x4 x5 x6 x7 x8 σ := by
  refine j_iload dX3_tell_97 rfl ?_
  refine j_if_eq 112 dX3_tell_99 (by decide) (fun c9 => ?_) (fun c9 => ?_)
  · replace h := h.1 c9
    refine j_aload_n (r := some a0) dX3_tell_112 rfl ?_
    refine j_aload (r := x5) dX3_tell_113 rfl ?_
    obtain ⟨a1, ea1, hk2, h⟩ := h
    refine kg_getr (a := a1) (j := 0) ea1 gfX3_54 hk2 dX3_tell_115 ?_
    refine j_aload (r := x6) dX3_tell_118 rfl ?_
    refine j_iload_n dX3_tell_120 rfl ?_
    obtain ⟨hk3, h⟩ := h
    refine jg_callv (rest := []) (kg_lkV (As := [va_rf (gr σ a1 0), va_rf x6, .int x2]) (a := a0) (c := 2) kgX3_front_2 (by decide) rfl hk3 q1797 rfl rfl dX3_tell_121) cwX3_front (Nat.le_of_ble_eq_true rfl) rfl dX3_tell_121 (Nat.succ_le_succ (Nat.zero_le _)) (h.mono (onV_mono (fun t4 h hlt4 => ?_) (fun _ _ h => h)))
    replace h := h hlt4
    replace hk2 := hlt4.tag hk2 (by decide)
    replace hk3 := hlt4.tag hk3 (by decide)
    exact h
  · replace h := h.2 c9
    refine j_aload_n (r := some a0) dX3_tell_102 rfl ?_
    refine j_aload (r := x5) dX3_tell_103 rfl ?_
    refine j_iload_n dX3_tell_105 rfl ?_
    obtain ⟨hk6, h⟩ := h
    refine jg_callv (rest := []) (kg_lkV (As := [va_rf x5, .int x2]) (a := a0) (c := 2) kgX3_binder_2 (by decide) rfl hk6 q1788 rfl rfl dX3_tell_106) cwX3_binder (Nat.le_of_ble_eq_true rfl) rfl dX3_tell_106 (Nat.succ_le_succ (Nat.zero_le _)) (h.mono (onV_mono (fun t7 h hlt7 => ?_) (fun _ _ h => h)))
    replace h := h hlt7
    replace hk6 := hlt7.tag hk6 (by decide)
    refine j_goto 124 dX3_tell_109 (by decide) ?_
    exact h
theorem tX3_tell_124 {G : GPl} {s0 : State} {l : Launch} {K : Nat → Option Nat} {T : Nat → Nat} {lev : Nat} {st0 : GSt} {Q : Outcome → GSt → Prop} {a0 : Nat} {x1 : Option Nat} {x2 : Int32} {x3 : Int32} {x4 : Int32} {x5 : Option Nat} {x6 : Option Nat} {x7 : Int32} {x8 : Int32} {σ : GSt} (h : ((x8 = 0 → (gk σ a0 = 3 ∧ Q (.returned none) (gpi a0 8 ((gi σ a0 8) - (iI 1)) σ))) ∧ (¬ x8 = 0 → (gk σ a0 = 3 ∧ (CQ (wP G s0 l K T) mX3_put lev (.ref a0 :: [.int (iI 41)]) σ (onV (fun t3 => gle σ t3 → Q (.returned none) (gpi a0 8 ((gi t3 a0 8) - (iI 1)) t3)) (fun x t => gle σ t → Q (.threw x) t))))))) : jX3_tell_124 G s0 l K T lev st0 Q a0 x1 x2 x3 x4 x5 x6 x7 x8 σ := by
  refine j_iload dX3_tell_124 rfl ?_
  refine j_if_eq 135 dX3_tell_126 (by decide) (fun c5 => ?_) (fun c5 => ?_)
  · replace h := h.1 c5
    refine j_aload_n (r := some a0) dX3_tell_135 rfl ?_
    refine j_dup dX3_tell_136 rfl ?_
    obtain ⟨hk1, h⟩ := h
    refine kg_geti (a := a0) (j := 8) rfl gfX3_30 (by decide) hk1 dX3_tell_137 ?_
    refine j_iconst (v := iI 1) dX3_tell_140 rfl ?_
    refine j_isub dX3_tell_141 ?_
    refine kg_puti (a := a0) rfl gfX3_30 (Or.inl rfl) hk1 (Or.inl (by decide)) dX3_tell_142 ?_
    exact j_return rfl dX3_tell_145 h
  · replace h := h.2 c5
    refine j_aload_n (r := some a0) dX3_tell_129 rfl ?_
    refine j_bipush (v := iI 41) dX3_tell_130 rfl ?_
    obtain ⟨hk2, h⟩ := h
    refine jg_callv (rest := []) (kg_lkV (As := [.int (iI 41)]) (a := a0) (c := 2) kgX3_put_2 (by decide) rfl hk2 q1784 rfl rfl dX3_tell_132) cwX3_put (Nat.le_of_ble_eq_true rfl) rfl dX3_tell_132 (Nat.succ_le_succ (Nat.zero_le _)) (h.mono (onV_mono (fun t3 h hlt3 => ?_) (fun _ _ h => h)))
    replace h := h hlt3
    replace hk2 := hlt3.tag hk2 (by decide)
    refine j_aload_n (r := some a0) dX3_tell_135 rfl ?_
    refine j_dup dX3_tell_136 rfl ?_
    refine kg_geti (a := a0) (j := 8) rfl gfX3_30 (by decide) hk2 dX3_tell_137 ?_
    refine j_iconst (v := iI 1) dX3_tell_140 rfl ?_
    refine j_isub dX3_tell_141 ?_
    refine kg_puti (a := a0) rfl gfX3_30 (Or.inl rfl) hk2 (Or.inl (by decide)) dX3_tell_142 ?_
    exact j_return rfl dX3_tell_145 h
theorem tX3_put {G : GPl} {s0 : State} {l : Launch} {K : Nat → Option Nat} {T : Nat → Nat} {lev : Nat} {Q : Outcome → GSt → Prop} {a0 : Nat} {x1 : Int32} {σ : GSt} (h : (gk σ a0 = 3 ∧ (((iI 3000) ≤ (gi σ a0 10) → Q (.returned none) (gpi a0 10 ((gi σ a0 10) + (iI 1)) σ)) ∧ (¬ (iI 3000) ≤ (gi σ a0 10) → (∃ a2, gr σ a0 9 = some a2 ∧ (gk σ a2 = 102 ∧ (G.h0.size ≤ a2 ∧ (inr (gi σ a0 10) (gl σ a2) ∧ Q (.returned none) (gpi a0 10 ((gi (gpi a2 (ix (gi σ a0 10)) x1.toInt8.toInt32.toInt8.toInt32 σ) a0 10) + (iI 1)) (gpi a2 (ix (gi σ a0 10)) x1.toInt8.toInt32.toInt8.toInt32 σ)))))))))) : CQ (wP G s0 l K T) mX3_put (lev + 1) [.ref a0, .int x1] σ Q := by
  refine CQ.of3 0 (lv := [some (va_rf (some a0)), some (.int x1)]) (by decide) (Nat.le_of_ble_eq_true rfl) (cat1_cons rfl (cat1_cons rfl cat1_nil)) rfl ?_
  refine j_aload_n (r := some a0) dX3_put_0 rfl ?_
  obtain ⟨hk1, h⟩ := h
  refine kg_geti (a := a0) (j := 10) rfl gfX3_197 (by decide) hk1 dX3_put_1 ?_
  refine j_sipush (v := iI 3000) dX3_put_4 rfl ?_
  refine j_icmp_ge 21 dX3_put_7 (by decide) (fun c6 => ?_) (fun c6 => ?_)
  · replace h := h.1 c6
    refine j_aload_n (r := some a0) dX3_put_21 rfl ?_
    refine j_dup dX3_put_22 rfl ?_
    refine kg_geti (a := a0) (j := 10) rfl gfX3_197 (by decide) hk1 dX3_put_23 ?_
    refine j_iconst (v := iI 1) dX3_put_26 rfl ?_
    refine j_iadd dX3_put_27 ?_
    refine kg_puti (a := a0) rfl gfX3_197 (Or.inl rfl) hk1 (Or.inl (by decide)) dX3_put_28 ?_
    exact j_return rfl dX3_put_31 h
  · replace h := h.2 c6
    refine j_aload_n (r := some a0) dX3_put_10 rfl ?_
    refine kg_getr (a := a0) (j := 9) rfl gfX3_19 hk1 dX3_put_11 ?_
    refine j_aload_n (r := some a0) dX3_put_14 rfl ?_
    refine kg_geti (a := a0) (j := 10) rfl gfX3_197 (by decide) hk1 dX3_put_15 ?_
    refine j_iload_n dX3_put_18 rfl ?_
    refine j_i2b dX3_put_19 ?_
    obtain ⟨a2, ea2, hk3, hb5, hi4, h⟩ := h
    refine kg_bast (a := a2) ea2 hk3 hb5 hi4 dX3_put_20 ?_
    refine j_aload_n (r := some a0) dX3_put_21 rfl ?_
    refine j_dup dX3_put_22 rfl ?_
    refine kg_geti (a := a0) (j := 10) rfl gfX3_197 (by decide) hk1 dX3_put_23 ?_
    refine j_iconst (v := iI 1) dX3_put_26 rfl ?_
    refine j_iadd dX3_put_27 ?_
    refine kg_puti (a := a0) rfl gfX3_197 (Or.inl rfl) hk1 (Or.inl (by decide)) dX3_put_28 ?_
    exact j_return rfl dX3_put_31 h
theorem tX3_binder {G : GPl} {s0 : State} {l : Launch} {K : Nat → Option Nat} {T : Nat → Nat} {lev : Nat} {Q : Outcome → GSt → Prop} {a0 : Nat} {x1 : Option Nat} {x2 : Int32} {σ : GSt} (h : (∃ a1, x1 = some a1 ∧ (gk σ a1 = 14 ∧ (∃ a3, gr σ a1 0 = some a3 ∧ (isTmA σ a3 ∧ ((isA σ (gr σ a1 0) 8 → (gk σ a0 = 3 ∧ (CQ (wP G s0 l K T) mX3_put lev (.ref a0 :: [.int (iI 92)]) σ (onV (fun t8 => gle σ t8 → (CQ (wP G s0 l K T) mX3_put lev (.ref a0 :: [.int (iI 95)]) t8 (onV (fun t10 => gle t8 t10 → (CQ (wP G s0 l K T) mX3_number lev (.ref a0 :: [.int x2]) t10 (onV (fun t12 => gle t10 t12 → (CQ (wP G s0 l K T) mX3_put lev (.ref a0 :: [.int (iI 58)]) t12 (onV (fun t14 => gle t12 t14 → (CQ (wP G s0 l K T) mX3_domain lev [va_rf x1] t14 (onR (fun r17 t16 => gle t14 t16 → (CQ (wP G s0 l K T) mX3_tell lev (.ref a0 :: [va_rf r17, .int x2, .int (iI 0), .int (iI 1)]) t16 (onV (fun t18 => gle t16 t18 → (CQ (wP G s0 l K T) mX3_put lev (.ref a0 :: [.int (iI 46)]) t18 (onV (fun t20 => gle t18 t20 → (CQ (wP G s0 l K T) mX3_bound lev [.int x2, .int (iI (-1))] t20 (onR (fun r23 t22 => gle t20 t22 → (CQ (wP G s0 l K T) mX3_body lev [va_rf x1, va_rf r23] t22 (onR (fun r25 t24 => gle t22 t24 → (CQ (wP G s0 l K T) mX3_tell lev (.ref a0 :: [va_rf r25, .int (x2 + (iI 1)), .int (iI 0), .int (iI 0)]) t24 (onV (fun t26 => gle t24 t26 → Q (.returned none) t26) (fun x t => gle t24 t → Q (.threw x) t)))) (fun x t => gle t22 t → Q (.threw x) t)))) (fun x t => gle t20 t → Q (.threw x) t)))) (fun x t => gle t18 t → Q (.threw x) t)))) (fun x t => gle t16 t → Q (.threw x) t)))) (fun x t => gle t14 t → Q (.threw x) t)))) (fun x t => gle t12 t → Q (.threw x) t)))) (fun x t => gle t10 t → Q (.threw x) t)))) (fun x t => gle t8 t → Q (.threw x) t)))) (fun x t => gle σ t → Q (.threw x) t))))) ∧ (¬ isA σ (gr σ a1 0) 8 → (gk σ a0 = 3 ∧ (CQ (wP G s0 l K T) mX3_put lev (.ref a0 :: [.int (iI 33)]) σ (onV (fun t29 => gle σ t29 → (CQ (wP G s0 l K T) mX3_put lev (.ref a0 :: [.int (iI 95)]) t29 (onV (fun t31 => gle t29 t31 → (CQ (wP G s0 l K T) mX3_number lev (.ref a0 :: [.int x2]) t31 (onV (fun t33 => gle t31 t33 → (CQ (wP G s0 l K T) mX3_put lev (.ref a0 :: [.int (iI 58)]) t33 (onV (fun t35 => gle t33 t35 → (CQ (wP G s0 l K T) mX3_domain lev [va_rf x1] t35 (onR (fun r38 t37 => gle t35 t37 → (CQ (wP G s0 l K T) mX3_tell lev (.ref a0 :: [va_rf r38, .int x2, .int (iI 0), .int (iI 1)]) t37 (onV (fun t39 => gle t37 t39 → (CQ (wP G s0 l K T) mX3_put lev (.ref a0 :: [.int (iI 46)]) t39 (onV (fun t41 => gle t39 t41 → (CQ (wP G s0 l K T) mX3_bound lev [.int x2, .int (iI (-1))] t41 (onR (fun r44 t43 => gle t41 t43 → (CQ (wP G s0 l K T) mX3_body lev [va_rf x1, va_rf r44] t43 (onR (fun r46 t45 => gle t43 t45 → (CQ (wP G s0 l K T) mX3_tell lev (.ref a0 :: [va_rf r46, .int (x2 + (iI 1)), .int (iI 0), .int (iI 0)]) t45 (onV (fun t47 => gle t45 t47 → Q (.returned none) t47) (fun x t => gle t45 t → Q (.threw x) t)))) (fun x t => gle t43 t → Q (.threw x) t)))) (fun x t => gle t41 t → Q (.threw x) t)))) (fun x t => gle t39 t → Q (.threw x) t)))) (fun x t => gle t37 t → Q (.threw x) t)))) (fun x t => gle t35 t → Q (.threw x) t)))) (fun x t => gle t33 t → Q (.threw x) t)))) (fun x t => gle t31 t → Q (.threw x) t)))) (fun x t => gle t29 t → Q (.threw x) t)))) (fun x t => gle σ t → Q (.threw x) t))))))))))) : CQ (wP G s0 l K T) mX3_binder (lev + 1) [.ref a0, va_rf x1, .int x2] σ Q := by
  refine CQ.of3 0 (lv := [some (va_rf (some a0)), some (va_rf x1), some (.int x2)]) (by decide) (Nat.le_of_ble_eq_true rfl) (cat1_cons rfl (cat1_cons (rf_cat _) (cat1_cons rfl cat1_nil))) rfl ?_
  refine j_aload_n (r := some a0) dX3_binder_0 rfl ?_
  refine j_aload_n (r := x1) dX3_binder_1 rfl ?_
  obtain ⟨a1, ea1, hk2, h⟩ := h
  refine kg_getr (a := a1) (j := 0) ea1 gfX3_54 hk2 dX3_binder_2 ?_
  obtain ⟨a3, ea3, hm4, h⟩ := h
  refine jg_inst (r := gr σ a1 0) 7 (by decide) q1573 (isTmA.tm (a := a3) hm4 ea3) dX3_binder_5 (fun c5 => ?_) (fun c5 => ?_)
  · replace h := h.1 c5
    have hk6 := isA.tag c5 ea3
    refine j_if_eq 16 dX3_binder_8 (by decide) (fun q_ => absurd q_ (by decide)) (fun _ => ?_)
    refine j_bipush (v := iI 92) dX3_binder_11 rfl ?_
    refine j_goto 18 dX3_binder_13 (by decide) ?_
    obtain ⟨hk7, h⟩ := h
    refine jg_callv (rest := []) (kg_lkV (As := [.int (iI 92)]) (a := a0) (c := 2) kgX3_put_2 (by decide) rfl hk7 q1784 rfl rfl dX3_binder_18) cwX3_put (Nat.le_of_ble_eq_true rfl) rfl dX3_binder_18 (Nat.succ_le_succ (Nat.zero_le _)) (h.mono (onV_mono (fun t8 h hlt8 => ?_) (fun _ _ h => h)))
    replace h := h hlt8
    replace hk2 := hlt8.tag hk2 (by decide)
    replace hk6 := hlt8.tag hk6 (by decide)
    replace hk7 := hlt8.tag hk7 (by decide)
    replace hm4 := hm4.le hlt8
    refine j_aload_n (r := some a0) dX3_binder_21 rfl ?_
    refine j_bipush (v := iI 95) dX3_binder_22 rfl ?_
    refine jg_callv (rest := []) (kg_lkV (As := [.int (iI 95)]) (a := a0) (c := 2) kgX3_put_2 (by decide) rfl hk7 q1784 rfl rfl dX3_binder_24) cwX3_put (Nat.le_of_ble_eq_true rfl) rfl dX3_binder_24 (Nat.succ_le_succ (Nat.zero_le _)) (h.mono (onV_mono (fun t10 h hlt10 => ?_) (fun _ _ h => h)))
    replace h := h hlt10
    replace hk2 := hlt10.tag hk2 (by decide)
    replace hk6 := hlt10.tag hk6 (by decide)
    replace hk7 := hlt10.tag hk7 (by decide)
    replace hm4 := hm4.le hlt10
    refine j_aload_n (r := some a0) dX3_binder_27 rfl ?_
    refine j_iload_n dX3_binder_28 rfl ?_
    refine jg_callv (rest := []) (kg_lkV (As := [.int x2]) (a := a0) (c := 2) kgX3_number_2 (by decide) rfl hk7 q1792 rfl rfl dX3_binder_29) cwX3_number (Nat.le_of_ble_eq_true rfl) rfl dX3_binder_29 (Nat.succ_le_succ (Nat.zero_le _)) (h.mono (onV_mono (fun t12 h hlt12 => ?_) (fun _ _ h => h)))
    replace h := h hlt12
    replace hk2 := hlt12.tag hk2 (by decide)
    replace hk6 := hlt12.tag hk6 (by decide)
    replace hk7 := hlt12.tag hk7 (by decide)
    replace hm4 := hm4.le hlt12
    refine j_aload_n (r := some a0) dX3_binder_32 rfl ?_
    refine j_bipush (v := iI 58) dX3_binder_33 rfl ?_
    refine jg_callv (rest := []) (kg_lkV (As := [.int (iI 58)]) (a := a0) (c := 2) kgX3_put_2 (by decide) rfl hk7 q1784 rfl rfl dX3_binder_35) cwX3_put (Nat.le_of_ble_eq_true rfl) rfl dX3_binder_35 (Nat.succ_le_succ (Nat.zero_le _)) (h.mono (onV_mono (fun t14 h hlt14 => ?_) (fun _ _ h => h)))
    replace h := h hlt14
    replace hk2 := hlt14.tag hk2 (by decide)
    replace hk6 := hlt14.tag hk6 (by decide)
    replace hk7 := hlt14.tag hk7 (by decide)
    replace hm4 := hm4.le hlt14
    refine j_aload_n (r := some a0) dX3_binder_38 rfl ?_
    refine j_aload_n (r := x1) dX3_binder_39 rfl ?_
    refine jg_callr (rest := [va_rf (some a0)]) (kg_lkS (As := [va_rf x1]) ktX3_domain q1578 rfl rfl dX3_binder_40) cwX3_domain (Nat.le_of_ble_eq_true rfl) rfl dX3_binder_40 (Nat.succ_le_succ (Nat.zero_le _)) (h.mono (onR_mono (fun r17 t16 h hlt16 => ?_) (fun _ _ h => h)))
    replace h := h hlt16
    replace hk2 := hlt16.tag hk2 (by decide)
    replace hk6 := hlt16.tag hk6 (by decide)
    replace hk7 := hlt16.tag hk7 (by decide)
    replace hm4 := hm4.le hlt16
    refine j_iload_n dX3_binder_43 rfl ?_
    refine j_iconst (v := iI 0) dX3_binder_44 rfl ?_
    refine j_iconst (v := iI 1) dX3_binder_45 rfl ?_
    refine jg_callv (rest := []) (kg_lkV (As := [va_rf r17, .int x2, .int (iI 0), .int (iI 1)]) (a := a0) (c := 2) kgX3_tell_2 (by decide) rfl hk7 q1796 rfl rfl dX3_binder_46) cwX3_tell (Nat.le_of_ble_eq_true rfl) rfl dX3_binder_46 (Nat.succ_le_succ (Nat.zero_le _)) (h.mono (onV_mono (fun t18 h hlt18 => ?_) (fun _ _ h => h)))
    replace h := h hlt18
    replace hk2 := hlt18.tag hk2 (by decide)
    replace hk6 := hlt18.tag hk6 (by decide)
    replace hk7 := hlt18.tag hk7 (by decide)
    replace hm4 := hm4.le hlt18
    refine j_aload_n (r := some a0) dX3_binder_49 rfl ?_
    refine j_bipush (v := iI 46) dX3_binder_50 rfl ?_
    refine jg_callv (rest := []) (kg_lkV (As := [.int (iI 46)]) (a := a0) (c := 2) kgX3_put_2 (by decide) rfl hk7 q1784 rfl rfl dX3_binder_52) cwX3_put (Nat.le_of_ble_eq_true rfl) rfl dX3_binder_52 (Nat.succ_le_succ (Nat.zero_le _)) (h.mono (onV_mono (fun t20 h hlt20 => ?_) (fun _ _ h => h)))
    replace h := h hlt20
    replace hk2 := hlt20.tag hk2 (by decide)
    replace hk6 := hlt20.tag hk6 (by decide)
    replace hk7 := hlt20.tag hk7 (by decide)
    replace hm4 := hm4.le hlt20
    refine j_aload_n (r := some a0) dX3_binder_55 rfl ?_
    refine j_aload_n (r := x1) dX3_binder_56 rfl ?_
    refine j_iload_n dX3_binder_57 rfl ?_
    refine j_iconst (v := iI (-1)) dX3_binder_58 rfl ?_
    refine jg_callr (rest := [va_rf x1, va_rf (some a0)]) (kg_lkS (As := [.int x2, .int (iI (-1))]) ktX3_bound q1584 rfl rfl dX3_binder_59) cwX3_bound (rm_ok (cat1_cons (rf_cat _) (cat1_cons rfl cat1_nil)) (Nat.le_of_ble_eq_true rfl)) rfl dX3_binder_59 (Nat.succ_le_succ (Nat.zero_le _)) (h.mono (onR_mono (fun r23 t22 h hlt22 => ?_) (fun _ _ h => h)))
    replace h := h hlt22
    replace hk2 := hlt22.tag hk2 (by decide)
    replace hk6 := hlt22.tag hk6 (by decide)
    replace hk7 := hlt22.tag hk7 (by decide)
    replace hm4 := hm4.le hlt22
    refine jg_callr (rest := [va_rf (some a0)]) (kg_lkS (As := [va_rf x1, va_rf r23]) ktX3_body q1604 rfl rfl dX3_binder_62) cwX3_body (Nat.le_of_ble_eq_true rfl) rfl dX3_binder_62 (Nat.succ_le_succ (Nat.zero_le _)) (h.mono (onR_mono (fun r25 t24 h hlt24 => ?_) (fun _ _ h => h)))
    replace h := h hlt24
    replace hk2 := hlt24.tag hk2 (by decide)
    replace hk6 := hlt24.tag hk6 (by decide)
    replace hk7 := hlt24.tag hk7 (by decide)
    replace hm4 := hm4.le hlt24
    refine j_iload_n dX3_binder_65 rfl ?_
    refine j_iconst (v := iI 1) dX3_binder_66 rfl ?_
    refine j_iadd dX3_binder_67 ?_
    refine j_iconst (v := iI 0) dX3_binder_68 rfl ?_
    refine j_iconst (v := iI 0) dX3_binder_69 rfl ?_
    refine jg_callv (rest := []) (kg_lkV (As := [va_rf r25, .int (x2 + (iI 1)), .int (iI 0), .int (iI 0)]) (a := a0) (c := 2) kgX3_tell_2 (by decide) rfl hk7 q1796 rfl rfl dX3_binder_70) cwX3_tell (Nat.le_of_ble_eq_true rfl) rfl dX3_binder_70 (Nat.succ_le_succ (Nat.zero_le _)) (h.mono (onV_mono (fun t26 h hlt26 => ?_) (fun _ _ h => h)))
    replace h := h hlt26
    replace hk2 := hlt26.tag hk2 (by decide)
    replace hk6 := hlt26.tag hk6 (by decide)
    replace hk7 := hlt26.tag hk7 (by decide)
    replace hm4 := hm4.le hlt26
    exact j_return rfl dX3_binder_73 h
  · replace h := h.2 c5
    refine j_if_eq 16 dX3_binder_8 (by decide) (fun _ => ?_) (fun q_ => absurd (by decide) q_)
    refine j_bipush (v := iI 33) dX3_binder_16 rfl ?_
    obtain ⟨hk28, h⟩ := h
    refine jg_callv (rest := []) (kg_lkV (As := [.int (iI 33)]) (a := a0) (c := 2) kgX3_put_2 (by decide) rfl hk28 q1784 rfl rfl dX3_binder_18) cwX3_put (Nat.le_of_ble_eq_true rfl) rfl dX3_binder_18 (Nat.succ_le_succ (Nat.zero_le _)) (h.mono (onV_mono (fun t29 h hlt29 => ?_) (fun _ _ h => h)))
    replace h := h hlt29
    replace hk2 := hlt29.tag hk2 (by decide)
    replace hk28 := hlt29.tag hk28 (by decide)
    replace hm4 := hm4.le hlt29
    refine j_aload_n (r := some a0) dX3_binder_21 rfl ?_
    refine j_bipush (v := iI 95) dX3_binder_22 rfl ?_
    refine jg_callv (rest := []) (kg_lkV (As := [.int (iI 95)]) (a := a0) (c := 2) kgX3_put_2 (by decide) rfl hk28 q1784 rfl rfl dX3_binder_24) cwX3_put (Nat.le_of_ble_eq_true rfl) rfl dX3_binder_24 (Nat.succ_le_succ (Nat.zero_le _)) (h.mono (onV_mono (fun t31 h hlt31 => ?_) (fun _ _ h => h)))
    replace h := h hlt31
    replace hk2 := hlt31.tag hk2 (by decide)
    replace hk28 := hlt31.tag hk28 (by decide)
    replace hm4 := hm4.le hlt31
    refine j_aload_n (r := some a0) dX3_binder_27 rfl ?_
    refine j_iload_n dX3_binder_28 rfl ?_
    refine jg_callv (rest := []) (kg_lkV (As := [.int x2]) (a := a0) (c := 2) kgX3_number_2 (by decide) rfl hk28 q1792 rfl rfl dX3_binder_29) cwX3_number (Nat.le_of_ble_eq_true rfl) rfl dX3_binder_29 (Nat.succ_le_succ (Nat.zero_le _)) (h.mono (onV_mono (fun t33 h hlt33 => ?_) (fun _ _ h => h)))
    replace h := h hlt33
    replace hk2 := hlt33.tag hk2 (by decide)
    replace hk28 := hlt33.tag hk28 (by decide)
    replace hm4 := hm4.le hlt33
    refine j_aload_n (r := some a0) dX3_binder_32 rfl ?_
    refine j_bipush (v := iI 58) dX3_binder_33 rfl ?_
    refine jg_callv (rest := []) (kg_lkV (As := [.int (iI 58)]) (a := a0) (c := 2) kgX3_put_2 (by decide) rfl hk28 q1784 rfl rfl dX3_binder_35) cwX3_put (Nat.le_of_ble_eq_true rfl) rfl dX3_binder_35 (Nat.succ_le_succ (Nat.zero_le _)) (h.mono (onV_mono (fun t35 h hlt35 => ?_) (fun _ _ h => h)))
    replace h := h hlt35
    replace hk2 := hlt35.tag hk2 (by decide)
    replace hk28 := hlt35.tag hk28 (by decide)
    replace hm4 := hm4.le hlt35
    refine j_aload_n (r := some a0) dX3_binder_38 rfl ?_
    refine j_aload_n (r := x1) dX3_binder_39 rfl ?_
    refine jg_callr (rest := [va_rf (some a0)]) (kg_lkS (As := [va_rf x1]) ktX3_domain q1578 rfl rfl dX3_binder_40) cwX3_domain (Nat.le_of_ble_eq_true rfl) rfl dX3_binder_40 (Nat.succ_le_succ (Nat.zero_le _)) (h.mono (onR_mono (fun r38 t37 h hlt37 => ?_) (fun _ _ h => h)))
    replace h := h hlt37
    replace hk2 := hlt37.tag hk2 (by decide)
    replace hk28 := hlt37.tag hk28 (by decide)
    replace hm4 := hm4.le hlt37
    refine j_iload_n dX3_binder_43 rfl ?_
    refine j_iconst (v := iI 0) dX3_binder_44 rfl ?_
    refine j_iconst (v := iI 1) dX3_binder_45 rfl ?_
    refine jg_callv (rest := []) (kg_lkV (As := [va_rf r38, .int x2, .int (iI 0), .int (iI 1)]) (a := a0) (c := 2) kgX3_tell_2 (by decide) rfl hk28 q1796 rfl rfl dX3_binder_46) cwX3_tell (Nat.le_of_ble_eq_true rfl) rfl dX3_binder_46 (Nat.succ_le_succ (Nat.zero_le _)) (h.mono (onV_mono (fun t39 h hlt39 => ?_) (fun _ _ h => h)))
    replace h := h hlt39
    replace hk2 := hlt39.tag hk2 (by decide)
    replace hk28 := hlt39.tag hk28 (by decide)
    replace hm4 := hm4.le hlt39
    refine j_aload_n (r := some a0) dX3_binder_49 rfl ?_
    refine j_bipush (v := iI 46) dX3_binder_50 rfl ?_
    refine jg_callv (rest := []) (kg_lkV (As := [.int (iI 46)]) (a := a0) (c := 2) kgX3_put_2 (by decide) rfl hk28 q1784 rfl rfl dX3_binder_52) cwX3_put (Nat.le_of_ble_eq_true rfl) rfl dX3_binder_52 (Nat.succ_le_succ (Nat.zero_le _)) (h.mono (onV_mono (fun t41 h hlt41 => ?_) (fun _ _ h => h)))
    replace h := h hlt41
    replace hk2 := hlt41.tag hk2 (by decide)
    replace hk28 := hlt41.tag hk28 (by decide)
    replace hm4 := hm4.le hlt41
    refine j_aload_n (r := some a0) dX3_binder_55 rfl ?_
    refine j_aload_n (r := x1) dX3_binder_56 rfl ?_
    refine j_iload_n dX3_binder_57 rfl ?_
    refine j_iconst (v := iI (-1)) dX3_binder_58 rfl ?_
    refine jg_callr (rest := [va_rf x1, va_rf (some a0)]) (kg_lkS (As := [.int x2, .int (iI (-1))]) ktX3_bound q1584 rfl rfl dX3_binder_59) cwX3_bound (rm_ok (cat1_cons (rf_cat _) (cat1_cons rfl cat1_nil)) (Nat.le_of_ble_eq_true rfl)) rfl dX3_binder_59 (Nat.succ_le_succ (Nat.zero_le _)) (h.mono (onR_mono (fun r44 t43 h hlt43 => ?_) (fun _ _ h => h)))
    replace h := h hlt43
    replace hk2 := hlt43.tag hk2 (by decide)
    replace hk28 := hlt43.tag hk28 (by decide)
    replace hm4 := hm4.le hlt43
    refine jg_callr (rest := [va_rf (some a0)]) (kg_lkS (As := [va_rf x1, va_rf r44]) ktX3_body q1604 rfl rfl dX3_binder_62) cwX3_body (Nat.le_of_ble_eq_true rfl) rfl dX3_binder_62 (Nat.succ_le_succ (Nat.zero_le _)) (h.mono (onR_mono (fun r46 t45 h hlt45 => ?_) (fun _ _ h => h)))
    replace h := h hlt45
    replace hk2 := hlt45.tag hk2 (by decide)
    replace hk28 := hlt45.tag hk28 (by decide)
    replace hm4 := hm4.le hlt45
    refine j_iload_n dX3_binder_65 rfl ?_
    refine j_iconst (v := iI 1) dX3_binder_66 rfl ?_
    refine j_iadd dX3_binder_67 ?_
    refine j_iconst (v := iI 0) dX3_binder_68 rfl ?_
    refine j_iconst (v := iI 0) dX3_binder_69 rfl ?_
    refine jg_callv (rest := []) (kg_lkV (As := [va_rf r46, .int (x2 + (iI 1)), .int (iI 0), .int (iI 0)]) (a := a0) (c := 2) kgX3_tell_2 (by decide) rfl hk28 q1796 rfl rfl dX3_binder_70) cwX3_tell (Nat.le_of_ble_eq_true rfl) rfl dX3_binder_70 (Nat.succ_le_succ (Nat.zero_le _)) (h.mono (onV_mono (fun t47 h hlt47 => ?_) (fun _ _ h => h)))
    replace h := h hlt47
    replace hk2 := hlt47.tag hk2 (by decide)
    replace hk28 := hlt47.tag hk28 (by decide)
    replace hm4 := hm4.le hlt47
    exact j_return rfl dX3_binder_73 h
abbrev jX3_number_14 (G : GPl) (s0 : State) (l : Launch) (K : Nat → Option Nat) (T : Nat → Nat) (lev : Nat) (st0 : GSt) (Q : Outcome → GSt → Prop) (a0 : Nat) (x1 : Int32) (σ : GSt) : Prop := JQ (wP G s0 l K T) mX3_number (lev + 1) st0 14 [some (va_rf (some a0)), some (.int x1)] [] σ Q
theorem tX3_number {G : GPl} {s0 : State} {l : Launch} {K : Nat → Option Nat} {T : Nat → Nat} {lev : Nat} {Q : Outcome → GSt → Prop} {a0 : Nat} {x1 : Int32} {σ : GSt} (h : ((x1 ≤ (iI 9) → jX3_number_14 G s0 l K T lev σ Q a0 x1 σ) ∧ (¬ x1 ≤ (iI 9) → (gk σ a0 = 3 ∧ (CQ (wP G s0 l K T) mX3_number lev (.ref a0 :: [.int (x1 / (iI 10))]) σ (onV (fun t2 => gle σ t2 → jX3_number_14 G s0 l K T lev σ Q a0 x1 t2) (fun x t => gle σ t → Q (.threw x) t))))))) : CQ (wP G s0 l K T) mX3_number (lev + 1) [.ref a0, .int x1] σ Q := by
  refine CQ.of3 0 (lv := [some (va_rf (some a0)), some (.int x1)]) (by decide) (Nat.le_of_ble_eq_true rfl) (cat1_cons rfl (cat1_cons rfl cat1_nil)) rfl ?_
  refine j_iload_n dX3_number_0 rfl ?_
  refine j_bipush (v := iI 9) dX3_number_1 rfl ?_
  refine j_icmp_le 14 dX3_number_3 (by decide) (fun c4 => ?_) (fun c4 => ?_)
  · replace h := h.1 c4
    exact h
  · replace h := h.2 c4
    refine j_aload_n (r := some a0) dX3_number_6 rfl ?_
    refine j_iload_n dX3_number_7 rfl ?_
    refine j_bipush (v := iI 10) dX3_number_8 rfl ?_
    refine j_idiv dX3_number_10 (by decide) ?_
    obtain ⟨hk1, h⟩ := h
    refine jg_callv (rest := []) (kg_lkV (As := [.int (x1 / (iI 10))]) (a := a0) (c := 2) kgX3_number_2 (by decide) rfl hk1 q1792 rfl rfl dX3_number_11) cwX3_number (Nat.le_of_ble_eq_true rfl) rfl dX3_number_11 (Nat.succ_le_succ (Nat.zero_le _)) (h.mono (onV_mono (fun t2 h hlt2 => ?_) (fun _ _ h => h)))
    replace h := h hlt2
    replace hk1 := hlt2.tag hk1 (by decide)
    exact h
theorem tX3_number_14 {G : GPl} {s0 : State} {l : Launch} {K : Nat → Option Nat} {T : Nat → Nat} {lev : Nat} {st0 : GSt} {Q : Outcome → GSt → Prop} {a0 : Nat} {x1 : Int32} {σ : GSt} (h : (gk σ a0 = 3 ∧ (CQ (wP G s0 l K T) mX3_put lev (.ref a0 :: [.int ((iI 48) + (x1 - x1 / (iI 10) * (iI 10)))]) σ (onV (fun t2 => gle σ t2 → Q (.returned none) t2) (fun x t => gle σ t → Q (.threw x) t))))) : jX3_number_14 G s0 l K T lev st0 Q a0 x1 σ := by
  refine j_aload_n (r := some a0) dX3_number_14 rfl ?_
  refine j_bipush (v := iI 48) dX3_number_15 rfl ?_
  refine j_iload_n dX3_number_17 rfl ?_
  refine j_bipush (v := iI 10) dX3_number_18 rfl ?_
  refine j_irem dX3_number_20 (by decide) ?_
  refine j_iadd dX3_number_21 ?_
  obtain ⟨hk1, h⟩ := h
  refine jg_callv (rest := []) (kg_lkV (As := [.int ((iI 48) + (x1 - x1 / (iI 10) * (iI 10)))]) (a := a0) (c := 2) kgX3_put_2 (by decide) rfl hk1 q1784 rfl rfl dX3_number_22) cwX3_put (Nat.le_of_ble_eq_true rfl) rfl dX3_number_22 (Nat.succ_le_succ (Nat.zero_le _)) (h.mono (onV_mono (fun t2 h hlt2 => ?_) (fun _ _ h => h)))
  replace h := h hlt2
  replace hk1 := hlt2.tag hk1 (by decide)
  exact j_return rfl dX3_number_25 h
abbrev jX3_front_8 (G : GPl) (s0 : State) (l : Launch) (K : Nat → Option Nat) (T : Nat → Nat) (lev : Nat) (st0 : GSt) (Q : Outcome → GSt → Prop) (a0 : Nat) (x1 : Option Nat) (x2 : Option Nat) (x3 : Int32) (x4 : Option Nat) (σ : GSt) : Prop := JQ (wP G s0 l K T) mX3_front (lev + 1) st0 8 [some (va_rf (some a0)), some (va_rf x1), some (va_rf x2), some (.int x3), some (va_rf x4)] [] σ Q
theorem tX3_front {G : GPl} {s0 : State} {l : Launch} {K : Nat → Option Nat} {T : Nat → Nat} {lev : Nat} {Q : Outcome → GSt → Prop} {a0 : Nat} {x1 : Option Nat} {x2 : Option Nat} {x3 : Int32} {σ : GSt} (h : (gk σ a0 = 3 ∧ (CQ (wP G s0 l K T) mX3_name lev (.ref a0 :: [va_rf x1]) σ (onV (fun t2 => gle σ t2 → jX3_front_8 G s0 l K T lev σ Q a0 x1 x2 x3 x2 t2) (fun x t => gle σ t → Q (.threw x) t))))) : CQ (wP G s0 l K T) mX3_front (lev + 1) [.ref a0, va_rf x1, va_rf x2, .int x3] σ Q := by
  refine CQ.of3 1 (lv := [some (va_rf (some a0)), some (va_rf x1), some (va_rf x2), some (.int x3), none]) (by decide) (Nat.le_of_ble_eq_true rfl) (cat1_cons rfl (cat1_cons (rf_cat _) (cat1_cons (rf_cat _) (cat1_cons rfl cat1_nil)))) rfl ?_
  refine j_aload_n (r := some a0) dX3_front_0 rfl ?_
  refine j_aload_n (r := x1) dX3_front_1 rfl ?_
  obtain ⟨hk1, h⟩ := h
  refine jg_callv (rest := []) (kg_lkV (As := [va_rf x1]) (a := a0) (c := 2) kgX3_name_2 (by decide) rfl hk1 q1801 rfl rfl dX3_front_2) cwX3_name (Nat.le_of_ble_eq_true rfl) rfl dX3_front_2 (Nat.succ_le_succ (Nat.zero_le _)) (h.mono (onV_mono (fun t2 h hlt2 => ?_) (fun _ _ h => h)))
  replace h := h hlt2
  replace hk1 := hlt2.tag hk1 (by decide)
  refine j_aload_n (r := x2) dX3_front_5 rfl ?_
  refine j_astore (r := x2) (lv' := [some (va_rf (some a0)), some (va_rf x1), some (va_rf x2), some (.int x3), some (va_rf x2)]) dX3_front_6 (by decide) rfl ?_
  exact h
theorem tX3_front_8 {G : GPl} {s0 : State} {l : Launch} {K : Nat → Option Nat} {T : Nat → Nat} {lev : Nat} {st0 : GSt} {Q : Outcome → GSt → Prop} {a0 : Nat} {x1 : Option Nat} {x2 : Option Nat} {x3 : Int32} {x4 : Option Nat} {σ : GSt} (h : ((x4 = none → Q (.returned none) σ) ∧ (∀ a1, x4 = some a1 → (gk σ a0 = 3 ∧ (CQ (wP G s0 l K T) mX3_put lev (.ref a0 :: [.int (iI 32)]) σ (onV (fun t3 => gle σ t3 → (gk t3 a1 = 17 ∧ (CQ (wP G s0 l K T) mX3_tell lev (.ref a0 :: [va_rf (gr t3 a1 0), .int x3, .int (iI 1), .int (iI 1)]) t3 (onV (fun t6 => gle t3 t6 → jX3_front_8 G s0 l K T lev st0 Q a0 x1 x2 x3 (gr t6 a1 1) t6) (fun x t => gle t3 t → Q (.threw x) t))))) (fun x t => gle σ t → Q (.threw x) t))))))) : jX3_front_8 G s0 l K T lev st0 Q a0 x1 x2 x3 x4 σ := by
  refine j_aload (r := x4) dX3_front_8 rfl ?_
  refine j_ifnull (r := x4) 41 dX3_front_10 (by decide) (fun ea1 => ?_) (fun a1 ea1 => ?_)
  · replace h := h.1 ea1
    exact j_return rfl dX3_front_41 h
  · replace h := h.2 a1 ea1
    refine j_aload_n (r := some a0) dX3_front_13 rfl ?_
    refine j_bipush (v := iI 32) dX3_front_14 rfl ?_
    obtain ⟨hk2, h⟩ := h
    refine jg_callv (rest := []) (kg_lkV (As := [.int (iI 32)]) (a := a0) (c := 2) kgX3_put_2 (by decide) rfl hk2 q1784 rfl rfl dX3_front_16) cwX3_put (Nat.le_of_ble_eq_true rfl) rfl dX3_front_16 (Nat.succ_le_succ (Nat.zero_le _)) (h.mono (onV_mono (fun t3 h hlt3 => ?_) (fun _ _ h => h)))
    replace h := h hlt3
    replace hk2 := hlt3.tag hk2 (by decide)
    refine j_aload_n (r := some a0) dX3_front_19 rfl ?_
    refine j_aload (r := x4) dX3_front_20 rfl ?_
    obtain ⟨hk5, h⟩ := h
    refine kg_getr (a := a1) (j := 0) ea1 gfX3_66 hk5 dX3_front_22 ?_
    refine j_iload_n dX3_front_25 rfl ?_
    refine j_iconst (v := iI 1) dX3_front_26 rfl ?_
    refine j_iconst (v := iI 1) dX3_front_27 rfl ?_
    refine jg_callv (rest := []) (kg_lkV (As := [va_rf (gr t3 a1 0), .int x3, .int (iI 1), .int (iI 1)]) (a := a0) (c := 2) kgX3_tell_2 (by decide) rfl hk2 q1796 rfl rfl dX3_front_28) cwX3_tell (Nat.le_of_ble_eq_true rfl) rfl dX3_front_28 (Nat.succ_le_succ (Nat.zero_le _)) (h.mono (onV_mono (fun t6 h hlt6 => ?_) (fun _ _ h => h)))
    replace h := h hlt6
    replace hk2 := hlt6.tag hk2 (by decide)
    replace hk5 := hlt6.tag hk5 (by decide)
    refine j_aload (r := x4) dX3_front_31 rfl ?_
    refine kg_getr (a := a1) (j := 1) ea1 gfX3_72 hk5 dX3_front_33 ?_
    refine j_astore (r := gr t6 a1 1) (lv' := [some (va_rf (some a0)), some (va_rf x1), some (va_rf x2), some (.int x3), some (va_rf (gr t6 a1 1))]) dX3_front_36 (by decide) rfl ?_
    refine j_goto 8 dX3_front_38 (by decide) ?_
    exact h
theorem tX3_name {G : GPl} {s0 : State} {l : Launch} {K : Nat → Option Nat} {T : Nat → Nat} {lev : Nat} {Q : Outcome → GSt → Prop} {a0 : Nat} {x1 : Option Nat} {σ : GSt} (h : (∃ a1, x1 = some a1 ∧ (isTmA σ a1 ∧ ((isA σ x1 18 → (gk σ a0 = 3 ∧ (CQ (wP G s0 l K T) mX3_put lev (.ref a0 :: [.int (iI 95)]) σ (onV (fun t6 => gle σ t6 → (CQ (wP G s0 l K T) mX3_number lev (.ref a0 :: [.int (gi t6 a1 2)]) t6 (onV (fun t8 => gle t6 t8 → Q (.returned none) t8) (fun x t => gle t6 t → Q (.threw x) t)))) (fun x t => gle σ t → Q (.threw x) t))))) ∧ (¬ isA σ x1 18 → ((isA σ x1 12 → ((gr σ a1 3 = none → (gk σ a0 = 3 ∧ (∃ a14, gr σ a0 0 = some a14 ∧ (gk σ a14 = 2 ∧ (∃ a16, gr σ a14 0 = some a16 ∧ (gk σ a16 = 104 ∧ (inr (gi σ a1 4) (gl σ a16) ∧ (CQ (wP G s0 l K T) mX3_put_2 lev (.ref a0 :: [va_rf (gr σ a16 (ix (gi σ a1 4)))]) σ (onV (fun t19 => gle σ t19 → Q (.returned none) t19) (fun x t => gle σ t → Q (.threw x) t)))))))))) ∧ (∀ a12, gr σ a1 3 = some a12 → (gk σ a12 = 21 ∧ (gk σ a0 = 3 ∧ (CQ (wP G s0 l K T) mX3_put_2 lev (.ref a0 :: [va_rf (gr σ a12 0)]) σ (onV (fun t23 => gle σ t23 → Q (.returned none) t23) (fun x t => gle σ t → Q (.threw x) t)))))))) ∧ (¬ isA σ x1 12 → Q (.returned none) σ))))))) : CQ (wP G s0 l K T) mX3_name (lev + 1) [.ref a0, va_rf x1] σ Q := by
  refine CQ.of3 2 (lv := [some (va_rf (some a0)), some (va_rf x1), none, none]) (by decide) (Nat.le_of_ble_eq_true rfl) (cat1_cons rfl (cat1_cons (rf_cat _) cat1_nil)) rfl ?_
  refine j_aload_n (r := x1) dX3_name_0 rfl ?_
  obtain ⟨a1, ea1, hm2, h⟩ := h
  refine jg_inst (r := x1) 17 (by decide) q1587 (isTmA.tm (a := a1) hm2 ea1) dX3_name_1 (fun c3 => ?_) (fun c3 => ?_)
  · replace h := h.1 c3
    have hk4 := isA.tag c3 ea1
    refine j_if_eq 29 dX3_name_4 (by decide) (fun q_ => absurd q_ (by decide)) (fun _ => ?_)
    refine j_aload_n (r := x1) dX3_name_7 rfl ?_
    refine jg_cast (r := x1) cs_PureHouse_Local q1587 (Or.inr ⟨a1, ea1, by rw [hk4]; decide⟩) dX3_name_8 ?_
    refine j_astore_n (r := x1) (lv' := [some (va_rf (some a0)), some (va_rf x1), some (va_rf x1), none]) dX3_name_11 (by decide) rfl ?_
    refine j_aload_n (r := some a0) dX3_name_12 rfl ?_
    refine j_bipush (v := iI 95) dX3_name_13 rfl ?_
    obtain ⟨hk5, h⟩ := h
    refine jg_callv (rest := []) (kg_lkV (As := [.int (iI 95)]) (a := a0) (c := 2) kgX3_put_2 (by decide) rfl hk5 q1784 rfl rfl dX3_name_15) cwX3_put (Nat.le_of_ble_eq_true rfl) rfl dX3_name_15 (Nat.succ_le_succ (Nat.zero_le _)) (h.mono (onV_mono (fun t6 h hlt6 => ?_) (fun _ _ h => h)))
    replace h := h hlt6
    replace hk4 := hlt6.tag hk4 (by decide)
    replace hk5 := hlt6.tag hk5 (by decide)
    replace hm2 := hm2.le hlt6
    refine j_aload_n (r := some a0) dX3_name_18 rfl ?_
    refine j_aload_n (r := x1) dX3_name_19 rfl ?_
    refine kg_geti (a := a1) (j := 2) ea1 gfX3_228 (by decide) hk4 dX3_name_20 ?_
    refine jg_callv (rest := []) (kg_lkV (As := [.int (gi t6 a1 2)]) (a := a0) (c := 2) kgX3_number_2 (by decide) rfl hk5 q1792 rfl rfl dX3_name_23) cwX3_number (Nat.le_of_ble_eq_true rfl) rfl dX3_name_23 (Nat.succ_le_succ (Nat.zero_le _)) (h.mono (onV_mono (fun t8 h hlt8 => ?_) (fun _ _ h => h)))
    replace h := h hlt8
    replace hk4 := hlt8.tag hk4 (by decide)
    replace hk5 := hlt8.tag hk5 (by decide)
    replace hm2 := hm2.le hlt8
    refine j_goto 74 dX3_name_26 (by decide) ?_
    exact j_return rfl dX3_name_74 h
  · replace h := h.2 c3
    refine j_if_eq 29 dX3_name_4 (by decide) (fun _ => ?_) (fun q_ => absurd (by decide) q_)
    refine j_aload_n (r := x1) dX3_name_29 rfl ?_
    refine jg_inst (r := x1) 11 (by decide) q1712 (isTmA.tm (a := a1) hm2 ea1) dX3_name_30 (fun c10 => ?_) (fun c10 => ?_)
    · replace h := h.1 c10
      have hk11 := isA.tag c10 ea1
      refine j_if_eq 74 dX3_name_33 (by decide) (fun q_ => absurd q_ (by decide)) (fun _ => ?_)
      refine j_aload_n (r := x1) dX3_name_36 rfl ?_
      refine jg_cast (r := x1) cs_PureHouse_Free q1712 (Or.inr ⟨a1, ea1, by rw [hk11]; decide⟩) dX3_name_37 ?_
      refine j_astore_n (r := x1) (lv' := [some (va_rf (some a0)), some (va_rf x1), none, some (va_rf x1)]) dX3_name_40 (by decide) rfl ?_
      refine j_aload_n (r := some a0) dX3_name_41 rfl ?_
      refine j_aload_n (r := x1) dX3_name_42 rfl ?_
      refine kg_getr (a := a1) (j := 3) ea1 gfX3_141 hk11 dX3_name_43 ?_
      refine j_ifnonnull (r := gr σ a1 3) 64 dX3_name_46 (by decide) (fun a12 ea12 => ?_) (fun ea12 => ?_)
      · replace h := h.2 a12 ea12
        refine j_aload_n (r := x1) dX3_name_64 rfl ?_
        refine kg_getr (a := a1) (j := 3) ea1 gfX3_141 hk11 dX3_name_65 ?_
        obtain ⟨hk21, h⟩ := h
        refine kg_getr (a := a12) (j := 0) ea12 gfX3_236 hk21 dX3_name_68 ?_
        obtain ⟨hk22, h⟩ := h
        refine jg_callv (rest := []) (kg_lkV (As := [va_rf (gr σ a12 0)]) (a := a0) (c := 2) kgX3_put_2_2 (by decide) rfl hk22 q1805 rfl rfl dX3_name_71) cwX3_put_2 (Nat.le_of_ble_eq_true rfl) rfl dX3_name_71 (Nat.succ_le_succ (Nat.zero_le _)) (h.mono (onV_mono (fun t23 h hlt23 => ?_) (fun _ _ h => h)))
        replace h := h hlt23
        replace hk11 := hlt23.tag hk11 (by decide)
        replace hk21 := hlt23.tag hk21 (by decide)
        replace hk22 := hlt23.tag hk22 (by decide)
        replace hm2 := hm2.le hlt23
        exact j_return rfl dX3_name_74 h
      · replace h := h.1 ea12
        refine j_aload_n (r := some a0) dX3_name_49 rfl ?_
        obtain ⟨hk13, h⟩ := h
        refine kg_getr (a := a0) (j := 0) rfl gfX3_23 hk13 dX3_name_50 ?_
        obtain ⟨a14, ea14, hk15, h⟩ := h
        refine kg_getr (a := a14) (j := 0) ea14 gfX3_230 hk15 dX3_name_53 ?_
        refine j_aload_n (r := x1) dX3_name_56 rfl ?_
        refine kg_geti (a := a1) (j := 4) ea1 gfX3_145 (by decide) hk11 dX3_name_57 ?_
        obtain ⟨a16, ea16, hk17, hi18, h⟩ := h
        refine kg_aald (a := a16) ea16 hk17 (by decide) hi18 dX3_name_60 ?_
        refine j_goto 71 dX3_name_61 (by decide) ?_
        refine jg_callv (rest := []) (kg_lkV (As := [va_rf (gr σ a16 (ix (gi σ a1 4)))]) (a := a0) (c := 2) kgX3_put_2_2 (by decide) rfl hk13 q1805 rfl rfl dX3_name_71) cwX3_put_2 (Nat.le_of_ble_eq_true rfl) rfl dX3_name_71 (Nat.succ_le_succ (Nat.zero_le _)) (h.mono (onV_mono (fun t19 h hlt19 => ?_) (fun _ _ h => h)))
        replace h := h hlt19
        replace hk11 := hlt19.tag hk11 (by decide)
        replace hk13 := hlt19.tag hk13 (by decide)
        replace hk15 := hlt19.tag hk15 (by decide)
        replace hk17 := hlt19.tag hk17 (by decide)
        replace hm2 := hm2.le hlt19
        exact j_return rfl dX3_name_74 h
    · replace h := h.2 c10
      refine j_if_eq 74 dX3_name_33 (by decide) (fun _ => ?_) (fun q_ => absurd (by decide) q_)
      exact j_return rfl dX3_name_74 h
abbrev jX3_put_2_2 (G : GPl) (s0 : State) (l : Launch) (K : Nat → Option Nat) (T : Nat → Nat) (lev : Nat) (st0 : GSt) (Q : Outcome → GSt → Prop) (a0 : Nat) (x1 : Option Nat) (x2 : Int32) (σ : GSt) : Prop := JQ (wP G s0 l K T) mX3_put_2 (lev + 1) st0 2 [some (va_rf (some a0)), some (va_rf x1), some (.int x2)] [] σ Q
theorem tX3_put_2 {G : GPl} {s0 : State} {l : Launch} {K : Nat → Option Nat} {T : Nat → Nat} {lev : Nat} {Q : Outcome → GSt → Prop} {a0 : Nat} {x1 : Option Nat} {σ : GSt} (h : jX3_put_2_2 G s0 l K T lev σ Q a0 x1 (iI 0) σ) : CQ (wP G s0 l K T) mX3_put_2 (lev + 1) [.ref a0, va_rf x1] σ Q := by
  refine CQ.of3 1 (lv := [some (va_rf (some a0)), some (va_rf x1), none]) (by decide) (Nat.le_of_ble_eq_true rfl) (cat1_cons rfl (cat1_cons (rf_cat _) cat1_nil)) rfl ?_
  refine j_iconst (v := iI 0) dX3_put_2_0 rfl ?_
  refine j_istore_n (lv' := [some (va_rf (some a0)), some (va_rf x1), some (.int (iI 0))]) dX3_put_2_1 (by decide) rfl ?_
  exact h
theorem tX3_put_2_2 {G : GPl} {s0 : State} {l : Launch} {K : Nat → Option Nat} {T : Nat → Nat} {lev : Nat} {st0 : GSt} {Q : Outcome → GSt → Prop} {a0 : Nat} {x1 : Option Nat} {x2 : Int32} {σ : GSt} (h : (∃ a1, x1 = some a1 ∧ (gk σ a1 = 23 ∧ (CQ (wP G s0 l K T) mJ3_length lev (.ref a1 :: []) σ (onI (fun r4 t3 => gle σ t3 → ((r4 ≤ x2 → Q (.returned none) t3) ∧ (¬ r4 ≤ x2 → (CQ (wP G s0 l K T) mJ3_charAt lev (.ref a1 :: [.int x2]) t3 (onI (fun r6 t5 => gle t3 t5 → (gk t5 a0 = 3 ∧ (CQ (wP G s0 l K T) mX3_put lev (.ref a0 :: [.int r6]) t5 (onV (fun t8 => gle t5 t8 → jX3_put_2_2 G s0 l K T lev st0 Q a0 x1 (x2 + iI 1) t8) (fun x t => gle t5 t → Q (.threw x) t))))) (fun x t => gle t3 t → Q (.threw x) t)))))) (fun x t => gle σ t → Q (.threw x) t)))))) : jX3_put_2_2 G s0 l K T lev st0 Q a0 x1 x2 σ := by
  refine j_iload_n dX3_put_2_2 rfl ?_
  refine j_aload_n (r := x1) dX3_put_2_3 rfl ?_
  obtain ⟨a1, ea1, hk2, h⟩ := h
  refine jg_calli (rest := [.int x2]) (kg_lkV (As := []) (a := a1) (c := 22) kgJ3_length_22 (by decide) rfl hk2 q1809 rfl (by rw [ea1]; rfl) dX3_put_2_4) cwJ3_length (Nat.le_of_ble_eq_true rfl) rfl dX3_put_2_4 (Nat.succ_le_succ (Nat.zero_le _)) (h.mono (onI_mono (fun r4 t3 h hlt3 => ?_) (fun _ _ h => h)))
  replace h := h hlt3
  replace hk2 := hlt3.tag hk2 (by decide)
  refine j_icmp_ge 25 dX3_put_2_7 (by decide) (fun c10 => ?_) (fun c10 => ?_)
  · replace h := h.1 c10
    exact j_return rfl dX3_put_2_25 h
  · replace h := h.2 c10
    refine j_aload_n (r := some a0) dX3_put_2_10 rfl ?_
    refine j_aload_n (r := x1) dX3_put_2_11 rfl ?_
    refine j_iload_n dX3_put_2_12 rfl ?_
    refine jg_calli (rest := [va_rf (some a0)]) (kg_lkV (As := [.int x2]) (a := a1) (c := 22) kgJ3_charAt_22 (by decide) rfl hk2 q1810 rfl (by rw [ea1]; rfl) dX3_put_2_13) cwJ3_charAt (Nat.le_of_ble_eq_true rfl) rfl dX3_put_2_13 (Nat.succ_le_succ (Nat.zero_le _)) (h.mono (onI_mono (fun r6 t5 h hlt5 => ?_) (fun _ _ h => h)))
    replace h := h hlt5
    replace hk2 := hlt5.tag hk2 (by decide)
    obtain ⟨hk7, h⟩ := h
    refine jg_callv (rest := []) (kg_lkV (As := [.int r6]) (a := a0) (c := 2) kgX3_put_2 (by decide) rfl hk7 q1784 rfl rfl dX3_put_2_16) cwX3_put (Nat.le_of_ble_eq_true rfl) rfl dX3_put_2_16 (Nat.succ_le_succ (Nat.zero_le _)) (h.mono (onV_mono (fun t8 h hlt8 => ?_) (fun _ _ h => h)))
    replace h := h hlt8
    replace hk2 := hlt8.tag hk2 (by decide)
    replace hk7 := hlt8.tag hk7 (by decide)
    refine j_iinc (lv' := [some (va_rf (some a0)), some (va_rf x1), some (.int (x2 + iI 1))]) dX3_put_2_19 rfl (by decide) rfl ?_
    refine j_goto 2 dX3_put_2_22 (by decide) ?_
    exact h
