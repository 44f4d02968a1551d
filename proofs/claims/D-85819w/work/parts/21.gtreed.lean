/-! trees (made by gen/geng.py) -/
set_option maxRecDepth 100000
theorem tX6_init {G : GPl} {s0 : State} {l : Launch} {K : Nat → Option Nat} {T : Nat → Nat} {lev : Nat} {Q : Outcome → GSt → Prop} {a0 : Nat} {x1 : Option Nat} {x2 : Int32} {σ : GSt} (h : (groom G 3 σ ∧ (CQ (wP G s0 l K T) mJ2_init lev (.ref (gn σ) :: []) (gmk 22 3 σ) (onV (fun t3 => gle (gmk 22 3 σ) t3 → (gk t3 a0 = 5 ∧ (groom G 3 (gpr a0 8 (some (gn σ)) t3) ∧ (CQ (wP G s0 l K T) mJ2_init lev (.ref (gn (gpr a0 8 (some (gn σ)) t3)) :: []) (gmk 22 3 (gpr a0 8 (some (gn σ)) t3)) (onV (fun t8 => gle (gmk 22 3 (gpr a0 8 (some (gn σ)) t3)) t8 → Q (.returned none) (gpi a0 1 x2 (gpr a0 0 x1 (gpr a0 9 (some (gn (gpr a0 8 (some (gn σ)) t3))) t8)))) (fun x t => gle (gmk 22 3 (gpr a0 8 (some (gn σ)) t3)) t → Q (.threw x) t)))))) (fun x t => gle (gmk 22 3 σ) t → Q (.threw x) t))))) : CQ (wP G s0 l K T) mX6_init (lev + 1) [.ref a0, va_rf x1, .int x2] σ Q := by
  refine CQ.of3 0 (lv := [some (va_rf (some a0)), some (va_rf x1), some (.int x2)]) (by decide) (Nat.le_of_ble_eq_true rfl) (cat1_cons rfl (cat1_cons (rf_cat _) (cat1_cons rfl cat1_nil))) rfl ?_
  refine j_aload_n (r := some a0) dX6_init_0 rfl ?_
  refine jg_objI q449 q168 q169 (Nat.succ_le_succ (Nat.zero_le _)) (Nat.le_of_ble_eq_true rfl) dX6_init_1 ?_
  refine j_aload_n (r := some a0) dX6_init_4 rfl ?_
  obtain ⟨hg1, h⟩ := h
  refine jg_new (c := 21) (N := 3) (C := "java/util/ArrayList") (by decide) ⟨rfl, rfl⟩ q450 q263 q119 hg1 dX6_init_5 ?_
  have hk2 := gk_new (t := 22) (n := 3) hg1.2.2
  refine j_dup dX6_init_8 rfl ?_
  refine jg_callv (rest := [va_rf (some (gn σ)), va_rf (some a0)]) (kg_lkI (As := []) (a := (gn σ)) kiJ2_init (Or.inl q451) rfl rfl dX6_init_9) cwJ2_init (Nat.le_of_ble_eq_true rfl) rfl dX6_init_9 (Nat.succ_le_succ (Nat.zero_le _)) (h.mono (onV_mono (fun t3 h hlt3 => ?_) (fun _ _ h => h)))
  replace h := h hlt3
  replace hk2 := hlt3.tag hk2 (by decide)
  obtain ⟨hk5, h⟩ := h
  refine kg_putr (a := a0) (x := some (gn σ)) rfl gfX6_12 (Or.inr ⟨rfl, rfl⟩) hk5 (Or.inl (by decide)) dX6_init_12 ?_
  refine j_aload_n (r := some a0) dX6_init_15 rfl ?_
  obtain ⟨hg6, h⟩ := h
  refine jg_new (c := 21) (N := 3) (C := "java/util/ArrayList") (by decide) ⟨rfl, rfl⟩ q450 q263 q119 hg6 dX6_init_16 ?_
  replace hk2 := gk_mk (t := 22) (n := 3) hk2 (by decide)
  replace hk5 := gk_mk (t := 22) (n := 3) hk5 (by decide)
  have hk7 := gk_new (t := 22) (n := 3) hg6.2.2
  refine j_dup dX6_init_19 rfl ?_
  refine jg_callv (rest := [va_rf (some (gn (gpr a0 8 (some (gn σ)) t3))), va_rf (some a0)]) (kg_lkI (As := []) (a := (gn (gpr a0 8 (some (gn σ)) t3))) kiJ2_init (Or.inl q451) rfl rfl dX6_init_20) cwJ2_init (Nat.le_of_ble_eq_true rfl) rfl dX6_init_20 (Nat.succ_le_succ (Nat.zero_le _)) (h.mono (onV_mono (fun t8 h hlt8 => ?_) (fun _ _ h => h)))
  replace h := h hlt8
  replace hk2 := hlt8.tag hk2 (by decide)
  replace hk5 := hlt8.tag hk5 (by decide)
  replace hk7 := hlt8.tag hk7 (by decide)
  refine kg_putr (a := a0) (x := some (gn (gpr a0 8 (some (gn σ)) t3))) rfl gfX6_18 (Or.inr ⟨rfl, rfl⟩) hk5 (Or.inl (by decide)) dX6_init_23 ?_
  refine j_aload_n (r := some a0) dX6_init_26 rfl ?_
  refine j_aload_n (r := x1) dX6_init_27 rfl ?_
  refine kg_putr (a := a0) (x := x1) rfl gfX6_21 (Or.inr ⟨rfl, rfl⟩) hk5 (Or.inl (by decide)) dX6_init_28 ?_
  refine j_aload_n (r := some a0) dX6_init_31 rfl ?_
  refine j_iload_n dX6_init_32 rfl ?_
  refine kg_puti (a := a0) rfl gfX6_25 (Or.inr ⟨rfl, rfl⟩) hk5 (Or.inl (by decide)) dX6_init_33 ?_
  exact j_return rfl dX6_init_36 h
abbrev jX6_read_4 (G : GPl) (s0 : State) (l : Launch) (K : Nat → Option Nat) (T : Nat → Nat) (lev : Nat) (st0 : GSt) (Q : Outcome → GSt → Prop) (a0 : Nat) (σ : GSt) : Prop := JQ (wP G s0 l K T) mX6_read (lev + 1) st0 4 [some (va_rf (some a0))] [] σ Q
theorem tX6_read {G : GPl} {s0 : State} {l : Launch} {K : Nat → Option Nat} {T : Nat → Nat} {lev : Nat} {Q : Outcome → GSt → Prop} {a0 : Nat} {σ : GSt} (h : (gk σ a0 = 5 ∧ (CQ (wP G s0 l K T) mX6_go lev (.ref a0 :: []) σ (onV (fun t2 => gle σ t2 → jX6_read_4 G s0 l K T lev σ Q a0 t2) (fun x t => gle σ t → Q (.threw x) t))))) : CQ (wP G s0 l K T) mX6_read (lev + 1) [.ref a0] σ Q := by
  refine CQ.of3 0 (lv := [some (va_rf (some a0))]) (by decide) (Nat.le_of_ble_eq_true rfl) (cat1_cons rfl cat1_nil) rfl ?_
  refine j_aload_n (r := some a0) dX6_read_0 rfl ?_
  obtain ⟨hk1, h⟩ := h
  refine jg_callv (rest := []) (kg_lkV (As := []) (a := a0) (c := 4) kgX6_go_4 (by decide) rfl hk1 q487 rfl rfl dX6_read_1) cwX6_go (Nat.le_of_ble_eq_true rfl) rfl dX6_read_1 (Nat.succ_le_succ (Nat.zero_le _)) (h.mono (onV_mono (fun t2 h hlt2 => ?_) (fun _ _ h => h)))
  replace h := h hlt2
  replace hk1 := hlt2.tag hk1 (by decide)
  exact h
theorem tX6_read_4 {G : GPl} {s0 : State} {l : Launch} {K : Nat → Option Nat} {T : Nat → Nat} {lev : Nat} {st0 : GSt} {Q : Outcome → GSt → Prop} {a0 : Nat} {σ : GSt} (h : (gk σ a0 = 5 ∧ (((gr σ a0 7) = (K 5) → Q (.returned (some (va_rf (gr σ a0 9)))) σ) ∧ (¬ (gr σ a0 7) = (K 5) → (CQ (wP G s0 l K T) mX6_statement lev (.ref a0 :: []) σ (onR (fun r3 t2 => gle σ t2 → (∃ a4, gr σ a0 9 = some a4 ∧ (gk t2 a4 = 22 ∧ (CQ (wP G s0 l K T) mJ2_add lev (.ref a4 :: [va_rf r3]) t2 (onI (fun r7 t6 => gle t2 t6 → (CQ (wP G s0 l K T) mX6_need lev (.ref a0 :: [.int (iI 59)]) t6 (onI (fun r9 t8 => gle t6 t8 → jX6_read_4 G s0 l K T lev st0 Q a0 t8) (fun x t => gle t6 t → Q (.threw x) t)))) (fun x t => gle t2 t → Q (.threw x) t)))))) (fun x t => gle σ t → Q (.threw x) t))))))) : jX6_read_4 G s0 l K T lev st0 Q a0 σ := by
  refine j_aload_n (r := some a0) dX6_read_4 rfl ?_
  obtain ⟨hk1, h⟩ := h
  refine kg_getr (a := a0) (j := 7) rfl gfX6_53 hk1 dX6_read_5 ?_
  refine jg_gets (i := 5) rfl flX6_56 dX6_read_8 ?_
  refine j_acmp_eq (x := gr σ a0 7) (y := K 5) 36 dX6_read_11 (by decide) (fun c10 => ?_) (fun c10 => ?_)
  · replace h := h.1 c10
    refine j_aload_n (r := some a0) dX6_read_36 rfl ?_
    refine kg_getr (a := a0) (j := 9) rfl gfX6_18 hk1 dX6_read_37 ?_
    exact j_areturn (r := gr σ a0 9) rfl (Or.inl ⟨_, rfl⟩) dX6_read_40 h
  · replace h := h.2 c10
    refine j_aload_n (r := some a0) dX6_read_14 rfl ?_
    refine kg_getr (a := a0) (j := 9) rfl gfX6_18 hk1 dX6_read_15 ?_
    refine j_aload_n (r := some a0) dX6_read_18 rfl ?_
    refine jg_callr (rest := [va_rf (gr σ a0 9)]) (kg_lkV (As := []) (a := a0) (c := 4) kgX6_statement_4 (by decide) rfl hk1 q932 rfl rfl dX6_read_19) cwX6_statement (rm_ok (cat1_cons (rf_cat _) cat1_nil) (Nat.le_of_ble_eq_true rfl)) rfl dX6_read_19 (Nat.succ_le_succ (Nat.zero_le _)) (h.mono (onR_mono (fun r3 t2 h hlt2 => ?_) (fun _ _ h => h)))
    replace h := h hlt2
    replace hk1 := hlt2.tag hk1 (by decide)
    obtain ⟨a4, ea4, hk5, h⟩ := h
    refine jg_calli (rest := []) (kg_lkV (As := [va_rf r3]) (a := a4) (c := 21) kgJ2_add_21 (by decide) rfl hk5 q1079 rfl (by rw [ea4]; rfl) dX6_read_22) cwJ2_add (Nat.le_of_ble_eq_true rfl) rfl dX6_read_22 (Nat.succ_le_succ (Nat.zero_le _)) (h.mono (onI_mono (fun r7 t6 h hlt6 => ?_) (fun _ _ h => h)))
    replace h := h hlt6
    replace hk1 := hlt6.tag hk1 (by decide)
    replace hk5 := hlt6.tag hk5 (by decide)
    refine j_pop dX6_read_25 rfl ?_
    refine j_aload_n (r := some a0) dX6_read_26 rfl ?_
    refine j_bipush (v := iI 59) dX6_read_27 rfl ?_
    refine jg_calli (rest := []) (kg_lkV (As := [.int (iI 59)]) (a := a0) (c := 4) kgX6_need_4 (by decide) rfl hk1 q1023 rfl rfl dX6_read_29) cwX6_need (Nat.le_of_ble_eq_true rfl) rfl dX6_read_29 (Nat.succ_le_succ (Nat.zero_le _)) (h.mono (onI_mono (fun r9 t8 h hlt8 => ?_) (fun _ _ h => h)))
    replace h := h hlt8
    replace hk1 := hlt8.tag hk1 (by decide)
    replace hk5 := hlt8.tag hk5 (by decide)
    refine j_pop dX6_read_32 rfl ?_
    refine j_goto 4 dX6_read_33 (by decide) ?_
    exact h
theorem tX6_go {G : GPl} {s0 : State} {l : Launch} {K : Nat → Option Nat} {T : Nat → Nat} {lev : Nat} {Q : Outcome → GSt → Prop} {a0 : Nat} {σ : GSt} (h : (gk σ a0 = 5 ∧ (CQ (wP G s0 l K T) mX6_skips lev (.ref a0 :: []) σ (onI (fun r3 t2 => gle σ t2 → (CQ (wP G s0 l K T) mX6_byteAt lev (.ref a0 :: [.int (gi (gpi a0 3 (gi t2 a0 2) t2) a0 2)]) (gpi a0 3 (gi t2 a0 2) t2) (onI (fun r5 t4 => gle (gpi a0 3 (gi t2 a0 2) t2) t4 → ((r3 = 0 → (((gi t4 a0 2) < (gi t4 a0 1) → (CQ (wP G s0 l K T) mX6_isLetter lev [.int r5] t4 (onI (fun r7 t6 => gle t4 t6 → ((r7 = 0 → (CQ (wP G s0 l K T) mX6_sign lev (.ref a0 :: [.int r5]) t6 (onV (fun t8 => gle t6 t8 → Q (.returned none) t8) (fun x t => gle t6 t → Q (.threw x) t)))) ∧ (¬ r7 = 0 → (CQ (wP G s0 l K T) mX6_name lev (.ref a0 :: []) t6 (onV (fun t10 => gle t6 t10 → Q (.returned none) t10) (fun x t => gle t6 t → Q (.threw x) t)))))) (fun x t => gle t4 t → Q (.threw x) t)))) ∧ (¬ (gi t4 a0 2) < (gi t4 a0 1) → Q (.returned none) (gpr a0 7 (K 5) t4)))) ∧ (¬ r3 = 0 → Q (.returned none) (gpr a0 7 (K 4) t4)))) (fun x t => gle (gpi a0 3 (gi t2 a0 2) t2) t → Q (.threw x) t)))) (fun x t => gle σ t → Q (.threw x) t))))) : CQ (wP G s0 l K T) mX6_go (lev + 1) [.ref a0] σ Q := by
  refine CQ.of3 2 (lv := [some (va_rf (some a0)), none, none]) (by decide) (Nat.le_of_ble_eq_true rfl) (cat1_cons rfl cat1_nil) rfl ?_
  refine j_aload_n (r := some a0) dX6_go_0 rfl ?_
  obtain ⟨hk1, h⟩ := h
  refine jg_calli (rest := []) (kg_lkV (As := []) (a := a0) (c := 4) kgX6_skips_4 (by decide) rfl hk1 q491 rfl rfl dX6_go_1) cwX6_skips (Nat.le_of_ble_eq_true rfl) rfl dX6_go_1 (Nat.succ_le_succ (Nat.zero_le _)) (h.mono (onI_mono (fun r3 t2 h hlt2 => ?_) (fun _ _ h => h)))
  replace h := h hlt2
  replace hk1 := hlt2.tag hk1 (by decide)
  refine j_istore_n (lv' := [some (va_rf (some a0)), some (.int r3), none]) dX6_go_4 (by decide) rfl ?_
  refine j_aload_n (r := some a0) dX6_go_5 rfl ?_
  refine j_aload_n (r := some a0) dX6_go_6 rfl ?_
  refine kg_geti (a := a0) (j := 2) rfl gfX6_33 (by decide) hk1 dX6_go_7 ?_
  refine kg_puti (a := a0) rfl gfX6_44 (Or.inl rfl) hk1 (Or.inl (by decide)) dX6_go_10 ?_
  refine j_aload_n (r := some a0) dX6_go_13 rfl ?_
  refine j_aload_n (r := some a0) dX6_go_14 rfl ?_
  refine kg_geti (a := a0) (j := 2) rfl gfX6_33 (by decide) hk1 dX6_go_15 ?_
  refine jg_calli (rest := []) (kg_lkV (As := [.int (gi (gpi a0 3 (gi t2 a0 2) t2) a0 2)]) (a := a0) (c := 4) kgX6_byteAt_4 (by decide) rfl hk1 q495 rfl rfl dX6_go_18) cwX6_byteAt (Nat.le_of_ble_eq_true rfl) rfl dX6_go_18 (Nat.succ_le_succ (Nat.zero_le _)) (h.mono (onI_mono (fun r5 t4 h hlt4 => ?_) (fun _ _ h => h)))
  replace h := h hlt4
  replace hk1 := hlt4.tag hk1 (by decide)
  refine j_istore_n (lv' := [some (va_rf (some a0)), some (.int r3), some (.int r5)]) dX6_go_21 (by decide) rfl ?_
  refine j_iload_n dX6_go_22 rfl ?_
  refine j_if_eq 36 dX6_go_23 (by decide) (fun c14 => ?_) (fun c14 => ?_)
  · replace h := h.1 c14
    refine j_aload_n (r := some a0) dX6_go_36 rfl ?_
    refine kg_geti (a := a0) (j := 2) rfl gfX6_33 (by decide) hk1 dX6_go_37 ?_
    refine j_aload_n (r := some a0) dX6_go_40 rfl ?_
    refine kg_geti (a := a0) (j := 1) rfl gfX6_25 (by decide) hk1 dX6_go_41 ?_
    refine j_icmp_lt 57 dX6_go_44 (by decide) (fun c13 => ?_) (fun c13 => ?_)
    · replace h := h.1 c13
      refine j_iload_n dX6_go_57 rfl ?_
      refine jg_calli (rest := []) (kg_lkS (As := [.int r5]) ktX6_isLetter q503 rfl rfl dX6_go_58) cwX6_isLetter (Nat.le_of_ble_eq_true rfl) rfl dX6_go_58 (Nat.succ_le_succ (Nat.zero_le _)) (h.mono (onI_mono (fun r7 t6 h hlt6 => ?_) (fun _ _ h => h)))
      replace h := h hlt6
      replace hk1 := hlt6.tag hk1 (by decide)
      refine j_if_eq 71 dX6_go_61 (by decide) (fun c12 => ?_) (fun c12 => ?_)
      · replace h := h.1 c12
        refine j_aload_n (r := some a0) dX6_go_71 rfl ?_
        refine j_iload_n dX6_go_72 rfl ?_
        refine jg_callv (rest := []) (kg_lkV (As := [.int r5]) (a := a0) (c := 4) kgX6_sign_4 (by decide) rfl hk1 q879 rfl rfl dX6_go_73) cwX6_sign (Nat.le_of_ble_eq_true rfl) rfl dX6_go_73 (Nat.succ_le_succ (Nat.zero_le _)) (h.mono (onV_mono (fun t8 h hlt8 => ?_) (fun _ _ h => h)))
        replace h := h hlt8
        replace hk1 := hlt8.tag hk1 (by decide)
        exact j_return rfl dX6_go_76 h
      · replace h := h.2 c12
        refine j_aload_n (r := some a0) dX6_go_64 rfl ?_
        refine jg_callv (rest := []) (kg_lkV (As := []) (a := a0) (c := 4) kgX6_name_4 (by decide) rfl hk1 q506 rfl rfl dX6_go_65) cwX6_name (Nat.le_of_ble_eq_true rfl) rfl dX6_go_65 (Nat.succ_le_succ (Nat.zero_le _)) (h.mono (onV_mono (fun t10 h hlt10 => ?_) (fun _ _ h => h)))
        replace h := h hlt10
        replace hk1 := hlt10.tag hk1 (by decide)
        refine j_goto 76 dX6_go_68 (by decide) ?_
        exact j_return rfl dX6_go_76 h
    · replace h := h.2 c13
      refine j_aload_n (r := some a0) dX6_go_47 rfl ?_
      refine jg_gets (i := 5) rfl flX6_56 dX6_go_48 ?_
      refine kg_putr (a := a0) (x := K 5) rfl gfX6_53 (Or.inl rfl) hk1 (Or.inl (by decide)) dX6_go_51 ?_
      refine j_goto 76 dX6_go_54 (by decide) ?_
      exact j_return rfl dX6_go_76 h
  · replace h := h.2 c14
    refine j_aload_n (r := some a0) dX6_go_26 rfl ?_
    refine jg_gets (i := 4) rfl flX6_47 dX6_go_27 ?_
    refine kg_putr (a := a0) (x := K 4) rfl gfX6_53 (Or.inl rfl) hk1 (Or.inl (by decide)) dX6_go_30 ?_
    refine j_goto 76 dX6_go_33 (by decide) ?_
    exact j_return rfl dX6_go_76 h
abbrev jX6_skips_0 (G : GPl) (s0 : State) (l : Launch) (K : Nat → Option Nat) (T : Nat → Nat) (lev : Nat) (st0 : GSt) (Q : Outcome → GSt → Prop) (a0 : Nat) (σ : GSt) : Prop := JQ (wP G s0 l K T) mX6_skips (lev + 1) st0 0 [some (va_rf (some a0)), none, none] [] σ Q
abbrev jX6_skips_40 (G : GPl) (s0 : State) (l : Launch) (K : Nat → Option Nat) (T : Nat → Nat) (lev : Nat) (st0 : GSt) (Q : Outcome → GSt → Prop) (a0 : Nat) (x1 : Int32) (σ : GSt) : Prop := JQ (wP G s0 l K T) mX6_skips (lev + 1) st0 40 [some (va_rf (some a0)), some (.int x1), none] [] σ Q
abbrev jX6_skips_47 (G : GPl) (s0 : State) (l : Launch) (K : Nat → Option Nat) (T : Nat → Nat) (lev : Nat) (st0 : GSt) (Q : Outcome → GSt → Prop) (a0 : Nat) (x1 : Int32) (x2 : Int32) (σ : GSt) : Prop := JQ (wP G s0 l K T) mX6_skips (lev + 1) st0 47 [some (va_rf (some a0)), some (.int x1), some (.int x2)] [] σ Q
abbrev jX6_skips_77 (G : GPl) (s0 : State) (l : Launch) (K : Nat → Option Nat) (T : Nat → Nat) (lev : Nat) (st0 : GSt) (Q : Outcome → GSt → Prop) (a0 : Nat) (x1 : Int32) (x2 : Int32) (σ : GSt) : Prop := JQ (wP G s0 l K T) mX6_skips (lev + 1) st0 77 [some (va_rf (some a0)), some (.int x1), some (.int x2)] [] σ Q
abbrev jX6_skips_93 (G : GPl) (s0 : State) (l : Launch) (K : Nat → Option Nat) (T : Nat → Nat) (lev : Nat) (st0 : GSt) (Q : Outcome → GSt → Prop) (a0 : Nat) (x1 : Int32) (x2 : Int32) (σ : GSt) : Prop := JQ (wP G s0 l K T) mX6_skips (lev + 1) st0 93 [some (va_rf (some a0)), some (.int x1), some (.int x2)] [] σ Q
theorem tX6_skips {G : GPl} {s0 : State} {l : Launch} {K : Nat → Option Nat} {T : Nat → Nat} {lev : Nat} {Q : Outcome → GSt → Prop} {a0 : Nat} {σ : GSt} (h : (gk σ a0 = 5 ∧ (((gi σ a0 1) ≤ (gi σ a0 2) → Q (.returned (some (.int (iI 0)))) σ) ∧ (¬ (gi σ a0 1) ≤ (gi σ a0 2) → (CQ (wP G s0 l K T) mX6_byteAt lev (.ref a0 :: [.int (gi σ a0 2)]) σ (onI (fun r3 t2 => gle σ t2 → ((r3 = (iI 10) → jX6_skips_40 G s0 l K T lev σ Q a0 r3 t2) ∧ (¬ r3 = (iI 10) → ((r3 = (iI 32) → jX6_skips_40 G s0 l K T lev σ Q a0 r3 t2) ∧ (¬ r3 = (iI 32) → ((r3 = (iI 123) → jX6_skips_40 G s0 l K T lev σ Q a0 r3 t2) ∧ (¬ r3 = (iI 123) → Q (.returned (some (.int (iI 0)))) t2))))))) (fun x t => gle σ t → Q (.threw x) t))))))) : CQ (wP G s0 l K T) mX6_skips (lev + 1) [.ref a0] σ Q := by
  refine CQ.of3 2 (lv := [some (va_rf (some a0)), none, none]) (by decide) (Nat.le_of_ble_eq_true rfl) (cat1_cons rfl cat1_nil) rfl ?_
  refine j_aload_n (r := some a0) dX6_skips_0 rfl ?_
  obtain ⟨hk1, h⟩ := h
  refine kg_geti (a := a0) (j := 2) rfl gfX6_33 (by decide) hk1 dX6_skips_1 ?_
  refine j_aload_n (r := some a0) dX6_skips_4 rfl ?_
  refine kg_geti (a := a0) (j := 1) rfl gfX6_25 (by decide) hk1 dX6_skips_5 ?_
  refine j_icmp_ge 113 dX6_skips_8 (by decide) (fun c7 => ?_) (fun c7 => ?_)
  · replace h := h.1 c7
    refine j_iconst (v := iI 0) dX6_skips_113 rfl ?_
    exact j_ireturn (ty := .boolean) rfl rfl dX6_skips_114 h
  · replace h := h.2 c7
    refine j_aload_n (r := some a0) dX6_skips_11 rfl ?_
    refine j_aload_n (r := some a0) dX6_skips_12 rfl ?_
    refine kg_geti (a := a0) (j := 2) rfl gfX6_33 (by decide) hk1 dX6_skips_13 ?_
    refine jg_calli (rest := []) (kg_lkV (As := [.int (gi σ a0 2)]) (a := a0) (c := 4) kgX6_byteAt_4 (by decide) rfl hk1 q495 rfl rfl dX6_skips_16) cwX6_byteAt (Nat.le_of_ble_eq_true rfl) rfl dX6_skips_16 (Nat.succ_le_succ (Nat.zero_le _)) (h.mono (onI_mono (fun r3 t2 h hlt2 => ?_) (fun _ _ h => h)))
    replace h := h hlt2
    replace hk1 := hlt2.tag hk1 (by decide)
    refine j_istore_n (lv' := [some (va_rf (some a0)), some (.int r3), none]) dX6_skips_19 (by decide) rfl ?_
    refine j_iload_n dX6_skips_20 rfl ?_
    refine j_bipush (v := iI 10) dX6_skips_21 rfl ?_
    refine j_icmp_eq 40 dX6_skips_23 (by decide) (fun c6 => ?_) (fun c6 => ?_)
    · replace h := h.1 c6
      exact h
    · replace h := h.2 c6
      refine j_iload_n dX6_skips_26 rfl ?_
      refine j_bipush (v := iI 32) dX6_skips_27 rfl ?_
      refine j_icmp_eq 40 dX6_skips_29 (by decide) (fun c5 => ?_) (fun c5 => ?_)
      · replace h := h.1 c5
        exact h
      · replace h := h.2 c5
        refine j_iload_n dX6_skips_32 rfl ?_
        refine j_bipush (v := iI 123) dX6_skips_33 rfl ?_
        refine j_icmp_eq 40 dX6_skips_35 (by decide) (fun c4 => ?_) (fun c4 => ?_)
        · replace h := h.1 c4
          exact h
        · replace h := h.2 c4
          refine j_iconst (v := iI 0) dX6_skips_38 rfl ?_
          exact j_ireturn (ty := .boolean) rfl rfl dX6_skips_39 h
theorem tX6_skips_40 {G : GPl} {s0 : State} {l : Launch} {K : Nat → Option Nat} {T : Nat → Nat} {lev : Nat} {st0 : GSt} {Q : Outcome → GSt → Prop} {a0 : Nat} {x1 : Int32} {σ : GSt} (h : (gk σ a0 = 5 ∧ jX6_skips_47 G s0 l K T lev st0 Q a0 x1 ((gi σ a0 2) + (iI 1)) σ)) : jX6_skips_40 G s0 l K T lev st0 Q a0 x1 σ := by
  refine j_aload_n (r := some a0) dX6_skips_40 rfl ?_
  obtain ⟨hk1, h⟩ := h
  refine kg_geti (a := a0) (j := 2) rfl gfX6_33 (by decide) hk1 dX6_skips_41 ?_
  refine j_iconst (v := iI 1) dX6_skips_44 rfl ?_
  refine j_iadd dX6_skips_45 ?_
  refine j_istore_n (lv' := [some (va_rf (some a0)), some (.int x1), some (.int ((gi σ a0 2) + (iI 1)))]) dX6_skips_46 (by decide) rfl ?_
  exact h
theorem tX6_skips_47 {G : GPl} {s0 : State} {l : Launch} {K : Nat → Option Nat} {T : Nat → Nat} {lev : Nat} {st0 : GSt} {Q : Outcome → GSt → Prop} {a0 : Nat} {x1 : Int32} {x2 : Int32} {σ : GSt} (h : ((x1 = (iI 123) → (gk σ a0 = 5 ∧ (((gi σ a0 1) ≤ x2 → jX6_skips_77 G s0 l K T lev st0 Q a0 x1 x2 σ) ∧ (¬ (gi σ a0 1) ≤ x2 → (CQ (wP G s0 l K T) mX6_byteAt lev (.ref a0 :: [.int x2]) σ (onI (fun r3 t2 => gle σ t2 → ((r3 = (iI 125) → jX6_skips_77 G s0 l K T lev st0 Q a0 x1 x2 t2) ∧ (¬ r3 = (iI 125) → jX6_skips_47 G s0 l K T lev st0 Q a0 x1 (x2 + iI 1) t2))) (fun x t => gle σ t → Q (.threw x) t))))))) ∧ (¬ x1 = (iI 123) → jX6_skips_77 G s0 l K T lev st0 Q a0 x1 x2 σ))) : jX6_skips_47 G s0 l K T lev st0 Q a0 x1 x2 σ := by
  refine j_iload_n dX6_skips_47 rfl ?_
  refine j_bipush (v := iI 123) dX6_skips_48 rfl ?_
  refine j_icmp_ne 77 dX6_skips_50 (by decide) (fun c6 => ?_) (fun c6 => ?_)
  · replace h := h.2 c6
    exact h
  · replace h := h.1 c6
    refine j_iload_n dX6_skips_53 rfl ?_
    refine j_aload_n (r := some a0) dX6_skips_54 rfl ?_
    obtain ⟨hk1, h⟩ := h
    refine kg_geti (a := a0) (j := 1) rfl gfX6_25 (by decide) hk1 dX6_skips_55 ?_
    refine j_icmp_ge 77 dX6_skips_58 (by decide) (fun c5 => ?_) (fun c5 => ?_)
    · replace h := h.1 c5
      exact h
    · replace h := h.2 c5
      refine j_aload_n (r := some a0) dX6_skips_61 rfl ?_
      refine j_iload_n dX6_skips_62 rfl ?_
      refine jg_calli (rest := []) (kg_lkV (As := [.int x2]) (a := a0) (c := 4) kgX6_byteAt_4 (by decide) rfl hk1 q495 rfl rfl dX6_skips_63) cwX6_byteAt (Nat.le_of_ble_eq_true rfl) rfl dX6_skips_63 (Nat.succ_le_succ (Nat.zero_le _)) (h.mono (onI_mono (fun r3 t2 h hlt2 => ?_) (fun _ _ h => h)))
      replace h := h hlt2
      replace hk1 := hlt2.tag hk1 (by decide)
      refine j_bipush (v := iI 125) dX6_skips_66 rfl ?_
      refine j_icmp_eq 77 dX6_skips_68 (by decide) (fun c4 => ?_) (fun c4 => ?_)
      · replace h := h.1 c4
        exact h
      · replace h := h.2 c4
        refine j_iinc (lv' := [some (va_rf (some a0)), some (.int x1), some (.int (x2 + iI 1))]) dX6_skips_71 rfl (by decide) rfl ?_
        refine j_goto 47 dX6_skips_74 (by decide) ?_
        exact h
theorem tX6_skips_77 {G : GPl} {s0 : State} {l : Launch} {K : Nat → Option Nat} {T : Nat → Nat} {lev : Nat} {st0 : GSt} {Q : Outcome → GSt → Prop} {a0 : Nat} {x1 : Int32} {x2 : Int32} {σ : GSt} (h : ((x1 = (iI 123) → (gk σ a0 = 5 ∧ ((x2 = (gi σ a0 1) → Q (.returned (some (.int (iI 1)))) σ) ∧ (¬ x2 = (gi σ a0 1) → jX6_skips_93 G s0 l K T lev st0 Q a0 x1 x2 σ)))) ∧ (¬ x1 = (iI 123) → jX6_skips_93 G s0 l K T lev st0 Q a0 x1 x2 σ))) : jX6_skips_77 G s0 l K T lev st0 Q a0 x1 x2 σ := by
  refine j_iload_n dX6_skips_77 rfl ?_
  refine j_bipush (v := iI 123) dX6_skips_78 rfl ?_
  refine j_icmp_ne 93 dX6_skips_80 (by decide) (fun c3 => ?_) (fun c3 => ?_)
  · replace h := h.2 c3
    exact h
  · replace h := h.1 c3
    refine j_iload_n dX6_skips_83 rfl ?_
    refine j_aload_n (r := some a0) dX6_skips_84 rfl ?_
    obtain ⟨hk1, h⟩ := h
    refine kg_geti (a := a0) (j := 1) rfl gfX6_25 (by decide) hk1 dX6_skips_85 ?_
    refine j_icmp_ne 93 dX6_skips_88 (by decide) (fun c2 => ?_) (fun c2 => ?_)
    · replace h := h.2 c2
      exact h
    · replace h := h.1 c2
      refine j_iconst (v := iI 1) dX6_skips_91 rfl ?_
      exact j_ireturn (ty := .boolean) rfl rfl dX6_skips_92 h
theorem tX6_skips_93 {G : GPl} {s0 : State} {l : Launch} {K : Nat → Option Nat} {T : Nat → Nat} {lev : Nat} {st0 : GSt} {Q : Outcome → GSt → Prop} {a0 : Nat} {x1 : Int32} {x2 : Int32} {σ : GSt} (h : ((x1 = (iI 123) → (gk σ a0 = 5 ∧ jX6_skips_0 G s0 l K T lev st0 Q a0 (gpi a0 2 (x2 + (iI 1)) σ))) ∧ (¬ x1 = (iI 123) → (gk σ a0 = 5 ∧ jX6_skips_0 G s0 l K T lev st0 Q a0 (gpi a0 2 x2 σ))))) : jX6_skips_93 G s0 l K T lev st0 Q a0 x1 x2 σ := by
  refine j_aload_n (r := some a0) dX6_skips_93 rfl ?_
  refine j_iload_n dX6_skips_94 rfl ?_
  refine j_bipush (v := iI 123) dX6_skips_95 rfl ?_
  refine j_icmp_ne 106 dX6_skips_97 (by decide) (fun c3 => ?_) (fun c3 => ?_)
  · replace h := h.2 c3
    refine j_iload_n dX6_skips_106 rfl ?_
    obtain ⟨hk1, h⟩ := h
    refine kg_puti (a := a0) rfl gfX6_33 (Or.inl rfl) hk1 (Or.inl (by decide)) dX6_skips_107 ?_
    refine j_goto 0 dX6_skips_110 (by decide) ?_
    exact j_mask [true, false, false] rfl h
  · replace h := h.1 c3
    refine j_iload_n dX6_skips_100 rfl ?_
    refine j_iconst (v := iI 1) dX6_skips_101 rfl ?_
    refine j_iadd dX6_skips_102 ?_
    refine j_goto 107 dX6_skips_103 (by decide) ?_
    obtain ⟨hk2, h⟩ := h
    refine kg_puti (a := a0) rfl gfX6_33 (Or.inl rfl) hk2 (Or.inl (by decide)) dX6_skips_107 ?_
    refine j_goto 0 dX6_skips_110 (by decide) ?_
    exact j_mask [true, false, false] rfl h
theorem tX6_byteAt {G : GPl} {s0 : State} {l : Launch} {K : Nat → Option Nat} {T : Nat → Nat} {lev : Nat} {Q : Outcome → GSt → Prop} {a0 : Nat} {x1 : Int32} {σ : GSt} (h : (gk σ a0 = 5 ∧ (((gi σ a0 1) ≤ x1 → Q (.returned (some (.int (iI 0)))) σ) ∧ (¬ (gi σ a0 1) ≤ x1 → (∃ a2, gr σ a0 0 = some a2 ∧ (gk σ a2 = 102 ∧ (inr x1 (gl σ a2) ∧ Q (.returned (some (.int ((gi σ a2 (ix x1)) &&& (iI 255))))) σ))))))) : CQ (wP G s0 l K T) mX6_byteAt (lev + 1) [.ref a0, .int x1] σ Q := by
  refine CQ.of3 0 (lv := [some (va_rf (some a0)), some (.int x1)]) (by decide) (Nat.le_of_ble_eq_true rfl) (cat1_cons rfl (cat1_cons rfl cat1_nil)) rfl ?_
  refine j_iload_n dX6_byteAt_0 rfl ?_
  refine j_aload_n (r := some a0) dX6_byteAt_1 rfl ?_
  obtain ⟨hk1, h⟩ := h
  refine kg_geti (a := a0) (j := 1) rfl gfX6_25 (by decide) hk1 dX6_byteAt_2 ?_
  refine j_icmp_ge 21 dX6_byteAt_5 (by decide) (fun c5 => ?_) (fun c5 => ?_)
  · replace h := h.1 c5
    refine j_iconst (v := iI 0) dX6_byteAt_21 rfl ?_
    exact j_ireturn (ty := .int) rfl rfl dX6_byteAt_22 h
  · replace h := h.2 c5
    refine j_aload_n (r := some a0) dX6_byteAt_8 rfl ?_
    refine kg_getr (a := a0) (j := 0) rfl gfX6_21 hk1 dX6_byteAt_9 ?_
    refine j_iload_n dX6_byteAt_12 rfl ?_
    obtain ⟨a2, ea2, hk3, hi4, h⟩ := h
    refine kg_bald (a := a2) ea2 hk3 hi4 dX6_byteAt_13 ?_
    refine j_sipush (v := iI 255) dX6_byteAt_14 rfl ?_
    refine j_iand dX6_byteAt_17 ?_
    refine j_goto 22 dX6_byteAt_18 (by decide) ?_
    exact j_ireturn (ty := .int) rfl rfl dX6_byteAt_22 h
abbrev jX6_isLetter_12 (G : GPl) (s0 : State) (l : Launch) (K : Nat → Option Nat) (T : Nat → Nat) (lev : Nat) (st0 : GSt) (Q : Outcome → GSt → Prop) (x0 : Int32) (σ : GSt) : Prop := JQ (wP G s0 l K T) mX6_isLetter (lev + 1) st0 12 [some (.int x0)] [] σ Q
abbrev jX6_isLetter_24 (G : GPl) (s0 : State) (l : Launch) (K : Nat → Option Nat) (T : Nat → Nat) (lev : Nat) (st0 : GSt) (Q : Outcome → GSt → Prop) (x0 : Int32) (σ : GSt) : Prop := JQ (wP G s0 l K T) mX6_isLetter (lev + 1) st0 24 [some (.int x0)] [] σ Q
theorem tX6_isLetter {G : GPl} {s0 : State} {l : Launch} {K : Nat → Option Nat} {T : Nat → Nat} {lev : Nat} {Q : Outcome → GSt → Prop} {x0 : Int32} {σ : GSt} (h : ((x0 < (iI 97) → jX6_isLetter_12 G s0 l K T lev σ Q x0 σ) ∧ (¬ x0 < (iI 97) → ((x0 ≤ (iI 122) → jX6_isLetter_24 G s0 l K T lev σ Q x0 σ) ∧ (¬ x0 ≤ (iI 122) → jX6_isLetter_12 G s0 l K T lev σ Q x0 σ))))) : CQ (wP G s0 l K T) mX6_isLetter (lev + 1) [.int x0] σ Q := by
  refine CQ.of3 0 (lv := [some (.int x0)]) (by decide) (Nat.le_of_ble_eq_true rfl) (cat1_cons rfl cat1_nil) rfl ?_
  refine j_iload_n dX6_isLetter_0 rfl ?_
  refine j_bipush (v := iI 97) dX6_isLetter_1 rfl ?_
  refine j_icmp_lt 12 dX6_isLetter_3 (by decide) (fun c2 => ?_) (fun c2 => ?_)
  · replace h := h.1 c2
    exact h
  · replace h := h.2 c2
    refine j_iload_n dX6_isLetter_6 rfl ?_
    refine j_bipush (v := iI 122) dX6_isLetter_7 rfl ?_
    refine j_icmp_le 24 dX6_isLetter_9 (by decide) (fun c1 => ?_) (fun c1 => ?_)
    · replace h := h.1 c1
      exact h
    · replace h := h.2 c1
      exact h
theorem tX6_isLetter_12 {G : GPl} {s0 : State} {l : Launch} {K : Nat → Option Nat} {T : Nat → Nat} {lev : Nat} {st0 : GSt} {Q : Outcome → GSt → Prop} {x0 : Int32} {σ : GSt} (h : ((x0 < (iI 65) → Q (.returned (some (.int (iI 0)))) σ) ∧ (¬ x0 < (iI 65) → (((iI 90) < x0 → Q (.returned (some (.int (iI 0)))) σ) ∧ (¬ (iI 90) < x0 → jX6_isLetter_24 G s0 l K T lev st0 Q x0 σ))))) : jX6_isLetter_12 G s0 l K T lev st0 Q x0 σ := by
  refine j_iload_n dX6_isLetter_12 rfl ?_
  refine j_bipush (v := iI 65) dX6_isLetter_13 rfl ?_
  refine j_icmp_lt 28 dX6_isLetter_15 (by decide) (fun c2 => ?_) (fun c2 => ?_)
  · replace h := h.1 c2
    refine j_iconst (v := iI 0) dX6_isLetter_28 rfl ?_
    exact j_ireturn (ty := .boolean) rfl rfl dX6_isLetter_29 h
  · replace h := h.2 c2
    refine j_iload_n dX6_isLetter_18 rfl ?_
    refine j_bipush (v := iI 90) dX6_isLetter_19 rfl ?_
    refine j_icmp_gt 28 dX6_isLetter_21 (by decide) (fun c1 => ?_) (fun c1 => ?_)
    · replace h := h.1 c1
      refine j_iconst (v := iI 0) dX6_isLetter_28 rfl ?_
      exact j_ireturn (ty := .boolean) rfl rfl dX6_isLetter_29 h
    · replace h := h.2 c1
      exact h
theorem tX6_isLetter_24 {G : GPl} {s0 : State} {l : Launch} {K : Nat → Option Nat} {T : Nat → Nat} {lev : Nat} {st0 : GSt} {Q : Outcome → GSt → Prop} {x0 : Int32} {σ : GSt} (h : Q (.returned (some (.int (iI 1)))) σ) : jX6_isLetter_24 G s0 l K T lev st0 Q x0 σ := by
  refine j_iconst (v := iI 1) dX6_isLetter_24 rfl ?_
  refine j_goto 29 dX6_isLetter_25 (by decide) ?_
  exact j_ireturn (ty := .boolean) rfl rfl dX6_isLetter_29 h
abbrev jX6_name_10 (G : GPl) (s0 : State) (l : Launch) (K : Nat → Option Nat) (T : Nat → Nat) (lev : Nat) (st0 : GSt) (Q : Outcome → GSt → Prop) (a0 : Nat) (x1 : Option Nat) (σ : GSt) : Prop := JQ (wP G s0 l K T) mX6_name (lev + 1) st0 10 [some (va_rf (some a0)), some (va_rf x1)] [] σ Q
abbrev jX6_name_47 (G : GPl) (s0 : State) (l : Launch) (K : Nat → Option Nat) (T : Nat → Nat) (lev : Nat) (st0 : GSt) (Q : Outcome → GSt → Prop) (a0 : Nat) (x1 : Option Nat) (σ : GSt) : Prop := JQ (wP G s0 l K T) mX6_name (lev + 1) st0 47 [some (va_rf (some a0)), some (va_rf x1)] [] σ Q
theorem tX6_name {G : GPl} {s0 : State} {l : Launch} {K : Nat → Option Nat} {T : Nat → Nat} {lev : Nat} {Q : Outcome → GSt → Prop} {a0 : Nat} {σ : GSt} (h : (groom G 4 σ ∧ (CQ (wP G s0 l K T) mJ13_init lev (.ref (gn σ) :: [.int (iI 12)]) (gmk 24 4 σ) (onV (fun t3 => gle (gmk 24 4 σ) t3 → jX6_name_10 G s0 l K T lev σ Q a0 (some (gn σ)) t3) (fun x t => gle (gmk 24 4 σ) t → Q (.threw x) t))))) : CQ (wP G s0 l K T) mX6_name (lev + 1) [.ref a0] σ Q := by
  refine CQ.of3 1 (lv := [some (va_rf (some a0)), none]) (by decide) (Nat.le_of_ble_eq_true rfl) (cat1_cons rfl cat1_nil) rfl ?_
  obtain ⟨hg1, h⟩ := h
  refine jg_new (c := 23) (N := 4) (C := "java/lang/StringBuilder") (by decide) ⟨rfl, rfl⟩ q510 q511 q133 hg1 dX6_name_0 ?_
  have hk2 := gk_new (t := 24) (n := 4) hg1.2.2
  refine j_dup dX6_name_3 rfl ?_
  refine j_bipush (v := iI 12) dX6_name_4 rfl ?_
  refine jg_callv (rest := [va_rf (some (gn σ))]) (kg_lkI (As := [.int (iI 12)]) (a := (gn σ)) kiJ13_init (Or.inl q512) rfl rfl dX6_name_6) cwJ13_init (Nat.le_of_ble_eq_true rfl) rfl dX6_name_6 (Nat.succ_le_succ (Nat.zero_le _)) (h.mono (onV_mono (fun t3 h hlt3 => ?_) (fun _ _ h => h)))
  replace h := h hlt3
  replace hk2 := hlt3.tag hk2 (by decide)
  refine j_astore_n (r := some (gn σ)) (lv' := [some (va_rf (some a0)), some (va_rf (some (gn σ)))]) dX6_name_9 (by decide) rfl ?_
  exact h
theorem tX6_name_10 {G : GPl} {s0 : State} {l : Launch} {K : Nat → Option Nat} {T : Nat → Nat} {lev : Nat} {st0 : GSt} {Q : Outcome → GSt → Prop} {a0 : Nat} {x1 : Option Nat} {σ : GSt} (h : (gk σ a0 = 5 ∧ (CQ (wP G s0 l K T) mX6_byteAt lev (.ref a0 :: [.int (gi σ a0 2)]) σ (onI (fun r3 t2 => gle σ t2 → (CQ (wP G s0 l K T) mX6_isMore lev [.int r3] t2 (onI (fun r5 t4 => gle t2 t4 → ((r5 = 0 → ((((gi t4 a0 2) - (gi t4 a0 3)) ≤ (iI 12) → (∃ a6, x1 = some a6 ∧ (gk (gpr a0 7 (K 0) t4) a6 = 24 ∧ (CQ (wP G s0 l K T) mJ13_toString lev (.ref a6 :: []) (gpr a0 7 (K 0) t4) (onR (fun r9 t8 => gle (gpr a0 7 (K 0) t4) t8 → (((gr (gpr a0 6 r9 t8) a0 7) = (K 0) → (CQ (wP G s0 l K T) mX6_isKept lev [va_rf (gr (gpr a0 6 r9 t8) a0 6)] (gpr a0 6 r9 t8) (onI (fun r11 t10 => gle (gpr a0 6 r9 t8) t10 → ((r11 = 0 → Q (.returned none) t10) ∧ (¬ r11 = 0 → Q (.returned none) (gpr a0 7 (K 1) t10)))) (fun x t => gle (gpr a0 6 r9 t8) t → Q (.threw x) t)))) ∧ (¬ (gr (gpr a0 6 r9 t8) a0 7) = (K 0) → Q (.returned none) (gpr a0 6 r9 t8)))) (fun x t => gle (gpr a0 7 (K 0) t4) t → Q (.threw x) t)))))) ∧ (¬ ((gi t4 a0 2) - (gi t4 a0 3)) ≤ (iI 12) → (∃ a14, x1 = some a14 ∧ (gk (gpr a0 7 (K 3) t4) a14 = 24 ∧ (CQ (wP G s0 l K T) mJ13_toString lev (.ref a14 :: []) (gpr a0 7 (K 3) t4) (onR (fun r17 t16 => gle (gpr a0 7 (K 3) t4) t16 → (((gr (gpr a0 6 r17 t16) a0 7) = (K 0) → (CQ (wP G s0 l K T) mX6_isKept lev [va_rf (gr (gpr a0 6 r17 t16) a0 6)] (gpr a0 6 r17 t16) (onI (fun r19 t18 => gle (gpr a0 6 r17 t16) t18 → ((r19 = 0 → Q (.returned none) t18) ∧ (¬ r19 = 0 → Q (.returned none) (gpr a0 7 (K 1) t18)))) (fun x t => gle (gpr a0 6 r17 t16) t → Q (.threw x) t)))) ∧ (¬ (gr (gpr a0 6 r17 t16) a0 7) = (K 0) → Q (.returned none) (gpr a0 6 r17 t16)))) (fun x t => gle (gpr a0 7 (K 3) t4) t → Q (.threw x) t)))))))) ∧ (¬ r5 = 0 → (∃ a23, x1 = some a23 ∧ (gk t4 a23 = 24 ∧ (CQ (wP G s0 l K T) mJ13_length lev (.ref a23 :: []) t4 (onI (fun r26 t25 => gle t4 t25 → (((iI 12) ≤ r26 → jX6_name_47 G s0 l K T lev st0 Q a0 x1 t25) ∧ (¬ (iI 12) ≤ r26 → (CQ (wP G s0 l K T) mX6_byteAt lev (.ref a0 :: [.int (gi t25 a0 2)]) t25 (onI (fun r28 t27 => gle t25 t27 → (CQ (wP G s0 l K T) mJ13_append lev (.ref a23 :: [.int ((r28.toUInt32 % 65536).toInt32)]) t27 (onR (fun r30 t29 => gle t27 t29 → jX6_name_47 G s0 l K T lev st0 Q a0 x1 t29) (fun x t => gle t27 t → Q (.threw x) t)))) (fun x t => gle t25 t → Q (.threw x) t)))))) (fun x t => gle t4 t → Q (.threw x) t)))))))) (fun x t => gle t2 t → Q (.threw x) t)))) (fun x t => gle σ t → Q (.threw x) t))))) : jX6_name_10 G s0 l K T lev st0 Q a0 x1 σ := by
  refine j_aload_n (r := some a0) dX6_name_10 rfl ?_
  refine j_aload_n (r := some a0) dX6_name_11 rfl ?_
  obtain ⟨hk1, h⟩ := h
  refine kg_geti (a := a0) (j := 2) rfl gfX6_33 (by decide) hk1 dX6_name_12 ?_
  refine jg_calli (rest := []) (kg_lkV (As := [.int (gi σ a0 2)]) (a := a0) (c := 4) kgX6_byteAt_4 (by decide) rfl hk1 q495 rfl rfl dX6_name_15) cwX6_byteAt (Nat.le_of_ble_eq_true rfl) rfl dX6_name_15 (Nat.succ_le_succ (Nat.zero_le _)) (h.mono (onI_mono (fun r3 t2 h hlt2 => ?_) (fun _ _ h => h)))
  replace h := h hlt2
  replace hk1 := hlt2.tag hk1 (by decide)
  refine jg_calli (rest := []) (kg_lkS (As := [.int r3]) ktX6_isMore q541 rfl rfl dX6_name_18) cwX6_isMore (Nat.le_of_ble_eq_true rfl) rfl dX6_name_18 (Nat.succ_le_succ (Nat.zero_le _)) (h.mono (onI_mono (fun r5 t4 h hlt4 => ?_) (fun _ _ h => h)))
  replace h := h hlt4
  replace hk1 := hlt4.tag hk1 (by decide)
  refine j_if_eq 60 dX6_name_21 (by decide) (fun c32 => ?_) (fun c32 => ?_)
  · replace h := h.1 c32
    refine j_aload_n (r := some a0) dX6_name_60 rfl ?_
    refine j_aload_n (r := some a0) dX6_name_61 rfl ?_
    refine kg_geti (a := a0) (j := 2) rfl gfX6_33 (by decide) hk1 dX6_name_62 ?_
    refine j_aload_n (r := some a0) dX6_name_65 rfl ?_
    refine kg_geti (a := a0) (j := 3) rfl gfX6_44 (by decide) hk1 dX6_name_66 ?_
    refine j_isub dX6_name_69 ?_
    refine j_bipush (v := iI 12) dX6_name_70 rfl ?_
    refine j_icmp_le 81 dX6_name_72 (by decide) (fun c22 => ?_) (fun c22 => ?_)
    · replace h := h.1 c22
      refine jg_gets (i := 0) rfl flX6_84 dX6_name_81 ?_
      refine kg_putr (a := a0) (x := K 0) rfl gfX6_53 (Or.inl rfl) hk1 (Or.inl (by decide)) dX6_name_84 ?_
      refine j_aload_n (r := some a0) dX6_name_87 rfl ?_
      refine j_aload_n (r := x1) dX6_name_88 rfl ?_
      obtain ⟨a6, ea6, hk7, h⟩ := h
      refine jg_callr (rest := [va_rf (some a0)]) (kg_lkV (As := []) (a := a6) (c := 23) kgJ13_toString_23 (by decide) rfl hk7 q650 rfl (by rw [ea6]; rfl) dX6_name_89) cwJ13_toString (Nat.le_of_ble_eq_true rfl) rfl dX6_name_89 (Nat.succ_le_succ (Nat.zero_le _)) (h.mono (onR_mono (fun r9 t8 h hlt8 => ?_) (fun _ _ h => h)))
      replace h := h hlt8
      replace hk1 := hlt8.tag hk1 (by decide)
      replace hk7 := hlt8.tag hk7 (by decide)
      refine kg_putr (a := a0) (x := r9) rfl gfX6_91 (Or.inl rfl) hk1 (Or.inl (by decide)) dX6_name_92 ?_
      refine j_aload_n (r := some a0) dX6_name_95 rfl ?_
      refine kg_getr (a := a0) (j := 7) rfl gfX6_53 hk1 dX6_name_96 ?_
      refine jg_gets (i := 0) rfl flX6_84 dX6_name_99 ?_
      refine j_acmp_ne (x := gr (gpr a0 6 r9 t8) a0 7) (y := K 0) 122 dX6_name_102 (by decide) (fun c13 => ?_) (fun c13 => ?_)
      · replace h := h.2 c13
        exact j_return rfl dX6_name_122 h
      · replace h := h.1 c13
        refine j_aload_n (r := some a0) dX6_name_105 rfl ?_
        refine kg_getr (a := a0) (j := 6) rfl gfX6_91 hk1 dX6_name_106 ?_
        refine jg_calli (rest := []) (kg_lkS (As := [va_rf (gr (gpr a0 6 r9 t8) a0 6)]) ktX6_isKept q796 rfl rfl dX6_name_109) cwX6_isKept (Nat.le_of_ble_eq_true rfl) rfl dX6_name_109 (Nat.succ_le_succ (Nat.zero_le _)) (h.mono (onI_mono (fun r11 t10 h hlt10 => ?_) (fun _ _ h => h)))
        replace h := h hlt10
        replace hk1 := hlt10.tag hk1 (by decide)
        replace hk7 := hlt10.tag hk7 (by decide)
        refine j_if_eq 122 dX6_name_112 (by decide) (fun c12 => ?_) (fun c12 => ?_)
        · replace h := h.1 c12
          exact j_return rfl dX6_name_122 h
        · replace h := h.2 c12
          refine j_aload_n (r := some a0) dX6_name_115 rfl ?_
          refine jg_gets (i := 1) rfl flX6_99 dX6_name_116 ?_
          refine kg_putr (a := a0) (x := K 1) rfl gfX6_53 (Or.inl rfl) hk1 (Or.inl (by decide)) dX6_name_119 ?_
          exact j_return rfl dX6_name_122 h
    · replace h := h.2 c22
      refine jg_gets (i := 3) rfl flX6_81 dX6_name_75 ?_
      refine j_goto 84 dX6_name_78 (by decide) ?_
      refine kg_putr (a := a0) (x := K 3) rfl gfX6_53 (Or.inl rfl) hk1 (Or.inl (by decide)) dX6_name_84 ?_
      refine j_aload_n (r := some a0) dX6_name_87 rfl ?_
      refine j_aload_n (r := x1) dX6_name_88 rfl ?_
      obtain ⟨a14, ea14, hk15, h⟩ := h
      refine jg_callr (rest := [va_rf (some a0)]) (kg_lkV (As := []) (a := a14) (c := 23) kgJ13_toString_23 (by decide) rfl hk15 q650 rfl (by rw [ea14]; rfl) dX6_name_89) cwJ13_toString (Nat.le_of_ble_eq_true rfl) rfl dX6_name_89 (Nat.succ_le_succ (Nat.zero_le _)) (h.mono (onR_mono (fun r17 t16 h hlt16 => ?_) (fun _ _ h => h)))
      replace h := h hlt16
      replace hk1 := hlt16.tag hk1 (by decide)
      replace hk15 := hlt16.tag hk15 (by decide)
      refine kg_putr (a := a0) (x := r17) rfl gfX6_91 (Or.inl rfl) hk1 (Or.inl (by decide)) dX6_name_92 ?_
      refine j_aload_n (r := some a0) dX6_name_95 rfl ?_
      refine kg_getr (a := a0) (j := 7) rfl gfX6_53 hk1 dX6_name_96 ?_
      refine jg_gets (i := 0) rfl flX6_84 dX6_name_99 ?_
      refine j_acmp_ne (x := gr (gpr a0 6 r17 t16) a0 7) (y := K 0) 122 dX6_name_102 (by decide) (fun c21 => ?_) (fun c21 => ?_)
      · replace h := h.2 c21
        exact j_return rfl dX6_name_122 h
      · replace h := h.1 c21
        refine j_aload_n (r := some a0) dX6_name_105 rfl ?_
        refine kg_getr (a := a0) (j := 6) rfl gfX6_91 hk1 dX6_name_106 ?_
        refine jg_calli (rest := []) (kg_lkS (As := [va_rf (gr (gpr a0 6 r17 t16) a0 6)]) ktX6_isKept q796 rfl rfl dX6_name_109) cwX6_isKept (Nat.le_of_ble_eq_true rfl) rfl dX6_name_109 (Nat.succ_le_succ (Nat.zero_le _)) (h.mono (onI_mono (fun r19 t18 h hlt18 => ?_) (fun _ _ h => h)))
        replace h := h hlt18
        replace hk1 := hlt18.tag hk1 (by decide)
        replace hk15 := hlt18.tag hk15 (by decide)
        refine j_if_eq 122 dX6_name_112 (by decide) (fun c20 => ?_) (fun c20 => ?_)
        · replace h := h.1 c20
          exact j_return rfl dX6_name_122 h
        · replace h := h.2 c20
          refine j_aload_n (r := some a0) dX6_name_115 rfl ?_
          refine jg_gets (i := 1) rfl flX6_99 dX6_name_116 ?_
          refine kg_putr (a := a0) (x := K 1) rfl gfX6_53 (Or.inl rfl) hk1 (Or.inl (by decide)) dX6_name_119 ?_
          exact j_return rfl dX6_name_122 h
  · replace h := h.2 c32
    refine j_aload_n (r := x1) dX6_name_24 rfl ?_
    obtain ⟨a23, ea23, hk24, h⟩ := h
    refine jg_calli (rest := []) (kg_lkV (As := []) (a := a23) (c := 23) kgJ13_length_23 (by decide) rfl hk24 q544 rfl (by rw [ea23]; rfl) dX6_name_25) cwJ13_length (Nat.le_of_ble_eq_true rfl) rfl dX6_name_25 (Nat.succ_le_succ (Nat.zero_le _)) (h.mono (onI_mono (fun r26 t25 h hlt25 => ?_) (fun _ _ h => h)))
    replace h := h hlt25
    replace hk1 := hlt25.tag hk1 (by decide)
    replace hk24 := hlt25.tag hk24 (by decide)
    refine j_bipush (v := iI 12) dX6_name_28 rfl ?_
    refine j_icmp_ge 47 dX6_name_30 (by decide) (fun c31 => ?_) (fun c31 => ?_)
    · replace h := h.1 c31
      exact h
    · replace h := h.2 c31
      refine j_aload_n (r := x1) dX6_name_33 rfl ?_
      refine j_aload_n (r := some a0) dX6_name_34 rfl ?_
      refine j_aload_n (r := some a0) dX6_name_35 rfl ?_
      refine kg_geti (a := a0) (j := 2) rfl gfX6_33 (by decide) hk1 dX6_name_36 ?_
      refine jg_calli (rest := [va_rf x1]) (kg_lkV (As := [.int (gi t25 a0 2)]) (a := a0) (c := 4) kgX6_byteAt_4 (by decide) rfl hk1 q495 rfl rfl dX6_name_39) cwX6_byteAt (rm_ok (cat1_cons (rf_cat _) cat1_nil) (Nat.le_of_ble_eq_true rfl)) rfl dX6_name_39 (Nat.succ_le_succ (Nat.zero_le _)) (h.mono (onI_mono (fun r28 t27 h hlt27 => ?_) (fun _ _ h => h)))
      replace h := h hlt27
      replace hk1 := hlt27.tag hk1 (by decide)
      replace hk24 := hlt27.tag hk24 (by decide)
      refine j_i2c dX6_name_42 ?_
      refine jg_callr (rest := []) (kg_lkV (As := [.int ((r28.toUInt32 % 65536).toInt32)]) (a := a23) (c := 23) kgJ13_append_23 (by decide) rfl hk24 q551 rfl (by rw [ea23]; rfl) dX6_name_43) cwJ13_append (Nat.le_of_ble_eq_true rfl) rfl dX6_name_43 (Nat.succ_le_succ (Nat.zero_le _)) (h.mono (onR_mono (fun r30 t29 h hlt29 => ?_) (fun _ _ h => h)))
      replace h := h hlt29
      replace hk1 := hlt29.tag hk1 (by decide)
      replace hk24 := hlt29.tag hk24 (by decide)
      refine j_pop dX6_name_46 (rf_cat _) ?_
      exact h
theorem tX6_name_47 {G : GPl} {s0 : State} {l : Launch} {K : Nat → Option Nat} {T : Nat → Nat} {lev : Nat} {st0 : GSt} {Q : Outcome → GSt → Prop} {a0 : Nat} {x1 : Option Nat} {σ : GSt} (h : (gk σ a0 = 5 ∧ jX6_name_10 G s0 l K T lev st0 Q a0 x1 (gpi a0 2 ((gi σ a0 2) + (iI 1)) σ))) : jX6_name_47 G s0 l K T lev st0 Q a0 x1 σ := by
  refine j_aload_n (r := some a0) dX6_name_47 rfl ?_
  refine j_dup dX6_name_48 rfl ?_
  obtain ⟨hk1, h⟩ := h
  refine kg_geti (a := a0) (j := 2) rfl gfX6_33 (by decide) hk1 dX6_name_49 ?_
  refine j_iconst (v := iI 1) dX6_name_52 rfl ?_
  refine j_iadd dX6_name_53 ?_
  refine kg_puti (a := a0) rfl gfX6_33 (Or.inl rfl) hk1 (Or.inl (by decide)) dX6_name_54 ?_
  refine j_goto 10 dX6_name_57 (by decide) ?_
  exact h
abbrev jX6_isMore_19 (G : GPl) (s0 : State) (l : Launch) (K : Nat → Option Nat) (T : Nat → Nat) (lev : Nat) (st0 : GSt) (Q : Outcome → GSt → Prop) (x0 : Int32) (σ : GSt) : Prop := JQ (wP G s0 l K T) mX6_isMore (lev + 1) st0 19 [some (.int x0)] [] σ Q
abbrev jX6_isMore_25 (G : GPl) (s0 : State) (l : Launch) (K : Nat → Option Nat) (T : Nat → Nat) (lev : Nat) (st0 : GSt) (Q : Outcome → GSt → Prop) (x0 : Int32) (σ : GSt) : Prop := JQ (wP G s0 l K T) mX6_isMore (lev + 1) st0 25 [some (.int x0)] [] σ Q
theorem tX6_isMore {G : GPl} {s0 : State} {l : Launch} {K : Nat → Option Nat} {T : Nat → Nat} {lev : Nat} {Q : Outcome → GSt → Prop} {x0 : Int32} {σ : GSt} (h : (CQ (wP G s0 l K T) mX6_isLetter lev [.int x0] σ (onI (fun r2 t1 => gle σ t1 → ((r2 = 0 → ((x0 < (iI 48) → jX6_isMore_19 G s0 l K T lev σ Q x0 t1) ∧ (¬ x0 < (iI 48) → ((x0 ≤ (iI 57) → jX6_isMore_25 G s0 l K T lev σ Q x0 t1) ∧ (¬ x0 ≤ (iI 57) → jX6_isMore_19 G s0 l K T lev σ Q x0 t1))))) ∧ (¬ r2 = 0 → jX6_isMore_25 G s0 l K T lev σ Q x0 t1))) (fun x t => gle σ t → Q (.threw x) t)))) : CQ (wP G s0 l K T) mX6_isMore (lev + 1) [.int x0] σ Q := by
  refine CQ.of3 0 (lv := [some (.int x0)]) (by decide) (Nat.le_of_ble_eq_true rfl) (cat1_cons rfl cat1_nil) rfl ?_
  refine j_iload_n dX6_isMore_0 rfl ?_
  refine jg_calli (rest := []) (kg_lkS (As := [.int x0]) ktX6_isLetter q503 rfl rfl dX6_isMore_1) cwX6_isLetter (Nat.le_of_ble_eq_true rfl) rfl dX6_isMore_1 (Nat.succ_le_succ (Nat.zero_le _)) (h.mono (onI_mono (fun r2 t1 h hlt1 => ?_) (fun _ _ h => h)))
  replace h := h hlt1
  refine j_if_ne 25 dX6_isMore_4 (by decide) (fun c5 => ?_) (fun c5 => ?_)
  · replace h := h.2 c5
    exact h
  · replace h := h.1 c5
    refine j_iload_n dX6_isMore_7 rfl ?_
    refine j_bipush (v := iI 48) dX6_isMore_8 rfl ?_
    refine j_icmp_lt 19 dX6_isMore_10 (by decide) (fun c4 => ?_) (fun c4 => ?_)
    · replace h := h.1 c4
      exact h
    · replace h := h.2 c4
      refine j_iload_n dX6_isMore_13 rfl ?_
      refine j_bipush (v := iI 57) dX6_isMore_14 rfl ?_
      refine j_icmp_le 25 dX6_isMore_16 (by decide) (fun c3 => ?_) (fun c3 => ?_)
      · replace h := h.1 c3
        exact h
      · replace h := h.2 c3
        exact h
theorem tX6_isMore_19 {G : GPl} {s0 : State} {l : Launch} {K : Nat → Option Nat} {T : Nat → Nat} {lev : Nat} {st0 : GSt} {Q : Outcome → GSt → Prop} {x0 : Int32} {σ : GSt} (h : ((x0 = (iI 39) → jX6_isMore_25 G s0 l K T lev st0 Q x0 σ) ∧ (¬ x0 = (iI 39) → Q (.returned (some (.int (iI 0)))) σ))) : jX6_isMore_19 G s0 l K T lev st0 Q x0 σ := by
  refine j_iload_n dX6_isMore_19 rfl ?_
  refine j_bipush (v := iI 39) dX6_isMore_20 rfl ?_
  refine j_icmp_ne 29 dX6_isMore_22 (by decide) (fun c1 => ?_) (fun c1 => ?_)
  · replace h := h.2 c1
    refine j_iconst (v := iI 0) dX6_isMore_29 rfl ?_
    exact j_ireturn (ty := .boolean) rfl rfl dX6_isMore_30 h
  · replace h := h.1 c1
    exact h
theorem tX6_isMore_25 {G : GPl} {s0 : State} {l : Launch} {K : Nat → Option Nat} {T : Nat → Nat} {lev : Nat} {st0 : GSt} {Q : Outcome → GSt → Prop} {x0 : Int32} {σ : GSt} (h : Q (.returned (some (.int (iI 1)))) σ) : jX6_isMore_25 G s0 l K T lev st0 Q x0 σ := by
  refine j_iconst (v := iI 1) dX6_isMore_25 rfl ?_
  refine j_goto 30 dX6_isMore_26 (by decide) ?_
  exact j_ireturn (ty := .boolean) rfl rfl dX6_isMore_30 h
abbrev jX6_isKept_218 (G : GPl) (s0 : State) (l : Launch) (K : Nat → Option Nat) (T : Nat → Nat) (lev : Nat) (st0 : GSt) (Q : Outcome → GSt → Prop) (x0 : Option Nat) (x1 : Option Nat) (x2 : Int32) (σ : GSt) : Prop := JQ (wP G s0 l K T) mX6_isKept (lev + 1) st0 218 [some (va_rf x0), some (va_rf x1), some (.int x2)] [] σ Q
theorem tX6_isKept {G : GPl} {s0 : State} {l : Launch} {K : Nat → Option Nat} {T : Nat → Nat} {lev : Nat} {Q : Outcome → GSt → Prop} {x0 : Option Nat} {σ : GSt} (h : (∃ a1, x0 = some a1 ∧ (gk σ a1 = 23 ∧ (CQ (wP G s0 l K T) mJ3_hashCode lev (.ref a1 :: []) σ (onI (fun r4 t3 => gle σ t3 → ((r4 = iI 3365 → (CQ (wP G s0 l K T) mJ3_equals lev (.ref a1 :: [va_rf (some (T 12))]) t3 (onI (fun r6 t5 => gle t3 t5 → ((r6 = 0 → jX6_isKept_218 G s0 l K T lev σ Q x0 x0 (iI (-1)) t5) ∧ (¬ r6 = 0 → jX6_isKept_218 G s0 l K T lev σ Q x0 x0 (iI 8) t5))) (fun x t => gle t3 t → Q (.threw x) t)))) ∧ (r4 = iI 107035 → (CQ (wP G s0 l K T) mJ3_equals lev (.ref a1 :: [va_rf (some (T 11))]) t3 (onI (fun r9 t8 => gle t3 t8 → ((r9 = 0 → jX6_isKept_218 G s0 l K T lev σ Q x0 x0 (iI (-1)) t8) ∧ (¬ r9 = 0 → jX6_isKept_218 G s0 l K T lev σ Q x0 x0 (iI 7) t8))) (fun x t => gle t3 t → Q (.threw x) t)))) ∧ (r4 = iI 3198432 → (CQ (wP G s0 l K T) mJ3_equals lev (.ref a1 :: [va_rf (some (T 10))]) t3 (onI (fun r12 t11 => gle t3 t11 → ((r12 = 0 → jX6_isKept_218 G s0 l K T lev σ Q x0 x0 (iI (-1)) t11) ∧ (¬ r12 = 0 → jX6_isKept_218 G s0 l K T lev σ Q x0 x0 (iI 6) t11))) (fun x t => gle t3 t → Q (.threw x) t)))) ∧ (r4 = iI 3387324 → (CQ (wP G s0 l K T) mJ3_equals lev (.ref a1 :: [va_rf (some (T 8))]) t3 (onI (fun r15 t14 => gle t3 t14 → ((r15 = 0 → jX6_isKept_218 G s0 l K T lev σ Q x0 x0 (iI (-1)) t14) ∧ (¬ r15 = 0 → jX6_isKept_218 G s0 l K T lev σ Q x0 x0 (iI 4) t14))) (fun x t => gle t3 t → Q (.threw x) t)))) ∧ (r4 = iI 3512060 → (CQ (wP G s0 l K T) mJ3_equals lev (.ref a1 :: [va_rf (some (T 6))]) t3 (onI (fun r18 t17 => gle t3 t17 → ((r18 = 0 → jX6_isKept_218 G s0 l K T lev σ Q x0 x0 (iI (-1)) t17) ∧ (¬ r18 = 0 → jX6_isKept_218 G s0 l K T lev σ Q x0 x0 (iI 2) t17))) (fun x t => gle t3 t → Q (.threw x) t)))) ∧ (r4 = iI 3522662 → (CQ (wP G s0 l K T) mJ3_equals lev (.ref a1 :: [va_rf (some (T 9))]) t3 (onI (fun r21 t20 => gle t3 t20 → ((r21 = 0 → jX6_isKept_218 G s0 l K T lev σ Q x0 x0 (iI (-1)) t20) ∧ (¬ r21 = 0 → jX6_isKept_218 G s0 l K T lev σ Q x0 x0 (iI 5) t20))) (fun x t => gle t3 t → Q (.threw x) t)))) ∧ (r4 = iI 3536286 → (CQ (wP G s0 l K T) mJ3_equals lev (.ref a1 :: [va_rf (some (T 4))]) t3 (onI (fun r24 t23 => gle t3 t23 → ((r24 = 0 → jX6_isKept_218 G s0 l K T lev σ Q x0 x0 (iI (-1)) t23) ∧ (¬ r24 = 0 → jX6_isKept_218 G s0 l K T lev σ Q x0 x0 (iI 0) t23))) (fun x t => gle t3 t → Q (.threw x) t)))) ∧ (r4 = iI 93260912 → (CQ (wP G s0 l K T) mJ3_equals lev (.ref a1 :: [va_rf (some (T 5))]) t3 (onI (fun r27 t26 => gle t3 t26 → ((r27 = 0 → jX6_isKept_218 G s0 l K T lev σ Q x0 x0 (iI (-1)) t26) ∧ (¬ r27 = 0 → jX6_isKept_218 G s0 l K T lev σ Q x0 x0 (iI 1) t26))) (fun x t => gle t3 t → Q (.threw x) t)))) ∧ (r4 = iI 94627080 → (CQ (wP G s0 l K T) mJ3_equals lev (.ref a1 :: [va_rf (some (T 7))]) t3 (onI (fun r30 t29 => gle t3 t29 → ((r30 = 0 → jX6_isKept_218 G s0 l K T lev σ Q x0 x0 (iI (-1)) t29) ∧ (¬ r30 = 0 → jX6_isKept_218 G s0 l K T lev σ Q x0 x0 (iI 3) t29))) (fun x t => gle t3 t → Q (.threw x) t)))) ∧ (¬ r4 = iI 3365 → ¬ r4 = iI 107035 → ¬ r4 = iI 3198432 → ¬ r4 = iI 3387324 → ¬ r4 = iI 3512060 → ¬ r4 = iI 3522662 → ¬ r4 = iI 3536286 → ¬ r4 = iI 93260912 → ¬ r4 = iI 94627080 → jX6_isKept_218 G s0 l K T lev σ Q x0 x0 (iI (-1)) t3))) (fun x t => gle σ t → Q (.threw x) t)))))) : CQ (wP G s0 l K T) mX6_isKept (lev + 1) [va_rf x0] σ Q := by
  refine CQ.of3 2 (lv := [some (va_rf x0), none, none]) (by decide) (Nat.le_of_ble_eq_true rfl) (cat1_cons (rf_cat _) cat1_nil) rfl ?_
  refine j_aload_n (r := x0) dX6_isKept_0 rfl ?_
  refine j_astore_n (r := x0) (lv' := [some (va_rf x0), some (va_rf x0), none]) dX6_isKept_1 (by decide) rfl ?_
  refine j_iconst (v := iI (-1)) dX6_isKept_2 rfl ?_
  refine j_istore_n (lv' := [some (va_rf x0), some (va_rf x0), some (.int (iI (-1)))]) dX6_isKept_3 (by decide) rfl ?_
  refine j_aload_n (r := x0) dX6_isKept_4 rfl ?_
  obtain ⟨a1, ea1, hk2, h⟩ := h
  refine jg_calli (rest := []) (kg_lkV (As := []) (a := a1) (c := 22) kgJ3_hashCode_22 (by decide) rfl hk2 q799 rfl (by rw [ea1]; rfl) dX6_isKept_5) cwJ3_hashCode (Nat.le_of_ble_eq_true rfl) rfl dX6_isKept_5 (Nat.succ_le_succ (Nat.zero_le _)) (h.mono (onI_mono (fun r4 t3 h hlt3 => ?_) (fun _ _ h => h)))
  replace h := h hlt3
  replace hk2 := hlt3.tag hk2 (by decide)
  by_cases c32_0 : r4 = iI 3365
  · replace h := h.1 c32_0
    refine j_lookup (off := 198) 206 dX6_isKept_8 (by decide) (by rw [c32_0]; first | done | rfl) (by decide) ?_
    refine j_aload_n (r := x0) dX6_isKept_206 rfl ?_
    refine jg_ldcS (i := 12) rfl rfl dX6_isKept_207 ?_
    refine jg_calli (rest := []) (kg_lkV (As := [va_rf (some (T 12))]) (a := a1) (c := 22) kgJ3_equals_22 (by decide) rfl hk2 q861 rfl (by rw [ea1]; rfl) dX6_isKept_209) cwJ3_equals (Nat.le_of_ble_eq_true rfl) rfl dX6_isKept_209 (Nat.succ_le_succ (Nat.zero_le _)) (h.mono (onI_mono (fun r6 t5 h hlt5 => ?_) (fun _ _ h => h)))
    replace h := h hlt5
    replace hk2 := hlt5.tag hk2 (by decide)
    refine j_if_eq 218 dX6_isKept_212 (by decide) (fun c7 => ?_) (fun c7 => ?_)
    · replace h := h.1 c7
      exact h
    · replace h := h.2 c7
      refine j_bipush (v := iI 8) dX6_isKept_215 rfl ?_
      refine j_istore_n (lv' := [some (va_rf x0), some (va_rf x0), some (.int (iI 8))]) dX6_isKept_217 (by decide) rfl ?_
      exact h
  by_cases c32_1 : r4 = iI 107035
  · replace h := h.2.1 c32_1
    refine j_lookup (off := 183) 191 dX6_isKept_8 (by decide) (by rw [c32_1]; first | done | rfl) (by decide) ?_
    refine j_aload_n (r := x0) dX6_isKept_191 rfl ?_
    refine jg_ldcS (i := 11) rfl rfl dX6_isKept_192 ?_
    refine jg_calli (rest := []) (kg_lkV (As := [va_rf (some (T 11))]) (a := a1) (c := 22) kgJ3_equals_22 (by decide) rfl hk2 q861 rfl (by rw [ea1]; rfl) dX6_isKept_194) cwJ3_equals (Nat.le_of_ble_eq_true rfl) rfl dX6_isKept_194 (Nat.succ_le_succ (Nat.zero_le _)) (h.mono (onI_mono (fun r9 t8 h hlt8 => ?_) (fun _ _ h => h)))
    replace h := h hlt8
    replace hk2 := hlt8.tag hk2 (by decide)
    refine j_if_eq 218 dX6_isKept_197 (by decide) (fun c10 => ?_) (fun c10 => ?_)
    · replace h := h.1 c10
      exact h
    · replace h := h.2 c10
      refine j_bipush (v := iI 7) dX6_isKept_200 rfl ?_
      refine j_istore_n (lv' := [some (va_rf x0), some (va_rf x0), some (.int (iI 7))]) dX6_isKept_202 (by decide) rfl ?_
      refine j_goto 218 dX6_isKept_203 (by decide) ?_
      exact h
  by_cases c32_2 : r4 = iI 3198432
  · replace h := h.2.2.1 c32_2
    refine j_lookup (off := 168) 176 dX6_isKept_8 (by decide) (by rw [c32_2]; first | done | rfl) (by decide) ?_
    refine j_aload_n (r := x0) dX6_isKept_176 rfl ?_
    refine jg_ldcS (i := 10) rfl rfl dX6_isKept_177 ?_
    refine jg_calli (rest := []) (kg_lkV (As := [va_rf (some (T 10))]) (a := a1) (c := 22) kgJ3_equals_22 (by decide) rfl hk2 q861 rfl (by rw [ea1]; rfl) dX6_isKept_179) cwJ3_equals (Nat.le_of_ble_eq_true rfl) rfl dX6_isKept_179 (Nat.succ_le_succ (Nat.zero_le _)) (h.mono (onI_mono (fun r12 t11 h hlt11 => ?_) (fun _ _ h => h)))
    replace h := h hlt11
    replace hk2 := hlt11.tag hk2 (by decide)
    refine j_if_eq 218 dX6_isKept_182 (by decide) (fun c13 => ?_) (fun c13 => ?_)
    · replace h := h.1 c13
      exact h
    · replace h := h.2 c13
      refine j_bipush (v := iI 6) dX6_isKept_185 rfl ?_
      refine j_istore_n (lv' := [some (va_rf x0), some (va_rf x0), some (.int (iI 6))]) dX6_isKept_187 (by decide) rfl ?_
      refine j_goto 218 dX6_isKept_188 (by decide) ?_
      exact h
  by_cases c32_3 : r4 = iI 3387324
  · replace h := h.2.2.2.1 c32_3
    refine j_lookup (off := 140) 148 dX6_isKept_8 (by decide) (by rw [c32_3]; first | done | rfl) (by decide) ?_
    refine j_aload_n (r := x0) dX6_isKept_148 rfl ?_
    refine jg_ldcS (i := 8) rfl rfl dX6_isKept_149 ?_
    refine jg_calli (rest := []) (kg_lkV (As := [va_rf (some (T 8))]) (a := a1) (c := 22) kgJ3_equals_22 (by decide) rfl hk2 q861 rfl (by rw [ea1]; rfl) dX6_isKept_151) cwJ3_equals (Nat.le_of_ble_eq_true rfl) rfl dX6_isKept_151 (Nat.succ_le_succ (Nat.zero_le _)) (h.mono (onI_mono (fun r15 t14 h hlt14 => ?_) (fun _ _ h => h)))
    replace h := h hlt14
    replace hk2 := hlt14.tag hk2 (by decide)
    refine j_if_eq 218 dX6_isKept_154 (by decide) (fun c16 => ?_) (fun c16 => ?_)
    · replace h := h.1 c16
      exact h
    · replace h := h.2 c16
      refine j_iconst (v := iI 4) dX6_isKept_157 rfl ?_
      refine j_istore_n (lv' := [some (va_rf x0), some (va_rf x0), some (.int (iI 4))]) dX6_isKept_158 (by decide) rfl ?_
      refine j_goto 218 dX6_isKept_159 (by decide) ?_
      exact h
  by_cases c32_4 : r4 = iI 3512060
  · replace h := h.2.2.2.2.1 c32_4
    refine j_lookup (off := 112) 120 dX6_isKept_8 (by decide) (by rw [c32_4]; first | done | rfl) (by decide) ?_
    refine j_aload_n (r := x0) dX6_isKept_120 rfl ?_
    refine jg_ldcS (i := 6) rfl rfl dX6_isKept_121 ?_
    refine jg_calli (rest := []) (kg_lkV (As := [va_rf (some (T 6))]) (a := a1) (c := 22) kgJ3_equals_22 (by decide) rfl hk2 q861 rfl (by rw [ea1]; rfl) dX6_isKept_123) cwJ3_equals (Nat.le_of_ble_eq_true rfl) rfl dX6_isKept_123 (Nat.succ_le_succ (Nat.zero_le _)) (h.mono (onI_mono (fun r18 t17 h hlt17 => ?_) (fun _ _ h => h)))
    replace h := h hlt17
    replace hk2 := hlt17.tag hk2 (by decide)
    refine j_if_eq 218 dX6_isKept_126 (by decide) (fun c19 => ?_) (fun c19 => ?_)
    · replace h := h.1 c19
      exact h
    · replace h := h.2 c19
      refine j_iconst (v := iI 2) dX6_isKept_129 rfl ?_
      refine j_istore_n (lv' := [some (va_rf x0), some (va_rf x0), some (.int (iI 2))]) dX6_isKept_130 (by decide) rfl ?_
      refine j_goto 218 dX6_isKept_131 (by decide) ?_
      exact h
  by_cases c32_5 : r4 = iI 3522662
  · replace h := h.2.2.2.2.2.1 c32_5
    refine j_lookup (off := 154) 162 dX6_isKept_8 (by decide) (by rw [c32_5]; first | done | rfl) (by decide) ?_
    refine j_aload_n (r := x0) dX6_isKept_162 rfl ?_
    refine jg_ldcS (i := 9) rfl rfl dX6_isKept_163 ?_
    refine jg_calli (rest := []) (kg_lkV (As := [va_rf (some (T 9))]) (a := a1) (c := 22) kgJ3_equals_22 (by decide) rfl hk2 q861 rfl (by rw [ea1]; rfl) dX6_isKept_165) cwJ3_equals (Nat.le_of_ble_eq_true rfl) rfl dX6_isKept_165 (Nat.succ_le_succ (Nat.zero_le _)) (h.mono (onI_mono (fun r21 t20 h hlt20 => ?_) (fun _ _ h => h)))
    replace h := h hlt20
    replace hk2 := hlt20.tag hk2 (by decide)
    refine j_if_eq 218 dX6_isKept_168 (by decide) (fun c22 => ?_) (fun c22 => ?_)
    · replace h := h.1 c22
      exact h
    · replace h := h.2 c22
      refine j_iconst (v := iI 5) dX6_isKept_171 rfl ?_
      refine j_istore_n (lv' := [some (va_rf x0), some (va_rf x0), some (.int (iI 5))]) dX6_isKept_172 (by decide) rfl ?_
      refine j_goto 218 dX6_isKept_173 (by decide) ?_
      exact h
  by_cases c32_6 : r4 = iI 3536286
  · replace h := h.2.2.2.2.2.2.1 c32_6
    refine j_lookup (off := 84) 92 dX6_isKept_8 (by decide) (by rw [c32_6]; first | done | rfl) (by decide) ?_
    refine j_aload_n (r := x0) dX6_isKept_92 rfl ?_
    refine jg_ldcS (i := 4) rfl rfl dX6_isKept_93 ?_
    refine jg_calli (rest := []) (kg_lkV (As := [va_rf (some (T 4))]) (a := a1) (c := 22) kgJ3_equals_22 (by decide) rfl hk2 q861 rfl (by rw [ea1]; rfl) dX6_isKept_95) cwJ3_equals (Nat.le_of_ble_eq_true rfl) rfl dX6_isKept_95 (Nat.succ_le_succ (Nat.zero_le _)) (h.mono (onI_mono (fun r24 t23 h hlt23 => ?_) (fun _ _ h => h)))
    replace h := h hlt23
    replace hk2 := hlt23.tag hk2 (by decide)
    refine j_if_eq 218 dX6_isKept_98 (by decide) (fun c25 => ?_) (fun c25 => ?_)
    · replace h := h.1 c25
      exact h
    · replace h := h.2 c25
      refine j_iconst (v := iI 0) dX6_isKept_101 rfl ?_
      refine j_istore_n (lv' := [some (va_rf x0), some (va_rf x0), some (.int (iI 0))]) dX6_isKept_102 (by decide) rfl ?_
      refine j_goto 218 dX6_isKept_103 (by decide) ?_
      exact h
  by_cases c32_7 : r4 = iI 93260912
  · replace h := h.2.2.2.2.2.2.2.1 c32_7
    refine j_lookup (off := 98) 106 dX6_isKept_8 (by decide) (by rw [c32_7]; first | done | rfl) (by decide) ?_
    refine j_aload_n (r := x0) dX6_isKept_106 rfl ?_
    refine jg_ldcS (i := 5) rfl rfl dX6_isKept_107 ?_
    refine jg_calli (rest := []) (kg_lkV (As := [va_rf (some (T 5))]) (a := a1) (c := 22) kgJ3_equals_22 (by decide) rfl hk2 q861 rfl (by rw [ea1]; rfl) dX6_isKept_109) cwJ3_equals (Nat.le_of_ble_eq_true rfl) rfl dX6_isKept_109 (Nat.succ_le_succ (Nat.zero_le _)) (h.mono (onI_mono (fun r27 t26 h hlt26 => ?_) (fun _ _ h => h)))
    replace h := h hlt26
    replace hk2 := hlt26.tag hk2 (by decide)
    refine j_if_eq 218 dX6_isKept_112 (by decide) (fun c28 => ?_) (fun c28 => ?_)
    · replace h := h.1 c28
      exact h
    · replace h := h.2 c28
      refine j_iconst (v := iI 1) dX6_isKept_115 rfl ?_
      refine j_istore_n (lv' := [some (va_rf x0), some (va_rf x0), some (.int (iI 1))]) dX6_isKept_116 (by decide) rfl ?_
      refine j_goto 218 dX6_isKept_117 (by decide) ?_
      exact h
  by_cases c32_8 : r4 = iI 94627080
  · replace h := h.2.2.2.2.2.2.2.2.1 c32_8
    refine j_lookup (off := 126) 134 dX6_isKept_8 (by decide) (by rw [c32_8]; first | done | rfl) (by decide) ?_
    refine j_aload_n (r := x0) dX6_isKept_134 rfl ?_
    refine jg_ldcS (i := 7) rfl rfl dX6_isKept_135 ?_
    refine jg_calli (rest := []) (kg_lkV (As := [va_rf (some (T 7))]) (a := a1) (c := 22) kgJ3_equals_22 (by decide) rfl hk2 q861 rfl (by rw [ea1]; rfl) dX6_isKept_137) cwJ3_equals (Nat.le_of_ble_eq_true rfl) rfl dX6_isKept_137 (Nat.succ_le_succ (Nat.zero_le _)) (h.mono (onI_mono (fun r30 t29 h hlt29 => ?_) (fun _ _ h => h)))
    replace h := h hlt29
    replace hk2 := hlt29.tag hk2 (by decide)
    refine j_if_eq 218 dX6_isKept_140 (by decide) (fun c31 => ?_) (fun c31 => ?_)
    · replace h := h.1 c31
      exact h
    · replace h := h.2 c31
      refine j_iconst (v := iI 3) dX6_isKept_143 rfl ?_
      refine j_istore_n (lv' := [some (va_rf x0), some (va_rf x0), some (.int (iI 3))]) dX6_isKept_144 (by decide) rfl ?_
      refine j_goto 218 dX6_isKept_145 (by decide) ?_
      exact h
  replace h := h.2.2.2.2.2.2.2.2.2 c32_0 c32_1 c32_2 c32_3 c32_4 c32_5 c32_6 c32_7 c32_8
  refine j_lookup (off := 210) 218 dX6_isKept_8 (by decide) ((lv_osw c32_0 (by decide)).trans ((lv_osw c32_1 (by decide)).trans ((lv_osw c32_2 (by decide)).trans ((lv_osw c32_3 (by decide)).trans ((lv_osw c32_4 (by decide)).trans ((lv_osw c32_5 (by decide)).trans ((lv_osw c32_6 (by decide)).trans ((lv_osw c32_7 (by decide)).trans ((lv_osw c32_8 (by decide)).trans rfl))))))))) (by decide) ?_
  exact h
theorem tX6_isKept_218 {G : GPl} {s0 : State} {l : Launch} {K : Nat → Option Nat} {T : Nat → Nat} {lev : Nat} {st0 : GSt} {Q : Outcome → GSt → Prop} {x0 : Option Nat} {x1 : Option Nat} {x2 : Int32} {σ : GSt} (h : ((x2 = iI 0 → Q (.returned (some (.int (iI 1)))) σ) ∧ (x2 = iI 1 → Q (.returned (some (.int (iI 1)))) σ) ∧ (x2 = iI 2 → Q (.returned (some (.int (iI 1)))) σ) ∧ (x2 = iI 3 → Q (.returned (some (.int (iI 1)))) σ) ∧ (x2 = iI 4 → Q (.returned (some (.int (iI 1)))) σ) ∧ (x2 = iI 5 → Q (.returned (some (.int (iI 1)))) σ) ∧ (x2 = iI 6 → Q (.returned (some (.int (iI 1)))) σ) ∧ (x2 = iI 7 → Q (.returned (some (.int (iI 1)))) σ) ∧ (x2 = iI 8 → Q (.returned (some (.int (iI 1)))) σ) ∧ (tout x2 0 8 → Q (.returned (some (.int (iI 0)))) σ))) : jX6_isKept_218 G s0 l K T lev st0 Q x0 x1 x2 σ := by
  refine j_iload_n dX6_isKept_218 rfl ?_
  rcases tb_case 9 0 (x2) with ⟨c1, hc1, ec1⟩ | ec1
  · match c1, hc1, ec1 with
    | 0, _, ec1 =>
      have ec1 : x2 = iI 0 := ec1
      replace h := h.1 ec1
      refine j_tableIn 268 dX6_isKept_219 (by rw [ec1]; decide) (by rw [ec1]; decide) (by rw [ec1]; rfl) (by decide) ?_
      refine j_iconst (v := iI 1) dX6_isKept_268 rfl ?_
      exact j_ireturn (ty := .boolean) rfl rfl dX6_isKept_269 h
    | 1, _, ec1 =>
      have ec1 : x2 = iI 1 := ec1
      replace h := h.2.1 ec1
      refine j_tableIn 268 dX6_isKept_219 (by rw [ec1]; decide) (by rw [ec1]; decide) (by rw [ec1]; rfl) (by decide) ?_
      refine j_iconst (v := iI 1) dX6_isKept_268 rfl ?_
      exact j_ireturn (ty := .boolean) rfl rfl dX6_isKept_269 h
    | 2, _, ec1 =>
      have ec1 : x2 = iI 2 := ec1
      replace h := h.2.2.1 ec1
      refine j_tableIn 268 dX6_isKept_219 (by rw [ec1]; decide) (by rw [ec1]; decide) (by rw [ec1]; rfl) (by decide) ?_
      refine j_iconst (v := iI 1) dX6_isKept_268 rfl ?_
      exact j_ireturn (ty := .boolean) rfl rfl dX6_isKept_269 h
    | 3, _, ec1 =>
      have ec1 : x2 = iI 3 := ec1
      replace h := h.2.2.2.1 ec1
      refine j_tableIn 268 dX6_isKept_219 (by rw [ec1]; decide) (by rw [ec1]; decide) (by rw [ec1]; rfl) (by decide) ?_
      refine j_iconst (v := iI 1) dX6_isKept_268 rfl ?_
      exact j_ireturn (ty := .boolean) rfl rfl dX6_isKept_269 h
    | 4, _, ec1 =>
      have ec1 : x2 = iI 4 := ec1
      replace h := h.2.2.2.2.1 ec1
      refine j_tableIn 268 dX6_isKept_219 (by rw [ec1]; decide) (by rw [ec1]; decide) (by rw [ec1]; rfl) (by decide) ?_
      refine j_iconst (v := iI 1) dX6_isKept_268 rfl ?_
      exact j_ireturn (ty := .boolean) rfl rfl dX6_isKept_269 h
    | 5, _, ec1 =>
      have ec1 : x2 = iI 5 := ec1
      replace h := h.2.2.2.2.2.1 ec1
      refine j_tableIn 268 dX6_isKept_219 (by rw [ec1]; decide) (by rw [ec1]; decide) (by rw [ec1]; rfl) (by decide) ?_
      refine j_iconst (v := iI 1) dX6_isKept_268 rfl ?_
      exact j_ireturn (ty := .boolean) rfl rfl dX6_isKept_269 h
    | 6, _, ec1 =>
      have ec1 : x2 = iI 6 := ec1
      replace h := h.2.2.2.2.2.2.1 ec1
      refine j_tableIn 268 dX6_isKept_219 (by rw [ec1]; decide) (by rw [ec1]; decide) (by rw [ec1]; rfl) (by decide) ?_
      refine j_iconst (v := iI 1) dX6_isKept_268 rfl ?_
      exact j_ireturn (ty := .boolean) rfl rfl dX6_isKept_269 h
    | 7, _, ec1 =>
      have ec1 : x2 = iI 7 := ec1
      replace h := h.2.2.2.2.2.2.2.1 ec1
      refine j_tableIn 268 dX6_isKept_219 (by rw [ec1]; decide) (by rw [ec1]; decide) (by rw [ec1]; rfl) (by decide) ?_
      refine j_iconst (v := iI 1) dX6_isKept_268 rfl ?_
      exact j_ireturn (ty := .boolean) rfl rfl dX6_isKept_269 h
    | 8, _, ec1 =>
      have ec1 : x2 = iI 8 := ec1
      replace h := h.2.2.2.2.2.2.2.2.1 ec1
      refine j_tableIn 268 dX6_isKept_219 (by rw [ec1]; decide) (by rw [ec1]; decide) (by rw [ec1]; rfl) (by decide) ?_
      refine j_iconst (v := iI 1) dX6_isKept_268 rfl ?_
      exact j_ireturn (ty := .boolean) rfl rfl dX6_isKept_269 h
    | q_ + 9, hq_, _ => exact absurd hq_ (by omega)
  · replace h := h.2.2.2.2.2.2.2.2.2 ec1
    refine j_tableOut 270 dX6_isKept_219 ec1 (by decide) ?_
    refine j_iconst (v := iI 0) dX6_isKept_270 rfl ?_
    exact j_ireturn (ty := .boolean) rfl rfl dX6_isKept_271 h
abbrev jX6_sign_25 (G : GPl) (s0 : State) (l : Launch) (K : Nat → Option Nat) (T : Nat → Nat) (lev : Nat) (st0 : GSt) (Q : Outcome → GSt → Prop) (a0 : Nat) (x1 : Int32) (σ : GSt) : Prop := JQ (wP G s0 l K T) mX6_sign (lev + 1) st0 25 [some (va_rf (some a0)), some (.int x1), none, none] [] σ Q
abbrev jX6_sign_52 (G : GPl) (s0 : State) (l : Launch) (K : Nat → Option Nat) (T : Nat → Nat) (lev : Nat) (st0 : GSt) (Q : Outcome → GSt → Prop) (a0 : Nat) (x1 : Int32) (x2 : Int32) (σ : GSt) : Prop := JQ (wP G s0 l K T) mX6_sign (lev + 1) st0 52 [some (va_rf (some a0)), some (.int x1), some (.int x2), none] [] σ Q
theorem tX6_sign {G : GPl} {s0 : State} {l : Launch} {K : Nat → Option Nat} {T : Nat → Nat} {lev : Nat} {Q : Outcome → GSt → Prop} {a0 : Nat} {x1 : Int32} {σ : GSt} (h : ((x1 = (iI 45) → (gk σ a0 = 5 ∧ (CQ (wP G s0 l K T) mX6_byteAt lev (.ref a0 :: [.int ((gi σ a0 2) + (iI 1))]) σ (onI (fun r3 t2 => gle σ t2 → ((r3 = (iI 62) → ((x1 = (iI 58) → (CQ (wP G s0 l K T) mX6_byteAt lev (.ref a0 :: [.int ((gi t2 a0 2) + (iI 1))]) t2 (onI (fun r5 t4 => gle t2 t4 → ((r5 = (iI 61) → Q (.returned none) (gpi a0 2 ((gi (gpi a0 4 (iI 256) (gpr a0 7 (K 2) t4)) a0 2) + (iI 2)) (gpi a0 4 (iI 256) (gpr a0 7 (K 2) t4)))) ∧ (¬ r5 = (iI 61) → jX6_sign_52 G s0 l K T lev σ Q a0 x1 (iI 1) t4))) (fun x t => gle t2 t → Q (.threw x) t)))) ∧ (¬ x1 = (iI 58) → jX6_sign_52 G s0 l K T lev σ Q a0 x1 (iI 1) t2))) ∧ (¬ r3 = (iI 62) → jX6_sign_25 G s0 l K T lev σ Q a0 x1 t2))) (fun x t => gle σ t → Q (.threw x) t))))) ∧ (¬ x1 = (iI 45) → jX6_sign_25 G s0 l K T lev σ Q a0 x1 σ))) : CQ (wP G s0 l K T) mX6_sign (lev + 1) [.ref a0, .int x1] σ Q := by
  refine CQ.of3 2 (lv := [some (va_rf (some a0)), some (.int x1), none, none]) (by decide) (Nat.le_of_ble_eq_true rfl) (cat1_cons rfl (cat1_cons rfl cat1_nil)) rfl ?_
  refine j_iload_n dX6_sign_0 rfl ?_
  refine j_bipush (v := iI 45) dX6_sign_1 rfl ?_
  refine j_icmp_ne 25 dX6_sign_3 (by decide) (fun c9 => ?_) (fun c9 => ?_)
  · replace h := h.2 c9
    exact h
  · replace h := h.1 c9
    refine j_aload_n (r := some a0) dX6_sign_6 rfl ?_
    refine j_aload_n (r := some a0) dX6_sign_7 rfl ?_
    obtain ⟨hk1, h⟩ := h
    refine kg_geti (a := a0) (j := 2) rfl gfX6_33 (by decide) hk1 dX6_sign_8 ?_
    refine j_iconst (v := iI 1) dX6_sign_11 rfl ?_
    refine j_iadd dX6_sign_12 ?_
    refine jg_calli (rest := []) (kg_lkV (As := [.int ((gi σ a0 2) + (iI 1))]) (a := a0) (c := 4) kgX6_byteAt_4 (by decide) rfl hk1 q495 rfl rfl dX6_sign_13) cwX6_byteAt (Nat.le_of_ble_eq_true rfl) rfl dX6_sign_13 (Nat.succ_le_succ (Nat.zero_le _)) (h.mono (onI_mono (fun r3 t2 h hlt2 => ?_) (fun _ _ h => h)))
    replace h := h hlt2
    replace hk1 := hlt2.tag hk1 (by decide)
    refine j_bipush (v := iI 62) dX6_sign_16 rfl ?_
    refine j_icmp_ne 25 dX6_sign_18 (by decide) (fun c8 => ?_) (fun c8 => ?_)
    · replace h := h.2 c8
      exact h
    · replace h := h.1 c8
      refine j_iconst (v := iI 1) dX6_sign_21 rfl ?_
      refine j_goto 26 dX6_sign_22 (by decide) ?_
      refine j_istore_n (lv' := [some (va_rf (some a0)), some (.int x1), some (.int (iI 1)), none]) dX6_sign_26 (by decide) rfl ?_
      refine j_iload_n dX6_sign_27 rfl ?_
      refine j_bipush (v := iI 58) dX6_sign_28 rfl ?_
      refine j_icmp_ne 52 dX6_sign_30 (by decide) (fun c7 => ?_) (fun c7 => ?_)
      · replace h := h.2 c7
        exact h
      · replace h := h.1 c7
        refine j_aload_n (r := some a0) dX6_sign_33 rfl ?_
        refine j_aload_n (r := some a0) dX6_sign_34 rfl ?_
        refine kg_geti (a := a0) (j := 2) rfl gfX6_33 (by decide) hk1 dX6_sign_35 ?_
        refine j_iconst (v := iI 1) dX6_sign_38 rfl ?_
        refine j_iadd dX6_sign_39 ?_
        refine jg_calli (rest := []) (kg_lkV (As := [.int ((gi t2 a0 2) + (iI 1))]) (a := a0) (c := 4) kgX6_byteAt_4 (by decide) rfl hk1 q495 rfl rfl dX6_sign_40) cwX6_byteAt (Nat.le_of_ble_eq_true rfl) rfl dX6_sign_40 (Nat.succ_le_succ (Nat.zero_le _)) (h.mono (onI_mono (fun r5 t4 h hlt4 => ?_) (fun _ _ h => h)))
        replace h := h hlt4
        replace hk1 := hlt4.tag hk1 (by decide)
        refine j_bipush (v := iI 61) dX6_sign_43 rfl ?_
        refine j_icmp_ne 52 dX6_sign_45 (by decide) (fun c6 => ?_) (fun c6 => ?_)
        · replace h := h.2 c6
          exact h
        · replace h := h.1 c6
          refine j_iconst (v := iI 1) dX6_sign_48 rfl ?_
          refine j_goto 53 dX6_sign_49 (by decide) ?_
          refine j_istore_n (lv' := [some (va_rf (some a0)), some (.int x1), some (.int (iI 1)), some (.int (iI 1))]) dX6_sign_53 (by decide) rfl ?_
          refine j_aload_n (r := some a0) dX6_sign_54 rfl ?_
          refine j_iload_n dX6_sign_55 rfl ?_
          refine j_if_ne 68 dX6_sign_56 (by decide) (fun _ => ?_) (fun q_ => absurd q_ (by decide))
          refine jg_gets (i := 2) rfl flX6_133 dX6_sign_68 ?_
          refine j_goto 77 dX6_sign_71 (by decide) ?_
          refine kg_putr (a := a0) (x := K 2) rfl gfX6_53 (Or.inl rfl) hk1 (Or.inl (by decide)) dX6_sign_77 ?_
          refine j_aload_n (r := some a0) dX6_sign_80 rfl ?_
          refine j_iload_n dX6_sign_81 rfl ?_
          refine j_if_eq 91 dX6_sign_82 (by decide) (fun q_ => absurd q_ (by decide)) (fun _ => ?_)
          refine j_sipush (v := iI 256) dX6_sign_85 rfl ?_
          refine j_goto 102 dX6_sign_88 (by decide) ?_
          refine kg_puti (a := a0) rfl gfX6_136 (Or.inl rfl) hk1 (Or.inl (by decide)) dX6_sign_102 ?_
          refine j_aload_n (r := some a0) dX6_sign_105 rfl ?_
          refine j_dup dX6_sign_106 rfl ?_
          refine kg_geti (a := a0) (j := 2) rfl gfX6_33 (by decide) hk1 dX6_sign_107 ?_
          refine j_iload_n dX6_sign_110 rfl ?_
          refine j_if_ne 118 dX6_sign_111 (by decide) (fun _ => ?_) (fun q_ => absurd q_ (by decide))
          refine j_iconst (v := iI 2) dX6_sign_118 rfl ?_
          refine j_goto 123 dX6_sign_119 (by decide) ?_
          refine j_iadd dX6_sign_123 ?_
          refine kg_puti (a := a0) rfl gfX6_33 (Or.inl rfl) hk1 (Or.inl (by decide)) dX6_sign_124 ?_
          exact j_return rfl dX6_sign_127 h
theorem tX6_sign_25 {G : GPl} {s0 : State} {l : Launch} {K : Nat → Option Nat} {T : Nat → Nat} {lev : Nat} {st0 : GSt} {Q : Outcome → GSt → Prop} {a0 : Nat} {x1 : Int32} {σ : GSt} (h : ((x1 = (iI 58) → (gk σ a0 = 5 ∧ (CQ (wP G s0 l K T) mX6_byteAt lev (.ref a0 :: [.int ((gi σ a0 2) + (iI 1))]) σ (onI (fun r3 t2 => gle σ t2 → ((r3 = (iI 61) → (gk t2 (T 13) = 23 ∧ (CQ (wP G s0 l K T) mJ3_indexOf lev (.ref (T 13) :: [.int x1]) t2 (onI (fun r6 t5 => gle t2 t5 → ((r6 < 0 → Q (.returned none) (gpi a0 2 ((gi (gpi a0 4 (iI 257) (gpr a0 7 (K 4) t5)) a0 2) + (iI 2)) (gpi a0 4 (iI 257) (gpr a0 7 (K 4) t5)))) ∧ (¬ r6 < 0 → Q (.returned none) (gpi a0 2 ((gi (gpi a0 4 (iI 257) (gpr a0 7 (K 2) t5)) a0 2) + (iI 2)) (gpi a0 4 (iI 257) (gpr a0 7 (K 2) t5)))))) (fun x t => gle t2 t → Q (.threw x) t))))) ∧ (¬ r3 = (iI 61) → jX6_sign_52 G s0 l K T lev st0 Q a0 x1 (iI 0) t2))) (fun x t => gle σ t → Q (.threw x) t))))) ∧ (¬ x1 = (iI 58) → jX6_sign_52 G s0 l K T lev st0 Q a0 x1 (iI 0) σ))) : jX6_sign_25 G s0 l K T lev st0 Q a0 x1 σ := by
  refine j_iconst (v := iI 0) dX6_sign_25 rfl ?_
  refine j_istore_n (lv' := [some (va_rf (some a0)), some (.int x1), some (.int (iI 0)), none]) dX6_sign_26 (by decide) rfl ?_
  refine j_iload_n dX6_sign_27 rfl ?_
  refine j_bipush (v := iI 58) dX6_sign_28 rfl ?_
  refine j_icmp_ne 52 dX6_sign_30 (by decide) (fun c9 => ?_) (fun c9 => ?_)
  · replace h := h.2 c9
    exact h
  · replace h := h.1 c9
    refine j_aload_n (r := some a0) dX6_sign_33 rfl ?_
    refine j_aload_n (r := some a0) dX6_sign_34 rfl ?_
    obtain ⟨hk1, h⟩ := h
    refine kg_geti (a := a0) (j := 2) rfl gfX6_33 (by decide) hk1 dX6_sign_35 ?_
    refine j_iconst (v := iI 1) dX6_sign_38 rfl ?_
    refine j_iadd dX6_sign_39 ?_
    refine jg_calli (rest := []) (kg_lkV (As := [.int ((gi σ a0 2) + (iI 1))]) (a := a0) (c := 4) kgX6_byteAt_4 (by decide) rfl hk1 q495 rfl rfl dX6_sign_40) cwX6_byteAt (Nat.le_of_ble_eq_true rfl) rfl dX6_sign_40 (Nat.succ_le_succ (Nat.zero_le _)) (h.mono (onI_mono (fun r3 t2 h hlt2 => ?_) (fun _ _ h => h)))
    replace h := h hlt2
    replace hk1 := hlt2.tag hk1 (by decide)
    refine j_bipush (v := iI 61) dX6_sign_43 rfl ?_
    refine j_icmp_ne 52 dX6_sign_45 (by decide) (fun c8 => ?_) (fun c8 => ?_)
    · replace h := h.2 c8
      exact h
    · replace h := h.1 c8
      refine j_iconst (v := iI 1) dX6_sign_48 rfl ?_
      refine j_goto 53 dX6_sign_49 (by decide) ?_
      refine j_istore_n (lv' := [some (va_rf (some a0)), some (.int x1), some (.int (iI 0)), some (.int (iI 1))]) dX6_sign_53 (by decide) rfl ?_
      refine j_aload_n (r := some a0) dX6_sign_54 rfl ?_
      refine j_iload_n dX6_sign_55 rfl ?_
      refine j_if_ne 68 dX6_sign_56 (by decide) (fun q_ => absurd (by decide) q_) (fun _ => ?_)
      refine jg_ldcS (i := 13) rfl rfl dX6_sign_59 ?_
      refine j_iload_n dX6_sign_61 rfl ?_
      obtain ⟨hk4, h⟩ := h
      refine jg_calli (rest := [va_rf (some a0)]) (kg_lkV (As := [.int x1]) (a := (T 13)) (c := 22) kgJ3_indexOf_22 (by decide) rfl hk4 q884 rfl rfl dX6_sign_62) cwJ3_indexOf (Nat.le_of_ble_eq_true rfl) rfl dX6_sign_62 (Nat.succ_le_succ (Nat.zero_le _)) (h.mono (onI_mono (fun r6 t5 h hlt5 => ?_) (fun _ _ h => h)))
      replace h := h hlt5
      replace hk1 := hlt5.tag hk1 (by decide)
      replace hk4 := hlt5.tag hk4 (by decide)
      refine j_if_lt 74 dX6_sign_65 (by decide) (fun c7 => ?_) (fun c7 => ?_)
      · replace h := h.1 c7
        refine jg_gets (i := 4) rfl flX6_47 dX6_sign_74 ?_
        refine kg_putr (a := a0) (x := K 4) rfl gfX6_53 (Or.inl rfl) hk1 (Or.inl (by decide)) dX6_sign_77 ?_
        refine j_aload_n (r := some a0) dX6_sign_80 rfl ?_
        refine j_iload_n dX6_sign_81 rfl ?_
        refine j_if_eq 91 dX6_sign_82 (by decide) (fun _ => ?_) (fun q_ => absurd (by decide) q_)
        refine j_iload_n dX6_sign_91 rfl ?_
        refine j_if_eq 101 dX6_sign_92 (by decide) (fun q_ => absurd q_ (by decide)) (fun _ => ?_)
        refine j_sipush (v := iI 257) dX6_sign_95 rfl ?_
        refine j_goto 102 dX6_sign_98 (by decide) ?_
        refine kg_puti (a := a0) rfl gfX6_136 (Or.inl rfl) hk1 (Or.inl (by decide)) dX6_sign_102 ?_
        refine j_aload_n (r := some a0) dX6_sign_105 rfl ?_
        refine j_dup dX6_sign_106 rfl ?_
        refine kg_geti (a := a0) (j := 2) rfl gfX6_33 (by decide) hk1 dX6_sign_107 ?_
        refine j_iload_n dX6_sign_110 rfl ?_
        refine j_if_ne 118 dX6_sign_111 (by decide) (fun q_ => absurd (by decide) q_) (fun _ => ?_)
        refine j_iload_n dX6_sign_114 rfl ?_
        refine j_if_eq 122 dX6_sign_115 (by decide) (fun q_ => absurd q_ (by decide)) (fun _ => ?_)
        refine j_iconst (v := iI 2) dX6_sign_118 rfl ?_
        refine j_goto 123 dX6_sign_119 (by decide) ?_
        refine j_iadd dX6_sign_123 ?_
        refine kg_puti (a := a0) rfl gfX6_33 (Or.inl rfl) hk1 (Or.inl (by decide)) dX6_sign_124 ?_
        exact j_return rfl dX6_sign_127 h
      · replace h := h.2 c7
        refine jg_gets (i := 2) rfl flX6_133 dX6_sign_68 ?_
        refine j_goto 77 dX6_sign_71 (by decide) ?_
        refine kg_putr (a := a0) (x := K 2) rfl gfX6_53 (Or.inl rfl) hk1 (Or.inl (by decide)) dX6_sign_77 ?_
        refine j_aload_n (r := some a0) dX6_sign_80 rfl ?_
        refine j_iload_n dX6_sign_81 rfl ?_
        refine j_if_eq 91 dX6_sign_82 (by decide) (fun _ => ?_) (fun q_ => absurd (by decide) q_)
        refine j_iload_n dX6_sign_91 rfl ?_
        refine j_if_eq 101 dX6_sign_92 (by decide) (fun q_ => absurd q_ (by decide)) (fun _ => ?_)
        refine j_sipush (v := iI 257) dX6_sign_95 rfl ?_
        refine j_goto 102 dX6_sign_98 (by decide) ?_
        refine kg_puti (a := a0) rfl gfX6_136 (Or.inl rfl) hk1 (Or.inl (by decide)) dX6_sign_102 ?_
        refine j_aload_n (r := some a0) dX6_sign_105 rfl ?_
        refine j_dup dX6_sign_106 rfl ?_
        refine kg_geti (a := a0) (j := 2) rfl gfX6_33 (by decide) hk1 dX6_sign_107 ?_
        refine j_iload_n dX6_sign_110 rfl ?_
        refine j_if_ne 118 dX6_sign_111 (by decide) (fun q_ => absurd (by decide) q_) (fun _ => ?_)
        refine j_iload_n dX6_sign_114 rfl ?_
        refine j_if_eq 122 dX6_sign_115 (by decide) (fun q_ => absurd q_ (by decide)) (fun _ => ?_)
        refine j_iconst (v := iI 2) dX6_sign_118 rfl ?_
        refine j_goto 123 dX6_sign_119 (by decide) ?_
        refine j_iadd dX6_sign_123 ?_
        refine kg_puti (a := a0) rfl gfX6_33 (Or.inl rfl) hk1 (Or.inl (by decide)) dX6_sign_124 ?_
        exact j_return rfl dX6_sign_127 h
theorem tX6_sign_52 {G : GPl} {s0 : State} {l : Launch} {K : Nat → Option Nat} {T : Nat → Nat} {lev : Nat} {st0 : GSt} {Q : Outcome → GSt → Prop} {a0 : Nat} {x1 : Int32} {x2 : Int32} {σ : GSt} (h : ((x2 = 0 → (gk σ (T 13) = 23 ∧ (CQ (wP G s0 l K T) mJ3_indexOf lev (.ref (T 13) :: [.int x1]) σ (onI (fun r7 t6 => gle σ t6 → ((r7 < 0 → (gk t6 a0 = 5 ∧ ((x2 = 0 → ((x2 = 0 → Q (.returned none) (gpi a0 2 ((gi (gpi a0 4 x1 (gpr a0 7 (K 4) t6)) a0 2) + (iI 1)) (gpi a0 4 x1 (gpr a0 7 (K 4) t6)))) ∧ (¬ x2 = 0 → Q (.returned none) (gpi a0 2 ((gi (gpi a0 4 x1 (gpr a0 7 (K 4) t6)) a0 2) + (iI 2)) (gpi a0 4 x1 (gpr a0 7 (K 4) t6)))))) ∧ (¬ x2 = 0 → ((x2 = 0 → Q (.returned none) (gpi a0 2 ((gi (gpi a0 4 (iI 256) (gpr a0 7 (K 4) t6)) a0 2) + (iI 1)) (gpi a0 4 (iI 256) (gpr a0 7 (K 4) t6)))) ∧ (¬ x2 = 0 → Q (.returned none) (gpi a0 2 ((gi (gpi a0 4 (iI 256) (gpr a0 7 (K 4) t6)) a0 2) + (iI 2)) (gpi a0 4 (iI 256) (gpr a0 7 (K 4) t6))))))))) ∧ (¬ r7 < 0 → (gk t6 a0 = 5 ∧ ((x2 = 0 → ((x2 = 0 → Q (.returned none) (gpi a0 2 ((gi (gpi a0 4 x1 (gpr a0 7 (K 2) t6)) a0 2) + (iI 1)) (gpi a0 4 x1 (gpr a0 7 (K 2) t6)))) ∧ (¬ x2 = 0 → Q (.returned none) (gpi a0 2 ((gi (gpi a0 4 x1 (gpr a0 7 (K 2) t6)) a0 2) + (iI 2)) (gpi a0 4 x1 (gpr a0 7 (K 2) t6)))))) ∧ (¬ x2 = 0 → ((x2 = 0 → Q (.returned none) (gpi a0 2 ((gi (gpi a0 4 (iI 256) (gpr a0 7 (K 2) t6)) a0 2) + (iI 1)) (gpi a0 4 (iI 256) (gpr a0 7 (K 2) t6)))) ∧ (¬ x2 = 0 → Q (.returned none) (gpi a0 2 ((gi (gpi a0 4 (iI 256) (gpr a0 7 (K 2) t6)) a0 2) + (iI 2)) (gpi a0 4 (iI 256) (gpr a0 7 (K 2) t6))))))))))) (fun x t => gle σ t → Q (.threw x) t))))) ∧ (¬ x2 = 0 → (gk σ a0 = 5 ∧ ((x2 = 0 → ((x2 = 0 → Q (.returned none) (gpi a0 2 ((gi (gpi a0 4 x1 (gpr a0 7 (K 2) σ)) a0 2) + (iI 1)) (gpi a0 4 x1 (gpr a0 7 (K 2) σ)))) ∧ (¬ x2 = 0 → Q (.returned none) (gpi a0 2 ((gi (gpi a0 4 x1 (gpr a0 7 (K 2) σ)) a0 2) + (iI 2)) (gpi a0 4 x1 (gpr a0 7 (K 2) σ)))))) ∧ (¬ x2 = 0 → ((x2 = 0 → Q (.returned none) (gpi a0 2 ((gi (gpi a0 4 (iI 256) (gpr a0 7 (K 2) σ)) a0 2) + (iI 1)) (gpi a0 4 (iI 256) (gpr a0 7 (K 2) σ)))) ∧ (¬ x2 = 0 → Q (.returned none) (gpi a0 2 ((gi (gpi a0 4 (iI 256) (gpr a0 7 (K 2) σ)) a0 2) + (iI 2)) (gpi a0 4 (iI 256) (gpr a0 7 (K 2) σ))))))))))) : jX6_sign_52 G s0 l K T lev st0 Q a0 x1 x2 σ := by
  refine j_iconst (v := iI 0) dX6_sign_52 rfl ?_
  refine j_istore_n (lv' := [some (va_rf (some a0)), some (.int x1), some (.int x2), some (.int (iI 0))]) dX6_sign_53 (by decide) rfl ?_
  refine j_aload_n (r := some a0) dX6_sign_54 rfl ?_
  refine j_iload_n dX6_sign_55 rfl ?_
  refine j_if_ne 68 dX6_sign_56 (by decide) (fun c17 => ?_) (fun c17 => ?_)
  · replace h := h.2 c17
    refine jg_gets (i := 2) rfl flX6_133 dX6_sign_68 ?_
    refine j_goto 77 dX6_sign_71 (by decide) ?_
    obtain ⟨hk1, h⟩ := h
    refine kg_putr (a := a0) (x := K 2) rfl gfX6_53 (Or.inl rfl) hk1 (Or.inl (by decide)) dX6_sign_77 ?_
    refine j_aload_n (r := some a0) dX6_sign_80 rfl ?_
    refine j_iload_n dX6_sign_81 rfl ?_
    refine j_if_eq 91 dX6_sign_82 (by decide) (fun c4 => ?_) (fun c4 => ?_)
    · replace h := h.1 c4
      refine j_iload_n dX6_sign_91 rfl ?_
      refine j_if_eq 101 dX6_sign_92 (by decide) (fun _ => ?_) (fun q_ => absurd (by decide) q_)
      refine j_iload_n dX6_sign_101 rfl ?_
      refine kg_puti (a := a0) rfl gfX6_136 (Or.inl rfl) hk1 (Or.inl (by decide)) dX6_sign_102 ?_
      refine j_aload_n (r := some a0) dX6_sign_105 rfl ?_
      refine j_dup dX6_sign_106 rfl ?_
      refine kg_geti (a := a0) (j := 2) rfl gfX6_33 (by decide) hk1 dX6_sign_107 ?_
      refine j_iload_n dX6_sign_110 rfl ?_
      refine j_if_ne 118 dX6_sign_111 (by decide) (fun c2 => ?_) (fun c2 => ?_)
      · replace h := h.2 c2
        refine j_iconst (v := iI 2) dX6_sign_118 rfl ?_
        refine j_goto 123 dX6_sign_119 (by decide) ?_
        refine j_iadd dX6_sign_123 ?_
        refine kg_puti (a := a0) rfl gfX6_33 (Or.inl rfl) hk1 (Or.inl (by decide)) dX6_sign_124 ?_
        exact j_return rfl dX6_sign_127 h
      · replace h := h.1 c2
        refine j_iload_n dX6_sign_114 rfl ?_
        refine j_if_eq 122 dX6_sign_115 (by decide) (fun _ => ?_) (fun q_ => absurd (by decide) q_)
        refine j_iconst (v := iI 1) dX6_sign_122 rfl ?_
        refine j_iadd dX6_sign_123 ?_
        refine kg_puti (a := a0) rfl gfX6_33 (Or.inl rfl) hk1 (Or.inl (by decide)) dX6_sign_124 ?_
        exact j_return rfl dX6_sign_127 h
    · replace h := h.2 c4
      refine j_sipush (v := iI 256) dX6_sign_85 rfl ?_
      refine j_goto 102 dX6_sign_88 (by decide) ?_
      refine kg_puti (a := a0) rfl gfX6_136 (Or.inl rfl) hk1 (Or.inl (by decide)) dX6_sign_102 ?_
      refine j_aload_n (r := some a0) dX6_sign_105 rfl ?_
      refine j_dup dX6_sign_106 rfl ?_
      refine kg_geti (a := a0) (j := 2) rfl gfX6_33 (by decide) hk1 dX6_sign_107 ?_
      refine j_iload_n dX6_sign_110 rfl ?_
      refine j_if_ne 118 dX6_sign_111 (by decide) (fun c3 => ?_) (fun c3 => ?_)
      · replace h := h.2 c3
        refine j_iconst (v := iI 2) dX6_sign_118 rfl ?_
        refine j_goto 123 dX6_sign_119 (by decide) ?_
        refine j_iadd dX6_sign_123 ?_
        refine kg_puti (a := a0) rfl gfX6_33 (Or.inl rfl) hk1 (Or.inl (by decide)) dX6_sign_124 ?_
        exact j_return rfl dX6_sign_127 h
      · replace h := h.1 c3
        refine j_iload_n dX6_sign_114 rfl ?_
        refine j_if_eq 122 dX6_sign_115 (by decide) (fun _ => ?_) (fun q_ => absurd (by decide) q_)
        refine j_iconst (v := iI 1) dX6_sign_122 rfl ?_
        refine j_iadd dX6_sign_123 ?_
        refine kg_puti (a := a0) rfl gfX6_33 (Or.inl rfl) hk1 (Or.inl (by decide)) dX6_sign_124 ?_
        exact j_return rfl dX6_sign_127 h
  · replace h := h.1 c17
    refine jg_ldcS (i := 13) rfl rfl dX6_sign_59 ?_
    refine j_iload_n dX6_sign_61 rfl ?_
    obtain ⟨hk5, h⟩ := h
    refine jg_calli (rest := [va_rf (some a0)]) (kg_lkV (As := [.int x1]) (a := (T 13)) (c := 22) kgJ3_indexOf_22 (by decide) rfl hk5 q884 rfl rfl dX6_sign_62) cwJ3_indexOf (Nat.le_of_ble_eq_true rfl) rfl dX6_sign_62 (Nat.succ_le_succ (Nat.zero_le _)) (h.mono (onI_mono (fun r7 t6 h hlt6 => ?_) (fun _ _ h => h)))
    replace h := h hlt6
    replace hk5 := hlt6.tag hk5 (by decide)
    refine j_if_lt 74 dX6_sign_65 (by decide) (fun c16 => ?_) (fun c16 => ?_)
    · replace h := h.1 c16
      refine jg_gets (i := 4) rfl flX6_47 dX6_sign_74 ?_
      obtain ⟨hk8, h⟩ := h
      refine kg_putr (a := a0) (x := K 4) rfl gfX6_53 (Or.inl rfl) hk8 (Or.inl (by decide)) dX6_sign_77 ?_
      refine j_aload_n (r := some a0) dX6_sign_80 rfl ?_
      refine j_iload_n dX6_sign_81 rfl ?_
      refine j_if_eq 91 dX6_sign_82 (by decide) (fun c11 => ?_) (fun c11 => ?_)
      · replace h := h.1 c11
        refine j_iload_n dX6_sign_91 rfl ?_
        refine j_if_eq 101 dX6_sign_92 (by decide) (fun _ => ?_) (fun q_ => absurd (by decide) q_)
        refine j_iload_n dX6_sign_101 rfl ?_
        refine kg_puti (a := a0) rfl gfX6_136 (Or.inl rfl) hk8 (Or.inl (by decide)) dX6_sign_102 ?_
        refine j_aload_n (r := some a0) dX6_sign_105 rfl ?_
        refine j_dup dX6_sign_106 rfl ?_
        refine kg_geti (a := a0) (j := 2) rfl gfX6_33 (by decide) hk8 dX6_sign_107 ?_
        refine j_iload_n dX6_sign_110 rfl ?_
        refine j_if_ne 118 dX6_sign_111 (by decide) (fun c9 => ?_) (fun c9 => ?_)
        · replace h := h.2 c9
          refine j_iconst (v := iI 2) dX6_sign_118 rfl ?_
          refine j_goto 123 dX6_sign_119 (by decide) ?_
          refine j_iadd dX6_sign_123 ?_
          refine kg_puti (a := a0) rfl gfX6_33 (Or.inl rfl) hk8 (Or.inl (by decide)) dX6_sign_124 ?_
          exact j_return rfl dX6_sign_127 h
        · replace h := h.1 c9
          refine j_iload_n dX6_sign_114 rfl ?_
          refine j_if_eq 122 dX6_sign_115 (by decide) (fun _ => ?_) (fun q_ => absurd (by decide) q_)
          refine j_iconst (v := iI 1) dX6_sign_122 rfl ?_
          refine j_iadd dX6_sign_123 ?_
          refine kg_puti (a := a0) rfl gfX6_33 (Or.inl rfl) hk8 (Or.inl (by decide)) dX6_sign_124 ?_
          exact j_return rfl dX6_sign_127 h
      · replace h := h.2 c11
        refine j_sipush (v := iI 256) dX6_sign_85 rfl ?_
        refine j_goto 102 dX6_sign_88 (by decide) ?_
        refine kg_puti (a := a0) rfl gfX6_136 (Or.inl rfl) hk8 (Or.inl (by decide)) dX6_sign_102 ?_
        refine j_aload_n (r := some a0) dX6_sign_105 rfl ?_
        refine j_dup dX6_sign_106 rfl ?_
        refine kg_geti (a := a0) (j := 2) rfl gfX6_33 (by decide) hk8 dX6_sign_107 ?_
        refine j_iload_n dX6_sign_110 rfl ?_
        refine j_if_ne 118 dX6_sign_111 (by decide) (fun c10 => ?_) (fun c10 => ?_)
        · replace h := h.2 c10
          refine j_iconst (v := iI 2) dX6_sign_118 rfl ?_
          refine j_goto 123 dX6_sign_119 (by decide) ?_
          refine j_iadd dX6_sign_123 ?_
          refine kg_puti (a := a0) rfl gfX6_33 (Or.inl rfl) hk8 (Or.inl (by decide)) dX6_sign_124 ?_
          exact j_return rfl dX6_sign_127 h
        · replace h := h.1 c10
          refine j_iload_n dX6_sign_114 rfl ?_
          refine j_if_eq 122 dX6_sign_115 (by decide) (fun _ => ?_) (fun q_ => absurd (by decide) q_)
          refine j_iconst (v := iI 1) dX6_sign_122 rfl ?_
          refine j_iadd dX6_sign_123 ?_
          refine kg_puti (a := a0) rfl gfX6_33 (Or.inl rfl) hk8 (Or.inl (by decide)) dX6_sign_124 ?_
          exact j_return rfl dX6_sign_127 h
    · replace h := h.2 c16
      refine jg_gets (i := 2) rfl flX6_133 dX6_sign_68 ?_
      refine j_goto 77 dX6_sign_71 (by decide) ?_
      obtain ⟨hk12, h⟩ := h
      refine kg_putr (a := a0) (x := K 2) rfl gfX6_53 (Or.inl rfl) hk12 (Or.inl (by decide)) dX6_sign_77 ?_
      refine j_aload_n (r := some a0) dX6_sign_80 rfl ?_
      refine j_iload_n dX6_sign_81 rfl ?_
      refine j_if_eq 91 dX6_sign_82 (by decide) (fun c15 => ?_) (fun c15 => ?_)
      · replace h := h.1 c15
        refine j_iload_n dX6_sign_91 rfl ?_
        refine j_if_eq 101 dX6_sign_92 (by decide) (fun _ => ?_) (fun q_ => absurd (by decide) q_)
        refine j_iload_n dX6_sign_101 rfl ?_
        refine kg_puti (a := a0) rfl gfX6_136 (Or.inl rfl) hk12 (Or.inl (by decide)) dX6_sign_102 ?_
        refine j_aload_n (r := some a0) dX6_sign_105 rfl ?_
        refine j_dup dX6_sign_106 rfl ?_
        refine kg_geti (a := a0) (j := 2) rfl gfX6_33 (by decide) hk12 dX6_sign_107 ?_
        refine j_iload_n dX6_sign_110 rfl ?_
        refine j_if_ne 118 dX6_sign_111 (by decide) (fun c13 => ?_) (fun c13 => ?_)
        · replace h := h.2 c13
          refine j_iconst (v := iI 2) dX6_sign_118 rfl ?_
          refine j_goto 123 dX6_sign_119 (by decide) ?_
          refine j_iadd dX6_sign_123 ?_
          refine kg_puti (a := a0) rfl gfX6_33 (Or.inl rfl) hk12 (Or.inl (by decide)) dX6_sign_124 ?_
          exact j_return rfl dX6_sign_127 h
        · replace h := h.1 c13
          refine j_iload_n dX6_sign_114 rfl ?_
          refine j_if_eq 122 dX6_sign_115 (by decide) (fun _ => ?_) (fun q_ => absurd (by decide) q_)
          refine j_iconst (v := iI 1) dX6_sign_122 rfl ?_
          refine j_iadd dX6_sign_123 ?_
          refine kg_puti (a := a0) rfl gfX6_33 (Or.inl rfl) hk12 (Or.inl (by decide)) dX6_sign_124 ?_
          exact j_return rfl dX6_sign_127 h
      · replace h := h.2 c15
        refine j_sipush (v := iI 256) dX6_sign_85 rfl ?_
        refine j_goto 102 dX6_sign_88 (by decide) ?_
        refine kg_puti (a := a0) rfl gfX6_136 (Or.inl rfl) hk12 (Or.inl (by decide)) dX6_sign_102 ?_
        refine j_aload_n (r := some a0) dX6_sign_105 rfl ?_
        refine j_dup dX6_sign_106 rfl ?_
        refine kg_geti (a := a0) (j := 2) rfl gfX6_33 (by decide) hk12 dX6_sign_107 ?_
        refine j_iload_n dX6_sign_110 rfl ?_
        refine j_if_ne 118 dX6_sign_111 (by decide) (fun c14 => ?_) (fun c14 => ?_)
        · replace h := h.2 c14
          refine j_iconst (v := iI 2) dX6_sign_118 rfl ?_
          refine j_goto 123 dX6_sign_119 (by decide) ?_
          refine j_iadd dX6_sign_123 ?_
          refine kg_puti (a := a0) rfl gfX6_33 (Or.inl rfl) hk12 (Or.inl (by decide)) dX6_sign_124 ?_
          exact j_return rfl dX6_sign_127 h
        · replace h := h.1 c14
          refine j_iload_n dX6_sign_114 rfl ?_
          refine j_if_eq 122 dX6_sign_115 (by decide) (fun _ => ?_) (fun q_ => absurd (by decide) q_)
          refine j_iconst (v := iI 1) dX6_sign_122 rfl ?_
          refine j_iadd dX6_sign_123 ?_
          refine kg_puti (a := a0) rfl gfX6_33 (Or.inl rfl) hk12 (Or.inl (by decide)) dX6_sign_124 ?_
          exact j_return rfl dX6_sign_127 h
abbrev jX6_statement_215 (G : GPl) (s0 : State) (l : Launch) (K : Nat → Option Nat) (T : Nat → Nat) (lev : Nat) (st0 : GSt) (Q : Outcome → GSt → Prop) (a0 : Nat) (x1 : Int32) (x3 : Option Nat) (x4 : Int32) (σ : GSt) : Prop := JQ (wP G s0 l K T) mX6_statement (lev + 1) st0 215 [some (va_rf (some a0)), some (.int x1), none, some (va_rf x3), some (.int x4), none] [] σ Q
abbrev jX6_statement_340 (G : GPl) (s0 : State) (l : Launch) (K : Nat → Option Nat) (T : Nat → Nat) (lev : Nat) (st0 : GSt) (Q : Outcome → GSt → Prop) (a0 : Nat) (x1 : Int32) (x2 : Option Nat) (x3 : Option Nat) (x4 : Int32) (x5 : Int32) (σ : GSt) : Prop := JQ (wP G s0 l K T) mX6_statement (lev + 1) st0 340 [some (va_rf (some a0)), some (.int x1), some (va_rf x2), some (va_rf x3), some (.int x4), some (.int x5)] [] σ Q
theorem tX6_statement {G : GPl} {s0 : State} {l : Launch} {K : Nat → Option Nat} {T : Nat → Nat} {lev : Nat} {Q : Outcome → GSt → Prop} {a0 : Nat} {σ : GSt} (h : (gk σ a0 = 5 ∧ (((gr σ a0 7) = (K 0) → (CQ (wP G s0 l K T) mX6_told lev (.ref a0 :: []) σ (onR (fun r33 t32 => gle σ t32 → Q (.returned (some (va_rf r33))) t32) (fun x t => gle σ t → Q (.threw x) t)))) ∧ (¬ (gr σ a0 7) = (K 0) → (((gr σ a0 7) = (K 1) → (∃ a2, gr σ a0 6 = some a2 ∧ (gk σ a2 = 23 ∧ (CQ (wP G s0 l K T) mJ3_hashCode lev (.ref a2 :: []) σ (onI (fun r5 t4 => gle σ t4 → ((r5 = iI 3198432 → (CQ (wP G s0 l K T) mJ3_equals lev (.ref a2 :: [va_rf (some (T 10))]) t4 (onI (fun r7 t6 => gle t4 t6 → ((r7 = 0 → jX6_statement_215 G s0 l K T lev σ Q a0 (gi σ a0 3) (gr σ a0 6) (iI (-1)) t6) ∧ (¬ r7 = 0 → jX6_statement_215 G s0 l K T lev σ Q a0 (gi σ a0 3) (gr σ a0 6) (iI 5) t6))) (fun x t => gle t4 t → Q (.threw x) t)))) ∧ (r5 = iI 3387324 → (CQ (wP G s0 l K T) mJ3_equals lev (.ref a2 :: [va_rf (some (T 8))]) t4 (onI (fun r10 t9 => gle t4 t9 → ((r10 = 0 → jX6_statement_215 G s0 l K T lev σ Q a0 (gi σ a0 3) (gr σ a0 6) (iI (-1)) t9) ∧ (¬ r10 = 0 → jX6_statement_215 G s0 l K T lev σ Q a0 (gi σ a0 3) (gr σ a0 6) (iI 4) t9))) (fun x t => gle t4 t → Q (.threw x) t)))) ∧ (r5 = iI 3512060 → (CQ (wP G s0 l K T) mJ3_equals lev (.ref a2 :: [va_rf (some (T 6))]) t4 (onI (fun r13 t12 => gle t4 t12 → ((r13 = 0 → jX6_statement_215 G s0 l K T lev σ Q a0 (gi σ a0 3) (gr σ a0 6) (iI (-1)) t12) ∧ (¬ r13 = 0 → jX6_statement_215 G s0 l K T lev σ Q a0 (gi σ a0 3) (gr σ a0 6) (iI 2) t12))) (fun x t => gle t4 t → Q (.threw x) t)))) ∧ (r5 = iI 3522662 → (CQ (wP G s0 l K T) mJ3_equals lev (.ref a2 :: [va_rf (some (T 9))]) t4 (onI (fun r16 t15 => gle t4 t15 → ((r16 = 0 → jX6_statement_215 G s0 l K T lev σ Q a0 (gi σ a0 3) (gr σ a0 6) (iI (-1)) t15) ∧ (¬ r16 = 0 → jX6_statement_215 G s0 l K T lev σ Q a0 (gi σ a0 3) (gr σ a0 6) (iI 6) t15))) (fun x t => gle t4 t → Q (.threw x) t)))) ∧ (r5 = iI 3536286 → (CQ (wP G s0 l K T) mJ3_equals lev (.ref a2 :: [va_rf (some (T 4))]) t4 (onI (fun r19 t18 => gle t4 t18 → ((r19 = 0 → jX6_statement_215 G s0 l K T lev σ Q a0 (gi σ a0 3) (gr σ a0 6) (iI (-1)) t18) ∧ (¬ r19 = 0 → jX6_statement_215 G s0 l K T lev σ Q a0 (gi σ a0 3) (gr σ a0 6) (iI 0) t18))) (fun x t => gle t4 t → Q (.threw x) t)))) ∧ (r5 = iI 93260912 → (CQ (wP G s0 l K T) mJ3_equals lev (.ref a2 :: [va_rf (some (T 5))]) t4 (onI (fun r22 t21 => gle t4 t21 → ((r22 = 0 → jX6_statement_215 G s0 l K T lev σ Q a0 (gi σ a0 3) (gr σ a0 6) (iI (-1)) t21) ∧ (¬ r22 = 0 → jX6_statement_215 G s0 l K T lev σ Q a0 (gi σ a0 3) (gr σ a0 6) (iI 1) t21))) (fun x t => gle t4 t → Q (.threw x) t)))) ∧ (r5 = iI 94627080 → (CQ (wP G s0 l K T) mJ3_equals lev (.ref a2 :: [va_rf (some (T 7))]) t4 (onI (fun r25 t24 => gle t4 t24 → ((r25 = 0 → jX6_statement_215 G s0 l K T lev σ Q a0 (gi σ a0 3) (gr σ a0 6) (iI (-1)) t24) ∧ (¬ r25 = 0 → jX6_statement_215 G s0 l K T lev σ Q a0 (gi σ a0 3) (gr σ a0 6) (iI 3) t24))) (fun x t => gle t4 t → Q (.threw x) t)))) ∧ (¬ r5 = iI 3198432 → ¬ r5 = iI 3387324 → ¬ r5 = iI 3512060 → ¬ r5 = iI 3522662 → ¬ r5 = iI 3536286 → ¬ r5 = iI 93260912 → ¬ r5 = iI 94627080 → jX6_statement_215 G s0 l K T lev σ Q a0 (gi σ a0 3) (gr σ a0 6) (iI (-1)) t4))) (fun x t => gle σ t → Q (.threw x) t)))))) ∧ (¬ (gr σ a0 7) = (K 1) → (CQ (wP G s0 l K T) mX6_wrong lev (.ref a0 :: []) σ (onR (fun r29 t28 => gle σ t28 → (∃ a30, r29 = some a30 ∧ Q (.threw a30) t28)) (fun x t => gle σ t → Q (.threw x) t))))))))) : CQ (wP G s0 l K T) mX6_statement (lev + 1) [.ref a0] σ Q := by
  refine CQ.of3 5 (lv := [some (va_rf (some a0)), none, none, none, none, none]) (by decide) (Nat.le_of_ble_eq_true rfl) (cat1_cons rfl cat1_nil) rfl ?_
  refine j_aload_n (r := some a0) dX6_statement_0 rfl ?_
  obtain ⟨hk1, h⟩ := h
  refine kg_getr (a := a0) (j := 7) rfl gfX6_53 hk1 dX6_statement_1 ?_
  refine jg_gets (i := 0) rfl flX6_84 dX6_statement_4 ?_
  refine j_acmp_ne (x := gr σ a0 7) (y := K 0) 15 dX6_statement_7 (by decide) (fun c34 => ?_) (fun c34 => ?_)
  · replace h := h.2 c34
    refine j_aload_n (r := some a0) dX6_statement_15 rfl ?_
    refine kg_getr (a := a0) (j := 7) rfl gfX6_53 hk1 dX6_statement_16 ?_
    refine jg_gets (i := 1) rfl flX6_99 dX6_statement_19 ?_
    refine j_acmp_eq (x := gr σ a0 7) (y := K 1) 30 dX6_statement_22 (by decide) (fun c31 => ?_) (fun c31 => ?_)
    · replace h := h.1 c31
      refine j_aload_n (r := some a0) dX6_statement_30 rfl ?_
      refine kg_geti (a := a0) (j := 3) rfl gfX6_44 (by decide) hk1 dX6_statement_31 ?_
      refine j_istore_n (lv' := [some (va_rf (some a0)), some (.int (gi σ a0 3)), none, none, none, none]) dX6_statement_34 (by decide) rfl ?_
      refine j_aload_n (r := some a0) dX6_statement_35 rfl ?_
      refine kg_getr (a := a0) (j := 6) rfl gfX6_91 hk1 dX6_statement_36 ?_
      refine j_astore_n (r := gr σ a0 6) (lv' := [some (va_rf (some a0)), some (.int (gi σ a0 3)), none, some (va_rf (gr σ a0 6)), none, none]) dX6_statement_39 (by decide) rfl ?_
      refine j_iconst (v := iI (-1)) dX6_statement_40 rfl ?_
      refine j_istore (lv' := [some (va_rf (some a0)), some (.int (gi σ a0 3)), none, some (va_rf (gr σ a0 6)), some (.int (iI (-1))), none]) dX6_statement_41 (by decide) rfl ?_
      refine j_aload_n (r := gr σ a0 6) dX6_statement_43 rfl ?_
      obtain ⟨a2, ea2, hk3, h⟩ := h
      refine jg_calli (rest := []) (kg_lkV (As := []) (a := a2) (c := 22) kgJ3_hashCode_22 (by decide) rfl hk3 q799 rfl (by rw [ea2]; rfl) dX6_statement_44) cwJ3_hashCode (Nat.le_of_ble_eq_true rfl) rfl dX6_statement_44 (Nat.succ_le_succ (Nat.zero_le _)) (h.mono (onI_mono (fun r5 t4 h hlt4 => ?_) (fun _ _ h => h)))
      replace h := h hlt4
      replace hk1 := hlt4.tag hk1 (by decide)
      replace hk3 := hlt4.tag hk3 (by decide)
      by_cases c27_0 : r5 = iI 3198432
      · replace h := h.1 c27_0
        refine j_lookup (off := 140) 187 dX6_statement_47 (by decide) (by rw [c27_0]; first | done | rfl) (by decide) ?_
        refine j_aload_n (r := gr σ a0 6) dX6_statement_187 rfl ?_
        refine jg_ldcS (i := 10) rfl rfl dX6_statement_188 ?_
        refine jg_calli (rest := []) (kg_lkV (As := [va_rf (some (T 10))]) (a := a2) (c := 22) kgJ3_equals_22 (by decide) rfl hk3 q861 rfl (by rw [ea2]; rfl) dX6_statement_190) cwJ3_equals (Nat.le_of_ble_eq_true rfl) rfl dX6_statement_190 (Nat.succ_le_succ (Nat.zero_le _)) (h.mono (onI_mono (fun r7 t6 h hlt6 => ?_) (fun _ _ h => h)))
        replace h := h hlt6
        replace hk1 := hlt6.tag hk1 (by decide)
        replace hk3 := hlt6.tag hk3 (by decide)
        refine j_if_eq 215 dX6_statement_193 (by decide) (fun c8 => ?_) (fun c8 => ?_)
        · replace h := h.1 c8
          exact h
        · replace h := h.2 c8
          refine j_iconst (v := iI 5) dX6_statement_196 rfl ?_
          refine j_istore (lv' := [some (va_rf (some a0)), some (.int (gi σ a0 3)), none, some (va_rf (gr σ a0 6)), some (.int (iI 5)), none]) dX6_statement_197 (by decide) rfl ?_
          refine j_goto 215 dX6_statement_199 (by decide) ?_
          exact h
      by_cases c27_1 : r5 = iI 3387324
      · replace h := h.2.1 c27_1
        refine j_lookup (off := 125) 172 dX6_statement_47 (by decide) (by rw [c27_1]; first | done | rfl) (by decide) ?_
        refine j_aload_n (r := gr σ a0 6) dX6_statement_172 rfl ?_
        refine jg_ldcS (i := 8) rfl rfl dX6_statement_173 ?_
        refine jg_calli (rest := []) (kg_lkV (As := [va_rf (some (T 8))]) (a := a2) (c := 22) kgJ3_equals_22 (by decide) rfl hk3 q861 rfl (by rw [ea2]; rfl) dX6_statement_175) cwJ3_equals (Nat.le_of_ble_eq_true rfl) rfl dX6_statement_175 (Nat.succ_le_succ (Nat.zero_le _)) (h.mono (onI_mono (fun r10 t9 h hlt9 => ?_) (fun _ _ h => h)))
        replace h := h hlt9
        replace hk1 := hlt9.tag hk1 (by decide)
        replace hk3 := hlt9.tag hk3 (by decide)
        refine j_if_eq 215 dX6_statement_178 (by decide) (fun c11 => ?_) (fun c11 => ?_)
        · replace h := h.1 c11
          exact h
        · replace h := h.2 c11
          refine j_iconst (v := iI 4) dX6_statement_181 rfl ?_
          refine j_istore (lv' := [some (va_rf (some a0)), some (.int (gi σ a0 3)), none, some (va_rf (gr σ a0 6)), some (.int (iI 4)), none]) dX6_statement_182 (by decide) rfl ?_
          refine j_goto 215 dX6_statement_184 (by decide) ?_
          exact h
      by_cases c27_2 : r5 = iI 3512060
      · replace h := h.2.2.1 c27_2
        refine j_lookup (off := 95) 142 dX6_statement_47 (by decide) (by rw [c27_2]; first | done | rfl) (by decide) ?_
        refine j_aload_n (r := gr σ a0 6) dX6_statement_142 rfl ?_
        refine jg_ldcS (i := 6) rfl rfl dX6_statement_143 ?_
        refine jg_calli (rest := []) (kg_lkV (As := [va_rf (some (T 6))]) (a := a2) (c := 22) kgJ3_equals_22 (by decide) rfl hk3 q861 rfl (by rw [ea2]; rfl) dX6_statement_145) cwJ3_equals (Nat.le_of_ble_eq_true rfl) rfl dX6_statement_145 (Nat.succ_le_succ (Nat.zero_le _)) (h.mono (onI_mono (fun r13 t12 h hlt12 => ?_) (fun _ _ h => h)))
        replace h := h hlt12
        replace hk1 := hlt12.tag hk1 (by decide)
        replace hk3 := hlt12.tag hk3 (by decide)
        refine j_if_eq 215 dX6_statement_148 (by decide) (fun c14 => ?_) (fun c14 => ?_)
        · replace h := h.1 c14
          exact h
        · replace h := h.2 c14
          refine j_iconst (v := iI 2) dX6_statement_151 rfl ?_
          refine j_istore (lv' := [some (va_rf (some a0)), some (.int (gi σ a0 3)), none, some (va_rf (gr σ a0 6)), some (.int (iI 2)), none]) dX6_statement_152 (by decide) rfl ?_
          refine j_goto 215 dX6_statement_154 (by decide) ?_
          exact h
      by_cases c27_3 : r5 = iI 3522662
      · replace h := h.2.2.2.1 c27_3
        refine j_lookup (off := 155) 202 dX6_statement_47 (by decide) (by rw [c27_3]; first | done | rfl) (by decide) ?_
        refine j_aload_n (r := gr σ a0 6) dX6_statement_202 rfl ?_
        refine jg_ldcS (i := 9) rfl rfl dX6_statement_203 ?_
        refine jg_calli (rest := []) (kg_lkV (As := [va_rf (some (T 9))]) (a := a2) (c := 22) kgJ3_equals_22 (by decide) rfl hk3 q861 rfl (by rw [ea2]; rfl) dX6_statement_205) cwJ3_equals (Nat.le_of_ble_eq_true rfl) rfl dX6_statement_205 (Nat.succ_le_succ (Nat.zero_le _)) (h.mono (onI_mono (fun r16 t15 h hlt15 => ?_) (fun _ _ h => h)))
        replace h := h hlt15
        replace hk1 := hlt15.tag hk1 (by decide)
        replace hk3 := hlt15.tag hk3 (by decide)
        refine j_if_eq 215 dX6_statement_208 (by decide) (fun c17 => ?_) (fun c17 => ?_)
        · replace h := h.1 c17
          exact h
        · replace h := h.2 c17
          refine j_bipush (v := iI 6) dX6_statement_211 rfl ?_
          refine j_istore (lv' := [some (va_rf (some a0)), some (.int (gi σ a0 3)), none, some (va_rf (gr σ a0 6)), some (.int (iI 6)), none]) dX6_statement_213 (by decide) rfl ?_
          exact h
      by_cases c27_4 : r5 = iI 3536286
      · replace h := h.2.2.2.2.1 c27_4
        refine j_lookup (off := 65) 112 dX6_statement_47 (by decide) (by rw [c27_4]; first | done | rfl) (by decide) ?_
        refine j_aload_n (r := gr σ a0 6) dX6_statement_112 rfl ?_
        refine jg_ldcS (i := 4) rfl rfl dX6_statement_113 ?_
        refine jg_calli (rest := []) (kg_lkV (As := [va_rf (some (T 4))]) (a := a2) (c := 22) kgJ3_equals_22 (by decide) rfl hk3 q861 rfl (by rw [ea2]; rfl) dX6_statement_115) cwJ3_equals (Nat.le_of_ble_eq_true rfl) rfl dX6_statement_115 (Nat.succ_le_succ (Nat.zero_le _)) (h.mono (onI_mono (fun r19 t18 h hlt18 => ?_) (fun _ _ h => h)))
        replace h := h hlt18
        replace hk1 := hlt18.tag hk1 (by decide)
        replace hk3 := hlt18.tag hk3 (by decide)
        refine j_if_eq 215 dX6_statement_118 (by decide) (fun c20 => ?_) (fun c20 => ?_)
        · replace h := h.1 c20
          exact h
        · replace h := h.2 c20
          refine j_iconst (v := iI 0) dX6_statement_121 rfl ?_
          refine j_istore (lv' := [some (va_rf (some a0)), some (.int (gi σ a0 3)), none, some (va_rf (gr σ a0 6)), some (.int (iI 0)), none]) dX6_statement_122 (by decide) rfl ?_
          refine j_goto 215 dX6_statement_124 (by decide) ?_
          exact h
      by_cases c27_5 : r5 = iI 93260912
      · replace h := h.2.2.2.2.2.1 c27_5
        refine j_lookup (off := 80) 127 dX6_statement_47 (by decide) (by rw [c27_5]; first | done | rfl) (by decide) ?_
        refine j_aload_n (r := gr σ a0 6) dX6_statement_127 rfl ?_
        refine jg_ldcS (i := 5) rfl rfl dX6_statement_128 ?_
        refine jg_calli (rest := []) (kg_lkV (As := [va_rf (some (T 5))]) (a := a2) (c := 22) kgJ3_equals_22 (by decide) rfl hk3 q861 rfl (by rw [ea2]; rfl) dX6_statement_130) cwJ3_equals (Nat.le_of_ble_eq_true rfl) rfl dX6_statement_130 (Nat.succ_le_succ (Nat.zero_le _)) (h.mono (onI_mono (fun r22 t21 h hlt21 => ?_) (fun _ _ h => h)))
        replace h := h hlt21
        replace hk1 := hlt21.tag hk1 (by decide)
        replace hk3 := hlt21.tag hk3 (by decide)
        refine j_if_eq 215 dX6_statement_133 (by decide) (fun c23 => ?_) (fun c23 => ?_)
        · replace h := h.1 c23
          exact h
        · replace h := h.2 c23
          refine j_iconst (v := iI 1) dX6_statement_136 rfl ?_
          refine j_istore (lv' := [some (va_rf (some a0)), some (.int (gi σ a0 3)), none, some (va_rf (gr σ a0 6)), some (.int (iI 1)), none]) dX6_statement_137 (by decide) rfl ?_
          refine j_goto 215 dX6_statement_139 (by decide) ?_
          exact h
      by_cases c27_6 : r5 = iI 94627080
      · replace h := h.2.2.2.2.2.2.1 c27_6
        refine j_lookup (off := 110) 157 dX6_statement_47 (by decide) (by rw [c27_6]; first | done | rfl) (by decide) ?_
        refine j_aload_n (r := gr σ a0 6) dX6_statement_157 rfl ?_
        refine jg_ldcS (i := 7) rfl rfl dX6_statement_158 ?_
        refine jg_calli (rest := []) (kg_lkV (As := [va_rf (some (T 7))]) (a := a2) (c := 22) kgJ3_equals_22 (by decide) rfl hk3 q861 rfl (by rw [ea2]; rfl) dX6_statement_160) cwJ3_equals (Nat.le_of_ble_eq_true rfl) rfl dX6_statement_160 (Nat.succ_le_succ (Nat.zero_le _)) (h.mono (onI_mono (fun r25 t24 h hlt24 => ?_) (fun _ _ h => h)))
        replace h := h hlt24
        replace hk1 := hlt24.tag hk1 (by decide)
        replace hk3 := hlt24.tag hk3 (by decide)
        refine j_if_eq 215 dX6_statement_163 (by decide) (fun c26 => ?_) (fun c26 => ?_)
        · replace h := h.1 c26
          exact h
        · replace h := h.2 c26
          refine j_iconst (v := iI 3) dX6_statement_166 rfl ?_
          refine j_istore (lv' := [some (va_rf (some a0)), some (.int (gi σ a0 3)), none, some (va_rf (gr σ a0 6)), some (.int (iI 3)), none]) dX6_statement_167 (by decide) rfl ?_
          refine j_goto 215 dX6_statement_169 (by decide) ?_
          exact h
      replace h := h.2.2.2.2.2.2.2 c27_0 c27_1 c27_2 c27_3 c27_4 c27_5 c27_6
      refine j_lookup (off := 168) 215 dX6_statement_47 (by decide) ((lv_osw c27_0 (by decide)).trans ((lv_osw c27_1 (by decide)).trans ((lv_osw c27_2 (by decide)).trans ((lv_osw c27_3 (by decide)).trans ((lv_osw c27_4 (by decide)).trans ((lv_osw c27_5 (by decide)).trans ((lv_osw c27_6 (by decide)).trans rfl))))))) (by decide) ?_
      exact h
    · replace h := h.2 c31
      refine j_aload_n (r := some a0) dX6_statement_25 rfl ?_
      refine jg_callr (rest := []) (kg_lkV (As := []) (a := a0) (c := 4) kgX6_wrong_4 (by decide) rfl hk1 q984 rfl rfl dX6_statement_26) cwX6_wrong (Nat.le_of_ble_eq_true rfl) rfl dX6_statement_26 (Nat.succ_le_succ (Nat.zero_le _)) (h.mono (onR_mono (fun r29 t28 h hlt28 => ?_) (fun _ _ h => h)))
      replace h := h hlt28
      replace hk1 := hlt28.tag hk1 (by decide)
      obtain ⟨a30, ea30, h⟩ := h
      exact kg_athrow (a := a30) ea30 rfl dX6_statement_29 h
  · replace h := h.1 c34
    refine j_aload_n (r := some a0) dX6_statement_10 rfl ?_
    refine jg_callr (rest := []) (kg_lkV (As := []) (a := a0) (c := 4) kgX6_told_4 (by decide) rfl hk1 q936 rfl rfl dX6_statement_11) cwX6_told (Nat.le_of_ble_eq_true rfl) rfl dX6_statement_11 (Nat.succ_le_succ (Nat.zero_le _)) (h.mono (onR_mono (fun r33 t32 h hlt32 => ?_) (fun _ _ h => h)))
    replace h := h hlt32
    replace hk1 := hlt32.tag hk1 (by decide)
    exact j_areturn (r := r33) rfl (Or.inl ⟨_, rfl⟩) dX6_statement_14 h
theorem tX6_statement_215 {G : GPl} {s0 : State} {l : Launch} {K : Nat → Option Nat} {T : Nat → Nat} {lev : Nat} {st0 : GSt} {Q : Outcome → GSt → Prop} {a0 : Nat} {x1 : Int32} {x3 : Option Nat} {x4 : Int32} {σ : GSt} (h : ((x4 = iI 0 → (groom G 6 σ ∧ (CQ (wP G s0 l K T) mX7_init lev (.ref (gn σ) :: [va_rf (K 6), .int x1]) (gmk 6 6 σ) (onV (fun t3 => gle (gmk 6 6 σ) t3 → (gk t3 a0 = 5 ∧ (CQ (wP G s0 l K T) mX6_go lev (.ref a0 :: []) t3 (onV (fun t6 => gle t3 t6 → (CQ (wP G s0 l K T) mX6_name_2 lev (.ref a0 :: [va_rf (some (gn σ)), .int (iI 0)]) t6 (onV (fun t8 => gle t6 t8 → Q (.returned (some (va_rf (some (gn σ))))) t8) (fun x t => gle t6 t → Q (.threw x) t)))) (fun x t => gle t3 t → Q (.threw x) t))))) (fun x t => gle (gmk 6 6 σ) t → Q (.threw x) t))))) ∧ (x4 = iI 1 → (groom G 6 σ ∧ (CQ (wP G s0 l K T) mX7_init lev (.ref (gn σ) :: [va_rf (K 7), .int x1]) (gmk 6 6 σ) (onV (fun t12 => gle (gmk 6 6 σ) t12 → (gk t12 a0 = 5 ∧ (CQ (wP G s0 l K T) mX6_go lev (.ref a0 :: []) t12 (onV (fun t15 => gle t12 t15 → (CQ (wP G s0 l K T) mX6_name_2 lev (.ref a0 :: [va_rf (some (gn σ)), .int (iI 0)]) t15 (onV (fun t17 => gle t15 t17 → (CQ (wP G s0 l K T) mX6_need lev (.ref a0 :: [.int (iI 58)]) t17 (onI (fun r20 t19 => gle t17 t19 → (CQ (wP G s0 l K T) mX6_name_2 lev (.ref a0 :: [va_rf (some (gn σ)), .int (iI 1)]) t19 (onV (fun t21 => gle t19 t21 → Q (.returned (some (va_rf (some (gn σ))))) t21) (fun x t => gle t19 t → Q (.threw x) t)))) (fun x t => gle t17 t → Q (.threw x) t)))) (fun x t => gle t15 t → Q (.threw x) t)))) (fun x t => gle t12 t → Q (.threw x) t))))) (fun x t => gle (gmk 6 6 σ) t → Q (.threw x) t))))) ∧ (x4 = iI 2 → (groom G 6 σ ∧ (CQ (wP G s0 l K T) mX7_init lev (.ref (gn σ) :: [va_rf (K 8), .int x1]) (gmk 6 6 σ) (onV (fun t25 => gle (gmk 6 6 σ) t25 → (gk t25 a0 = 5 ∧ (CQ (wP G s0 l K T) mX6_go lev (.ref a0 :: []) t25 (onV (fun t28 => gle t25 t28 → jX6_statement_340 G s0 l K T lev st0 Q a0 x1 (some (gn σ)) x3 x4 (iI 0) t28) (fun x t => gle t25 t → Q (.threw x) t))))) (fun x t => gle (gmk 6 6 σ) t → Q (.threw x) t))))) ∧ (x4 = iI 3 → (gk σ a0 = 5 ∧ (CQ (wP G s0 l K T) mX6_asked lev (.ref a0 :: [va_rf (K 10), .int x1]) σ (onR (fun r32 t31 => gle σ t31 → (CQ (wP G s0 l K T) mX6_isSign lev (.ref a0 :: [.int (iI 58)]) t31 (onI (fun r34 t33 => gle t31 t33 → ((r34 = 0 → Q (.returned (some (va_rf r32))) t33) ∧ (¬ r34 = 0 → (CQ (wP G s0 l K T) mX6_go lev (.ref a0 :: []) t33 (onV (fun t35 => gle t33 t35 → (CQ (wP G s0 l K T) mX6_term lev (.ref a0 :: []) t35 (onR (fun r38 t37 => gle t35 t37 → (∃ a39, r32 = some a39 ∧ (gk t37 a39 = 6 ∧ Q (.returned (some (va_rf r32))) (gpr a39 4 r38 t37)))) (fun x t => gle t35 t → Q (.threw x) t)))) (fun x t => gle t33 t → Q (.threw x) t)))))) (fun x t => gle t31 t → Q (.threw x) t)))) (fun x t => gle σ t → Q (.threw x) t))))) ∧ (x4 = iI 4 → (gk σ a0 = 5 ∧ (CQ (wP G s0 l K T) mX6_asked lev (.ref a0 :: [va_rf (K 11), .int x1]) σ (onR (fun r44 t43 => gle σ t43 → Q (.returned (some (va_rf r44))) t43) (fun x t => gle σ t → Q (.threw x) t))))) ∧ (x4 = iI 5 → (gk σ a0 = 5 ∧ (CQ (wP G s0 l K T) mX6_asked lev (.ref a0 :: [va_rf (K 12), .int x1]) σ (onR (fun r47 t46 => gle σ t46 → Q (.returned (some (va_rf r47))) t46) (fun x t => gle σ t → Q (.threw x) t))))) ∧ (x4 = iI 6 → (gk σ a0 = 5 ∧ (CQ (wP G s0 l K T) mX6_asked lev (.ref a0 :: [va_rf (K 13), .int x1]) σ (onR (fun r50 t49 => gle σ t49 → (CQ (wP G s0 l K T) mX6_need lev (.ref a0 :: [.int (iI 61)]) t49 (onI (fun r52 t51 => gle t49 t51 → (CQ (wP G s0 l K T) mX6_term lev (.ref a0 :: []) t51 (onR (fun r54 t53 => gle t51 t53 → (∃ a55, r50 = some a55 ∧ (gk t53 a55 = 6 ∧ Q (.returned (some (va_rf r50))) (gpr a55 4 r54 t53)))) (fun x t => gle t51 t → Q (.threw x) t)))) (fun x t => gle t49 t → Q (.threw x) t)))) (fun x t => gle σ t → Q (.threw x) t))))) ∧ (tout x4 0 6 → (gk σ a0 = 5 ∧ (CQ (wP G s0 l K T) mX6_wrong lev (.ref a0 :: []) σ (onR (fun r59 t58 => gle σ t58 → (∃ a60, r59 = some a60 ∧ Q (.threw a60) t58)) (fun x t => gle σ t → Q (.threw x) t))))))) : jX6_statement_215 G s0 l K T lev st0 Q a0 x1 x3 x4 σ := by
  refine j_iload dX6_statement_215 rfl ?_
  rcases tb_case 7 0 (x4) with ⟨c61, hc61, ec61⟩ | ec61
  · match c61, hc61, ec61 with
    | 0, _, ec61 =>
      have ec61 : x4 = iI 0 := ec61
      replace h := h.1 ec61
      refine j_tableIn 260 dX6_statement_217 (by rw [ec61]; decide) (by rw [ec61]; decide) (by rw [ec61]; rfl) (by decide) ?_
      obtain ⟨hg1, h⟩ := h
      refine jg_new (c := 5) (N := 6) (C := "PureHouse$Statement") (by decide) ⟨rfl, rfl⟩ q940 q941 q141 hg1 dX6_statement_260 ?_
      have hk2 := gk_new (t := 6) (n := 6) hg1.2.2
      refine j_dup dX6_statement_263 rfl ?_
      refine jg_gets (i := 6) rfl flX6_179 dX6_statement_264 ?_
      refine j_iload_n dX6_statement_267 rfl ?_
      refine jg_callv (rest := [va_rf (some (gn σ))]) (kg_lkI (As := [va_rf (K 6), .int x1]) (a := (gn σ)) kiX7_init (Or.inl q944) rfl rfl dX6_statement_268) cwX7_init (Nat.le_of_ble_eq_true rfl) rfl dX6_statement_268 (Nat.succ_le_succ (Nat.zero_le _)) (h.mono (onV_mono (fun t3 h hlt3 => ?_) (fun _ _ h => h)))
      replace h := h hlt3
      replace hk2 := hlt3.tag hk2 (by decide)
      refine j_astore_n (r := some (gn σ)) (lv' := [some (va_rf (some a0)), some (.int x1), some (va_rf (some (gn σ))), some (va_rf x3), some (.int x4), none]) dX6_statement_271 (by decide) rfl ?_
      refine j_aload_n (r := some a0) dX6_statement_272 rfl ?_
      obtain ⟨hk5, h⟩ := h
      refine jg_callv (rest := []) (kg_lkV (As := []) (a := a0) (c := 4) kgX6_go_4 (by decide) rfl hk5 q487 rfl rfl dX6_statement_273) cwX6_go (Nat.le_of_ble_eq_true rfl) rfl dX6_statement_273 (Nat.succ_le_succ (Nat.zero_le _)) (h.mono (onV_mono (fun t6 h hlt6 => ?_) (fun _ _ h => h)))
      replace h := h hlt6
      replace hk2 := hlt6.tag hk2 (by decide)
      replace hk5 := hlt6.tag hk5 (by decide)
      refine j_aload_n (r := some a0) dX6_statement_276 rfl ?_
      refine j_aload_n (r := some (gn σ)) dX6_statement_277 rfl ?_
      refine j_iconst (v := iI 0) dX6_statement_278 rfl ?_
      refine jg_callv (rest := []) (kg_lkV (As := [va_rf (some (gn σ)), .int (iI 0)]) (a := a0) (c := 4) kgX6_name_2_4 (by decide) rfl hk5 q976 rfl rfl dX6_statement_279) cwX6_name_2 (Nat.le_of_ble_eq_true rfl) rfl dX6_statement_279 (Nat.succ_le_succ (Nat.zero_le _)) (h.mono (onV_mono (fun t8 h hlt8 => ?_) (fun _ _ h => h)))
      replace h := h hlt8
      replace hk2 := hlt8.tag hk2 (by decide)
      replace hk5 := hlt8.tag hk5 (by decide)
      refine j_aload_n (r := some (gn σ)) dX6_statement_282 rfl ?_
      exact j_areturn (r := some (gn σ)) rfl (Or.inl ⟨_, rfl⟩) dX6_statement_283 h
    | 1, _, ec61 =>
      have ec61 : x4 = iI 1 := ec61
      replace h := h.2.1 ec61
      refine j_tableIn 284 dX6_statement_217 (by rw [ec61]; decide) (by rw [ec61]; decide) (by rw [ec61]; rfl) (by decide) ?_
      obtain ⟨hg10, h⟩ := h
      refine jg_new (c := 5) (N := 6) (C := "PureHouse$Statement") (by decide) ⟨rfl, rfl⟩ q940 q941 q141 hg10 dX6_statement_284 ?_
      have hk11 := gk_new (t := 6) (n := 6) hg10.2.2
      refine j_dup dX6_statement_287 rfl ?_
      refine jg_gets (i := 7) rfl flX6_191 dX6_statement_288 ?_
      refine j_iload_n dX6_statement_291 rfl ?_
      refine jg_callv (rest := [va_rf (some (gn σ))]) (kg_lkI (As := [va_rf (K 7), .int x1]) (a := (gn σ)) kiX7_init (Or.inl q944) rfl rfl dX6_statement_292) cwX7_init (Nat.le_of_ble_eq_true rfl) rfl dX6_statement_292 (Nat.succ_le_succ (Nat.zero_le _)) (h.mono (onV_mono (fun t12 h hlt12 => ?_) (fun _ _ h => h)))
      replace h := h hlt12
      replace hk11 := hlt12.tag hk11 (by decide)
      refine j_astore_n (r := some (gn σ)) (lv' := [some (va_rf (some a0)), some (.int x1), some (va_rf (some (gn σ))), some (va_rf x3), some (.int x4), none]) dX6_statement_295 (by decide) rfl ?_
      refine j_aload_n (r := some a0) dX6_statement_296 rfl ?_
      obtain ⟨hk14, h⟩ := h
      refine jg_callv (rest := []) (kg_lkV (As := []) (a := a0) (c := 4) kgX6_go_4 (by decide) rfl hk14 q487 rfl rfl dX6_statement_297) cwX6_go (Nat.le_of_ble_eq_true rfl) rfl dX6_statement_297 (Nat.succ_le_succ (Nat.zero_le _)) (h.mono (onV_mono (fun t15 h hlt15 => ?_) (fun _ _ h => h)))
      replace h := h hlt15
      replace hk11 := hlt15.tag hk11 (by decide)
      replace hk14 := hlt15.tag hk14 (by decide)
      refine j_aload_n (r := some a0) dX6_statement_300 rfl ?_
      refine j_aload_n (r := some (gn σ)) dX6_statement_301 rfl ?_
      refine j_iconst (v := iI 0) dX6_statement_302 rfl ?_
      refine jg_callv (rest := []) (kg_lkV (As := [va_rf (some (gn σ)), .int (iI 0)]) (a := a0) (c := 4) kgX6_name_2_4 (by decide) rfl hk14 q976 rfl rfl dX6_statement_303) cwX6_name_2 (Nat.le_of_ble_eq_true rfl) rfl dX6_statement_303 (Nat.succ_le_succ (Nat.zero_le _)) (h.mono (onV_mono (fun t17 h hlt17 => ?_) (fun _ _ h => h)))
      replace h := h hlt17
      replace hk11 := hlt17.tag hk11 (by decide)
      replace hk14 := hlt17.tag hk14 (by decide)
      refine j_aload_n (r := some a0) dX6_statement_306 rfl ?_
      refine j_bipush (v := iI 58) dX6_statement_307 rfl ?_
      refine jg_calli (rest := []) (kg_lkV (As := [.int (iI 58)]) (a := a0) (c := 4) kgX6_need_4 (by decide) rfl hk14 q1023 rfl rfl dX6_statement_309) cwX6_need (Nat.le_of_ble_eq_true rfl) rfl dX6_statement_309 (Nat.succ_le_succ (Nat.zero_le _)) (h.mono (onI_mono (fun r20 t19 h hlt19 => ?_) (fun _ _ h => h)))
      replace h := h hlt19
      replace hk11 := hlt19.tag hk11 (by decide)
      replace hk14 := hlt19.tag hk14 (by decide)
      refine j_pop dX6_statement_312 rfl ?_
      refine j_aload_n (r := some a0) dX6_statement_313 rfl ?_
      refine j_aload_n (r := some (gn σ)) dX6_statement_314 rfl ?_
      refine j_iconst (v := iI 1) dX6_statement_315 rfl ?_
      refine jg_callv (rest := []) (kg_lkV (As := [va_rf (some (gn σ)), .int (iI 1)]) (a := a0) (c := 4) kgX6_name_2_4 (by decide) rfl hk14 q976 rfl rfl dX6_statement_316) cwX6_name_2 (Nat.le_of_ble_eq_true rfl) rfl dX6_statement_316 (Nat.succ_le_succ (Nat.zero_le _)) (h.mono (onV_mono (fun t21 h hlt21 => ?_) (fun _ _ h => h)))
      replace h := h hlt21
      replace hk11 := hlt21.tag hk11 (by decide)
      replace hk14 := hlt21.tag hk14 (by decide)
      refine j_aload_n (r := some (gn σ)) dX6_statement_319 rfl ?_
      exact j_areturn (r := some (gn σ)) rfl (Or.inl ⟨_, rfl⟩) dX6_statement_320 h
    | 2, _, ec61 =>
      have ec61 : x4 = iI 2 := ec61
      replace h := h.2.2.1 ec61
      refine j_tableIn 321 dX6_statement_217 (by rw [ec61]; decide) (by rw [ec61]; decide) (by rw [ec61]; rfl) (by decide) ?_
      obtain ⟨hg23, h⟩ := h
      refine jg_new (c := 5) (N := 6) (C := "PureHouse$Statement") (by decide) ⟨rfl, rfl⟩ q940 q941 q141 hg23 dX6_statement_321 ?_
      have hk24 := gk_new (t := 6) (n := 6) hg23.2.2
      refine j_dup dX6_statement_324 rfl ?_
      refine jg_gets (i := 8) rfl flX6_194 dX6_statement_325 ?_
      refine j_iload_n dX6_statement_328 rfl ?_
      refine jg_callv (rest := [va_rf (some (gn σ))]) (kg_lkI (As := [va_rf (K 8), .int x1]) (a := (gn σ)) kiX7_init (Or.inl q944) rfl rfl dX6_statement_329) cwX7_init (Nat.le_of_ble_eq_true rfl) rfl dX6_statement_329 (Nat.succ_le_succ (Nat.zero_le _)) (h.mono (onV_mono (fun t25 h hlt25 => ?_) (fun _ _ h => h)))
      replace h := h hlt25
      replace hk24 := hlt25.tag hk24 (by decide)
      refine j_astore_n (r := some (gn σ)) (lv' := [some (va_rf (some a0)), some (.int x1), some (va_rf (some (gn σ))), some (va_rf x3), some (.int x4), none]) dX6_statement_332 (by decide) rfl ?_
      refine j_aload_n (r := some a0) dX6_statement_333 rfl ?_
      obtain ⟨hk27, h⟩ := h
      refine jg_callv (rest := []) (kg_lkV (As := []) (a := a0) (c := 4) kgX6_go_4 (by decide) rfl hk27 q487 rfl rfl dX6_statement_334) cwX6_go (Nat.le_of_ble_eq_true rfl) rfl dX6_statement_334 (Nat.succ_le_succ (Nat.zero_le _)) (h.mono (onV_mono (fun t28 h hlt28 => ?_) (fun _ _ h => h)))
      replace h := h hlt28
      replace hk24 := hlt28.tag hk24 (by decide)
      replace hk27 := hlt28.tag hk27 (by decide)
      refine j_iconst (v := iI 0) dX6_statement_337 rfl ?_
      refine j_istore (lv' := [some (va_rf (some a0)), some (.int x1), some (va_rf (some (gn σ))), some (va_rf x3), some (.int x4), some (.int (iI 0))]) dX6_statement_338 (by decide) rfl ?_
      exact h
    | 3, _, ec61 =>
      have ec61 : x4 = iI 3 := ec61
      replace h := h.2.2.2.1 ec61
      refine j_tableIn 361 dX6_statement_217 (by rw [ec61]; decide) (by rw [ec61]; decide) (by rw [ec61]; rfl) (by decide) ?_
      refine j_aload_n (r := some a0) dX6_statement_361 rfl ?_
      refine jg_gets (i := 10) rfl flX6_197 dX6_statement_362 ?_
      refine j_iload_n dX6_statement_365 rfl ?_
      obtain ⟨hk30, h⟩ := h
      refine jg_callr (rest := []) (kg_lkV (As := [va_rf (K 10), .int x1]) (a := a0) (c := 4) kgX6_asked_4 (by decide) rfl hk30 q1316 rfl rfl dX6_statement_366) cwX6_asked (Nat.le_of_ble_eq_true rfl) rfl dX6_statement_366 (Nat.succ_le_succ (Nat.zero_le _)) (h.mono (onR_mono (fun r32 t31 h hlt31 => ?_) (fun _ _ h => h)))
      replace h := h hlt31
      replace hk30 := hlt31.tag hk30 (by decide)
      refine j_astore_n (r := r32) (lv' := [some (va_rf (some a0)), some (.int x1), some (va_rf r32), some (va_rf x3), some (.int x4), none]) dX6_statement_369 (by decide) rfl ?_
      refine j_aload_n (r := some a0) dX6_statement_370 rfl ?_
      refine j_bipush (v := iI 58) dX6_statement_371 rfl ?_
      refine jg_calli (rest := []) (kg_lkV (As := [.int (iI 58)]) (a := a0) (c := 4) kgX6_isSign_4 (by decide) rfl hk30 q1011 rfl rfl dX6_statement_373) cwX6_isSign (Nat.le_of_ble_eq_true rfl) rfl dX6_statement_373 (Nat.succ_le_succ (Nat.zero_le _)) (h.mono (onI_mono (fun r34 t33 h hlt33 => ?_) (fun _ _ h => h)))
      replace h := h hlt33
      replace hk30 := hlt33.tag hk30 (by decide)
      refine j_if_ne 381 dX6_statement_376 (by decide) (fun c41 => ?_) (fun c41 => ?_)
      · replace h := h.2 c41
        refine j_aload_n (r := some a0) dX6_statement_381 rfl ?_
        refine jg_callv (rest := []) (kg_lkV (As := []) (a := a0) (c := 4) kgX6_go_4 (by decide) rfl hk30 q487 rfl rfl dX6_statement_382) cwX6_go (Nat.le_of_ble_eq_true rfl) rfl dX6_statement_382 (Nat.succ_le_succ (Nat.zero_le _)) (h.mono (onV_mono (fun t35 h hlt35 => ?_) (fun _ _ h => h)))
        replace h := h hlt35
        replace hk30 := hlt35.tag hk30 (by decide)
        refine j_aload_n (r := r32) dX6_statement_385 rfl ?_
        refine j_aload_n (r := some a0) dX6_statement_386 rfl ?_
        refine jg_callr (rest := [va_rf r32]) (kg_lkV (As := []) (a := a0) (c := 4) kgX6_term_4 (by decide) rfl hk30 q1015 rfl rfl dX6_statement_387) cwX6_term (rm_ok (cat1_cons (rf_cat _) cat1_nil) (Nat.le_of_ble_eq_true rfl)) rfl dX6_statement_387 (Nat.succ_le_succ (Nat.zero_le _)) (h.mono (onR_mono (fun r38 t37 h hlt37 => ?_) (fun _ _ h => h)))
        replace h := h hlt37
        replace hk30 := hlt37.tag hk30 (by decide)
        obtain ⟨a39, ea39, hk40, h⟩ := h
        refine kg_putr (a := a39) (x := r38) ea39 gfX6_208 (Or.inl rfl) hk40 (Or.inl (by decide)) dX6_statement_390 ?_
        refine j_aload_n (r := r32) dX6_statement_393 rfl ?_
        exact j_areturn (r := r32) rfl (Or.inl ⟨_, rfl⟩) dX6_statement_394 h
      · replace h := h.1 c41
        refine j_aload_n (r := r32) dX6_statement_379 rfl ?_
        exact j_areturn (r := r32) rfl (Or.inl ⟨_, rfl⟩) dX6_statement_380 h
    | 4, _, ec61 =>
      have ec61 : x4 = iI 4 := ec61
      replace h := h.2.2.2.2.1 ec61
      refine j_tableIn 395 dX6_statement_217 (by rw [ec61]; decide) (by rw [ec61]; decide) (by rw [ec61]; rfl) (by decide) ?_
      refine j_aload_n (r := some a0) dX6_statement_395 rfl ?_
      refine jg_gets (i := 11) rfl flX6_212 dX6_statement_396 ?_
      refine j_iload_n dX6_statement_399 rfl ?_
      obtain ⟨hk42, h⟩ := h
      refine jg_callr (rest := []) (kg_lkV (As := [va_rf (K 11), .int x1]) (a := a0) (c := 4) kgX6_asked_4 (by decide) rfl hk42 q1316 rfl rfl dX6_statement_400) cwX6_asked (Nat.le_of_ble_eq_true rfl) rfl dX6_statement_400 (Nat.succ_le_succ (Nat.zero_le _)) (h.mono (onR_mono (fun r44 t43 h hlt43 => ?_) (fun _ _ h => h)))
      replace h := h hlt43
      replace hk42 := hlt43.tag hk42 (by decide)
      exact j_areturn (r := r44) rfl (Or.inl ⟨_, rfl⟩) dX6_statement_403 h
    | 5, _, ec61 =>
      have ec61 : x4 = iI 5 := ec61
      replace h := h.2.2.2.2.2.1 ec61
      refine j_tableIn 404 dX6_statement_217 (by rw [ec61]; decide) (by rw [ec61]; decide) (by rw [ec61]; rfl) (by decide) ?_
      refine j_aload_n (r := some a0) dX6_statement_404 rfl ?_
      refine jg_gets (i := 12) rfl flX6_215 dX6_statement_405 ?_
      refine j_iload_n dX6_statement_408 rfl ?_
      obtain ⟨hk45, h⟩ := h
      refine jg_callr (rest := []) (kg_lkV (As := [va_rf (K 12), .int x1]) (a := a0) (c := 4) kgX6_asked_4 (by decide) rfl hk45 q1316 rfl rfl dX6_statement_409) cwX6_asked (Nat.le_of_ble_eq_true rfl) rfl dX6_statement_409 (Nat.succ_le_succ (Nat.zero_le _)) (h.mono (onR_mono (fun r47 t46 h hlt46 => ?_) (fun _ _ h => h)))
      replace h := h hlt46
      replace hk45 := hlt46.tag hk45 (by decide)
      exact j_areturn (r := r47) rfl (Or.inl ⟨_, rfl⟩) dX6_statement_412 h
    | 6, _, ec61 =>
      have ec61 : x4 = iI 6 := ec61
      replace h := h.2.2.2.2.2.2.1 ec61
      refine j_tableIn 413 dX6_statement_217 (by rw [ec61]; decide) (by rw [ec61]; decide) (by rw [ec61]; rfl) (by decide) ?_
      refine j_aload_n (r := some a0) dX6_statement_413 rfl ?_
      refine jg_gets (i := 13) rfl flX6_218 dX6_statement_414 ?_
      refine j_iload_n dX6_statement_417 rfl ?_
      obtain ⟨hk48, h⟩ := h
      refine jg_callr (rest := []) (kg_lkV (As := [va_rf (K 13), .int x1]) (a := a0) (c := 4) kgX6_asked_4 (by decide) rfl hk48 q1316 rfl rfl dX6_statement_418) cwX6_asked (Nat.le_of_ble_eq_true rfl) rfl dX6_statement_418 (Nat.succ_le_succ (Nat.zero_le _)) (h.mono (onR_mono (fun r50 t49 h hlt49 => ?_) (fun _ _ h => h)))
      replace h := h hlt49
      replace hk48 := hlt49.tag hk48 (by decide)
      refine j_astore_n (r := r50) (lv' := [some (va_rf (some a0)), some (.int x1), some (va_rf r50), some (va_rf x3), some (.int x4), none]) dX6_statement_421 (by decide) rfl ?_
      refine j_aload_n (r := some a0) dX6_statement_422 rfl ?_
      refine j_bipush (v := iI 61) dX6_statement_423 rfl ?_
      refine jg_calli (rest := []) (kg_lkV (As := [.int (iI 61)]) (a := a0) (c := 4) kgX6_need_4 (by decide) rfl hk48 q1023 rfl rfl dX6_statement_425) cwX6_need (Nat.le_of_ble_eq_true rfl) rfl dX6_statement_425 (Nat.succ_le_succ (Nat.zero_le _)) (h.mono (onI_mono (fun r52 t51 h hlt51 => ?_) (fun _ _ h => h)))
      replace h := h hlt51
      replace hk48 := hlt51.tag hk48 (by decide)
      refine j_pop dX6_statement_428 rfl ?_
      refine j_aload_n (r := r50) dX6_statement_429 rfl ?_
      refine j_aload_n (r := some a0) dX6_statement_430 rfl ?_
      refine jg_callr (rest := [va_rf r50]) (kg_lkV (As := []) (a := a0) (c := 4) kgX6_term_4 (by decide) rfl hk48 q1015 rfl rfl dX6_statement_431) cwX6_term (rm_ok (cat1_cons (rf_cat _) cat1_nil) (Nat.le_of_ble_eq_true rfl)) rfl dX6_statement_431 (Nat.succ_le_succ (Nat.zero_le _)) (h.mono (onR_mono (fun r54 t53 h hlt53 => ?_) (fun _ _ h => h)))
      replace h := h hlt53
      replace hk48 := hlt53.tag hk48 (by decide)
      obtain ⟨a55, ea55, hk56, h⟩ := h
      refine kg_putr (a := a55) (x := r54) ea55 gfX6_208 (Or.inl rfl) hk56 (Or.inl (by decide)) dX6_statement_434 ?_
      refine j_aload_n (r := r50) dX6_statement_437 rfl ?_
      exact j_areturn (r := r50) rfl (Or.inl ⟨_, rfl⟩) dX6_statement_438 h
    | q_ + 7, hq_, _ => exact absurd hq_ (by omega)
  · replace h := h.2.2.2.2.2.2.2 ec61
    refine j_tableOut 439 dX6_statement_217 ec61 (by decide) ?_
    refine j_aload_n (r := some a0) dX6_statement_439 rfl ?_
    obtain ⟨hk57, h⟩ := h
    refine jg_callr (rest := []) (kg_lkV (As := []) (a := a0) (c := 4) kgX6_wrong_4 (by decide) rfl hk57 q984 rfl rfl dX6_statement_440) cwX6_wrong (Nat.le_of_ble_eq_true rfl) rfl dX6_statement_440 (Nat.succ_le_succ (Nat.zero_le _)) (h.mono (onR_mono (fun r59 t58 h hlt58 => ?_) (fun _ _ h => h)))
    replace h := h hlt58
    replace hk57 := hlt58.tag hk57 (by decide)
    obtain ⟨a60, ea60, h⟩ := h
    exact kg_athrow (a := a60) ea60 rfl dX6_statement_443 h
theorem tX6_statement_340 {G : GPl} {s0 : State} {l : Launch} {K : Nat → Option Nat} {T : Nat → Nat} {lev : Nat} {st0 : GSt} {Q : Outcome → GSt → Prop} {a0 : Nat} {x1 : Int32} {x2 : Option Nat} {x3 : Option Nat} {x4 : Int32} {x5 : Int32} {σ : GSt} (h : (((iI 3) ≤ x5 → Q (.returned (some (va_rf x2))) σ) ∧ (¬ (iI 3) ≤ x5 → (gk σ a0 = 5 ∧ (CQ (wP G s0 l K T) mX6_name_2 lev (.ref a0 :: [va_rf x2, .int x5]) σ (onV (fun t2 => gle σ t2 → jX6_statement_340 G s0 l K T lev st0 Q a0 x1 x2 x3 x4 (x5 + iI 1) t2) (fun x t => gle σ t → Q (.threw x) t))))))) : jX6_statement_340 G s0 l K T lev st0 Q a0 x1 x2 x3 x4 x5 σ := by
  refine j_iload dX6_statement_340 rfl ?_
  refine j_iconst (v := iI 3) dX6_statement_342 rfl ?_
  refine j_icmp_ge 359 dX6_statement_343 (by decide) (fun c4 => ?_) (fun c4 => ?_)
  · replace h := h.1 c4
    refine j_aload_n (r := x2) dX6_statement_359 rfl ?_
    exact j_areturn (r := x2) rfl (Or.inl ⟨_, rfl⟩) dX6_statement_360 h
  · replace h := h.2 c4
    refine j_aload_n (r := some a0) dX6_statement_346 rfl ?_
    refine j_aload_n (r := x2) dX6_statement_347 rfl ?_
    refine j_iload dX6_statement_348 rfl ?_
    obtain ⟨hk1, h⟩ := h
    refine jg_callv (rest := []) (kg_lkV (As := [va_rf x2, .int x5]) (a := a0) (c := 4) kgX6_name_2_4 (by decide) rfl hk1 q976 rfl rfl dX6_statement_350) cwX6_name_2 (Nat.le_of_ble_eq_true rfl) rfl dX6_statement_350 (Nat.succ_le_succ (Nat.zero_le _)) (h.mono (onV_mono (fun t2 h hlt2 => ?_) (fun _ _ h => h)))
    replace h := h hlt2
    replace hk1 := hlt2.tag hk1 (by decide)
    refine j_iinc (lv' := [some (va_rf (some a0)), some (.int x1), some (va_rf x2), some (va_rf x3), some (.int x4), some (.int (x5 + iI 1))]) dX6_statement_353 rfl (by decide) rfl ?_
    refine j_goto 340 dX6_statement_356 (by decide) ?_
    exact h
abbrev jX6_told_54 (G : GPl) (s0 : State) (l : Launch) (K : Nat → Option Nat) (T : Nat → Nat) (lev : Nat) (st0 : GSt) (Q : Outcome → GSt → Prop) (a0 : Nat) (x1 : Option Nat) (σ : GSt) : Prop := JQ (wP G s0 l K T) mX6_told (lev + 1) st0 54 [some (va_rf (some a0)), some (va_rf x1)] [] σ Q
theorem tX6_told {G : GPl} {s0 : State} {l : Launch} {K : Nat → Option Nat} {T : Nat → Nat} {lev : Nat} {Q : Outcome → GSt → Prop} {a0 : Nat} {σ : GSt} (h : (groom G 6 σ ∧ (gk (gmk 6 6 σ) a0 = 5 ∧ (CQ (wP G s0 l K T) mX7_init lev (.ref (gn σ) :: [va_rf (K 9), .int (gi (gmk 6 6 σ) a0 3)]) (gmk 6 6 σ) (onV (fun t4 => gle (gmk 6 6 σ) t4 → (CQ (wP G s0 l K T) mX6_name_2 lev (.ref a0 :: [va_rf (some (gn σ)), .int (iI 0)]) t4 (onV (fun t6 => gle t4 t6 → (CQ (wP G s0 l K T) mX6_isSign lev (.ref a0 :: [.int (iI 58)]) t6 (onI (fun r9 t8 => gle t6 t8 → ((r9 = 0 → jX6_told_54 G s0 l K T lev σ Q a0 (some (gn σ)) t8) ∧ (¬ r9 = 0 → (CQ (wP G s0 l K T) mX6_go lev (.ref a0 :: []) t8 (onV (fun t10 => gle t8 t10 → (CQ (wP G s0 l K T) mX6_term lev (.ref a0 :: []) t10 (onR (fun r13 t12 => gle t10 t12 → (CQ (wP G s0 l K T) mX6_isSign lev (.ref a0 :: [.int (iI 257)]) (gpr (gn σ) 4 r13 t12) (onI (fun r15 t14 => gle (gpr (gn σ) 4 r13 t12) t14 → ((r15 = 0 → Q (.returned (some (va_rf (some (gn σ))))) t14) ∧ (¬ r15 = 0 → jX6_told_54 G s0 l K T lev σ Q a0 (some (gn σ)) t14))) (fun x t => gle (gpr (gn σ) 4 r13 t12) t → Q (.threw x) t)))) (fun x t => gle t10 t → Q (.threw x) t)))) (fun x t => gle t8 t → Q (.threw x) t)))))) (fun x t => gle t6 t → Q (.threw x) t)))) (fun x t => gle t4 t → Q (.threw x) t)))) (fun x t => gle (gmk 6 6 σ) t → Q (.threw x) t)))))) : CQ (wP G s0 l K T) mX6_told (lev + 1) [.ref a0] σ Q := by
  refine CQ.of3 1 (lv := [some (va_rf (some a0)), none]) (by decide) (Nat.le_of_ble_eq_true rfl) (cat1_cons rfl cat1_nil) rfl ?_
  obtain ⟨hg1, h⟩ := h
  refine jg_new (c := 5) (N := 6) (C := "PureHouse$Statement") (by decide) ⟨rfl, rfl⟩ q940 q941 q141 hg1 dX6_told_0 ?_
  have hk2 := gk_new (t := 6) (n := 6) hg1.2.2
  refine j_dup dX6_told_3 rfl ?_
  refine jg_gets (i := 9) rfl flX6_223 dX6_told_4 ?_
  refine j_aload_n (r := some a0) dX6_told_7 rfl ?_
  obtain ⟨hk3, h⟩ := h
  refine kg_geti (a := a0) (j := 3) rfl gfX6_44 (by decide) hk3 dX6_told_8 ?_
  refine jg_callv (rest := [va_rf (some (gn σ))]) (kg_lkI (As := [va_rf (K 9), .int (gi (gmk 6 6 σ) a0 3)]) (a := (gn σ)) kiX7_init (Or.inl q944) rfl rfl dX6_told_11) cwX7_init (Nat.le_of_ble_eq_true rfl) rfl dX6_told_11 (Nat.succ_le_succ (Nat.zero_le _)) (h.mono (onV_mono (fun t4 h hlt4 => ?_) (fun _ _ h => h)))
  replace h := h hlt4
  replace hk2 := hlt4.tag hk2 (by decide)
  replace hk3 := hlt4.tag hk3 (by decide)
  refine j_astore_n (r := some (gn σ)) (lv' := [some (va_rf (some a0)), some (va_rf (some (gn σ)))]) dX6_told_14 (by decide) rfl ?_
  refine j_aload_n (r := some a0) dX6_told_15 rfl ?_
  refine j_aload_n (r := some (gn σ)) dX6_told_16 rfl ?_
  refine j_iconst (v := iI 0) dX6_told_17 rfl ?_
  refine jg_callv (rest := []) (kg_lkV (As := [va_rf (some (gn σ)), .int (iI 0)]) (a := a0) (c := 4) kgX6_name_2_4 (by decide) rfl hk3 q976 rfl rfl dX6_told_18) cwX6_name_2 (Nat.le_of_ble_eq_true rfl) rfl dX6_told_18 (Nat.succ_le_succ (Nat.zero_le _)) (h.mono (onV_mono (fun t6 h hlt6 => ?_) (fun _ _ h => h)))
  replace h := h hlt6
  replace hk2 := hlt6.tag hk2 (by decide)
  replace hk3 := hlt6.tag hk3 (by decide)
  refine j_aload_n (r := some a0) dX6_told_21 rfl ?_
  refine j_bipush (v := iI 58) dX6_told_22 rfl ?_
  refine jg_calli (rest := []) (kg_lkV (As := [.int (iI 58)]) (a := a0) (c := 4) kgX6_isSign_4 (by decide) rfl hk3 q1011 rfl rfl dX6_told_24) cwX6_isSign (Nat.le_of_ble_eq_true rfl) rfl dX6_told_24 (Nat.succ_le_succ (Nat.zero_le _)) (h.mono (onI_mono (fun r9 t8 h hlt8 => ?_) (fun _ _ h => h)))
  replace h := h hlt8
  replace hk2 := hlt8.tag hk2 (by decide)
  replace hk3 := hlt8.tag hk3 (by decide)
  refine j_if_eq 54 dX6_told_27 (by decide) (fun c17 => ?_) (fun c17 => ?_)
  · replace h := h.1 c17
    exact h
  · replace h := h.2 c17
    refine j_aload_n (r := some a0) dX6_told_30 rfl ?_
    refine jg_callv (rest := []) (kg_lkV (As := []) (a := a0) (c := 4) kgX6_go_4 (by decide) rfl hk3 q487 rfl rfl dX6_told_31) cwX6_go (Nat.le_of_ble_eq_true rfl) rfl dX6_told_31 (Nat.succ_le_succ (Nat.zero_le _)) (h.mono (onV_mono (fun t10 h hlt10 => ?_) (fun _ _ h => h)))
    replace h := h hlt10
    replace hk2 := hlt10.tag hk2 (by decide)
    replace hk3 := hlt10.tag hk3 (by decide)
    refine j_aload_n (r := some (gn σ)) dX6_told_34 rfl ?_
    refine j_aload_n (r := some a0) dX6_told_35 rfl ?_
    refine jg_callr (rest := [va_rf (some (gn σ))]) (kg_lkV (As := []) (a := a0) (c := 4) kgX6_term_4 (by decide) rfl hk3 q1015 rfl rfl dX6_told_36) cwX6_term (Nat.le_of_ble_eq_true rfl) rfl dX6_told_36 (Nat.succ_le_succ (Nat.zero_le _)) (h.mono (onR_mono (fun r13 t12 h hlt12 => ?_) (fun _ _ h => h)))
    replace h := h hlt12
    replace hk2 := hlt12.tag hk2 (by decide)
    replace hk3 := hlt12.tag hk3 (by decide)
    refine kg_putr (a := (gn σ)) (x := r13) rfl gfX6_208 (Or.inl rfl) hk2 (Or.inl (by decide)) dX6_told_39 ?_
    refine j_aload_n (r := some a0) dX6_told_42 rfl ?_
    refine j_sipush (v := iI 257) dX6_told_43 rfl ?_
    refine jg_calli (rest := []) (kg_lkV (As := [.int (iI 257)]) (a := a0) (c := 4) kgX6_isSign_4 (by decide) rfl hk3 q1011 rfl rfl dX6_told_46) cwX6_isSign (Nat.le_of_ble_eq_true rfl) rfl dX6_told_46 (Nat.succ_le_succ (Nat.zero_le _)) (h.mono (onI_mono (fun r15 t14 h hlt14 => ?_) (fun _ _ h => h)))
    replace h := h hlt14
    replace hk2 := hlt14.tag hk2 (by decide)
    replace hk3 := hlt14.tag hk3 (by decide)
    refine j_if_ne 54 dX6_told_49 (by decide) (fun c16 => ?_) (fun c16 => ?_)
    · replace h := h.2 c16
      exact h
    · replace h := h.1 c16
      refine j_aload_n (r := some (gn σ)) dX6_told_52 rfl ?_
      exact j_areturn (r := some (gn σ)) rfl (Or.inl ⟨_, rfl⟩) dX6_told_53 h
theorem tX6_told_54 {G : GPl} {s0 : State} {l : Launch} {K : Nat → Option Nat} {T : Nat → Nat} {lev : Nat} {st0 : GSt} {Q : Outcome → GSt → Prop} {a0 : Nat} {x1 : Option Nat} {σ : GSt} (h : (gk σ a0 = 5 ∧ (CQ (wP G s0 l K T) mX6_need lev (.ref a0 :: [.int (iI 257)]) σ (onI (fun r3 t2 => gle σ t2 → (CQ (wP G s0 l K T) mX6_term lev (.ref a0 :: []) t2 (onR (fun r5 t4 => gle t2 t4 → (∃ a6, x1 = some a6 ∧ (gk t4 a6 = 6 ∧ Q (.returned (some (va_rf x1))) (gpr a6 5 r5 t4)))) (fun x t => gle t2 t → Q (.threw x) t)))) (fun x t => gle σ t → Q (.threw x) t))))) : jX6_told_54 G s0 l K T lev st0 Q a0 x1 σ := by
  refine j_aload_n (r := some a0) dX6_told_54 rfl ?_
  refine j_sipush (v := iI 257) dX6_told_55 rfl ?_
  obtain ⟨hk1, h⟩ := h
  refine jg_calli (rest := []) (kg_lkV (As := [.int (iI 257)]) (a := a0) (c := 4) kgX6_need_4 (by decide) rfl hk1 q1023 rfl rfl dX6_told_58) cwX6_need (Nat.le_of_ble_eq_true rfl) rfl dX6_told_58 (Nat.succ_le_succ (Nat.zero_le _)) (h.mono (onI_mono (fun r3 t2 h hlt2 => ?_) (fun _ _ h => h)))
  replace h := h hlt2
  replace hk1 := hlt2.tag hk1 (by decide)
  refine j_pop dX6_told_61 rfl ?_
  refine j_aload_n (r := x1) dX6_told_62 rfl ?_
  refine j_aload_n (r := some a0) dX6_told_63 rfl ?_
  refine jg_callr (rest := [va_rf x1]) (kg_lkV (As := []) (a := a0) (c := 4) kgX6_term_4 (by decide) rfl hk1 q1015 rfl rfl dX6_told_64) cwX6_term (rm_ok (cat1_cons (rf_cat _) cat1_nil) (Nat.le_of_ble_eq_true rfl)) rfl dX6_told_64 (Nat.succ_le_succ (Nat.zero_le _)) (h.mono (onR_mono (fun r5 t4 h hlt4 => ?_) (fun _ _ h => h)))
  replace h := h hlt4
  replace hk1 := hlt4.tag hk1 (by decide)
  obtain ⟨a6, ea6, hk7, h⟩ := h
  refine kg_putr (a := a6) (x := r5) ea6 gfX6_221 (Or.inl rfl) hk7 (Or.inl (by decide)) dX6_told_67 ?_
  refine j_aload_n (r := x1) dX6_told_70 rfl ?_
  exact j_areturn (r := x1) rfl (Or.inl ⟨_, rfl⟩) dX6_told_71 h
theorem tX6_name_2 {G : GPl} {s0 : State} {l : Launch} {K : Nat → Option Nat} {T : Nat → Nat} {lev : Nat} {Q : Outcome → GSt → Prop} {a0 : Nat} {x1 : Option Nat} {x2 : Int32} {σ : GSt} (h : (∃ a1, x1 = some a1 ∧ (gk σ a1 = 6 ∧ (gk σ a0 = 5 ∧ (∃ a4, gr σ a1 3 = some a4 ∧ (gk σ a4 = 101 ∧ (inr x2 (gl σ a4) ∧ (CQ (wP G s0 l K T) mX6_needName lev (.ref a0 :: []) (gpi a4 (ix x2) (gi σ a0 3) σ) (onR (fun r8 t7 => gle (gpi a4 (ix x2) (gi σ a0 3) σ) t7 → (∃ a9, gr (gpi a4 (ix x2) (gi σ a0 3) σ) a1 2 = some a9 ∧ (gk t7 a9 = 104 ∧ (inr x2 (gl t7 a9) ∧ (stOK t7 r8 "java/lang/String" ∧ Q (.returned none) (gpr a9 (ix x2) r8 t7)))))) (fun x t => gle (gpi a4 (ix x2) (gi σ a0 3) σ) t → Q (.threw x) t)))))))))) : CQ (wP G s0 l K T) mX6_name_2 (lev + 1) [.ref a0, va_rf x1, .int x2] σ Q := by
  refine CQ.of3 0 (lv := [some (va_rf (some a0)), some (va_rf x1), some (.int x2)]) (by decide) (Nat.le_of_ble_eq_true rfl) (cat1_cons rfl (cat1_cons (rf_cat _) (cat1_cons rfl cat1_nil))) rfl ?_
  refine j_aload_n (r := x1) dX6_name_2_0 rfl ?_
  obtain ⟨a1, ea1, hk2, h⟩ := h
  refine kg_getr (a := a1) (j := 3) ea1 gfX6_163 hk2 dX6_name_2_1 ?_
  refine j_iload_n dX6_name_2_4 rfl ?_
  refine j_aload_n (r := some a0) dX6_name_2_5 rfl ?_
  obtain ⟨hk3, h⟩ := h
  refine kg_geti (a := a0) (j := 3) rfl gfX6_44 (by decide) hk3 dX6_name_2_6 ?_
  obtain ⟨a4, ea4, hk5, hi6, h⟩ := h
  refine kg_ast (a := a4) ea4 hk5 hi6 dX6_name_2_9 ?_
  refine j_aload_n (r := x1) dX6_name_2_10 rfl ?_
  refine kg_getr (a := a1) (j := 2) ea1 gfX6_169 hk2 dX6_name_2_11 ?_
  refine j_iload_n dX6_name_2_14 rfl ?_
  refine j_aload_n (r := some a0) dX6_name_2_15 rfl ?_
  refine jg_callr (rest := [.int x2, va_rf (gr (gpi a4 (ix x2) (gi σ a0 3) σ) a1 2)]) (kg_lkV (As := []) (a := a0) (c := 4) kgX6_needName_4 (by decide) rfl hk3 q980 rfl rfl dX6_name_2_16) cwX6_needName (rm_ok (cat1_cons rfl (cat1_cons (rf_cat _) cat1_nil)) (Nat.le_of_ble_eq_true rfl)) rfl dX6_name_2_16 (Nat.succ_le_succ (Nat.zero_le _)) (h.mono (onR_mono (fun r8 t7 h hlt7 => ?_) (fun _ _ h => h)))
  replace h := h hlt7
  replace hk2 := hlt7.tag hk2 (by decide)
  replace hk3 := hlt7.tag hk3 (by decide)
  replace hk5 := hlt7.tag hk5 (by decide)
  obtain ⟨a9, ea9, hk10, hi11, hs12, h⟩ := h
  refine kg_aast (a := a9) (x := r8) (C := "java/lang/String") ea9 hk10 (by decide) hi11 hs12 dX6_name_2_19 ?_
  exact j_return rfl dX6_name_2_20 h
theorem tX6_needName {G : GPl} {s0 : State} {l : Launch} {K : Nat → Option Nat} {T : Nat → Nat} {lev : Nat} {Q : Outcome → GSt → Prop} {a0 : Nat} {σ : GSt} (h : (gk σ a0 = 5 ∧ (((gr σ a0 7) = (K 0) → (CQ (wP G s0 l K T) mX6_go lev (.ref a0 :: []) σ (onV (fun t2 => gle σ t2 → Q (.returned (some (va_rf (gr σ a0 6)))) t2) (fun x t => gle σ t → Q (.threw x) t)))) ∧ (¬ (gr σ a0 7) = (K 0) → (CQ (wP G s0 l K T) mX6_wrong lev (.ref a0 :: []) σ (onR (fun r5 t4 => gle σ t4 → (∃ a6, r5 = some a6 ∧ Q (.threw a6) t4)) (fun x t => gle σ t → Q (.threw x) t))))))) : CQ (wP G s0 l K T) mX6_needName (lev + 1) [.ref a0] σ Q := by
  refine CQ.of3 1 (lv := [some (va_rf (some a0)), none]) (by decide) (Nat.le_of_ble_eq_true rfl) (cat1_cons rfl cat1_nil) rfl ?_
  refine j_aload_n (r := some a0) dX6_needName_0 rfl ?_
  obtain ⟨hk1, h⟩ := h
  refine kg_getr (a := a0) (j := 7) rfl gfX6_53 hk1 dX6_needName_1 ?_
  refine jg_gets (i := 0) rfl flX6_84 dX6_needName_4 ?_
  refine j_acmp_eq (x := gr σ a0 7) (y := K 0) 15 dX6_needName_7 (by decide) (fun c7 => ?_) (fun c7 => ?_)
  · replace h := h.1 c7
    refine j_aload_n (r := some a0) dX6_needName_15 rfl ?_
    refine kg_getr (a := a0) (j := 6) rfl gfX6_91 hk1 dX6_needName_16 ?_
    refine j_astore_n (r := gr σ a0 6) (lv' := [some (va_rf (some a0)), some (va_rf (gr σ a0 6))]) dX6_needName_19 (by decide) rfl ?_
    refine j_aload_n (r := some a0) dX6_needName_20 rfl ?_
    refine jg_callv (rest := []) (kg_lkV (As := []) (a := a0) (c := 4) kgX6_go_4 (by decide) rfl hk1 q487 rfl rfl dX6_needName_21) cwX6_go (Nat.le_of_ble_eq_true rfl) rfl dX6_needName_21 (Nat.succ_le_succ (Nat.zero_le _)) (h.mono (onV_mono (fun t2 h hlt2 => ?_) (fun _ _ h => h)))
    replace h := h hlt2
    replace hk1 := hlt2.tag hk1 (by decide)
    refine j_aload_n (r := gr σ a0 6) dX6_needName_24 rfl ?_
    exact j_areturn (r := gr σ a0 6) rfl (Or.inl ⟨_, rfl⟩) dX6_needName_25 h
  · replace h := h.2 c7
    refine j_aload_n (r := some a0) dX6_needName_10 rfl ?_
    refine jg_callr (rest := []) (kg_lkV (As := []) (a := a0) (c := 4) kgX6_wrong_4 (by decide) rfl hk1 q984 rfl rfl dX6_needName_11) cwX6_wrong (Nat.le_of_ble_eq_true rfl) rfl dX6_needName_11 (Nat.succ_le_succ (Nat.zero_le _)) (h.mono (onR_mono (fun r5 t4 h hlt4 => ?_) (fun _ _ h => h)))
    replace h := h hlt4
    replace hk1 := hlt4.tag hk1 (by decide)
    obtain ⟨a6, ea6, h⟩ := h
    exact kg_athrow (a := a6) ea6 rfl dX6_needName_14 h
theorem tX6_wrong {G : GPl} {s0 : State} {l : Launch} {K : Nat → Option Nat} {T : Nat → Nat} {lev : Nat} {Q : Outcome → GSt → Prop} {a0 : Nat} {σ : GSt} (h : (groom G 8 σ ∧ (gk (gmk 7 8 σ) a0 = 5 ∧ (((gr (gmk 7 8 σ) a0 7) = (K 3) → (CQ (wP G s0 l K T) mX8_init lev (.ref (gn σ) :: [.int (iI 2), .int (gi (gmk 7 8 σ) a0 3)]) (gmk 7 8 σ) (onV (fun t6 => gle (gmk 7 8 σ) t6 → Q (.returned (some (va_rf (some (gn σ))))) t6) (fun x t => gle (gmk 7 8 σ) t → Q (.threw x) t)))) ∧ (¬ (gr (gmk 7 8 σ) a0 7) = (K 3) → (CQ (wP G s0 l K T) mX8_init lev (.ref (gn σ) :: [.int (iI 1), .int (gi (gmk 7 8 σ) a0 3)]) (gmk 7 8 σ) (onV (fun t4 => gle (gmk 7 8 σ) t4 → Q (.returned (some (va_rf (some (gn σ))))) t4) (fun x t => gle (gmk 7 8 σ) t → Q (.threw x) t)))))))) : CQ (wP G s0 l K T) mX6_wrong (lev + 1) [.ref a0] σ Q := by
  refine CQ.of3 0 (lv := [some (va_rf (some a0))]) (by decide) (Nat.le_of_ble_eq_true rfl) (cat1_cons rfl cat1_nil) rfl ?_
  obtain ⟨hg1, h⟩ := h
  refine jg_new (c := 6) (N := 8) (C := "PureHouse$Fault") (by decide) ⟨rfl, rfl⟩ q988 q989 q143 hg1 dX6_wrong_0 ?_
  have hk2 := gk_new (t := 7) (n := 8) hg1.2.2
  refine j_dup dX6_wrong_3 rfl ?_
  refine j_aload_n (r := some a0) dX6_wrong_4 rfl ?_
  obtain ⟨hk3, h⟩ := h
  refine kg_getr (a := a0) (j := 7) rfl gfX6_53 hk3 dX6_wrong_5 ?_
  refine jg_gets (i := 3) rfl flX6_81 dX6_wrong_8 ?_
  refine j_acmp_ne (x := gr (gmk 7 8 σ) a0 7) (y := K 3) 18 dX6_wrong_11 (by decide) (fun c8 => ?_) (fun c8 => ?_)
  · replace h := h.2 c8
    refine j_iconst (v := iI 1) dX6_wrong_18 rfl ?_
    refine j_aload_n (r := some a0) dX6_wrong_19 rfl ?_
    refine kg_geti (a := a0) (j := 3) rfl gfX6_44 (by decide) hk3 dX6_wrong_20 ?_
    refine jg_callv (rest := [va_rf (some (gn σ))]) (kg_lkI (As := [.int (iI 1), .int (gi (gmk 7 8 σ) a0 3)]) (a := (gn σ)) kiX8_init (Or.inl q997) rfl rfl dX6_wrong_23) cwX8_init (Nat.le_of_ble_eq_true rfl) rfl dX6_wrong_23 (Nat.succ_le_succ (Nat.zero_le _)) (h.mono (onV_mono (fun t4 h hlt4 => ?_) (fun _ _ h => h)))
    replace h := h hlt4
    replace hk2 := hlt4.tag hk2 (by decide)
    replace hk3 := hlt4.tag hk3 (by decide)
    exact j_areturn (r := some (gn σ)) rfl (Or.inl ⟨_, rfl⟩) dX6_wrong_26 h
  · replace h := h.1 c8
    refine j_iconst (v := iI 2) dX6_wrong_14 rfl ?_
    refine j_goto 19 dX6_wrong_15 (by decide) ?_
    refine j_aload_n (r := some a0) dX6_wrong_19 rfl ?_
    refine kg_geti (a := a0) (j := 3) rfl gfX6_44 (by decide) hk3 dX6_wrong_20 ?_
    refine jg_callv (rest := [va_rf (some (gn σ))]) (kg_lkI (As := [.int (iI 2), .int (gi (gmk 7 8 σ) a0 3)]) (a := (gn σ)) kiX8_init (Or.inl q997) rfl rfl dX6_wrong_23) cwX8_init (Nat.le_of_ble_eq_true rfl) rfl dX6_wrong_23 (Nat.succ_le_succ (Nat.zero_le _)) (h.mono (onV_mono (fun t6 h hlt6 => ?_) (fun _ _ h => h)))
    replace h := h hlt6
    replace hk2 := hlt6.tag hk2 (by decide)
    replace hk3 := hlt6.tag hk3 (by decide)
    exact j_areturn (r := some (gn σ)) rfl (Or.inl ⟨_, rfl⟩) dX6_wrong_26 h
theorem tX6_isSign {G : GPl} {s0 : State} {l : Launch} {K : Nat → Option Nat} {T : Nat → Nat} {lev : Nat} {Q : Outcome → GSt → Prop} {a0 : Nat} {x1 : Int32} {σ : GSt} (h : (gk σ a0 = 5 ∧ (((gr σ a0 7) = (K 2) → (((gi σ a0 4) = x1 → Q (.returned (some (.int (iI 1)))) σ) ∧ (¬ (gi σ a0 4) = x1 → Q (.returned (some (.int (iI 0)))) σ))) ∧ (¬ (gr σ a0 7) = (K 2) → Q (.returned (some (.int (iI 0)))) σ)))) : CQ (wP G s0 l K T) mX6_isSign (lev + 1) [.ref a0, .int x1] σ Q := by
  refine CQ.of3 0 (lv := [some (va_rf (some a0)), some (.int x1)]) (by decide) (Nat.le_of_ble_eq_true rfl) (cat1_cons rfl (cat1_cons rfl cat1_nil)) rfl ?_
  refine j_aload_n (r := some a0) dX6_isSign_0 rfl ?_
  obtain ⟨hk1, h⟩ := h
  refine kg_getr (a := a0) (j := 7) rfl gfX6_53 hk1 dX6_isSign_1 ?_
  refine jg_gets (i := 2) rfl flX6_133 dX6_isSign_4 ?_
  refine j_acmp_ne (x := gr σ a0 7) (y := K 2) 22 dX6_isSign_7 (by decide) (fun c3 => ?_) (fun c3 => ?_)
  · replace h := h.2 c3
    refine j_iconst (v := iI 0) dX6_isSign_22 rfl ?_
    exact j_ireturn (ty := .boolean) rfl rfl dX6_isSign_23 h
  · replace h := h.1 c3
    refine j_aload_n (r := some a0) dX6_isSign_10 rfl ?_
    refine kg_geti (a := a0) (j := 4) rfl gfX6_136 (by decide) hk1 dX6_isSign_11 ?_
    refine j_iload_n dX6_isSign_14 rfl ?_
    refine j_icmp_ne 22 dX6_isSign_15 (by decide) (fun c2 => ?_) (fun c2 => ?_)
    · replace h := h.2 c2
      refine j_iconst (v := iI 0) dX6_isSign_22 rfl ?_
      exact j_ireturn (ty := .boolean) rfl rfl dX6_isSign_23 h
    · replace h := h.1 c2
      refine j_iconst (v := iI 1) dX6_isSign_18 rfl ?_
      refine j_goto 23 dX6_isSign_19 (by decide) ?_
      exact j_ireturn (ty := .boolean) rfl rfl dX6_isSign_23 h
abbrev jX6_term_32 (G : GPl) (s0 : State) (l : Launch) (K : Nat → Option Nat) (T : Nat → Nat) (lev : Nat) (st0 : GSt) (Q : Outcome → GSt → Prop) (a0 : Nat) (σ : GSt) : Prop := JQ (wP G s0 l K T) mX6_term (lev + 1) st0 32 [some (va_rf (some a0)), none, none] [] σ Q
abbrev jX6_term_65 (G : GPl) (s0 : State) (l : Launch) (K : Nat → Option Nat) (T : Nat → Nat) (lev : Nat) (st0 : GSt) (Q : Outcome → GSt → Prop) (a0 : Nat) (x1 : Int32) (σ : GSt) : Prop := JQ (wP G s0 l K T) mX6_term (lev + 1) st0 65 [some (va_rf (some a0)), some (.int x1), none] [] σ Q
theorem tX6_term {G : GPl} {s0 : State} {l : Launch} {K : Nat → Option Nat} {T : Nat → Nat} {lev : Nat} {Q : Outcome → GSt → Prop} {a0 : Nat} {σ : GSt} (h : (gk σ a0 = 5 ∧ (((gi σ a0 5) = (iI 40) → (((gr σ a0 7) = (K 5) → jX6_term_32 G s0 l K T lev σ Q a0 σ) ∧ (¬ (gr σ a0 7) = (K 5) → (groom G 8 σ ∧ (CQ (wP G s0 l K T) mX8_init lev (.ref (gn σ) :: [.int (iI 2), .int (gi (gmk 7 8 σ) a0 3)]) (gmk 7 8 σ) (onV (fun t4 => gle (gmk 7 8 σ) t4 → Q (.threw (gn σ)) t4) (fun x t => gle (gmk 7 8 σ) t → Q (.threw x) t))))))) ∧ (¬ (gi σ a0 5) = (iI 40) → jX6_term_32 G s0 l K T lev σ Q a0 σ)))) : CQ (wP G s0 l K T) mX6_term (lev + 1) [.ref a0] σ Q := by
  refine CQ.of3 2 (lv := [some (va_rf (some a0)), none, none]) (by decide) (Nat.le_of_ble_eq_true rfl) (cat1_cons rfl cat1_nil) rfl ?_
  refine j_aload_n (r := some a0) dX6_term_0 rfl ?_
  obtain ⟨hk1, h⟩ := h
  refine kg_geti (a := a0) (j := 5) rfl gfX6_226 (by decide) hk1 dX6_term_1 ?_
  refine j_bipush (v := iI 40) dX6_term_4 rfl ?_
  refine j_icmp_ne 32 dX6_term_6 (by decide) (fun c7 => ?_) (fun c7 => ?_)
  · replace h := h.2 c7
    exact h
  · replace h := h.1 c7
    refine j_aload_n (r := some a0) dX6_term_9 rfl ?_
    refine kg_getr (a := a0) (j := 7) rfl gfX6_53 hk1 dX6_term_10 ?_
    refine jg_gets (i := 5) rfl flX6_56 dX6_term_13 ?_
    refine j_acmp_eq (x := gr σ a0 7) (y := K 5) 32 dX6_term_16 (by decide) (fun c6 => ?_) (fun c6 => ?_)
    · replace h := h.1 c6
      exact h
    · replace h := h.2 c6
      obtain ⟨hg2, h⟩ := h
      refine jg_new (c := 6) (N := 8) (C := "PureHouse$Fault") (by decide) ⟨rfl, rfl⟩ q988 q989 q143 hg2 dX6_term_19 ?_
      replace hk1 := gk_mk (t := 7) (n := 8) hk1 (by decide)
      have hk3 := gk_new (t := 7) (n := 8) hg2.2.2
      refine j_dup dX6_term_22 rfl ?_
      refine j_iconst (v := iI 2) dX6_term_23 rfl ?_
      refine j_aload_n (r := some a0) dX6_term_24 rfl ?_
      refine kg_geti (a := a0) (j := 3) rfl gfX6_44 (by decide) hk1 dX6_term_25 ?_
      refine jg_callv (rest := [va_rf (some (gn σ))]) (kg_lkI (As := [.int (iI 2), .int (gi (gmk 7 8 σ) a0 3)]) (a := (gn σ)) kiX8_init (Or.inl q997) rfl rfl dX6_term_28) cwX8_init (Nat.le_of_ble_eq_true rfl) rfl dX6_term_28 (Nat.succ_le_succ (Nat.zero_le _)) (h.mono (onV_mono (fun t4 h hlt4 => ?_) (fun _ _ h => h)))
      replace h := h hlt4
      replace hk1 := hlt4.tag hk1 (by decide)
      replace hk3 := hlt4.tag hk3 (by decide)
      exact kg_athrow (a := (gn σ)) rfl rfl dX6_term_31 h
theorem tX6_term_32 {G : GPl} {s0 : State} {l : Launch} {K : Nat → Option Nat} {T : Nat → Nat} {lev : Nat} {st0 : GSt} {Q : Outcome → GSt → Prop} {a0 : Nat} {σ : GSt} (h : (gk σ a0 = 5 ∧ (CQ (wP G s0 l K T) mX6_isSign lev (.ref a0 :: [.int (iI 92)]) (gpi a0 5 ((gi σ a0 5) + (iI 1)) σ) (onI (fun r3 t2 => gle (gpi a0 5 ((gi σ a0 5) + (iI 1)) σ) t2 → ((r3 = 0 → (CQ (wP G s0 l K T) mX6_isSign lev (.ref a0 :: [.int (iI 33)]) t2 (onI (fun r5 t4 => gle t2 t4 → ((r5 = 0 → (CQ (wP G s0 l K T) mX6_isWord lev (.ref a0 :: [va_rf (some (T 11))]) t4 (onI (fun r7 t6 => gle t4 t6 → ((r7 = 0 → (CQ (wP G s0 l K T) mX6_arrow lev (.ref a0 :: []) t6 (onR (fun r9 t8 => gle t6 t8 → (∃ a10, r9 = some a10 ∧ (isTmA t8 a10 ∧ (((gi t8 a10 1) = (iI (-1)) → Q (.returned (some (va_rf r9))) (gpi a0 5 ((gi (gpi a10 1 (gi (gpi a0 5 ((gi σ a0 5) + (iI 1)) σ) a0 3) t8) a0 5) - (iI 1)) (gpi a10 1 (gi (gpi a0 5 ((gi σ a0 5) + (iI 1)) σ) a0 3) t8))) ∧ (¬ (gi t8 a10 1) = (iI (-1)) → Q (.returned (some (va_rf r9))) (gpi a0 5 ((gi t8 a0 5) - (iI 1)) t8)))))) (fun x t => gle t6 t → Q (.threw x) t)))) ∧ (¬ r7 = 0 → (CQ (wP G s0 l K T) mX6_let lev (.ref a0 :: []) t6 (onR (fun r14 t13 => gle t6 t13 → (∃ a15, r14 = some a15 ∧ (isTmA t13 a15 ∧ (((gi t13 a15 1) = (iI (-1)) → Q (.returned (some (va_rf r14))) (gpi a0 5 ((gi (gpi a15 1 (gi (gpi a0 5 ((gi σ a0 5) + (iI 1)) σ) a0 3) t13) a0 5) - (iI 1)) (gpi a15 1 (gi (gpi a0 5 ((gi σ a0 5) + (iI 1)) σ) a0 3) t13))) ∧ (¬ (gi t13 a15 1) = (iI (-1)) → Q (.returned (some (va_rf r14))) (gpi a0 5 ((gi t13 a0 5) - (iI 1)) t13)))))) (fun x t => gle t6 t → Q (.threw x) t)))))) (fun x t => gle t4 t → Q (.threw x) t)))) ∧ (¬ r5 = 0 → jX6_term_65 G s0 l K T lev st0 Q a0 (gi (gpi a0 5 ((gi σ a0 5) + (iI 1)) σ) a0 3) t4))) (fun x t => gle t2 t → Q (.threw x) t)))) ∧ (¬ r3 = 0 → jX6_term_65 G s0 l K T lev st0 Q a0 (gi (gpi a0 5 ((gi σ a0 5) + (iI 1)) σ) a0 3) t2))) (fun x t => gle (gpi a0 5 ((gi σ a0 5) + (iI 1)) σ) t → Q (.threw x) t))))) : jX6_term_32 G s0 l K T lev st0 Q a0 σ := by
  refine j_aload_n (r := some a0) dX6_term_32 rfl ?_
  refine j_dup dX6_term_33 rfl ?_
  obtain ⟨hk1, h⟩ := h
  refine kg_geti (a := a0) (j := 5) rfl gfX6_226 (by decide) hk1 dX6_term_34 ?_
  refine j_iconst (v := iI 1) dX6_term_37 rfl ?_
  refine j_iadd dX6_term_38 ?_
  refine kg_puti (a := a0) rfl gfX6_226 (Or.inl rfl) hk1 (Or.inl (by decide)) dX6_term_39 ?_
  refine j_aload_n (r := some a0) dX6_term_42 rfl ?_
  refine kg_geti (a := a0) (j := 3) rfl gfX6_44 (by decide) hk1 dX6_term_43 ?_
  refine j_istore_n (lv' := [some (va_rf (some a0)), some (.int (gi (gpi a0 5 ((gi σ a0 5) + (iI 1)) σ) a0 3)), none]) dX6_term_46 (by decide) rfl ?_
  refine j_aload_n (r := some a0) dX6_term_47 rfl ?_
  refine j_bipush (v := iI 92) dX6_term_48 rfl ?_
  refine jg_calli (rest := []) (kg_lkV (As := [.int (iI 92)]) (a := a0) (c := 4) kgX6_isSign_4 (by decide) rfl hk1 q1011 rfl rfl dX6_term_50) cwX6_isSign (Nat.le_of_ble_eq_true rfl) rfl dX6_term_50 (Nat.succ_le_succ (Nat.zero_le _)) (h.mono (onI_mono (fun r3 t2 h hlt2 => ?_) (fun _ _ h => h)))
  replace h := h hlt2
  replace hk1 := hlt2.tag hk1 (by decide)
  refine j_if_ne 65 dX6_term_53 (by decide) (fun c20 => ?_) (fun c20 => ?_)
  · replace h := h.2 c20
    exact h
  · replace h := h.1 c20
    refine j_aload_n (r := some a0) dX6_term_56 rfl ?_
    refine j_bipush (v := iI 33) dX6_term_57 rfl ?_
    refine jg_calli (rest := []) (kg_lkV (As := [.int (iI 33)]) (a := a0) (c := 4) kgX6_isSign_4 (by decide) rfl hk1 q1011 rfl rfl dX6_term_59) cwX6_isSign (Nat.le_of_ble_eq_true rfl) rfl dX6_term_59 (Nat.succ_le_succ (Nat.zero_le _)) (h.mono (onI_mono (fun r5 t4 h hlt4 => ?_) (fun _ _ h => h)))
    replace h := h hlt4
    replace hk1 := hlt4.tag hk1 (by decide)
    refine j_if_eq 72 dX6_term_62 (by decide) (fun c19 => ?_) (fun c19 => ?_)
    · replace h := h.1 c19
      refine j_aload_n (r := some a0) dX6_term_72 rfl ?_
      refine jg_ldcS (i := 11) rfl rfl dX6_term_73 ?_
      refine jg_calli (rest := []) (kg_lkV (As := [va_rf (some (T 11))]) (a := a0) (c := 4) kgX6_isWord_4 (by decide) rfl hk1 q1186 rfl rfl dX6_term_75) cwX6_isWord (Nat.le_of_ble_eq_true rfl) rfl dX6_term_75 (Nat.succ_le_succ (Nat.zero_le _)) (h.mono (onI_mono (fun r7 t6 h hlt6 => ?_) (fun _ _ h => h)))
      replace h := h hlt6
      replace hk1 := hlt6.tag hk1 (by decide)
      refine j_if_eq 88 dX6_term_78 (by decide) (fun c18 => ?_) (fun c18 => ?_)
      · replace h := h.1 c18
        refine j_aload_n (r := some a0) dX6_term_88 rfl ?_
        refine jg_callr (rest := []) (kg_lkV (As := []) (a := a0) (c := 4) kgX6_arrow_4 (by decide) rfl hk1 q1212 rfl rfl dX6_term_89) cwX6_arrow (Nat.le_of_ble_eq_true rfl) rfl dX6_term_89 (Nat.succ_le_succ (Nat.zero_le _)) (h.mono (onR_mono (fun r9 t8 h hlt8 => ?_) (fun _ _ h => h)))
        replace h := h hlt8
        replace hk1 := hlt8.tag hk1 (by decide)
        refine j_astore_n (r := r9) (lv' := [some (va_rf (some a0)), some (.int (gi (gpi a0 5 ((gi σ a0 5) + (iI 1)) σ) a0 3)), some (va_rf r9)]) dX6_term_92 (by decide) rfl ?_
        refine j_aload_n (r := r9) dX6_term_93 rfl ?_
        obtain ⟨a10, ea10, hm11, h⟩ := h
        refine kg_getT (j := 1) (a := a10) (by decide) ea10 flX6_240 hm11 dX6_term_94 ?_
        refine j_iconst (v := iI (-1)) dX6_term_97 rfl ?_
        refine j_icmp_ne 106 dX6_term_98 (by decide) (fun c12 => ?_) (fun c12 => ?_)
        · replace h := h.2 c12
          refine j_aload_n (r := some a0) dX6_term_106 rfl ?_
          refine j_dup dX6_term_107 rfl ?_
          refine kg_geti (a := a0) (j := 5) rfl gfX6_226 (by decide) hk1 dX6_term_108 ?_
          refine j_iconst (v := iI 1) dX6_term_111 rfl ?_
          refine j_isub dX6_term_112 ?_
          refine kg_puti (a := a0) rfl gfX6_226 (Or.inl rfl) hk1 (Or.inl (by decide)) dX6_term_113 ?_
          refine j_aload_n (r := r9) dX6_term_116 rfl ?_
          exact j_areturn (r := r9) rfl (Or.inl ⟨_, rfl⟩) dX6_term_117 h
        · replace h := h.1 c12
          refine j_aload_n (r := r9) dX6_term_101 rfl ?_
          refine j_iload_n dX6_term_102 rfl ?_
          refine kg_putT (j := 1) (a := a10) (by decide) ea10 flX6_240 hm11 dX6_term_103 ?_
          refine j_aload_n (r := some a0) dX6_term_106 rfl ?_
          refine j_dup dX6_term_107 rfl ?_
          refine kg_geti (a := a0) (j := 5) rfl gfX6_226 (by decide) hk1 dX6_term_108 ?_
          refine j_iconst (v := iI 1) dX6_term_111 rfl ?_
          refine j_isub dX6_term_112 ?_
          refine kg_puti (a := a0) rfl gfX6_226 (Or.inl rfl) hk1 (Or.inl (by decide)) dX6_term_113 ?_
          refine j_aload_n (r := r9) dX6_term_116 rfl ?_
          exact j_areturn (r := r9) rfl (Or.inl ⟨_, rfl⟩) dX6_term_117 h
      · replace h := h.2 c18
        refine j_aload_n (r := some a0) dX6_term_81 rfl ?_
        refine jg_callr (rest := []) (kg_lkV (As := []) (a := a0) (c := 4) kgX6_let_4 (by decide) rfl hk1 q1190 rfl rfl dX6_term_82) cwX6_let (Nat.le_of_ble_eq_true rfl) rfl dX6_term_82 (Nat.succ_le_succ (Nat.zero_le _)) (h.mono (onR_mono (fun r14 t13 h hlt13 => ?_) (fun _ _ h => h)))
        replace h := h hlt13
        replace hk1 := hlt13.tag hk1 (by decide)
        refine j_goto 92 dX6_term_85 (by decide) ?_
        refine j_astore_n (r := r14) (lv' := [some (va_rf (some a0)), some (.int (gi (gpi a0 5 ((gi σ a0 5) + (iI 1)) σ) a0 3)), some (va_rf r14)]) dX6_term_92 (by decide) rfl ?_
        refine j_aload_n (r := r14) dX6_term_93 rfl ?_
        obtain ⟨a15, ea15, hm16, h⟩ := h
        refine kg_getT (j := 1) (a := a15) (by decide) ea15 flX6_240 hm16 dX6_term_94 ?_
        refine j_iconst (v := iI (-1)) dX6_term_97 rfl ?_
        refine j_icmp_ne 106 dX6_term_98 (by decide) (fun c17 => ?_) (fun c17 => ?_)
        · replace h := h.2 c17
          refine j_aload_n (r := some a0) dX6_term_106 rfl ?_
          refine j_dup dX6_term_107 rfl ?_
          refine kg_geti (a := a0) (j := 5) rfl gfX6_226 (by decide) hk1 dX6_term_108 ?_
          refine j_iconst (v := iI 1) dX6_term_111 rfl ?_
          refine j_isub dX6_term_112 ?_
          refine kg_puti (a := a0) rfl gfX6_226 (Or.inl rfl) hk1 (Or.inl (by decide)) dX6_term_113 ?_
          refine j_aload_n (r := r14) dX6_term_116 rfl ?_
          exact j_areturn (r := r14) rfl (Or.inl ⟨_, rfl⟩) dX6_term_117 h
        · replace h := h.1 c17
          refine j_aload_n (r := r14) dX6_term_101 rfl ?_
          refine j_iload_n dX6_term_102 rfl ?_
          refine kg_putT (j := 1) (a := a15) (by decide) ea15 flX6_240 hm16 dX6_term_103 ?_
          refine j_aload_n (r := some a0) dX6_term_106 rfl ?_
          refine j_dup dX6_term_107 rfl ?_
          refine kg_geti (a := a0) (j := 5) rfl gfX6_226 (by decide) hk1 dX6_term_108 ?_
          refine j_iconst (v := iI 1) dX6_term_111 rfl ?_
          refine j_isub dX6_term_112 ?_
          refine kg_puti (a := a0) rfl gfX6_226 (Or.inl rfl) hk1 (Or.inl (by decide)) dX6_term_113 ?_
          refine j_aload_n (r := r14) dX6_term_116 rfl ?_
          exact j_areturn (r := r14) rfl (Or.inl ⟨_, rfl⟩) dX6_term_117 h
    · replace h := h.2 c19
      exact h
theorem tX6_term_65 {G : GPl} {s0 : State} {l : Launch} {K : Nat → Option Nat} {T : Nat → Nat} {lev : Nat} {st0 : GSt} {Q : Outcome → GSt → Prop} {a0 : Nat} {x1 : Int32} {σ : GSt} (h : (gk σ a0 = 5 ∧ (CQ (wP G s0 l K T) mX6_binder lev (.ref a0 :: []) σ (onR (fun r3 t2 => gle σ t2 → (∃ a4, r3 = some a4 ∧ (isTmA t2 a4 ∧ (((gi t2 a4 1) = (iI (-1)) → Q (.returned (some (va_rf r3))) (gpi a0 5 ((gi (gpi a4 1 x1 t2) a0 5) - (iI 1)) (gpi a4 1 x1 t2))) ∧ (¬ (gi t2 a4 1) = (iI (-1)) → Q (.returned (some (va_rf r3))) (gpi a0 5 ((gi t2 a0 5) - (iI 1)) t2)))))) (fun x t => gle σ t → Q (.threw x) t))))) : jX6_term_65 G s0 l K T lev st0 Q a0 x1 σ := by
  refine j_aload_n (r := some a0) dX6_term_65 rfl ?_
  obtain ⟨hk1, h⟩ := h
  refine jg_callr (rest := []) (kg_lkV (As := []) (a := a0) (c := 4) kgX6_binder_4 (by decide) rfl hk1 q1019 rfl rfl dX6_term_66) cwX6_binder (Nat.le_of_ble_eq_true rfl) rfl dX6_term_66 (Nat.succ_le_succ (Nat.zero_le _)) (h.mono (onR_mono (fun r3 t2 h hlt2 => ?_) (fun _ _ h => h)))
  replace h := h hlt2
  replace hk1 := hlt2.tag hk1 (by decide)
  refine j_goto 92 dX6_term_69 (by decide) ?_
  refine j_astore_n (r := r3) (lv' := [some (va_rf (some a0)), some (.int x1), some (va_rf r3)]) dX6_term_92 (by decide) rfl ?_
  refine j_aload_n (r := r3) dX6_term_93 rfl ?_
  obtain ⟨a4, ea4, hm5, h⟩ := h
  refine kg_getT (j := 1) (a := a4) (by decide) ea4 flX6_240 hm5 dX6_term_94 ?_
  refine j_iconst (v := iI (-1)) dX6_term_97 rfl ?_
  refine j_icmp_ne 106 dX6_term_98 (by decide) (fun c6 => ?_) (fun c6 => ?_)
  · replace h := h.2 c6
    refine j_aload_n (r := some a0) dX6_term_106 rfl ?_
    refine j_dup dX6_term_107 rfl ?_
    refine kg_geti (a := a0) (j := 5) rfl gfX6_226 (by decide) hk1 dX6_term_108 ?_
    refine j_iconst (v := iI 1) dX6_term_111 rfl ?_
    refine j_isub dX6_term_112 ?_
    refine kg_puti (a := a0) rfl gfX6_226 (Or.inl rfl) hk1 (Or.inl (by decide)) dX6_term_113 ?_
    refine j_aload_n (r := r3) dX6_term_116 rfl ?_
    exact j_areturn (r := r3) rfl (Or.inl ⟨_, rfl⟩) dX6_term_117 h
  · replace h := h.1 c6
    refine j_aload_n (r := r3) dX6_term_101 rfl ?_
    refine j_iload_n dX6_term_102 rfl ?_
    refine kg_putT (j := 1) (a := a4) (by decide) ea4 flX6_240 hm5 dX6_term_103 ?_
    refine j_aload_n (r := some a0) dX6_term_106 rfl ?_
    refine j_dup dX6_term_107 rfl ?_
    refine kg_geti (a := a0) (j := 5) rfl gfX6_226 (by decide) hk1 dX6_term_108 ?_
    refine j_iconst (v := iI 1) dX6_term_111 rfl ?_
    refine j_isub dX6_term_112 ?_
    refine kg_puti (a := a0) rfl gfX6_226 (Or.inl rfl) hk1 (Or.inl (by decide)) dX6_term_113 ?_
    refine j_aload_n (r := r3) dX6_term_116 rfl ?_
    exact j_areturn (r := r3) rfl (Or.inl ⟨_, rfl⟩) dX6_term_117 h
theorem tX6_binder {G : GPl} {s0 : State} {l : Launch} {K : Nat → Option Nat} {T : Nat → Nat} {lev : Nat} {Q : Outcome → GSt → Prop} {a0 : Nat} {σ : GSt} (h : (gk σ a0 = 5 ∧ (((gi σ a0 4) = (iI 92) → (CQ (wP G s0 l K T) mX6_go lev (.ref a0 :: []) σ (onV (fun t18 => gle σ t18 → (CQ (wP G s0 l K T) mX6_needName lev (.ref a0 :: []) t18 (onR (fun r21 t20 => gle t18 t20 → (CQ (wP G s0 l K T) mX6_need lev (.ref a0 :: [.int (iI 58)]) t20 (onI (fun r23 t22 => gle t20 t22 → (CQ (wP G s0 l K T) mX6_term lev (.ref a0 :: []) t22 (onR (fun r25 t24 => gle t22 t24 → (CQ (wP G s0 l K T) mX6_need lev (.ref a0 :: [.int (iI 46)]) t24 (onI (fun r27 t26 => gle t24 t26 → (groom G 4 t26 ∧ (CQ (wP G s0 l K T) mX10_init lev (.ref (gn t26) :: [va_rf r25]) (gmk 8 4 t26) (onV (fun t30 => gle (gmk 8 4 t26) t30 → (CQ (wP G s0 l K T) mX6_body lev (.ref a0 :: [va_rf r21]) (gpi (gn t26) 0 (gi σ a0 3) t30) (onR (fun r33 t32 => gle (gpi (gn t26) 0 (gi σ a0 3) t30) t32 → Q (.returned (some (va_rf (some (gn t26))))) (gpr (gn t26) 3 r33 t32)) (fun x t => gle (gpi (gn t26) 0 (gi σ a0 3) t30) t → Q (.threw x) t)))) (fun x t => gle (gmk 8 4 t26) t → Q (.threw x) t))))) (fun x t => gle t24 t → Q (.threw x) t)))) (fun x t => gle t22 t → Q (.threw x) t)))) (fun x t => gle t20 t → Q (.threw x) t)))) (fun x t => gle t18 t → Q (.threw x) t)))) (fun x t => gle σ t → Q (.threw x) t)))) ∧ (¬ (gi σ a0 4) = (iI 92) → (CQ (wP G s0 l K T) mX6_go lev (.ref a0 :: []) σ (onV (fun t2 => gle σ t2 → (CQ (wP G s0 l K T) mX6_needName lev (.ref a0 :: []) t2 (onR (fun r5 t4 => gle t2 t4 → (CQ (wP G s0 l K T) mX6_need lev (.ref a0 :: [.int (iI 58)]) t4 (onI (fun r7 t6 => gle t4 t6 → (CQ (wP G s0 l K T) mX6_term lev (.ref a0 :: []) t6 (onR (fun r9 t8 => gle t6 t8 → (CQ (wP G s0 l K T) mX6_need lev (.ref a0 :: [.int (iI 46)]) t8 (onI (fun r11 t10 => gle t8 t10 → (groom G 6 t10 ∧ (CQ (wP G s0 l K T) mX11_init lev (.ref (gn t10) :: [va_rf r9]) (gmk 9 6 t10) (onV (fun t14 => gle (gmk 9 6 t10) t14 → (CQ (wP G s0 l K T) mX6_body lev (.ref a0 :: [va_rf r5]) (gpi (gn t10) 0 (gi σ a0 3) t14) (onR (fun r17 t16 => gle (gpi (gn t10) 0 (gi σ a0 3) t14) t16 → Q (.returned (some (va_rf (some (gn t10))))) (gpr (gn t10) 3 r17 t16)) (fun x t => gle (gpi (gn t10) 0 (gi σ a0 3) t14) t → Q (.threw x) t)))) (fun x t => gle (gmk 9 6 t10) t → Q (.threw x) t))))) (fun x t => gle t8 t → Q (.threw x) t)))) (fun x t => gle t6 t → Q (.threw x) t)))) (fun x t => gle t4 t → Q (.threw x) t)))) (fun x t => gle t2 t → Q (.threw x) t)))) (fun x t => gle σ t → Q (.threw x) t))))))) : CQ (wP G s0 l K T) mX6_binder (lev + 1) [.ref a0] σ Q := by
  refine CQ.of3 5 (lv := [some (va_rf (some a0)), none, none, none, none, none]) (by decide) (Nat.le_of_ble_eq_true rfl) (cat1_cons rfl cat1_nil) rfl ?_
  refine j_aload_n (r := some a0) dX6_binder_0 rfl ?_
  obtain ⟨hk1, h⟩ := h
  refine kg_geti (a := a0) (j := 4) rfl gfX6_136 (by decide) hk1 dX6_binder_1 ?_
  refine j_bipush (v := iI 92) dX6_binder_4 rfl ?_
  refine j_icmp_ne 13 dX6_binder_6 (by decide) (fun c34 => ?_) (fun c34 => ?_)
  · replace h := h.2 c34
    refine j_iconst (v := iI 0) dX6_binder_13 rfl ?_
    refine j_istore_n (lv' := [some (va_rf (some a0)), some (.int (iI 0)), none, none, none, none]) dX6_binder_14 (by decide) rfl ?_
    refine j_aload_n (r := some a0) dX6_binder_15 rfl ?_
    refine kg_geti (a := a0) (j := 3) rfl gfX6_44 (by decide) hk1 dX6_binder_16 ?_
    refine j_istore_n (lv' := [some (va_rf (some a0)), some (.int (iI 0)), some (.int (gi σ a0 3)), none, none, none]) dX6_binder_19 (by decide) rfl ?_
    refine j_aload_n (r := some a0) dX6_binder_20 rfl ?_
    refine jg_callv (rest := []) (kg_lkV (As := []) (a := a0) (c := 4) kgX6_go_4 (by decide) rfl hk1 q487 rfl rfl dX6_binder_21) cwX6_go (Nat.le_of_ble_eq_true rfl) rfl dX6_binder_21 (Nat.succ_le_succ (Nat.zero_le _)) (h.mono (onV_mono (fun t2 h hlt2 => ?_) (fun _ _ h => h)))
    replace h := h hlt2
    replace hk1 := hlt2.tag hk1 (by decide)
    refine j_aload_n (r := some a0) dX6_binder_24 rfl ?_
    refine jg_callr (rest := []) (kg_lkV (As := []) (a := a0) (c := 4) kgX6_needName_4 (by decide) rfl hk1 q980 rfl rfl dX6_binder_25) cwX6_needName (Nat.le_of_ble_eq_true rfl) rfl dX6_binder_25 (Nat.succ_le_succ (Nat.zero_le _)) (h.mono (onR_mono (fun r5 t4 h hlt4 => ?_) (fun _ _ h => h)))
    replace h := h hlt4
    replace hk1 := hlt4.tag hk1 (by decide)
    refine j_astore_n (r := r5) (lv' := [some (va_rf (some a0)), some (.int (iI 0)), some (.int (gi σ a0 3)), some (va_rf r5), none, none]) dX6_binder_28 (by decide) rfl ?_
    refine j_aload_n (r := some a0) dX6_binder_29 rfl ?_
    refine j_bipush (v := iI 58) dX6_binder_30 rfl ?_
    refine jg_calli (rest := []) (kg_lkV (As := [.int (iI 58)]) (a := a0) (c := 4) kgX6_need_4 (by decide) rfl hk1 q1023 rfl rfl dX6_binder_32) cwX6_need (Nat.le_of_ble_eq_true rfl) rfl dX6_binder_32 (Nat.succ_le_succ (Nat.zero_le _)) (h.mono (onI_mono (fun r7 t6 h hlt6 => ?_) (fun _ _ h => h)))
    replace h := h hlt6
    replace hk1 := hlt6.tag hk1 (by decide)
    refine j_pop dX6_binder_35 rfl ?_
    refine j_aload_n (r := some a0) dX6_binder_36 rfl ?_
    refine jg_callr (rest := []) (kg_lkV (As := []) (a := a0) (c := 4) kgX6_term_4 (by decide) rfl hk1 q1015 rfl rfl dX6_binder_37) cwX6_term (Nat.le_of_ble_eq_true rfl) rfl dX6_binder_37 (Nat.succ_le_succ (Nat.zero_le _)) (h.mono (onR_mono (fun r9 t8 h hlt8 => ?_) (fun _ _ h => h)))
    replace h := h hlt8
    replace hk1 := hlt8.tag hk1 (by decide)
    refine j_astore (r := r9) (lv' := [some (va_rf (some a0)), some (.int (iI 0)), some (.int (gi σ a0 3)), some (va_rf r5), some (va_rf r9), none]) dX6_binder_40 (by decide) rfl ?_
    refine j_aload_n (r := some a0) dX6_binder_42 rfl ?_
    refine j_bipush (v := iI 46) dX6_binder_43 rfl ?_
    refine jg_calli (rest := []) (kg_lkV (As := [.int (iI 46)]) (a := a0) (c := 4) kgX6_need_4 (by decide) rfl hk1 q1023 rfl rfl dX6_binder_45) cwX6_need (Nat.le_of_ble_eq_true rfl) rfl dX6_binder_45 (Nat.succ_le_succ (Nat.zero_le _)) (h.mono (onI_mono (fun r11 t10 h hlt10 => ?_) (fun _ _ h => h)))
    replace h := h hlt10
    replace hk1 := hlt10.tag hk1 (by decide)
    refine j_pop dX6_binder_48 rfl ?_
    refine j_iload_n dX6_binder_49 rfl ?_
    refine j_if_eq 83 dX6_binder_50 (by decide) (fun _ => ?_) (fun q_ => absurd (by decide) q_)
    obtain ⟨hg12, h⟩ := h
    refine jg_new (c := 8) (N := 6) (C := "PureHouse$Product") (by decide) ⟨rfl, rfl⟩ q1159 q1160 q147 hg12 dX6_binder_83 ?_
    replace hk1 := gk_mk (t := 9) (n := 6) hk1 (by decide)
    have hk13 := gk_new (t := 9) (n := 6) hg12.2.2
    refine j_dup dX6_binder_86 rfl ?_
    refine j_aload (r := r9) dX6_binder_87 rfl ?_
    refine jg_callv (rest := [va_rf (some (gn t10))]) (kg_lkI (As := [va_rf r9]) (a := (gn t10)) kiX11_init (Or.inl q1161) rfl rfl dX6_binder_89) cwX11_init (Nat.le_of_ble_eq_true rfl) rfl dX6_binder_89 (Nat.succ_le_succ (Nat.zero_le _)) (h.mono (onV_mono (fun t14 h hlt14 => ?_) (fun _ _ h => h)))
    replace h := h hlt14
    replace hk1 := hlt14.tag hk1 (by decide)
    replace hk13 := hlt14.tag hk13 (by decide)
    refine j_astore (r := some (gn t10)) (lv' := [some (va_rf (some a0)), some (.int (iI 0)), some (.int (gi σ a0 3)), some (va_rf r5), some (va_rf r9), some (va_rf (some (gn t10)))]) dX6_binder_92 (by decide) rfl ?_
    refine j_aload (r := some (gn t10)) dX6_binder_94 rfl ?_
    refine j_iload_n dX6_binder_96 rfl ?_
    refine kg_puti (a := (gn t10)) rfl gfX6_268 (Or.inl rfl) hk13 (Or.inl (by decide)) dX6_binder_97 ?_
    refine j_aload (r := some (gn t10)) dX6_binder_100 rfl ?_
    refine j_aload_n (r := some a0) dX6_binder_102 rfl ?_
    refine j_aload_n (r := r5) dX6_binder_103 rfl ?_
    refine jg_callr (rest := [va_rf (some (gn t10))]) (kg_lkV (As := [va_rf r5]) (a := a0) (c := 4) kgX6_body_4 (by decide) rfl hk1 q1075 rfl rfl dX6_binder_104) cwX6_body (Nat.le_of_ble_eq_true rfl) rfl dX6_binder_104 (Nat.succ_le_succ (Nat.zero_le _)) (h.mono (onR_mono (fun r17 t16 h hlt16 => ?_) (fun _ _ h => h)))
    replace h := h hlt16
    replace hk1 := hlt16.tag hk1 (by decide)
    replace hk13 := hlt16.tag hk13 (by decide)
    refine kg_putr (a := (gn t10)) (x := r17) rfl gfX6_269 (Or.inl rfl) hk13 (Or.inl (by decide)) dX6_binder_107 ?_
    refine j_aload (r := some (gn t10)) dX6_binder_110 rfl ?_
    exact j_areturn (r := some (gn t10)) rfl (Or.inl ⟨_, rfl⟩) dX6_binder_112 h
  · replace h := h.1 c34
    refine j_iconst (v := iI 1) dX6_binder_9 rfl ?_
    refine j_goto 14 dX6_binder_10 (by decide) ?_
    refine j_istore_n (lv' := [some (va_rf (some a0)), some (.int (iI 1)), none, none, none, none]) dX6_binder_14 (by decide) rfl ?_
    refine j_aload_n (r := some a0) dX6_binder_15 rfl ?_
    refine kg_geti (a := a0) (j := 3) rfl gfX6_44 (by decide) hk1 dX6_binder_16 ?_
    refine j_istore_n (lv' := [some (va_rf (some a0)), some (.int (iI 1)), some (.int (gi σ a0 3)), none, none, none]) dX6_binder_19 (by decide) rfl ?_
    refine j_aload_n (r := some a0) dX6_binder_20 rfl ?_
    refine jg_callv (rest := []) (kg_lkV (As := []) (a := a0) (c := 4) kgX6_go_4 (by decide) rfl hk1 q487 rfl rfl dX6_binder_21) cwX6_go (Nat.le_of_ble_eq_true rfl) rfl dX6_binder_21 (Nat.succ_le_succ (Nat.zero_le _)) (h.mono (onV_mono (fun t18 h hlt18 => ?_) (fun _ _ h => h)))
    replace h := h hlt18
    replace hk1 := hlt18.tag hk1 (by decide)
    refine j_aload_n (r := some a0) dX6_binder_24 rfl ?_
    refine jg_callr (rest := []) (kg_lkV (As := []) (a := a0) (c := 4) kgX6_needName_4 (by decide) rfl hk1 q980 rfl rfl dX6_binder_25) cwX6_needName (Nat.le_of_ble_eq_true rfl) rfl dX6_binder_25 (Nat.succ_le_succ (Nat.zero_le _)) (h.mono (onR_mono (fun r21 t20 h hlt20 => ?_) (fun _ _ h => h)))
    replace h := h hlt20
    replace hk1 := hlt20.tag hk1 (by decide)
    refine j_astore_n (r := r21) (lv' := [some (va_rf (some a0)), some (.int (iI 1)), some (.int (gi σ a0 3)), some (va_rf r21), none, none]) dX6_binder_28 (by decide) rfl ?_
    refine j_aload_n (r := some a0) dX6_binder_29 rfl ?_
    refine j_bipush (v := iI 58) dX6_binder_30 rfl ?_
    refine jg_calli (rest := []) (kg_lkV (As := [.int (iI 58)]) (a := a0) (c := 4) kgX6_need_4 (by decide) rfl hk1 q1023 rfl rfl dX6_binder_32) cwX6_need (Nat.le_of_ble_eq_true rfl) rfl dX6_binder_32 (Nat.succ_le_succ (Nat.zero_le _)) (h.mono (onI_mono (fun r23 t22 h hlt22 => ?_) (fun _ _ h => h)))
    replace h := h hlt22
    replace hk1 := hlt22.tag hk1 (by decide)
    refine j_pop dX6_binder_35 rfl ?_
    refine j_aload_n (r := some a0) dX6_binder_36 rfl ?_
    refine jg_callr (rest := []) (kg_lkV (As := []) (a := a0) (c := 4) kgX6_term_4 (by decide) rfl hk1 q1015 rfl rfl dX6_binder_37) cwX6_term (Nat.le_of_ble_eq_true rfl) rfl dX6_binder_37 (Nat.succ_le_succ (Nat.zero_le _)) (h.mono (onR_mono (fun r25 t24 h hlt24 => ?_) (fun _ _ h => h)))
    replace h := h hlt24
    replace hk1 := hlt24.tag hk1 (by decide)
    refine j_astore (r := r25) (lv' := [some (va_rf (some a0)), some (.int (iI 1)), some (.int (gi σ a0 3)), some (va_rf r21), some (va_rf r25), none]) dX6_binder_40 (by decide) rfl ?_
    refine j_aload_n (r := some a0) dX6_binder_42 rfl ?_
    refine j_bipush (v := iI 46) dX6_binder_43 rfl ?_
    refine jg_calli (rest := []) (kg_lkV (As := [.int (iI 46)]) (a := a0) (c := 4) kgX6_need_4 (by decide) rfl hk1 q1023 rfl rfl dX6_binder_45) cwX6_need (Nat.le_of_ble_eq_true rfl) rfl dX6_binder_45 (Nat.succ_le_succ (Nat.zero_le _)) (h.mono (onI_mono (fun r27 t26 h hlt26 => ?_) (fun _ _ h => h)))
    replace h := h hlt26
    replace hk1 := hlt26.tag hk1 (by decide)
    refine j_pop dX6_binder_48 rfl ?_
    refine j_iload_n dX6_binder_49 rfl ?_
    refine j_if_eq 83 dX6_binder_50 (by decide) (fun q_ => absurd q_ (by decide)) (fun _ => ?_)
    obtain ⟨hg28, h⟩ := h
    refine jg_new (c := 7) (N := 4) (C := "PureHouse$Lambda") (by decide) ⟨rfl, rfl⟩ q1027 q1028 q145 hg28 dX6_binder_53 ?_
    replace hk1 := gk_mk (t := 8) (n := 4) hk1 (by decide)
    have hk29 := gk_new (t := 8) (n := 4) hg28.2.2
    refine j_dup dX6_binder_56 rfl ?_
    refine j_aload (r := r25) dX6_binder_57 rfl ?_
    refine jg_callv (rest := [va_rf (some (gn t26))]) (kg_lkI (As := [va_rf r25]) (a := (gn t26)) kiX10_init (Or.inl q1029) rfl rfl dX6_binder_59) cwX10_init (Nat.le_of_ble_eq_true rfl) rfl dX6_binder_59 (Nat.succ_le_succ (Nat.zero_le _)) (h.mono (onV_mono (fun t30 h hlt30 => ?_) (fun _ _ h => h)))
    replace h := h hlt30
    replace hk1 := hlt30.tag hk1 (by decide)
    replace hk29 := hlt30.tag hk29 (by decide)
    refine j_astore (r := some (gn t26)) (lv' := [some (va_rf (some a0)), some (.int (iI 1)), some (.int (gi σ a0 3)), some (va_rf r21), some (va_rf r25), some (va_rf (some (gn t26)))]) dX6_binder_62 (by decide) rfl ?_
    refine j_aload (r := some (gn t26)) dX6_binder_64 rfl ?_
    refine j_iload_n dX6_binder_66 rfl ?_
    refine kg_puti (a := (gn t26)) rfl gfX6_256 (Or.inl rfl) hk29 (Or.inl (by decide)) dX6_binder_67 ?_
    refine j_aload (r := some (gn t26)) dX6_binder_70 rfl ?_
    refine j_aload_n (r := some a0) dX6_binder_72 rfl ?_
    refine j_aload_n (r := r21) dX6_binder_73 rfl ?_
    refine jg_callr (rest := [va_rf (some (gn t26))]) (kg_lkV (As := [va_rf r21]) (a := a0) (c := 4) kgX6_body_4 (by decide) rfl hk1 q1075 rfl rfl dX6_binder_74) cwX6_body (Nat.le_of_ble_eq_true rfl) rfl dX6_binder_74 (Nat.succ_le_succ (Nat.zero_le _)) (h.mono (onR_mono (fun r33 t32 h hlt32 => ?_) (fun _ _ h => h)))
    replace h := h hlt32
    replace hk1 := hlt32.tag hk1 (by decide)
    replace hk29 := hlt32.tag hk29 (by decide)
    refine kg_putr (a := (gn t26)) (x := r33) rfl gfX6_263 (Or.inl rfl) hk29 (Or.inl (by decide)) dX6_binder_77 ?_
    refine j_aload (r := some (gn t26)) dX6_binder_80 rfl ?_
    exact j_areturn (r := some (gn t26)) rfl (Or.inl ⟨_, rfl⟩) dX6_binder_82 h
theorem tX6_need {G : GPl} {s0 : State} {l : Launch} {K : Nat → Option Nat} {T : Nat → Nat} {lev : Nat} {Q : Outcome → GSt → Prop} {a0 : Nat} {x1 : Int32} {σ : GSt} (h : (gk σ a0 = 5 ∧ (CQ (wP G s0 l K T) mX6_isSign lev (.ref a0 :: [.int x1]) σ (onI (fun r3 t2 => gle σ t2 → ((r3 = 0 → (CQ (wP G s0 l K T) mX6_wrong lev (.ref a0 :: []) t2 (onR (fun r7 t6 => gle t2 t6 → (∃ a8, r7 = some a8 ∧ Q (.threw a8) t6)) (fun x t => gle t2 t → Q (.threw x) t)))) ∧ (¬ r3 = 0 → (CQ (wP G s0 l K T) mX6_go lev (.ref a0 :: []) t2 (onV (fun t4 => gle t2 t4 → Q (.returned (some (.int (gi t2 a0 3)))) t4) (fun x t => gle t2 t → Q (.threw x) t)))))) (fun x t => gle σ t → Q (.threw x) t))))) : CQ (wP G s0 l K T) mX6_need (lev + 1) [.ref a0, .int x1] σ Q := by
  refine CQ.of3 1 (lv := [some (va_rf (some a0)), some (.int x1), none]) (by decide) (Nat.le_of_ble_eq_true rfl) (cat1_cons rfl (cat1_cons rfl cat1_nil)) rfl ?_
  refine j_aload_n (r := some a0) dX6_need_0 rfl ?_
  refine j_iload_n dX6_need_1 rfl ?_
  obtain ⟨hk1, h⟩ := h
  refine jg_calli (rest := []) (kg_lkV (As := [.int x1]) (a := a0) (c := 4) kgX6_isSign_4 (by decide) rfl hk1 q1011 rfl rfl dX6_need_2) cwX6_isSign (Nat.le_of_ble_eq_true rfl) rfl dX6_need_2 (Nat.succ_le_succ (Nat.zero_le _)) (h.mono (onI_mono (fun r3 t2 h hlt2 => ?_) (fun _ _ h => h)))
  replace h := h hlt2
  replace hk1 := hlt2.tag hk1 (by decide)
  refine j_if_ne 13 dX6_need_5 (by decide) (fun c9 => ?_) (fun c9 => ?_)
  · replace h := h.2 c9
    refine j_aload_n (r := some a0) dX6_need_13 rfl ?_
    refine kg_geti (a := a0) (j := 3) rfl gfX6_44 (by decide) hk1 dX6_need_14 ?_
    refine j_istore_n (lv' := [some (va_rf (some a0)), some (.int x1), some (.int (gi t2 a0 3))]) dX6_need_17 (by decide) rfl ?_
    refine j_aload_n (r := some a0) dX6_need_18 rfl ?_
    refine jg_callv (rest := []) (kg_lkV (As := []) (a := a0) (c := 4) kgX6_go_4 (by decide) rfl hk1 q487 rfl rfl dX6_need_19) cwX6_go (Nat.le_of_ble_eq_true rfl) rfl dX6_need_19 (Nat.succ_le_succ (Nat.zero_le _)) (h.mono (onV_mono (fun t4 h hlt4 => ?_) (fun _ _ h => h)))
    replace h := h hlt4
    replace hk1 := hlt4.tag hk1 (by decide)
    refine j_iload_n dX6_need_22 rfl ?_
    exact j_ireturn (ty := .int) rfl rfl dX6_need_23 h
  · replace h := h.1 c9
    refine j_aload_n (r := some a0) dX6_need_8 rfl ?_
    refine jg_callr (rest := []) (kg_lkV (As := []) (a := a0) (c := 4) kgX6_wrong_4 (by decide) rfl hk1 q984 rfl rfl dX6_need_9) cwX6_wrong (Nat.le_of_ble_eq_true rfl) rfl dX6_need_9 (Nat.succ_le_succ (Nat.zero_le _)) (h.mono (onR_mono (fun r7 t6 h hlt6 => ?_) (fun _ _ h => h)))
    replace h := h hlt6
    replace hk1 := hlt6.tag hk1 (by decide)
    obtain ⟨a8, ea8, h⟩ := h
    exact kg_athrow (a := a8) ea8 rfl dX6_need_12 h
theorem tX6_body {G : GPl} {s0 : State} {l : Launch} {K : Nat → Option Nat} {T : Nat → Nat} {lev : Nat} {Q : Outcome → GSt → Prop} {a0 : Nat} {x1 : Option Nat} {σ : GSt} (h : (gk σ a0 = 5 ∧ (∃ a2, gr σ a0 8 = some a2 ∧ (gk σ a2 = 22 ∧ (CQ (wP G s0 l K T) mJ2_add lev (.ref a2 :: [va_rf x1]) σ (onI (fun r5 t4 => gle σ t4 → (CQ (wP G s0 l K T) mX6_term lev (.ref a0 :: []) t4 (onR (fun r7 t6 => gle t4 t6 → (∃ a8, gr t6 a0 8 = some a8 ∧ (gk t6 a8 = 22 ∧ (CQ (wP G s0 l K T) mJ2_size lev (.ref a8 :: []) t6 (onI (fun r11 t10 => gle t6 t10 → (CQ (wP G s0 l K T) mJ2_remove lev (.ref a8 :: [.int (r11 - (iI 1))]) t10 (onR (fun r13 t12 => gle t10 t12 → Q (.returned (some (va_rf r7))) t12) (fun x t => gle t10 t → Q (.threw x) t)))) (fun x t => gle t6 t → Q (.threw x) t)))))) (fun x t => gle t4 t → Q (.threw x) t)))) (fun x t => gle σ t → Q (.threw x) t))))))) : CQ (wP G s0 l K T) mX6_body (lev + 1) [.ref a0, va_rf x1] σ Q := by
  refine CQ.of3 1 (lv := [some (va_rf (some a0)), some (va_rf x1), none]) (by decide) (Nat.le_of_ble_eq_true rfl) (cat1_cons rfl (cat1_cons (rf_cat _) cat1_nil)) rfl ?_
  refine j_aload_n (r := some a0) dX6_body_0 rfl ?_
  obtain ⟨hk1, h⟩ := h
  refine kg_getr (a := a0) (j := 8) rfl gfX6_12 hk1 dX6_body_1 ?_
  refine j_aload_n (r := x1) dX6_body_4 rfl ?_
  obtain ⟨a2, ea2, hk3, h⟩ := h
  refine jg_calli (rest := []) (kg_lkV (As := [va_rf x1]) (a := a2) (c := 21) kgJ2_add_21 (by decide) rfl hk3 q1079 rfl (by rw [ea2]; rfl) dX6_body_5) cwJ2_add (Nat.le_of_ble_eq_true rfl) rfl dX6_body_5 (Nat.succ_le_succ (Nat.zero_le _)) (h.mono (onI_mono (fun r5 t4 h hlt4 => ?_) (fun _ _ h => h)))
  replace h := h hlt4
  replace hk1 := hlt4.tag hk1 (by decide)
  replace hk3 := hlt4.tag hk3 (by decide)
  refine j_pop dX6_body_8 rfl ?_
  refine j_aload_n (r := some a0) dX6_body_9 rfl ?_
  refine jg_callr (rest := []) (kg_lkV (As := []) (a := a0) (c := 4) kgX6_term_4 (by decide) rfl hk1 q1015 rfl rfl dX6_body_10) cwX6_term (Nat.le_of_ble_eq_true rfl) rfl dX6_body_10 (Nat.succ_le_succ (Nat.zero_le _)) (h.mono (onR_mono (fun r7 t6 h hlt6 => ?_) (fun _ _ h => h)))
  replace h := h hlt6
  replace hk1 := hlt6.tag hk1 (by decide)
  replace hk3 := hlt6.tag hk3 (by decide)
  refine j_astore_n (r := r7) (lv' := [some (va_rf (some a0)), some (va_rf x1), some (va_rf r7)]) dX6_body_13 (by decide) rfl ?_
  refine j_aload_n (r := some a0) dX6_body_14 rfl ?_
  refine kg_getr (a := a0) (j := 8) rfl gfX6_12 hk1 dX6_body_15 ?_
  refine j_aload_n (r := some a0) dX6_body_18 rfl ?_
  refine kg_getr (a := a0) (j := 8) rfl gfX6_12 hk1 dX6_body_19 ?_
  obtain ⟨a8, ea8, hk9, h⟩ := h
  refine jg_calli (rest := [va_rf (gr t6 a0 8)]) (kg_lkV (As := []) (a := a8) (c := 21) kgJ2_size_21 (by decide) rfl hk9 q1142 rfl (by rw [ea8]; rfl) dX6_body_22) cwJ2_size (rm_ok (cat1_cons (rf_cat _) cat1_nil) (Nat.le_of_ble_eq_true rfl)) rfl dX6_body_22 (Nat.succ_le_succ (Nat.zero_le _)) (h.mono (onI_mono (fun r11 t10 h hlt10 => ?_) (fun _ _ h => h)))
  replace h := h hlt10
  replace hk1 := hlt10.tag hk1 (by decide)
  replace hk3 := hlt10.tag hk3 (by decide)
  replace hk9 := hlt10.tag hk9 (by decide)
  refine j_iconst (v := iI 1) dX6_body_25 rfl ?_
  refine j_isub dX6_body_26 ?_
  refine jg_callr (rest := []) (kg_lkV (As := [.int (r11 - (iI 1))]) (a := a8) (c := 21) kgJ2_remove_21 (by decide) rfl hk9 q1146 rfl (by rw [ea8]; rfl) dX6_body_27) cwJ2_remove (Nat.le_of_ble_eq_true rfl) rfl dX6_body_27 (Nat.succ_le_succ (Nat.zero_le _)) (h.mono (onR_mono (fun r13 t12 h hlt12 => ?_) (fun _ _ h => h)))
  replace h := h hlt12
  replace hk1 := hlt12.tag hk1 (by decide)
  replace hk3 := hlt12.tag hk3 (by decide)
  replace hk9 := hlt12.tag hk9 (by decide)
  refine j_pop dX6_body_30 (rf_cat _) ?_
  refine j_aload_n (r := r7) dX6_body_31 rfl ?_
  exact j_areturn (r := r7) rfl (Or.inl ⟨_, rfl⟩) dX6_body_32 h
theorem tX6_isWord {G : GPl} {s0 : State} {l : Launch} {K : Nat → Option Nat} {T : Nat → Nat} {lev : Nat} {Q : Outcome → GSt → Prop} {a0 : Nat} {x1 : Option Nat} {σ : GSt} (h : (gk σ a0 = 5 ∧ (((gr σ a0 7) = (K 1) → (∃ a2, gr σ a0 6 = some a2 ∧ (gk σ a2 = 23 ∧ (CQ (wP G s0 l K T) mJ3_equals lev (.ref a2 :: [va_rf x1]) σ (onI (fun r5 t4 => gle σ t4 → ((r5 = 0 → Q (.returned (some (.int (iI 0)))) t4) ∧ (¬ r5 = 0 → Q (.returned (some (.int (iI 1)))) t4))) (fun x t => gle σ t → Q (.threw x) t)))))) ∧ (¬ (gr σ a0 7) = (K 1) → Q (.returned (some (.int (iI 0)))) σ)))) : CQ (wP G s0 l K T) mX6_isWord (lev + 1) [.ref a0, va_rf x1] σ Q := by
  refine CQ.of3 0 (lv := [some (va_rf (some a0)), some (va_rf x1)]) (by decide) (Nat.le_of_ble_eq_true rfl) (cat1_cons rfl (cat1_cons (rf_cat _) cat1_nil)) rfl ?_
  refine j_aload_n (r := some a0) dX6_isWord_0 rfl ?_
  obtain ⟨hk1, h⟩ := h
  refine kg_getr (a := a0) (j := 7) rfl gfX6_53 hk1 dX6_isWord_1 ?_
  refine jg_gets (i := 1) rfl flX6_99 dX6_isWord_4 ?_
  refine j_acmp_ne (x := gr σ a0 7) (y := K 1) 25 dX6_isWord_7 (by decide) (fun c7 => ?_) (fun c7 => ?_)
  · replace h := h.2 c7
    refine j_iconst (v := iI 0) dX6_isWord_25 rfl ?_
    exact j_ireturn (ty := .boolean) rfl rfl dX6_isWord_26 h
  · replace h := h.1 c7
    refine j_aload_n (r := some a0) dX6_isWord_10 rfl ?_
    refine kg_getr (a := a0) (j := 6) rfl gfX6_91 hk1 dX6_isWord_11 ?_
    refine j_aload_n (r := x1) dX6_isWord_14 rfl ?_
    obtain ⟨a2, ea2, hk3, h⟩ := h
    refine jg_calli (rest := []) (kg_lkV (As := [va_rf x1]) (a := a2) (c := 22) kgJ3_equals_22 (by decide) rfl hk3 q861 rfl (by rw [ea2]; rfl) dX6_isWord_15) cwJ3_equals (Nat.le_of_ble_eq_true rfl) rfl dX6_isWord_15 (Nat.succ_le_succ (Nat.zero_le _)) (h.mono (onI_mono (fun r5 t4 h hlt4 => ?_) (fun _ _ h => h)))
    replace h := h hlt4
    replace hk1 := hlt4.tag hk1 (by decide)
    replace hk3 := hlt4.tag hk3 (by decide)
    refine j_if_eq 25 dX6_isWord_18 (by decide) (fun c6 => ?_) (fun c6 => ?_)
    · replace h := h.1 c6
      refine j_iconst (v := iI 0) dX6_isWord_25 rfl ?_
      exact j_ireturn (ty := .boolean) rfl rfl dX6_isWord_26 h
    · replace h := h.2 c6
      refine j_iconst (v := iI 1) dX6_isWord_21 rfl ?_
      refine j_goto 26 dX6_isWord_22 (by decide) ?_
      exact j_ireturn (ty := .boolean) rfl rfl dX6_isWord_26 h
theorem tX6_let {G : GPl} {s0 : State} {l : Launch} {K : Nat → Option Nat} {T : Nat → Nat} {lev : Nat} {Q : Outcome → GSt → Prop} {a0 : Nat} {σ : GSt} (h : (gk σ a0 = 5 ∧ (CQ (wP G s0 l K T) mX6_go lev (.ref a0 :: []) σ (onV (fun t2 => gle σ t2 → (CQ (wP G s0 l K T) mX6_needName lev (.ref a0 :: []) t2 (onR (fun r5 t4 => gle t2 t4 → (CQ (wP G s0 l K T) mX6_need lev (.ref a0 :: [.int (iI 257)]) t4 (onI (fun r7 t6 => gle t4 t6 → (groom G 4 t6 ∧ (CQ (wP G s0 l K T) mX6_term lev (.ref a0 :: []) (gmk 10 4 t6) (onR (fun r11 t10 => gle (gmk 10 4 t6) t10 → (CQ (wP G s0 l K T) mX12_init lev (.ref (gn t6) :: [va_rf r11]) t10 (onV (fun t12 => gle t10 t12 → (CQ (wP G s0 l K T) mX6_isWord lev (.ref a0 :: [va_rf (some (T 12))]) (gpi (gn t6) 0 (gi σ a0 3) t12) (onI (fun r15 t14 => gle (gpi (gn t6) 0 (gi σ a0 3) t12) t14 → ((r15 = 0 → (CQ (wP G s0 l K T) mX6_wrong lev (.ref a0 :: []) t14 (onR (fun r21 t20 => gle t14 t20 → (∃ a22, r21 = some a22 ∧ Q (.threw a22) t20)) (fun x t => gle t14 t → Q (.threw x) t)))) ∧ (¬ r15 = 0 → (CQ (wP G s0 l K T) mX6_go lev (.ref a0 :: []) t14 (onV (fun t16 => gle t14 t16 → (CQ (wP G s0 l K T) mX6_body lev (.ref a0 :: [va_rf r5]) t16 (onR (fun r19 t18 => gle t16 t18 → Q (.returned (some (va_rf (some (gn t6))))) (gpr (gn t6) 3 r19 t18)) (fun x t => gle t16 t → Q (.threw x) t)))) (fun x t => gle t14 t → Q (.threw x) t)))))) (fun x t => gle (gpi (gn t6) 0 (gi σ a0 3) t12) t → Q (.threw x) t)))) (fun x t => gle t10 t → Q (.threw x) t)))) (fun x t => gle (gmk 10 4 t6) t → Q (.threw x) t))))) (fun x t => gle t4 t → Q (.threw x) t)))) (fun x t => gle t2 t → Q (.threw x) t)))) (fun x t => gle σ t → Q (.threw x) t))))) : CQ (wP G s0 l K T) mX6_let (lev + 1) [.ref a0] σ Q := by
  refine CQ.of3 3 (lv := [some (va_rf (some a0)), none, none, none]) (by decide) (Nat.le_of_ble_eq_true rfl) (cat1_cons rfl cat1_nil) rfl ?_
  refine j_aload_n (r := some a0) dX6_let_0 rfl ?_
  obtain ⟨hk1, h⟩ := h
  refine kg_geti (a := a0) (j := 3) rfl gfX6_44 (by decide) hk1 dX6_let_1 ?_
  refine j_istore_n (lv' := [some (va_rf (some a0)), some (.int (gi σ a0 3)), none, none]) dX6_let_4 (by decide) rfl ?_
  refine j_aload_n (r := some a0) dX6_let_5 rfl ?_
  refine jg_callv (rest := []) (kg_lkV (As := []) (a := a0) (c := 4) kgX6_go_4 (by decide) rfl hk1 q487 rfl rfl dX6_let_6) cwX6_go (Nat.le_of_ble_eq_true rfl) rfl dX6_let_6 (Nat.succ_le_succ (Nat.zero_le _)) (h.mono (onV_mono (fun t2 h hlt2 => ?_) (fun _ _ h => h)))
  replace h := h hlt2
  replace hk1 := hlt2.tag hk1 (by decide)
  refine j_aload_n (r := some a0) dX6_let_9 rfl ?_
  refine jg_callr (rest := []) (kg_lkV (As := []) (a := a0) (c := 4) kgX6_needName_4 (by decide) rfl hk1 q980 rfl rfl dX6_let_10) cwX6_needName (Nat.le_of_ble_eq_true rfl) rfl dX6_let_10 (Nat.succ_le_succ (Nat.zero_le _)) (h.mono (onR_mono (fun r5 t4 h hlt4 => ?_) (fun _ _ h => h)))
  replace h := h hlt4
  replace hk1 := hlt4.tag hk1 (by decide)
  refine j_astore_n (r := r5) (lv' := [some (va_rf (some a0)), some (.int (gi σ a0 3)), some (va_rf r5), none]) dX6_let_13 (by decide) rfl ?_
  refine j_aload_n (r := some a0) dX6_let_14 rfl ?_
  refine j_sipush (v := iI 257) dX6_let_15 rfl ?_
  refine jg_calli (rest := []) (kg_lkV (As := [.int (iI 257)]) (a := a0) (c := 4) kgX6_need_4 (by decide) rfl hk1 q1023 rfl rfl dX6_let_18) cwX6_need (Nat.le_of_ble_eq_true rfl) rfl dX6_let_18 (Nat.succ_le_succ (Nat.zero_le _)) (h.mono (onI_mono (fun r7 t6 h hlt6 => ?_) (fun _ _ h => h)))
  replace h := h hlt6
  replace hk1 := hlt6.tag hk1 (by decide)
  refine j_pop dX6_let_21 rfl ?_
  obtain ⟨hg8, h⟩ := h
  refine jg_new (c := 9) (N := 4) (C := "PureHouse$Let") (by decide) ⟨rfl, rfl⟩ q1194 q1195 q148 hg8 dX6_let_22 ?_
  replace hk1 := gk_mk (t := 10) (n := 4) hk1 (by decide)
  have hk9 := gk_new (t := 10) (n := 4) hg8.2.2
  refine j_dup dX6_let_25 rfl ?_
  refine j_aload_n (r := some a0) dX6_let_26 rfl ?_
  refine jg_callr (rest := [va_rf (some (gn t6)), va_rf (some (gn t6))]) (kg_lkV (As := []) (a := a0) (c := 4) kgX6_term_4 (by decide) rfl hk1 q1015 rfl rfl dX6_let_27) cwX6_term (Nat.le_of_ble_eq_true rfl) rfl dX6_let_27 (Nat.succ_le_succ (Nat.zero_le _)) (h.mono (onR_mono (fun r11 t10 h hlt10 => ?_) (fun _ _ h => h)))
  replace h := h hlt10
  replace hk1 := hlt10.tag hk1 (by decide)
  replace hk9 := hlt10.tag hk9 (by decide)
  refine jg_callv (rest := [va_rf (some (gn t6))]) (kg_lkI (As := [va_rf r11]) (a := (gn t6)) kiX12_init (Or.inl q1196) rfl rfl dX6_let_30) cwX12_init (Nat.le_of_ble_eq_true rfl) rfl dX6_let_30 (Nat.succ_le_succ (Nat.zero_le _)) (h.mono (onV_mono (fun t12 h hlt12 => ?_) (fun _ _ h => h)))
  replace h := h hlt12
  replace hk1 := hlt12.tag hk1 (by decide)
  replace hk9 := hlt12.tag hk9 (by decide)
  refine j_astore_n (r := some (gn t6)) (lv' := [some (va_rf (some a0)), some (.int (gi σ a0 3)), some (va_rf r5), some (va_rf (some (gn t6)))]) dX6_let_33 (by decide) rfl ?_
  refine j_aload_n (r := some (gn t6)) dX6_let_34 rfl ?_
  refine j_iload_n dX6_let_35 rfl ?_
  refine kg_puti (a := (gn t6)) rfl gfX6_273 (Or.inl rfl) hk9 (Or.inl (by decide)) dX6_let_36 ?_
  refine j_aload_n (r := some a0) dX6_let_39 rfl ?_
  refine jg_ldcS (i := 12) rfl rfl dX6_let_40 ?_
  refine jg_calli (rest := []) (kg_lkV (As := [va_rf (some (T 12))]) (a := a0) (c := 4) kgX6_isWord_4 (by decide) rfl hk1 q1186 rfl rfl dX6_let_42) cwX6_isWord (Nat.le_of_ble_eq_true rfl) rfl dX6_let_42 (Nat.succ_le_succ (Nat.zero_le _)) (h.mono (onI_mono (fun r15 t14 h hlt14 => ?_) (fun _ _ h => h)))
  replace h := h hlt14
  replace hk1 := hlt14.tag hk1 (by decide)
  replace hk9 := hlt14.tag hk9 (by decide)
  refine j_if_ne 53 dX6_let_45 (by decide) (fun c23 => ?_) (fun c23 => ?_)
  · replace h := h.2 c23
    refine j_aload_n (r := some a0) dX6_let_53 rfl ?_
    refine jg_callv (rest := []) (kg_lkV (As := []) (a := a0) (c := 4) kgX6_go_4 (by decide) rfl hk1 q487 rfl rfl dX6_let_54) cwX6_go (Nat.le_of_ble_eq_true rfl) rfl dX6_let_54 (Nat.succ_le_succ (Nat.zero_le _)) (h.mono (onV_mono (fun t16 h hlt16 => ?_) (fun _ _ h => h)))
    replace h := h hlt16
    replace hk1 := hlt16.tag hk1 (by decide)
    replace hk9 := hlt16.tag hk9 (by decide)
    refine j_aload_n (r := some (gn t6)) dX6_let_57 rfl ?_
    refine j_aload_n (r := some a0) dX6_let_58 rfl ?_
    refine j_aload_n (r := r5) dX6_let_59 rfl ?_
    refine jg_callr (rest := [va_rf (some (gn t6))]) (kg_lkV (As := [va_rf r5]) (a := a0) (c := 4) kgX6_body_4 (by decide) rfl hk1 q1075 rfl rfl dX6_let_60) cwX6_body (Nat.le_of_ble_eq_true rfl) rfl dX6_let_60 (Nat.succ_le_succ (Nat.zero_le _)) (h.mono (onR_mono (fun r19 t18 h hlt18 => ?_) (fun _ _ h => h)))
    replace h := h hlt18
    replace hk1 := hlt18.tag hk1 (by decide)
    replace hk9 := hlt18.tag hk9 (by decide)
    refine kg_putr (a := (gn t6)) (x := r19) rfl gfX6_274 (Or.inl rfl) hk9 (Or.inl (by decide)) dX6_let_63 ?_
    refine j_aload_n (r := some (gn t6)) dX6_let_66 rfl ?_
    exact j_areturn (r := some (gn t6)) rfl (Or.inl ⟨_, rfl⟩) dX6_let_67 h
  · replace h := h.1 c23
    refine j_aload_n (r := some a0) dX6_let_48 rfl ?_
    refine jg_callr (rest := []) (kg_lkV (As := []) (a := a0) (c := 4) kgX6_wrong_4 (by decide) rfl hk1 q984 rfl rfl dX6_let_49) cwX6_wrong (Nat.le_of_ble_eq_true rfl) rfl dX6_let_49 (Nat.succ_le_succ (Nat.zero_le _)) (h.mono (onR_mono (fun r21 t20 h hlt20 => ?_) (fun _ _ h => h)))
    replace h := h hlt20
    replace hk1 := hlt20.tag hk1 (by decide)
    replace hk9 := hlt20.tag hk9 (by decide)
    obtain ⟨a22, ea22, h⟩ := h
    exact kg_athrow (a := a22) ea22 rfl dX6_let_52 h
theorem tX6_arrow {G : GPl} {s0 : State} {l : Launch} {K : Nat → Option Nat} {T : Nat → Nat} {lev : Nat} {Q : Outcome → GSt → Prop} {a0 : Nat} {σ : GSt} (h : (gk σ a0 = 5 ∧ (CQ (wP G s0 l K T) mX6_use lev (.ref a0 :: []) σ (onR (fun r3 t2 => gle σ t2 → (CQ (wP G s0 l K T) mX6_isSign lev (.ref a0 :: [.int (iI 256)]) t2 (onI (fun r5 t4 => gle t2 t4 → ((r5 = 0 → Q (.returned (some (va_rf r3))) t4) ∧ (¬ r5 = 0 → (groom G 6 t4 ∧ (CQ (wP G s0 l K T) mX11_init lev (.ref (gn t4) :: [va_rf r3]) (gmk 9 6 t4) (onV (fun t8 => gle (gmk 9 6 t4) t8 → (CQ (wP G s0 l K T) mX6_go lev (.ref a0 :: []) (gpi (gn t4) 1 (gi σ a0 3) (gpi (gn t4) 0 (gi t8 a0 3) t8)) (onV (fun t10 => gle (gpi (gn t4) 1 (gi σ a0 3) (gpi (gn t4) 0 (gi t8 a0 3) t8)) t10 → (CQ (wP G s0 l K T) mX6_body lev (.ref a0 :: [va_rf (some (T 14))]) t10 (onR (fun r13 t12 => gle t10 t12 → Q (.returned (some (va_rf (some (gn t4))))) (gpr (gn t4) 3 r13 t12)) (fun x t => gle t10 t → Q (.threw x) t)))) (fun x t => gle (gpi (gn t4) 1 (gi σ a0 3) (gpi (gn t4) 0 (gi t8 a0 3) t8)) t → Q (.threw x) t)))) (fun x t => gle (gmk 9 6 t4) t → Q (.threw x) t))))))) (fun x t => gle t2 t → Q (.threw x) t)))) (fun x t => gle σ t → Q (.threw x) t))))) : CQ (wP G s0 l K T) mX6_arrow (lev + 1) [.ref a0] σ Q := by
  refine CQ.of3 3 (lv := [some (va_rf (some a0)), none, none, none]) (by decide) (Nat.le_of_ble_eq_true rfl) (cat1_cons rfl cat1_nil) rfl ?_
  refine j_aload_n (r := some a0) dX6_arrow_0 rfl ?_
  obtain ⟨hk1, h⟩ := h
  refine kg_geti (a := a0) (j := 3) rfl gfX6_44 (by decide) hk1 dX6_arrow_1 ?_
  refine j_istore_n (lv' := [some (va_rf (some a0)), some (.int (gi σ a0 3)), none, none]) dX6_arrow_4 (by decide) rfl ?_
  refine j_aload_n (r := some a0) dX6_arrow_5 rfl ?_
  refine jg_callr (rest := []) (kg_lkV (As := []) (a := a0) (c := 4) kgX6_use_4 (by decide) rfl hk1 q1216 rfl rfl dX6_arrow_6) cwX6_use (Nat.le_of_ble_eq_true rfl) rfl dX6_arrow_6 (Nat.succ_le_succ (Nat.zero_le _)) (h.mono (onR_mono (fun r3 t2 h hlt2 => ?_) (fun _ _ h => h)))
  replace h := h hlt2
  replace hk1 := hlt2.tag hk1 (by decide)
  refine j_astore_n (r := r3) (lv' := [some (va_rf (some a0)), some (.int (gi σ a0 3)), some (va_rf r3), none]) dX6_arrow_9 (by decide) rfl ?_
  refine j_aload_n (r := some a0) dX6_arrow_10 rfl ?_
  refine j_sipush (v := iI 256) dX6_arrow_11 rfl ?_
  refine jg_calli (rest := []) (kg_lkV (As := [.int (iI 256)]) (a := a0) (c := 4) kgX6_isSign_4 (by decide) rfl hk1 q1011 rfl rfl dX6_arrow_14) cwX6_isSign (Nat.le_of_ble_eq_true rfl) rfl dX6_arrow_14 (Nat.succ_le_succ (Nat.zero_le _)) (h.mono (onI_mono (fun r5 t4 h hlt4 => ?_) (fun _ _ h => h)))
  replace h := h hlt4
  replace hk1 := hlt4.tag hk1 (by decide)
  refine j_if_ne 22 dX6_arrow_17 (by decide) (fun c14 => ?_) (fun c14 => ?_)
  · replace h := h.2 c14
    obtain ⟨hg6, h⟩ := h
    refine jg_new (c := 8) (N := 6) (C := "PureHouse$Product") (by decide) ⟨rfl, rfl⟩ q1159 q1160 q147 hg6 dX6_arrow_22 ?_
    replace hk1 := gk_mk (t := 9) (n := 6) hk1 (by decide)
    have hk7 := gk_new (t := 9) (n := 6) hg6.2.2
    refine j_dup dX6_arrow_25 rfl ?_
    refine j_aload_n (r := r3) dX6_arrow_26 rfl ?_
    refine jg_callv (rest := [va_rf (some (gn t4))]) (kg_lkI (As := [va_rf r3]) (a := (gn t4)) kiX11_init (Or.inl q1161) rfl rfl dX6_arrow_27) cwX11_init (Nat.le_of_ble_eq_true rfl) rfl dX6_arrow_27 (Nat.succ_le_succ (Nat.zero_le _)) (h.mono (onV_mono (fun t8 h hlt8 => ?_) (fun _ _ h => h)))
    replace h := h hlt8
    replace hk1 := hlt8.tag hk1 (by decide)
    replace hk7 := hlt8.tag hk7 (by decide)
    refine j_astore_n (r := some (gn t4)) (lv' := [some (va_rf (some a0)), some (.int (gi σ a0 3)), some (va_rf r3), some (va_rf (some (gn t4)))]) dX6_arrow_30 (by decide) rfl ?_
    refine j_aload_n (r := some (gn t4)) dX6_arrow_31 rfl ?_
    refine j_aload_n (r := some a0) dX6_arrow_32 rfl ?_
    refine kg_geti (a := a0) (j := 3) rfl gfX6_44 (by decide) hk1 dX6_arrow_33 ?_
    refine kg_puti (a := (gn t4)) rfl gfX6_268 (Or.inl rfl) hk7 (Or.inl (by decide)) dX6_arrow_36 ?_
    refine j_aload_n (r := some (gn t4)) dX6_arrow_39 rfl ?_
    refine j_iload_n dX6_arrow_40 rfl ?_
    refine kg_puti (a := (gn t4)) rfl gfX6_278 (Or.inl rfl) hk7 (Or.inl (by decide)) dX6_arrow_41 ?_
    refine j_aload_n (r := some a0) dX6_arrow_44 rfl ?_
    refine jg_callv (rest := []) (kg_lkV (As := []) (a := a0) (c := 4) kgX6_go_4 (by decide) rfl hk1 q487 rfl rfl dX6_arrow_45) cwX6_go (Nat.le_of_ble_eq_true rfl) rfl dX6_arrow_45 (Nat.succ_le_succ (Nat.zero_le _)) (h.mono (onV_mono (fun t10 h hlt10 => ?_) (fun _ _ h => h)))
    replace h := h hlt10
    replace hk1 := hlt10.tag hk1 (by decide)
    replace hk7 := hlt10.tag hk7 (by decide)
    refine j_aload_n (r := some (gn t4)) dX6_arrow_48 rfl ?_
    refine j_aload_n (r := some a0) dX6_arrow_49 rfl ?_
    refine jg_ldcwS (i := 14) rfl rfl dX6_arrow_50 ?_
    refine jg_callr (rest := [va_rf (some (gn t4))]) (kg_lkV (As := [va_rf (some (T 14))]) (a := a0) (c := 4) kgX6_body_4 (by decide) rfl hk1 q1075 rfl rfl dX6_arrow_53) cwX6_body (Nat.le_of_ble_eq_true rfl) rfl dX6_arrow_53 (Nat.succ_le_succ (Nat.zero_le _)) (h.mono (onR_mono (fun r13 t12 h hlt12 => ?_) (fun _ _ h => h)))
    replace h := h hlt12
    replace hk1 := hlt12.tag hk1 (by decide)
    replace hk7 := hlt12.tag hk7 (by decide)
    refine kg_putr (a := (gn t4)) (x := r13) rfl gfX6_269 (Or.inl rfl) hk7 (Or.inl (by decide)) dX6_arrow_56 ?_
    refine j_aload_n (r := some (gn t4)) dX6_arrow_59 rfl ?_
    exact j_areturn (r := some (gn t4)) rfl (Or.inl ⟨_, rfl⟩) dX6_arrow_60 h
  · replace h := h.1 c14
    refine j_aload_n (r := r3) dX6_arrow_20 rfl ?_
    exact j_areturn (r := r3) rfl (Or.inl ⟨_, rfl⟩) dX6_arrow_21 h
abbrev jX6_use_12 (G : GPl) (s0 : State) (l : Launch) (K : Nat → Option Nat) (T : Nat → Nat) (lev : Nat) (st0 : GSt) (Q : Outcome → GSt → Prop) (a0 : Nat) (x1 : Int32) (x2 : Option Nat) (x3 : Option Nat) (σ : GSt) : Prop := JQ (wP G s0 l K T) mX6_use (lev + 1) st0 12 [some (va_rf (some a0)), some (.int x1), some (va_rf x2), some (va_rf x3)] [] σ Q
abbrev jX6_use_31 (G : GPl) (s0 : State) (l : Launch) (K : Nat → Option Nat) (T : Nat → Nat) (lev : Nat) (st0 : GSt) (Q : Outcome → GSt → Prop) (a0 : Nat) (x1 : Int32) (x2 : Option Nat) (x3 : Option Nat) (σ : GSt) : Prop := JQ (wP G s0 l K T) mX6_use (lev + 1) st0 31 [some (va_rf (some a0)), some (.int x1), some (va_rf x2), some (va_rf x3)] [] σ Q
abbrev jX6_use_44 (G : GPl) (s0 : State) (l : Launch) (K : Nat → Option Nat) (T : Nat → Nat) (lev : Nat) (st0 : GSt) (Q : Outcome → GSt → Prop) (a0 : Nat) (x1 : Int32) (x2 : Option Nat) (x3 : Option Nat) (σ : GSt) : Prop := JQ (wP G s0 l K T) mX6_use (lev + 1) st0 44 [some (va_rf (some a0)), some (.int x1), some (va_rf x2), some (va_rf x3)] [] σ Q
theorem tX6_use {G : GPl} {s0 : State} {l : Launch} {K : Nat → Option Nat} {T : Nat → Nat} {lev : Nat} {Q : Outcome → GSt → Prop} {a0 : Nat} {σ : GSt} (h : (gk σ a0 = 5 ∧ (CQ (wP G s0 l K T) mX6_atom lev (.ref a0 :: []) σ (onR (fun r3 t2 => gle σ t2 → jX6_use_12 G s0 l K T lev σ Q a0 (gi σ a0 3) r3 none t2) (fun x t => gle σ t → Q (.threw x) t))))) : CQ (wP G s0 l K T) mX6_use (lev + 1) [.ref a0] σ Q := by
  refine CQ.of3 3 (lv := [some (va_rf (some a0)), none, none, none]) (by decide) (Nat.le_of_ble_eq_true rfl) (cat1_cons rfl cat1_nil) rfl ?_
  refine j_aload_n (r := some a0) dX6_use_0 rfl ?_
  obtain ⟨hk1, h⟩ := h
  refine kg_geti (a := a0) (j := 3) rfl gfX6_44 (by decide) hk1 dX6_use_1 ?_
  refine j_istore_n (lv' := [some (va_rf (some a0)), some (.int (gi σ a0 3)), none, none]) dX6_use_4 (by decide) rfl ?_
  refine j_aload_n (r := some a0) dX6_use_5 rfl ?_
  refine jg_callr (rest := []) (kg_lkV (As := []) (a := a0) (c := 4) kgX6_atom_4 (by decide) rfl hk1 q1220 rfl rfl dX6_use_6) cwX6_atom (Nat.le_of_ble_eq_true rfl) rfl dX6_use_6 (Nat.succ_le_succ (Nat.zero_le _)) (h.mono (onR_mono (fun r3 t2 h hlt2 => ?_) (fun _ _ h => h)))
  replace h := h hlt2
  replace hk1 := hlt2.tag hk1 (by decide)
  refine j_astore_n (r := r3) (lv' := [some (va_rf (some a0)), some (.int (gi σ a0 3)), some (va_rf r3), none]) dX6_use_9 (by decide) rfl ?_
  refine j_null dX6_use_10 ?_
  refine j_astore_n (r := none) (lv' := [some (va_rf (some a0)), some (.int (gi σ a0 3)), some (va_rf r3), some (va_rf none)]) dX6_use_11 (by decide) rfl ?_
  exact h
theorem tX6_use_12 {G : GPl} {s0 : State} {l : Launch} {K : Nat → Option Nat} {T : Nat → Nat} {lev : Nat} {st0 : GSt} {Q : Outcome → GSt → Prop} {a0 : Nat} {x1 : Int32} {x2 : Option Nat} {x3 : Option Nat} {σ : GSt} (h : (gk σ a0 = 5 ∧ (((gr σ a0 7) = (K 0) → jX6_use_31 G s0 l K T lev st0 Q a0 x1 x2 x3 σ) ∧ (¬ (gr σ a0 7) = (K 0) → (CQ (wP G s0 l K T) mX6_isSign lev (.ref a0 :: [.int (iI 40)]) σ (onI (fun r3 t2 => gle σ t2 → ((r3 = 0 → ((x3 = none → Q (.returned (some (va_rf x2))) t2) ∧ (∀ a4, x3 = some a4 → (gk t2 a4 = 13 ∧ Q (.returned (some (va_rf x3))) (gpi a4 1 x1 (gpi a4 0 x1 t2)))))) ∧ (¬ r3 = 0 → jX6_use_31 G s0 l K T lev st0 Q a0 x1 x2 x3 t2))) (fun x t => gle σ t → Q (.threw x) t))))))) : jX6_use_12 G s0 l K T lev st0 Q a0 x1 x2 x3 σ := by
  refine j_aload_n (r := some a0) dX6_use_12 rfl ?_
  obtain ⟨hk1, h⟩ := h
  refine kg_getr (a := a0) (j := 7) rfl gfX6_53 hk1 dX6_use_13 ?_
  refine jg_gets (i := 0) rfl flX6_84 dX6_use_16 ?_
  refine j_acmp_eq (x := gr σ a0 7) (y := K 0) 31 dX6_use_19 (by decide) (fun c7 => ?_) (fun c7 => ?_)
  · replace h := h.1 c7
    exact h
  · replace h := h.2 c7
    refine j_aload_n (r := some a0) dX6_use_22 rfl ?_
    refine j_bipush (v := iI 40) dX6_use_23 rfl ?_
    refine jg_calli (rest := []) (kg_lkV (As := [.int (iI 40)]) (a := a0) (c := 4) kgX6_isSign_4 (by decide) rfl hk1 q1011 rfl rfl dX6_use_25) cwX6_isSign (Nat.le_of_ble_eq_true rfl) rfl dX6_use_25 (Nat.succ_le_succ (Nat.zero_le _)) (h.mono (onI_mono (fun r3 t2 h hlt2 => ?_) (fun _ _ h => h)))
    replace h := h hlt2
    replace hk1 := hlt2.tag hk1 (by decide)
    refine j_if_eq 59 dX6_use_28 (by decide) (fun c6 => ?_) (fun c6 => ?_)
    · replace h := h.1 c6
      refine j_aload_n (r := x3) dX6_use_59 rfl ?_
      refine j_ifnonnull (r := x3) 65 dX6_use_60 (by decide) (fun a4 ea4 => ?_) (fun ea4 => ?_)
      · replace h := h.2 a4 ea4
        refine j_aload_n (r := x3) dX6_use_65 rfl ?_
        refine j_iload_n dX6_use_66 rfl ?_
        obtain ⟨hk5, h⟩ := h
        refine kg_puti (a := a4) ea4 gfX6_290 (Or.inl rfl) hk5 (Or.inl (by decide)) dX6_use_67 ?_
        refine j_aload_n (r := x3) dX6_use_70 rfl ?_
        refine j_iload_n dX6_use_71 rfl ?_
        refine kg_puti (a := a4) ea4 gfX6_291 (Or.inl rfl) hk5 (Or.inl (by decide)) dX6_use_72 ?_
        refine j_aload_n (r := x3) dX6_use_75 rfl ?_
        exact j_areturn (r := x3) rfl (Or.inl ⟨_, rfl⟩) dX6_use_76 h
      · replace h := h.1 ea4
        refine j_aload_n (r := x2) dX6_use_63 rfl ?_
        exact j_areturn (r := x2) rfl (Or.inl ⟨_, rfl⟩) dX6_use_64 h
    · replace h := h.2 c6
      exact h
theorem tX6_use_31 {G : GPl} {s0 : State} {l : Launch} {K : Nat → Option Nat} {T : Nat → Nat} {lev : Nat} {st0 : GSt} {Q : Outcome → GSt → Prop} {a0 : Nat} {x1 : Int32} {x2 : Option Nat} {x3 : Option Nat} {σ : GSt} (h : ((x3 = none → (groom G 4 σ ∧ (CQ (wP G s0 l K T) mX15_init lev (.ref (gn σ) :: [va_rf x2]) (gmk 13 4 σ) (onV (fun t4 => gle (gmk 13 4 σ) t4 → jX6_use_44 G s0 l K T lev st0 Q a0 x1 x2 (some (gn σ)) t4) (fun x t => gle (gmk 13 4 σ) t → Q (.threw x) t))))) ∧ (∀ a1, x3 = some a1 → jX6_use_44 G s0 l K T lev st0 Q a0 x1 x2 x3 σ))) : jX6_use_31 G s0 l K T lev st0 Q a0 x1 x2 x3 σ := by
  refine j_aload_n (r := x3) dX6_use_31 rfl ?_
  refine j_ifnonnull (r := x3) 44 dX6_use_32 (by decide) (fun a1 ea1 => ?_) (fun ea1 => ?_)
  · replace h := h.2 a1 ea1
    exact h
  · replace h := h.1 ea1
    obtain ⟨hg2, h⟩ := h
    refine jg_new (c := 12) (N := 4) (C := "PureHouse$Use") (by decide) ⟨rfl, rfl⟩ q1274 q1275 q151 hg2 dX6_use_35 ?_
    have hk3 := gk_new (t := 13) (n := 4) hg2.2.2
    refine j_dup dX6_use_38 rfl ?_
    refine j_aload_n (r := x2) dX6_use_39 rfl ?_
    refine jg_callv (rest := [va_rf (some (gn σ))]) (kg_lkI (As := [va_rf x2]) (a := (gn σ)) kiX15_init (Or.inl q1276) rfl rfl dX6_use_40) cwX15_init (Nat.le_of_ble_eq_true rfl) rfl dX6_use_40 (Nat.succ_le_succ (Nat.zero_le _)) (h.mono (onV_mono (fun t4 h hlt4 => ?_) (fun _ _ h => h)))
    replace h := h hlt4
    replace hk3 := hlt4.tag hk3 (by decide)
    refine j_astore_n (r := some (gn σ)) (lv' := [some (va_rf (some a0)), some (.int x1), some (va_rf x2), some (va_rf (some (gn σ)))]) dX6_use_43 (by decide) rfl ?_
    exact h
theorem tX6_use_44 {G : GPl} {s0 : State} {l : Launch} {K : Nat → Option Nat} {T : Nat → Nat} {lev : Nat} {st0 : GSt} {Q : Outcome → GSt → Prop} {a0 : Nat} {x1 : Int32} {x2 : Option Nat} {x3 : Option Nat} {σ : GSt} (h : (∃ a1, x3 = some a1 ∧ (gk σ a1 = 13 ∧ (gk σ a0 = 5 ∧ (CQ (wP G s0 l K T) mX6_atom lev (.ref a0 :: []) σ (onR (fun r5 t4 => gle σ t4 → (∃ a6, gr σ a1 3 = some a6 ∧ (gk t4 a6 = 22 ∧ (CQ (wP G s0 l K T) mJ2_add lev (.ref a6 :: [va_rf r5]) t4 (onI (fun r9 t8 => gle t4 t8 → jX6_use_12 G s0 l K T lev st0 Q a0 x1 x2 x3 t8) (fun x t => gle t4 t → Q (.threw x) t)))))) (fun x t => gle σ t → Q (.threw x) t))))))) : jX6_use_44 G s0 l K T lev st0 Q a0 x1 x2 x3 σ := by
  refine j_aload_n (r := x3) dX6_use_44 rfl ?_
  obtain ⟨a1, ea1, hk2, h⟩ := h
  refine kg_getr (a := a1) (j := 3) ea1 gfX6_287 hk2 dX6_use_45 ?_
  refine j_aload_n (r := some a0) dX6_use_48 rfl ?_
  obtain ⟨hk3, h⟩ := h
  refine jg_callr (rest := [va_rf (gr σ a1 3)]) (kg_lkV (As := []) (a := a0) (c := 4) kgX6_atom_4 (by decide) rfl hk3 q1220 rfl rfl dX6_use_49) cwX6_atom (rm_ok (cat1_cons (rf_cat _) cat1_nil) (Nat.le_of_ble_eq_true rfl)) rfl dX6_use_49 (Nat.succ_le_succ (Nat.zero_le _)) (h.mono (onR_mono (fun r5 t4 h hlt4 => ?_) (fun _ _ h => h)))
  replace h := h hlt4
  replace hk2 := hlt4.tag hk2 (by decide)
  replace hk3 := hlt4.tag hk3 (by decide)
  obtain ⟨a6, ea6, hk7, h⟩ := h
  refine jg_calli (rest := []) (kg_lkV (As := [va_rf r5]) (a := a6) (c := 21) kgJ2_add_21 (by decide) rfl hk7 q1079 rfl (by rw [ea6]; rfl) dX6_use_52) cwJ2_add (Nat.le_of_ble_eq_true rfl) rfl dX6_use_52 (Nat.succ_le_succ (Nat.zero_le _)) (h.mono (onI_mono (fun r9 t8 h hlt8 => ?_) (fun _ _ h => h)))
  replace h := h hlt8
  replace hk2 := hlt8.tag hk2 (by decide)
  replace hk3 := hlt8.tag hk3 (by decide)
  replace hk7 := hlt8.tag hk7 (by decide)
  refine j_pop dX6_use_55 rfl ?_
  refine j_goto 12 dX6_use_56 (by decide) ?_
  exact h
theorem tX6_atom {G : GPl} {s0 : State} {l : Launch} {K : Nat → Option Nat} {T : Nat → Nat} {lev : Nat} {Q : Outcome → GSt → Prop} {a0 : Nat} {σ : GSt} (h : (gk σ a0 = 5 ∧ (CQ (wP G s0 l K T) mX6_isSign lev (.ref a0 :: [.int (iI 40)]) σ (onI (fun r3 t2 => gle σ t2 → ((r3 = 0 → (CQ (wP G s0 l K T) mX6_needName lev (.ref a0 :: []) t2 (onR (fun r5 t4 => gle t2 t4 → (CQ (wP G s0 l K T) mX6_variable lev (.ref a0 :: [va_rf r5]) t4 (onR (fun r7 t6 => gle t4 t6 → (∃ a8, r7 = some a8 ∧ (isTmA t6 a8 ∧ Q (.returned (some (va_rf r7))) (gpi a8 1 (gi σ a0 3) (gpi a8 0 (gi σ a0 3) t6))))) (fun x t => gle t4 t → Q (.threw x) t)))) (fun x t => gle t2 t → Q (.threw x) t)))) ∧ (¬ r3 = 0 → (CQ (wP G s0 l K T) mX6_go lev (.ref a0 :: []) t2 (onV (fun t10 => gle t2 t10 → (CQ (wP G s0 l K T) mX6_term lev (.ref a0 :: []) t10 (onR (fun r13 t12 => gle t10 t12 → (CQ (wP G s0 l K T) mX6_need lev (.ref a0 :: [.int (iI 41)]) t12 (onI (fun r15 t14 => gle t12 t14 → (∃ a16, r13 = some a16 ∧ (isTmA t14 a16 ∧ Q (.returned (some (va_rf r13))) (gpi a16 1 (gi σ a0 3) t14)))) (fun x t => gle t12 t → Q (.threw x) t)))) (fun x t => gle t10 t → Q (.threw x) t)))) (fun x t => gle t2 t → Q (.threw x) t)))))) (fun x t => gle σ t → Q (.threw x) t))))) : CQ (wP G s0 l K T) mX6_atom (lev + 1) [.ref a0] σ Q := by
  refine CQ.of3 2 (lv := [some (va_rf (some a0)), none, none]) (by decide) (Nat.le_of_ble_eq_true rfl) (cat1_cons rfl cat1_nil) rfl ?_
  refine j_aload_n (r := some a0) dX6_atom_0 rfl ?_
  obtain ⟨hk1, h⟩ := h
  refine kg_geti (a := a0) (j := 3) rfl gfX6_44 (by decide) hk1 dX6_atom_1 ?_
  refine j_istore_n (lv' := [some (va_rf (some a0)), some (.int (gi σ a0 3)), none]) dX6_atom_4 (by decide) rfl ?_
  refine j_aload_n (r := some a0) dX6_atom_5 rfl ?_
  refine j_bipush (v := iI 40) dX6_atom_6 rfl ?_
  refine jg_calli (rest := []) (kg_lkV (As := [.int (iI 40)]) (a := a0) (c := 4) kgX6_isSign_4 (by decide) rfl hk1 q1011 rfl rfl dX6_atom_8) cwX6_isSign (Nat.le_of_ble_eq_true rfl) rfl dX6_atom_8 (Nat.succ_le_succ (Nat.zero_le _)) (h.mono (onI_mono (fun r3 t2 h hlt2 => ?_) (fun _ _ h => h)))
  replace h := h hlt2
  replace hk1 := hlt2.tag hk1 (by decide)
  refine j_if_eq 33 dX6_atom_11 (by decide) (fun c18 => ?_) (fun c18 => ?_)
  · replace h := h.1 c18
    refine j_aload_n (r := some a0) dX6_atom_33 rfl ?_
    refine j_aload_n (r := some a0) dX6_atom_34 rfl ?_
    refine jg_callr (rest := [va_rf (some a0)]) (kg_lkV (As := []) (a := a0) (c := 4) kgX6_needName_4 (by decide) rfl hk1 q980 rfl rfl dX6_atom_35) cwX6_needName (Nat.le_of_ble_eq_true rfl) rfl dX6_atom_35 (Nat.succ_le_succ (Nat.zero_le _)) (h.mono (onR_mono (fun r5 t4 h hlt4 => ?_) (fun _ _ h => h)))
    replace h := h hlt4
    replace hk1 := hlt4.tag hk1 (by decide)
    refine jg_callr (rest := []) (kg_lkV (As := [va_rf r5]) (a := a0) (c := 4) kgX6_variable_4 (by decide) rfl hk1 q1224 rfl rfl dX6_atom_38) cwX6_variable (Nat.le_of_ble_eq_true rfl) rfl dX6_atom_38 (Nat.succ_le_succ (Nat.zero_le _)) (h.mono (onR_mono (fun r7 t6 h hlt6 => ?_) (fun _ _ h => h)))
    replace h := h hlt6
    replace hk1 := hlt6.tag hk1 (by decide)
    refine j_astore_n (r := r7) (lv' := [some (va_rf (some a0)), some (.int (gi σ a0 3)), some (va_rf r7)]) dX6_atom_41 (by decide) rfl ?_
    refine j_aload_n (r := r7) dX6_atom_42 rfl ?_
    refine j_iload_n dX6_atom_43 rfl ?_
    obtain ⟨a8, ea8, hm9, h⟩ := h
    refine kg_putT (j := 0) (a := a8) (by decide) ea8 flX6_295 hm9 dX6_atom_44 ?_
    refine j_aload_n (r := r7) dX6_atom_47 rfl ?_
    refine j_iload_n dX6_atom_48 rfl ?_
    refine kg_putT (j := 1) (a := a8) (by decide) ea8 flX6_240 hm9 dX6_atom_49 ?_
    refine j_aload_n (r := r7) dX6_atom_52 rfl ?_
    exact j_areturn (r := r7) rfl (Or.inl ⟨_, rfl⟩) dX6_atom_53 h
  · replace h := h.2 c18
    refine j_aload_n (r := some a0) dX6_atom_14 rfl ?_
    refine jg_callv (rest := []) (kg_lkV (As := []) (a := a0) (c := 4) kgX6_go_4 (by decide) rfl hk1 q487 rfl rfl dX6_atom_15) cwX6_go (Nat.le_of_ble_eq_true rfl) rfl dX6_atom_15 (Nat.succ_le_succ (Nat.zero_le _)) (h.mono (onV_mono (fun t10 h hlt10 => ?_) (fun _ _ h => h)))
    replace h := h hlt10
    replace hk1 := hlt10.tag hk1 (by decide)
    refine j_aload_n (r := some a0) dX6_atom_18 rfl ?_
    refine jg_callr (rest := []) (kg_lkV (As := []) (a := a0) (c := 4) kgX6_term_4 (by decide) rfl hk1 q1015 rfl rfl dX6_atom_19) cwX6_term (Nat.le_of_ble_eq_true rfl) rfl dX6_atom_19 (Nat.succ_le_succ (Nat.zero_le _)) (h.mono (onR_mono (fun r13 t12 h hlt12 => ?_) (fun _ _ h => h)))
    replace h := h hlt12
    replace hk1 := hlt12.tag hk1 (by decide)
    refine j_astore_n (r := r13) (lv' := [some (va_rf (some a0)), some (.int (gi σ a0 3)), some (va_rf r13)]) dX6_atom_22 (by decide) rfl ?_
    refine j_aload_n (r := some a0) dX6_atom_23 rfl ?_
    refine j_bipush (v := iI 41) dX6_atom_24 rfl ?_
    refine jg_calli (rest := []) (kg_lkV (As := [.int (iI 41)]) (a := a0) (c := 4) kgX6_need_4 (by decide) rfl hk1 q1023 rfl rfl dX6_atom_26) cwX6_need (Nat.le_of_ble_eq_true rfl) rfl dX6_atom_26 (Nat.succ_le_succ (Nat.zero_le _)) (h.mono (onI_mono (fun r15 t14 h hlt14 => ?_) (fun _ _ h => h)))
    replace h := h hlt14
    replace hk1 := hlt14.tag hk1 (by decide)
    refine j_pop dX6_atom_29 rfl ?_
    refine j_goto 47 dX6_atom_30 (by decide) ?_
    refine j_aload_n (r := r13) dX6_atom_47 rfl ?_
    refine j_iload_n dX6_atom_48 rfl ?_
    obtain ⟨a16, ea16, hm17, h⟩ := h
    refine kg_putT (j := 1) (a := a16) (by decide) ea16 flX6_240 hm17 dX6_atom_49 ?_
    refine j_aload_n (r := r13) dX6_atom_52 rfl ?_
    exact j_areturn (r := r13) rfl (Or.inl ⟨_, rfl⟩) dX6_atom_53 h
abbrev jX6_variable_10 (G : GPl) (s0 : State) (l : Launch) (K : Nat → Option Nat) (T : Nat → Nat) (lev : Nat) (st0 : GSt) (Q : Outcome → GSt → Prop) (a0 : Nat) (x1 : Option Nat) (x2 : Int32) (σ : GSt) : Prop := JQ (wP G s0 l K T) mX6_variable (lev + 1) st0 10 [some (va_rf (some a0)), some (va_rf x1), some (.int x2)] [] σ Q
theorem tX6_variable {G : GPl} {s0 : State} {l : Launch} {K : Nat → Option Nat} {T : Nat → Nat} {lev : Nat} {Q : Outcome → GSt → Prop} {a0 : Nat} {x1 : Option Nat} {σ : GSt} (h : (gk σ a0 = 5 ∧ (∃ a2, gr σ a0 8 = some a2 ∧ (gk σ a2 = 22 ∧ (CQ (wP G s0 l K T) mJ2_size lev (.ref a2 :: []) σ (onI (fun r5 t4 => gle σ t4 → jX6_variable_10 G s0 l K T lev σ Q a0 x1 (r5 - (iI 1)) t4) (fun x t => gle σ t → Q (.threw x) t))))))) : CQ (wP G s0 l K T) mX6_variable (lev + 1) [.ref a0, va_rf x1] σ Q := by
  refine CQ.of3 1 (lv := [some (va_rf (some a0)), some (va_rf x1), none]) (by decide) (Nat.le_of_ble_eq_true rfl) (cat1_cons rfl (cat1_cons (rf_cat _) cat1_nil)) rfl ?_
  refine j_aload_n (r := some a0) dX6_variable_0 rfl ?_
  obtain ⟨hk1, h⟩ := h
  refine kg_getr (a := a0) (j := 8) rfl gfX6_12 hk1 dX6_variable_1 ?_
  obtain ⟨a2, ea2, hk3, h⟩ := h
  refine jg_calli (rest := []) (kg_lkV (As := []) (a := a2) (c := 21) kgJ2_size_21 (by decide) rfl hk3 q1142 rfl (by rw [ea2]; rfl) dX6_variable_4) cwJ2_size (Nat.le_of_ble_eq_true rfl) rfl dX6_variable_4 (Nat.succ_le_succ (Nat.zero_le _)) (h.mono (onI_mono (fun r5 t4 h hlt4 => ?_) (fun _ _ h => h)))
  replace h := h hlt4
  replace hk1 := hlt4.tag hk1 (by decide)
  replace hk3 := hlt4.tag hk3 (by decide)
  refine j_iconst (v := iI 1) dX6_variable_7 rfl ?_
  refine j_isub dX6_variable_8 ?_
  refine j_istore_n (lv' := [some (va_rf (some a0)), some (va_rf x1), some (.int (r5 - (iI 1)))]) dX6_variable_9 (by decide) rfl ?_
  exact h
theorem tX6_variable_10 {G : GPl} {s0 : State} {l : Launch} {K : Nat → Option Nat} {T : Nat → Nat} {lev : Nat} {st0 : GSt} {Q : Outcome → GSt → Prop} {a0 : Nat} {x1 : Option Nat} {x2 : Int32} {σ : GSt} (h : ((x2 < 0 → (groom G 5 σ ∧ (CQ (wP G s0 l K T) mX14_init lev (.ref (gn σ) :: [va_rf x1]) (gmk 12 5 σ) (onV (fun t3 => gle (gmk 12 5 σ) t3 → Q (.returned (some (va_rf (some (gn σ))))) t3) (fun x t => gle (gmk 12 5 σ) t → Q (.threw x) t))))) ∧ (¬ x2 < 0 → (gk σ a0 = 5 ∧ (∃ a6, gr σ a0 8 = some a6 ∧ (gk σ a6 = 22 ∧ (CQ (wP G s0 l K T) mJ2_get lev (.ref a6 :: [.int x2]) σ (onR (fun r9 t8 => gle σ t8 → (inT t8 r9 [23] ∧ (∃ a11, r9 = some a11 ∧ (gk t8 a11 = 23 ∧ (CQ (wP G s0 l K T) mJ3_equals lev (.ref a11 :: [va_rf x1]) t8 (onI (fun r14 t13 => gle t8 t13 → ((r14 = 0 → jX6_variable_10 G s0 l K T lev st0 Q a0 x1 (x2 + iI (-1)) t13) ∧ (¬ r14 = 0 → (groom G 3 t13 ∧ (∃ a17, gr (gmk 11 3 t13) a0 8 = some a17 ∧ (gk (gmk 11 3 t13) a17 = 22 ∧ (CQ (wP G s0 l K T) mJ2_size lev (.ref a17 :: []) (gmk 11 3 t13) (onI (fun r20 t19 => gle (gmk 11 3 t13) t19 → (CQ (wP G s0 l K T) mX13_init lev (.ref (gn t13) :: [.int ((r20 - (iI 1)) - x2)]) t19 (onV (fun t21 => gle t19 t21 → Q (.returned (some (va_rf (some (gn t13))))) t21) (fun x t => gle t19 t → Q (.threw x) t)))) (fun x t => gle (gmk 11 3 t13) t → Q (.threw x) t))))))))) (fun x t => gle t8 t → Q (.threw x) t))))))) (fun x t => gle σ t → Q (.threw x) t))))))))) : jX6_variable_10 G s0 l K T lev st0 Q a0 x1 x2 σ := by
  refine j_iload_n dX6_variable_10 rfl ?_
  refine j_if_lt 57 dX6_variable_11 (by decide) (fun c24 => ?_) (fun c24 => ?_)
  · replace h := h.1 c24
    obtain ⟨hg1, h⟩ := h
    refine jg_new (c := 11) (N := 5) (C := "PureHouse$Free") (by decide) ⟨rfl, rfl⟩ q1250 q1251 q150 hg1 dX6_variable_57 ?_
    have hk2 := gk_new (t := 12) (n := 5) hg1.2.2
    refine j_dup dX6_variable_60 rfl ?_
    refine j_aload_n (r := x1) dX6_variable_61 rfl ?_
    refine jg_callv (rest := [va_rf (some (gn σ))]) (kg_lkI (As := [va_rf x1]) (a := (gn σ)) kiX14_init (Or.inl q1252) rfl rfl dX6_variable_62) cwX14_init (Nat.le_of_ble_eq_true rfl) rfl dX6_variable_62 (Nat.succ_le_succ (Nat.zero_le _)) (h.mono (onV_mono (fun t3 h hlt3 => ?_) (fun _ _ h => h)))
    replace h := h hlt3
    replace hk2 := hlt3.tag hk2 (by decide)
    exact j_areturn (r := some (gn σ)) rfl (Or.inl ⟨_, rfl⟩) dX6_variable_65 h
  · replace h := h.2 c24
    refine j_aload_n (r := some a0) dX6_variable_14 rfl ?_
    obtain ⟨hk5, h⟩ := h
    refine kg_getr (a := a0) (j := 8) rfl gfX6_12 hk5 dX6_variable_15 ?_
    refine j_iload_n dX6_variable_18 rfl ?_
    obtain ⟨a6, ea6, hk7, h⟩ := h
    refine jg_callr (rest := []) (kg_lkV (As := [.int x2]) (a := a6) (c := 21) kgJ2_get_21 (by decide) rfl hk7 q1228 rfl (by rw [ea6]; rfl) dX6_variable_19) cwJ2_get (Nat.le_of_ble_eq_true rfl) rfl dX6_variable_19 (Nat.succ_le_succ (Nat.zero_le _)) (h.mono (onR_mono (fun r9 t8 h hlt8 => ?_) (fun _ _ h => h)))
    replace h := h hlt8
    replace hk5 := hlt8.tag hk5 (by decide)
    replace hk7 := hlt8.tag hk7 (by decide)
    obtain ⟨hc10, h⟩ := h
    refine jg_cast (r := r9) cs_java_lang_String q1236 hc10 dX6_variable_22 ?_
    refine j_aload_n (r := x1) dX6_variable_25 rfl ?_
    obtain ⟨a11, ea11, hk12, h⟩ := h
    refine jg_calli (rest := []) (kg_lkV (As := [va_rf x1]) (a := a11) (c := 22) kgJ3_equals_22 (by decide) rfl hk12 q861 rfl (by rw [ea11]; rfl) dX6_variable_26) cwJ3_equals (Nat.le_of_ble_eq_true rfl) rfl dX6_variable_26 (Nat.succ_le_succ (Nat.zero_le _)) (h.mono (onI_mono (fun r14 t13 h hlt13 => ?_) (fun _ _ h => h)))
    replace h := h hlt13
    replace hk5 := hlt13.tag hk5 (by decide)
    replace hk7 := hlt13.tag hk7 (by decide)
    replace hk12 := hlt13.tag hk12 (by decide)
    refine j_if_eq 51 dX6_variable_29 (by decide) (fun c23 => ?_) (fun c23 => ?_)
    · replace h := h.1 c23
      refine j_iinc (lv' := [some (va_rf (some a0)), some (va_rf x1), some (.int (x2 + iI (-1)))]) dX6_variable_51 rfl (by decide) rfl ?_
      refine j_goto 10 dX6_variable_54 (by decide) ?_
      exact h
    · replace h := h.2 c23
      obtain ⟨hg15, h⟩ := h
      refine jg_new (c := 10) (N := 3) (C := "PureHouse$Bound") (by decide) ⟨rfl, rfl⟩ q1237 q1238 q149 hg15 dX6_variable_32 ?_
      replace hk5 := gk_mk (t := 11) (n := 3) hk5 (by decide)
      replace hk7 := gk_mk (t := 11) (n := 3) hk7 (by decide)
      replace hk12 := gk_mk (t := 11) (n := 3) hk12 (by decide)
      have hk16 := gk_new (t := 11) (n := 3) hg15.2.2
      refine j_dup dX6_variable_35 rfl ?_
      refine j_aload_n (r := some a0) dX6_variable_36 rfl ?_
      refine kg_getr (a := a0) (j := 8) rfl gfX6_12 hk5 dX6_variable_37 ?_
      obtain ⟨a17, ea17, hk18, h⟩ := h
      refine jg_calli (rest := [va_rf (some (gn t13)), va_rf (some (gn t13))]) (kg_lkV (As := []) (a := a17) (c := 21) kgJ2_size_21 (by decide) rfl hk18 q1142 rfl (by rw [ea17]; rfl) dX6_variable_40) cwJ2_size (Nat.le_of_ble_eq_true rfl) rfl dX6_variable_40 (Nat.succ_le_succ (Nat.zero_le _)) (h.mono (onI_mono (fun r20 t19 h hlt19 => ?_) (fun _ _ h => h)))
      replace h := h hlt19
      replace hk5 := hlt19.tag hk5 (by decide)
      replace hk7 := hlt19.tag hk7 (by decide)
      replace hk12 := hlt19.tag hk12 (by decide)
      replace hk16 := hlt19.tag hk16 (by decide)
      replace hk18 := hlt19.tag hk18 (by decide)
      refine j_iconst (v := iI 1) dX6_variable_43 rfl ?_
      refine j_isub dX6_variable_44 ?_
      refine j_iload_n dX6_variable_45 rfl ?_
      refine j_isub dX6_variable_46 ?_
      refine jg_callv (rest := [va_rf (some (gn t13))]) (kg_lkI (As := [.int ((r20 - (iI 1)) - x2)]) (a := (gn t13)) kiX13_init (Or.inl q1239) rfl rfl dX6_variable_47) cwX13_init (Nat.le_of_ble_eq_true rfl) rfl dX6_variable_47 (Nat.succ_le_succ (Nat.zero_le _)) (h.mono (onV_mono (fun t21 h hlt21 => ?_) (fun _ _ h => h)))
      replace h := h hlt21
      replace hk5 := hlt21.tag hk5 (by decide)
      replace hk7 := hlt21.tag hk7 (by decide)
      replace hk12 := hlt21.tag hk12 (by decide)
      replace hk16 := hlt21.tag hk16 (by decide)
      replace hk18 := hlt21.tag hk18 (by decide)
      exact j_areturn (r := some (gn t13)) rfl (Or.inl ⟨_, rfl⟩) dX6_variable_50 h
theorem tX6_asked {G : GPl} {s0 : State} {l : Launch} {K : Nat → Option Nat} {T : Nat → Nat} {lev : Nat} {Q : Outcome → GSt → Prop} {a0 : Nat} {x1 : Option Nat} {x2 : Int32} {σ : GSt} (h : (groom G 6 σ ∧ (CQ (wP G s0 l K T) mX7_init lev (.ref (gn σ) :: [va_rf x1, .int x2]) (gmk 6 6 σ) (onV (fun t3 => gle (gmk 6 6 σ) t3 → (gk t3 a0 = 5 ∧ (CQ (wP G s0 l K T) mX6_go lev (.ref a0 :: []) t3 (onV (fun t6 => gle t3 t6 → (CQ (wP G s0 l K T) mX6_term lev (.ref a0 :: []) t6 (onR (fun r9 t8 => gle t6 t8 → Q (.returned (some (va_rf (some (gn σ))))) (gpr (gn σ) 5 r9 t8)) (fun x t => gle t6 t → Q (.threw x) t)))) (fun x t => gle t3 t → Q (.threw x) t))))) (fun x t => gle (gmk 6 6 σ) t → Q (.threw x) t))))) : CQ (wP G s0 l K T) mX6_asked (lev + 1) [.ref a0, va_rf x1, .int x2] σ Q := by
  refine CQ.of3 1 (lv := [some (va_rf (some a0)), some (va_rf x1), some (.int x2), none]) (by decide) (Nat.le_of_ble_eq_true rfl) (cat1_cons rfl (cat1_cons (rf_cat _) (cat1_cons rfl cat1_nil))) rfl ?_
  obtain ⟨hg1, h⟩ := h
  refine jg_new (c := 5) (N := 6) (C := "PureHouse$Statement") (by decide) ⟨rfl, rfl⟩ q940 q941 q141 hg1 dX6_asked_0 ?_
  have hk2 := gk_new (t := 6) (n := 6) hg1.2.2
  refine j_dup dX6_asked_3 rfl ?_
  refine j_aload_n (r := x1) dX6_asked_4 rfl ?_
  refine j_iload_n dX6_asked_5 rfl ?_
  refine jg_callv (rest := [va_rf (some (gn σ))]) (kg_lkI (As := [va_rf x1, .int x2]) (a := (gn σ)) kiX7_init (Or.inl q944) rfl rfl dX6_asked_6) cwX7_init (Nat.le_of_ble_eq_true rfl) rfl dX6_asked_6 (Nat.succ_le_succ (Nat.zero_le _)) (h.mono (onV_mono (fun t3 h hlt3 => ?_) (fun _ _ h => h)))
  replace h := h hlt3
  replace hk2 := hlt3.tag hk2 (by decide)
  refine j_astore_n (r := some (gn σ)) (lv' := [some (va_rf (some a0)), some (va_rf x1), some (.int x2), some (va_rf (some (gn σ)))]) dX6_asked_9 (by decide) rfl ?_
  refine j_aload_n (r := some a0) dX6_asked_10 rfl ?_
  obtain ⟨hk5, h⟩ := h
  refine jg_callv (rest := []) (kg_lkV (As := []) (a := a0) (c := 4) kgX6_go_4 (by decide) rfl hk5 q487 rfl rfl dX6_asked_11) cwX6_go (Nat.le_of_ble_eq_true rfl) rfl dX6_asked_11 (Nat.succ_le_succ (Nat.zero_le _)) (h.mono (onV_mono (fun t6 h hlt6 => ?_) (fun _ _ h => h)))
  replace h := h hlt6
  replace hk2 := hlt6.tag hk2 (by decide)
  replace hk5 := hlt6.tag hk5 (by decide)
  refine j_aload_n (r := some (gn σ)) dX6_asked_14 rfl ?_
  refine j_aload_n (r := some a0) dX6_asked_15 rfl ?_
  refine jg_callr (rest := [va_rf (some (gn σ))]) (kg_lkV (As := []) (a := a0) (c := 4) kgX6_term_4 (by decide) rfl hk5 q1015 rfl rfl dX6_asked_16) cwX6_term (Nat.le_of_ble_eq_true rfl) rfl dX6_asked_16 (Nat.succ_le_succ (Nat.zero_le _)) (h.mono (onR_mono (fun r9 t8 h hlt8 => ?_) (fun _ _ h => h)))
  replace h := h hlt8
  replace hk2 := hlt8.tag hk2 (by decide)
  replace hk5 := hlt8.tag hk5 (by decide)
  refine kg_putr (a := (gn σ)) (x := r9) rfl gfX6_221 (Or.inl rfl) hk2 (Or.inl (by decide)) dX6_asked_19 ?_
  refine j_aload_n (r := some (gn σ)) dX6_asked_22 rfl ?_
  exact j_areturn (r := some (gn σ)) rfl (Or.inl ⟨_, rfl⟩) dX6_asked_23 h
