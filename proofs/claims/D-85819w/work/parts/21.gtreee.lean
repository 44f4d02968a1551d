/-! trees (made by gen/geng.py) -/
set_option maxRecDepth 100000
theorem tX1_init {G : GPl} {s0 : State} {l : Launch} {K : Nat → Option Nat} {T : Nat → Nat} {lev : Nat} {Q : Outcome → GSt → Prop} {a0 : Nat} {σ : GSt} (h : (groom G 4000 σ ∧ (gk (gmk 102 4000 σ) a0 = 1 ∧ (groom G 4 (gpi a0 3 (iI (-1)) (gpr a0 0 (some (gn σ)) (gmk 102 4000 σ))) ∧ (CQ (wP G s0 l K T) mX2_init lev (.ref (gn (gpi a0 3 (iI (-1)) (gpr a0 0 (some (gn σ)) (gmk 102 4000 σ)))) :: []) (gmk 2 4 (gpi a0 3 (iI (-1)) (gpr a0 0 (some (gn σ)) (gmk 102 4000 σ)))) (onV (fun t6 => gle (gmk 2 4 (gpi a0 3 (iI (-1)) (gpr a0 0 (some (gn σ)) (gmk 102 4000 σ)))) t6 → (groom G 11 (gpr a0 5 (some (gn (gpi a0 3 (iI (-1)) (gpr a0 0 (some (gn σ)) (gmk 102 4000 σ))))) t6) ∧ (CQ (wP G s0 l K T) mX3_init lev (.ref (gn (gpr a0 5 (some (gn (gpi a0 3 (iI (-1)) (gpr a0 0 (some (gn σ)) (gmk 102 4000 σ))))) t6)) :: [va_rf (gr (gmk 3 11 (gpr a0 5 (some (gn (gpi a0 3 (iI (-1)) (gpr a0 0 (some (gn σ)) (gmk 102 4000 σ))))) t6)) a0 5)]) (gmk 3 11 (gpr a0 5 (some (gn (gpi a0 3 (iI (-1)) (gpr a0 0 (some (gn σ)) (gmk 102 4000 σ))))) t6)) (onV (fun t10 => gle (gmk 3 11 (gpr a0 5 (some (gn (gpi a0 3 (iI (-1)) (gpr a0 0 (some (gn σ)) (gmk 102 4000 σ))))) t6)) t10 → (groom G 6 (gpr a0 6 (some (gn (gpr a0 5 (some (gn (gpi a0 3 (iI (-1)) (gpr a0 0 (some (gn σ)) (gmk 102 4000 σ))))) t6))) t10) ∧ (CQ (wP G s0 l K T) mX4_init lev (.ref (gn (gpr a0 6 (some (gn (gpr a0 5 (some (gn (gpi a0 3 (iI (-1)) (gpr a0 0 (some (gn σ)) (gmk 102 4000 σ))))) t6))) t10)) :: [va_rf (gr (gmk 4 6 (gpr a0 6 (some (gn (gpr a0 5 (some (gn (gpi a0 3 (iI (-1)) (gpr a0 0 (some (gn σ)) (gmk 102 4000 σ))))) t6))) t10)) a0 5), va_rf (gr (gmk 4 6 (gpr a0 6 (some (gn (gpr a0 5 (some (gn (gpi a0 3 (iI (-1)) (gpr a0 0 (some (gn σ)) (gmk 102 4000 σ))))) t6))) t10)) a0 6)]) (gmk 4 6 (gpr a0 6 (some (gn (gpr a0 5 (some (gn (gpi a0 3 (iI (-1)) (gpr a0 0 (some (gn σ)) (gmk 102 4000 σ))))) t6))) t10)) (onV (fun t14 => gle (gmk 4 6 (gpr a0 6 (some (gn (gpr a0 5 (some (gn (gpi a0 3 (iI (-1)) (gpr a0 0 (some (gn σ)) (gmk 102 4000 σ))))) t6))) t10)) t14 → (groom G 20 (gpr a0 7 (some (gn (gpr a0 6 (some (gn (gpr a0 5 (some (gn (gpi a0 3 (iI (-1)) (gpr a0 0 (some (gn σ)) (gmk 102 4000 σ))))) t6))) t10))) t14) ∧ (∃ a18, gr (gpr a0 8 (some (gn (gpr a0 7 (some (gn (gpr a0 6 (some (gn (gpr a0 5 (some (gn (gpi a0 3 (iI (-1)) (gpr a0 0 (some (gn σ)) (gmk 102 4000 σ))))) t6))) t10))) t14))) (gmk 101 20 (gpr a0 7 (some (gn (gpr a0 6 (some (gn (gpr a0 5 (some (gn (gpi a0 3 (iI (-1)) (gpr a0 0 (some (gn σ)) (gmk 102 4000 σ))))) t6))) t10))) t14))) a0 5 = some a18 ∧ (gk (gpr a0 8 (some (gn (gpr a0 7 (some (gn (gpr a0 6 (some (gn (gpr a0 5 (some (gn (gpi a0 3 (iI (-1)) (gpr a0 0 (some (gn σ)) (gmk 102 4000 σ))))) t6))) t10))) t14))) (gmk 101 20 (gpr a0 7 (some (gn (gpr a0 6 (some (gn (gpr a0 5 (some (gn (gpi a0 3 (iI (-1)) (gpr a0 0 (some (gn σ)) (gmk 102 4000 σ))))) t6))) t10))) t14))) a18 = 2 ∧ (CQ (wP G s0 l K T) mX2_corner lev (.ref a18 :: [.int (iI 7)]) (gpr a0 8 (some (gn (gpr a0 7 (some (gn (gpr a0 6 (some (gn (gpr a0 5 (some (gn (gpi a0 3 (iI (-1)) (gpr a0 0 (some (gn σ)) (gmk 102 4000 σ))))) t6))) t10))) t14))) (gmk 101 20 (gpr a0 7 (some (gn (gpr a0 6 (some (gn (gpr a0 5 (some (gn (gpi a0 3 (iI (-1)) (gpr a0 0 (some (gn σ)) (gmk 102 4000 σ))))) t6))) t10))) t14))) (onV (fun t20 => gle (gpr a0 8 (some (gn (gpr a0 7 (some (gn (gpr a0 6 (some (gn (gpr a0 5 (some (gn (gpi a0 3 (iI (-1)) (gpr a0 0 (some (gn σ)) (gmk 102 4000 σ))))) t6))) t10))) t14))) (gmk 101 20 (gpr a0 7 (some (gn (gpr a0 6 (some (gn (gpr a0 5 (some (gn (gpi a0 3 (iI (-1)) (gpr a0 0 (some (gn σ)) (gmk 102 4000 σ))))) t6))) t10))) t14))) t20 → Q (.returned none) t20) (fun x t => gle (gpr a0 8 (some (gn (gpr a0 7 (some (gn (gpr a0 6 (some (gn (gpr a0 5 (some (gn (gpi a0 3 (iI (-1)) (gpr a0 0 (some (gn σ)) (gmk 102 4000 σ))))) t6))) t10))) t14))) (gmk 101 20 (gpr a0 7 (some (gn (gpr a0 6 (some (gn (gpr a0 5 (some (gn (gpi a0 3 (iI (-1)) (gpr a0 0 (some (gn σ)) (gmk 102 4000 σ))))) t6))) t10))) t14))) t → Q (.threw x) t))))))) (fun x t => gle (gmk 4 6 (gpr a0 6 (some (gn (gpr a0 5 (some (gn (gpi a0 3 (iI (-1)) (gpr a0 0 (some (gn σ)) (gmk 102 4000 σ))))) t6))) t10)) t → Q (.threw x) t))))) (fun x t => gle (gmk 3 11 (gpr a0 5 (some (gn (gpi a0 3 (iI (-1)) (gpr a0 0 (some (gn σ)) (gmk 102 4000 σ))))) t6)) t → Q (.threw x) t))))) (fun x t => gle (gmk 2 4 (gpi a0 3 (iI (-1)) (gpr a0 0 (some (gn σ)) (gmk 102 4000 σ)))) t → Q (.threw x) t))))))) : CQ (wP G s0 l K T) mX1_init (lev + 1) [.ref a0] σ Q := by
  refine CQ.of3 0 (lv := [some (va_rf (some a0))]) (by decide) (Nat.le_of_ble_eq_true rfl) (cat1_cons rfl cat1_nil) rfl ?_
  refine j_aload_n (r := some a0) dX1_init_0 rfl ?_
  refine jg_objI q167 q168 q169 (Nat.succ_le_succ (Nat.zero_le _)) (Nat.le_of_ble_eq_true rfl) dX1_init_1 ?_
  refine j_aload_n (r := some a0) dX1_init_4 rfl ?_
  refine j_sipush (v := iI 4000) dX1_init_5 rfl ?_
  obtain ⟨hg1, h⟩ := h
  refine jg_newarr (n0 := 4000) (Or.inr ⟨rfl, rfl, rfl⟩) q197 ⟨by decide, by decide⟩ (by decide) hg1 dX1_init_8 ?_
  have hk2 := gk_new (t := 102) (n := 4000) hg1.2.2
  obtain ⟨hk3, h⟩ := h
  refine kg_putr (a := a0) (x := some (gn σ)) rfl gfX1_9 (Or.inr ⟨rfl, rfl⟩) hk3 (Or.inl (by decide)) dX1_init_10 ?_
  refine j_aload_n (r := some a0) dX1_init_13 rfl ?_
  refine j_iconst (v := iI (-1)) dX1_init_14 rfl ?_
  refine kg_puti (a := a0) rfl gfX1_13 (Or.inl rfl) hk3 (Or.inl (by decide)) dX1_init_15 ?_
  refine j_aload_n (r := some a0) dX1_init_18 rfl ?_
  obtain ⟨hg4, h⟩ := h
  refine jg_new (c := 1) (N := 4) (C := "PureHouse$Tables") (by decide) ⟨rfl, rfl⟩ q170 q171 q114 hg4 dX1_init_19 ?_
  replace hk2 := gk_mk (t := 2) (n := 4) hk2 (by decide)
  replace hk3 := gk_mk (t := 2) (n := 4) hk3 (by decide)
  have hk5 := gk_new (t := 2) (n := 4) hg4.2.2
  refine j_dup dX1_init_22 rfl ?_
  refine jg_callv (rest := [va_rf (some (gn (gpi a0 3 (iI (-1)) (gpr a0 0 (some (gn σ)) (gmk 102 4000 σ))))), va_rf (some a0)]) (kg_lkI (As := []) (a := (gn (gpi a0 3 (iI (-1)) (gpr a0 0 (some (gn σ)) (gmk 102 4000 σ))))) kiX2_init (Or.inr ⟨_, q172⟩) rfl rfl dX1_init_23) cwX2_init (Nat.le_of_ble_eq_true rfl) rfl dX1_init_23 (Nat.succ_le_succ (Nat.zero_le _)) (h.mono (onV_mono (fun t6 h hlt6 => ?_) (fun _ _ h => h)))
  replace h := h hlt6
  replace hk2 := hlt6.tag hk2 (by decide)
  replace hk3 := hlt6.tag hk3 (by decide)
  replace hk5 := hlt6.tag hk5 (by decide)
  refine kg_putr (a := a0) (x := some (gn (gpi a0 3 (iI (-1)) (gpr a0 0 (some (gn σ)) (gmk 102 4000 σ))))) rfl gfX1_20 (Or.inr ⟨rfl, rfl⟩) hk3 (Or.inl (by decide)) dX1_init_26 ?_
  refine j_aload_n (r := some a0) dX1_init_29 rfl ?_
  obtain ⟨hg8, h⟩ := h
  refine jg_new (c := 2) (N := 11) (C := "PureHouse$Machine") (by decide) ⟨rfl, rfl⟩ q199 q200 q115 hg8 dX1_init_30 ?_
  replace hk2 := gk_mk (t := 3) (n := 11) hk2 (by decide)
  replace hk3 := gk_mk (t := 3) (n := 11) hk3 (by decide)
  replace hk5 := gk_mk (t := 3) (n := 11) hk5 (by decide)
  have hk9 := gk_new (t := 3) (n := 11) hg8.2.2
  refine j_dup dX1_init_33 rfl ?_
  refine j_aload_n (r := some a0) dX1_init_34 rfl ?_
  refine kg_getr (a := a0) (j := 5) rfl gfX1_20 hk3 dX1_init_35 ?_
  refine jg_callv (rest := [va_rf (some (gn (gpr a0 5 (some (gn (gpi a0 3 (iI (-1)) (gpr a0 0 (some (gn σ)) (gmk 102 4000 σ))))) t6))), va_rf (some a0)]) (kg_lkI (As := [va_rf (gr (gmk 3 11 (gpr a0 5 (some (gn (gpi a0 3 (iI (-1)) (gpr a0 0 (some (gn σ)) (gmk 102 4000 σ))))) t6)) a0 5)]) (a := (gn (gpr a0 5 (some (gn (gpi a0 3 (iI (-1)) (gpr a0 0 (some (gn σ)) (gmk 102 4000 σ))))) t6))) kiX3_init (Or.inl q201) rfl rfl dX1_init_38) cwX3_init (Nat.le_of_ble_eq_true rfl) rfl dX1_init_38 (Nat.succ_le_succ (Nat.zero_le _)) (h.mono (onV_mono (fun t10 h hlt10 => ?_) (fun _ _ h => h)))
  replace h := h hlt10
  replace hk2 := hlt10.tag hk2 (by decide)
  replace hk3 := hlt10.tag hk3 (by decide)
  replace hk5 := hlt10.tag hk5 (by decide)
  replace hk9 := hlt10.tag hk9 (by decide)
  refine kg_putr (a := a0) (x := some (gn (gpr a0 5 (some (gn (gpi a0 3 (iI (-1)) (gpr a0 0 (some (gn σ)) (gmk 102 4000 σ))))) t6))) rfl gfX1_29 (Or.inr ⟨rfl, rfl⟩) hk3 (Or.inl (by decide)) dX1_init_41 ?_
  refine j_aload_n (r := some a0) dX1_init_44 rfl ?_
  obtain ⟨hg12, h⟩ := h
  refine jg_new (c := 3) (N := 6) (C := "PureHouse$Judge") (by decide) ⟨rfl, rfl⟩ q256 q257 q116 hg12 dX1_init_45 ?_
  replace hk2 := gk_mk (t := 4) (n := 6) hk2 (by decide)
  replace hk3 := gk_mk (t := 4) (n := 6) hk3 (by decide)
  replace hk5 := gk_mk (t := 4) (n := 6) hk5 (by decide)
  replace hk9 := gk_mk (t := 4) (n := 6) hk9 (by decide)
  have hk13 := gk_new (t := 4) (n := 6) hg12.2.2
  refine j_dup dX1_init_48 rfl ?_
  refine j_aload_n (r := some a0) dX1_init_49 rfl ?_
  refine kg_getr (a := a0) (j := 5) rfl gfX1_20 hk3 dX1_init_50 ?_
  refine j_aload_n (r := some a0) dX1_init_53 rfl ?_
  refine kg_getr (a := a0) (j := 6) rfl gfX1_29 hk3 dX1_init_54 ?_
  refine jg_callv (rest := [va_rf (some (gn (gpr a0 6 (some (gn (gpr a0 5 (some (gn (gpi a0 3 (iI (-1)) (gpr a0 0 (some (gn σ)) (gmk 102 4000 σ))))) t6))) t10))), va_rf (some a0)]) (kg_lkI (As := [va_rf (gr (gmk 4 6 (gpr a0 6 (some (gn (gpr a0 5 (some (gn (gpi a0 3 (iI (-1)) (gpr a0 0 (some (gn σ)) (gmk 102 4000 σ))))) t6))) t10)) a0 5), va_rf (gr (gmk 4 6 (gpr a0 6 (some (gn (gpr a0 5 (some (gn (gpi a0 3 (iI (-1)) (gpr a0 0 (some (gn σ)) (gmk 102 4000 σ))))) t6))) t10)) a0 6)]) (a := (gn (gpr a0 6 (some (gn (gpr a0 5 (some (gn (gpi a0 3 (iI (-1)) (gpr a0 0 (some (gn σ)) (gmk 102 4000 σ))))) t6))) t10))) kiX4_init (Or.inl q258) rfl rfl dX1_init_57) cwX4_init (Nat.le_of_ble_eq_true rfl) rfl dX1_init_57 (Nat.succ_le_succ (Nat.zero_le _)) (h.mono (onV_mono (fun t14 h hlt14 => ?_) (fun _ _ h => h)))
  replace h := h hlt14
  replace hk2 := hlt14.tag hk2 (by decide)
  replace hk3 := hlt14.tag hk3 (by decide)
  replace hk5 := hlt14.tag hk5 (by decide)
  replace hk9 := hlt14.tag hk9 (by decide)
  replace hk13 := hlt14.tag hk13 (by decide)
  refine kg_putr (a := a0) (x := some (gn (gpr a0 6 (some (gn (gpr a0 5 (some (gn (gpi a0 3 (iI (-1)) (gpr a0 0 (some (gn σ)) (gmk 102 4000 σ))))) t6))) t10))) rfl gfX1_38 (Or.inr ⟨rfl, rfl⟩) hk3 (Or.inl (by decide)) dX1_init_60 ?_
  refine j_aload_n (r := some a0) dX1_init_63 rfl ?_
  refine j_bipush (v := iI 20) dX1_init_64 rfl ?_
  obtain ⟨hg16, h⟩ := h
  refine jg_newarr (n0 := 20) (Or.inl ⟨rfl, rfl, rfl⟩) q198 ⟨by decide, by decide⟩ (by decide) hg16 dX1_init_66 ?_
  replace hk2 := gk_mk (t := 101) (n := 20) hk2 (by decide)
  replace hk3 := gk_mk (t := 101) (n := 20) hk3 (by decide)
  replace hk5 := gk_mk (t := 101) (n := 20) hk5 (by decide)
  replace hk9 := gk_mk (t := 101) (n := 20) hk9 (by decide)
  replace hk13 := gk_mk (t := 101) (n := 20) hk13 (by decide)
  have hk17 := gk_new (t := 101) (n := 20) hg16.2.2
  refine kg_putr (a := a0) (x := some (gn (gpr a0 7 (some (gn (gpr a0 6 (some (gn (gpr a0 5 (some (gn (gpi a0 3 (iI (-1)) (gpr a0 0 (some (gn σ)) (gmk 102 4000 σ))))) t6))) t10))) t14))) rfl gfX1_42 (Or.inr ⟨rfl, rfl⟩) hk3 (Or.inl (by decide)) dX1_init_68 ?_
  refine j_aload_n (r := some a0) dX1_init_71 rfl ?_
  refine kg_getr (a := a0) (j := 5) rfl gfX1_20 hk3 dX1_init_72 ?_
  refine j_bipush (v := iI 7) dX1_init_75 rfl ?_
  obtain ⟨a18, ea18, hk19, h⟩ := h
  refine jg_callv (rest := []) (kg_lkV (As := [.int (iI 7)]) (a := a18) (c := 1) kgX2_corner_1 (by decide) rfl hk19 q310 rfl (by rw [ea18]; rfl) dX1_init_77) cwX2_corner (Nat.le_of_ble_eq_true rfl) rfl dX1_init_77 (Nat.succ_le_succ (Nat.zero_le _)) (h.mono (onV_mono (fun t20 h hlt20 => ?_) (fun _ _ h => h)))
  replace h := h hlt20
  replace hk2 := hlt20.tag hk2 (by decide)
  replace hk3 := hlt20.tag hk3 (by decide)
  replace hk5 := hlt20.tag hk5 (by decide)
  replace hk9 := hlt20.tag hk9 (by decide)
  replace hk13 := hlt20.tag hk13 (by decide)
  replace hk17 := hlt20.tag hk17 (by decide)
  replace hk19 := hlt20.tag hk19 (by decide)
  exact j_return rfl dX1_init_80 h
theorem tX1_feed {G : GPl} {s0 : State} {l : Launch} {K : Nat → Option Nat} {T : Nat → Nat} {lev : Nat} {Q : Outcome → GSt → Prop} {a0 : Nat} {x1 : Int32} {x2 : Int32} {x3 : Int32} {x4 : Int32} {x5 : Int32} {σ : GSt} (h : (gk σ a0 = 1 ∧ ((((gi σ a0 1) + (iI 20)) ≤ (iI 4000) → (CQ (wP G s0 l K T) mX1_lay lev (.ref a0 :: [.int x1]) σ (onV (fun t2 => gle σ t2 → (CQ (wP G s0 l K T) mX1_lay lev (.ref a0 :: [.int x2]) t2 (onV (fun t4 => gle t2 t4 → (CQ (wP G s0 l K T) mX1_lay lev (.ref a0 :: [.int x3]) t4 (onV (fun t6 => gle t4 t6 → (CQ (wP G s0 l K T) mX1_lay lev (.ref a0 :: [.int x4]) t6 (onV (fun t8 => gle t6 t8 → (CQ (wP G s0 l K T) mX1_lay lev (.ref a0 :: [.int x5]) t8 (onV (fun t10 => gle t8 t10 → Q (.returned (some (.int (gi t10 a0 1)))) t10) (fun x t => gle t8 t → Q (.threw x) t)))) (fun x t => gle t6 t → Q (.threw x) t)))) (fun x t => gle t4 t → Q (.threw x) t)))) (fun x t => gle t2 t → Q (.threw x) t)))) (fun x t => gle σ t → Q (.threw x) t)))) ∧ (¬ ((gi σ a0 1) + (iI 20)) ≤ (iI 4000) → Q (.returned (some (.int (iI (-1))))) σ)))) : CQ (wP G s0 l K T) mX1_feed (lev + 1) [.ref a0, .int x1, .int x2, .int x3, .int x4, .int x5] σ Q := by
  refine CQ.of3 0 (lv := [some (va_rf (some a0)), some (.int x1), some (.int x2), some (.int x3), some (.int x4), some (.int x5)]) (by decide) (Nat.le_of_ble_eq_true rfl) (cat1_cons rfl (cat1_cons rfl (cat1_cons rfl (cat1_cons rfl (cat1_cons rfl (cat1_cons rfl cat1_nil)))))) rfl ?_
  refine j_aload_n (r := some a0) dX1_feed_0 rfl ?_
  obtain ⟨hk1, h⟩ := h
  refine kg_geti (a := a0) (j := 1) rfl gfX1_59 (by decide) hk1 dX1_feed_1 ?_
  refine j_bipush (v := iI 20) dX1_feed_4 rfl ?_
  refine j_iadd dX1_feed_6 ?_
  refine j_sipush (v := iI 4000) dX1_feed_7 rfl ?_
  refine j_icmp_le 15 dX1_feed_10 (by decide) (fun c12 => ?_) (fun c12 => ?_)
  · replace h := h.1 c12
    refine j_aload_n (r := some a0) dX1_feed_15 rfl ?_
    refine j_iload_n dX1_feed_16 rfl ?_
    refine jg_callv (rest := []) (kg_lkV (As := [.int x1]) (a := a0) (c := 0) kgX1_lay_0 (by decide) rfl hk1 q359 rfl rfl dX1_feed_17) cwX1_lay (Nat.le_of_ble_eq_true rfl) rfl dX1_feed_17 (Nat.succ_le_succ (Nat.zero_le _)) (h.mono (onV_mono (fun t2 h hlt2 => ?_) (fun _ _ h => h)))
    replace h := h hlt2
    replace hk1 := hlt2.tag hk1 (by decide)
    refine j_aload_n (r := some a0) dX1_feed_20 rfl ?_
    refine j_iload_n dX1_feed_21 rfl ?_
    refine jg_callv (rest := []) (kg_lkV (As := [.int x2]) (a := a0) (c := 0) kgX1_lay_0 (by decide) rfl hk1 q359 rfl rfl dX1_feed_22) cwX1_lay (Nat.le_of_ble_eq_true rfl) rfl dX1_feed_22 (Nat.succ_le_succ (Nat.zero_le _)) (h.mono (onV_mono (fun t4 h hlt4 => ?_) (fun _ _ h => h)))
    replace h := h hlt4
    replace hk1 := hlt4.tag hk1 (by decide)
    refine j_aload_n (r := some a0) dX1_feed_25 rfl ?_
    refine j_iload_n dX1_feed_26 rfl ?_
    refine jg_callv (rest := []) (kg_lkV (As := [.int x3]) (a := a0) (c := 0) kgX1_lay_0 (by decide) rfl hk1 q359 rfl rfl dX1_feed_27) cwX1_lay (Nat.le_of_ble_eq_true rfl) rfl dX1_feed_27 (Nat.succ_le_succ (Nat.zero_le _)) (h.mono (onV_mono (fun t6 h hlt6 => ?_) (fun _ _ h => h)))
    replace h := h hlt6
    replace hk1 := hlt6.tag hk1 (by decide)
    refine j_aload_n (r := some a0) dX1_feed_30 rfl ?_
    refine j_iload dX1_feed_31 rfl ?_
    refine jg_callv (rest := []) (kg_lkV (As := [.int x4]) (a := a0) (c := 0) kgX1_lay_0 (by decide) rfl hk1 q359 rfl rfl dX1_feed_33) cwX1_lay (Nat.le_of_ble_eq_true rfl) rfl dX1_feed_33 (Nat.succ_le_succ (Nat.zero_le _)) (h.mono (onV_mono (fun t8 h hlt8 => ?_) (fun _ _ h => h)))
    replace h := h hlt8
    replace hk1 := hlt8.tag hk1 (by decide)
    refine j_aload_n (r := some a0) dX1_feed_36 rfl ?_
    refine j_iload dX1_feed_37 rfl ?_
    refine jg_callv (rest := []) (kg_lkV (As := [.int x5]) (a := a0) (c := 0) kgX1_lay_0 (by decide) rfl hk1 q359 rfl rfl dX1_feed_39) cwX1_lay (Nat.le_of_ble_eq_true rfl) rfl dX1_feed_39 (Nat.succ_le_succ (Nat.zero_le _)) (h.mono (onV_mono (fun t10 h hlt10 => ?_) (fun _ _ h => h)))
    replace h := h hlt10
    replace hk1 := hlt10.tag hk1 (by decide)
    refine j_aload_n (r := some a0) dX1_feed_42 rfl ?_
    refine kg_geti (a := a0) (j := 1) rfl gfX1_59 (by decide) hk1 dX1_feed_43 ?_
    exact j_ireturn (ty := .int) rfl rfl dX1_feed_46 h
  · replace h := h.2 c12
    refine j_iconst (v := iI (-1)) dX1_feed_13 rfl ?_
    exact j_ireturn (ty := .int) rfl rfl dX1_feed_14 h
abbrev jX1_lay_3 (G : GPl) (s0 : State) (l : Launch) (K : Nat → Option Nat) (T : Nat → Nat) (lev : Nat) (st0 : GSt) (Q : Outcome → GSt → Prop) (a0 : Nat) (x1 : Int32) (x2 : Int32) (σ : GSt) : Prop := JQ (wP G s0 l K T) mX1_lay (lev + 1) st0 3 [some (va_rf (some a0)), some (.int x1), some (.int x2)] [] σ Q
theorem tX1_lay {G : GPl} {s0 : State} {l : Launch} {K : Nat → Option Nat} {T : Nat → Nat} {lev : Nat} {Q : Outcome → GSt → Prop} {a0 : Nat} {x1 : Int32} {σ : GSt} (h : jX1_lay_3 G s0 l K T lev σ Q a0 x1 (iI 24) σ) : CQ (wP G s0 l K T) mX1_lay (lev + 1) [.ref a0, .int x1] σ Q := by
  refine CQ.of3 1 (lv := [some (va_rf (some a0)), some (.int x1), none]) (by decide) (Nat.le_of_ble_eq_true rfl) (cat1_cons rfl (cat1_cons rfl cat1_nil)) rfl ?_
  refine j_bipush (v := iI 24) dX1_lay_0 rfl ?_
  refine j_istore_n (lv' := [some (va_rf (some a0)), some (.int x1), some (.int (iI 24))]) dX1_lay_2 (by decide) rfl ?_
  exact h
theorem tX1_lay_3 {G : GPl} {s0 : State} {l : Launch} {K : Nat → Option Nat} {T : Nat → Nat} {lev : Nat} {st0 : GSt} {Q : Outcome → GSt → Prop} {a0 : Nat} {x1 : Int32} {x2 : Int32} {σ : GSt} (h : ((x2 < 0 → Q (.returned none) σ) ∧ (¬ x2 < 0 → (gk σ a0 = 1 ∧ (∃ a2, gr σ a0 0 = some a2 ∧ (gk σ a2 = 102 ∧ (G.h0.size ≤ a2 ∧ (inr (gi σ a0 1) (gl σ a2) ∧ jX1_lay_3 G s0 l K T lev st0 Q a0 x1 (x2 + iI (-8)) (gpi a0 1 ((gi (gpi a2 (ix (gi σ a0 1)) (((x1 >>> (x2 &&& 31)).toInt8.toInt32).toInt8.toInt32) σ) a0 1) + (iI 1)) (gpi a2 (ix (gi σ a0 1)) (((x1 >>> (x2 &&& 31)).toInt8.toInt32).toInt8.toInt32) σ)))))))))) : jX1_lay_3 G s0 l K T lev st0 Q a0 x1 x2 σ := by
  refine j_iload_n dX1_lay_3 rfl ?_
  refine j_if_lt 36 dX1_lay_4 (by decide) (fun c6 => ?_) (fun c6 => ?_)
  · replace h := h.1 c6
    exact j_return rfl dX1_lay_36 h
  · replace h := h.2 c6
    refine j_aload_n (r := some a0) dX1_lay_7 rfl ?_
    obtain ⟨hk1, h⟩ := h
    refine kg_getr (a := a0) (j := 0) rfl gfX1_9 hk1 dX1_lay_8 ?_
    refine j_aload_n (r := some a0) dX1_lay_11 rfl ?_
    refine kg_geti (a := a0) (j := 1) rfl gfX1_59 (by decide) hk1 dX1_lay_12 ?_
    refine j_iload_n dX1_lay_15 rfl ?_
    refine j_iload_n dX1_lay_16 rfl ?_
    refine j_ishr dX1_lay_17 ?_
    refine j_i2b dX1_lay_18 ?_
    obtain ⟨a2, ea2, hk3, hb5, hi4, h⟩ := h
    refine kg_bast (a := a2) ea2 hk3 hb5 hi4 dX1_lay_19 ?_
    refine j_aload_n (r := some a0) dX1_lay_20 rfl ?_
    refine j_dup dX1_lay_21 rfl ?_
    refine kg_geti (a := a0) (j := 1) rfl gfX1_59 (by decide) hk1 dX1_lay_22 ?_
    refine j_iconst (v := iI 1) dX1_lay_25 rfl ?_
    refine j_iadd dX1_lay_26 ?_
    refine kg_puti (a := a0) rfl gfX1_59 (Or.inl rfl) hk1 (Or.inl (by decide)) dX1_lay_27 ?_
    refine j_iinc (lv' := [some (va_rf (some a0)), some (.int x1), some (.int (x2 + iI (-8)))]) dX1_lay_30 rfl (by decide) rfl ?_
    refine j_goto 3 dX1_lay_33 (by decide) ?_
    exact h
theorem tX1_outs {G : GPl} {s0 : State} {l : Launch} {K : Nat → Option Nat} {T : Nat → Nat} {lev : Nat} {Q : Outcome → GSt → Prop} {a0 : Nat} {σ : GSt} (h : (gk σ a0 = 1 ∧ (∃ a2, gr σ a0 6 = some a2 ∧ (gk σ a2 = 3 ∧ Q (.returned (some (.int (gi σ a2 10)))) σ)))) : CQ (wP G s0 l K T) mX1_outs (lev + 1) [.ref a0] σ Q := by
  refine CQ.of3 0 (lv := [some (va_rf (some a0))]) (by decide) (Nat.le_of_ble_eq_true rfl) (cat1_cons rfl cat1_nil) rfl ?_
  refine j_aload_n (r := some a0) dX1_outs_0 rfl ?_
  obtain ⟨hk1, h⟩ := h
  refine kg_getr (a := a0) (j := 6) rfl gfX1_29 hk1 dX1_outs_1 ?_
  obtain ⟨a2, ea2, hk3, h⟩ := h
  refine kg_geti (a := a2) (j := 10) ea2 gfX1_69 (by decide) hk3 dX1_outs_4 ?_
  exact j_ireturn (ty := .int) rfl rfl dX1_outs_7 h
abbrev jX1_text_16 (G : GPl) (s0 : State) (l : Launch) (K : Nat → Option Nat) (T : Nat → Nat) (lev : Nat) (st0 : GSt) (Q : Outcome → GSt → Prop) (a0 : Nat) (x1 : Int32) (σ : GSt) : Prop := JQ (wP G s0 l K T) mX1_text (lev + 1) st0 16 [some (va_rf (some a0)), some (.int x1), none, none, none, none] [] σ Q
abbrev jX1_text_69 (G : GPl) (s0 : State) (l : Launch) (K : Nat → Option Nat) (T : Nat → Nat) (lev : Nat) (st0 : GSt) (Q : Outcome → GSt → Prop) (a0 : Nat) (x1 : Int32) (x2 : Int32) (x3 : Option Nat) (x4 : Int32) (σ : GSt) : Prop := JQ (wP G s0 l K T) mX1_text (lev + 1) st0 69 [some (va_rf (some a0)), some (.int x1), some (.int x2), some (va_rf x3), some (.int x4), none] [] σ Q
abbrev jX1_text_127 (G : GPl) (s0 : State) (l : Launch) (K : Nat → Option Nat) (T : Nat → Nat) (lev : Nat) (st0 : GSt) (Q : Outcome → GSt → Prop) (a0 : Nat) (x1 : Int32) (x2 : Int32) (y0 : Option Nat) (σ : GSt) : Prop := JQ (wP G s0 l K T) mX1_text (lev + 1) st0 127 [some (va_rf (some a0)), some (.int x1), some (.int x2), none, none, none] [va_rf y0] σ Q
theorem tX1_text {G : GPl} {s0 : State} {l : Launch} {K : Nat → Option Nat} {T : Nat → Nat} {lev : Nat} {Q : Outcome → GSt → Prop} {a0 : Nat} {x1 : Int32} {σ : GSt} (h : ((x1 < 0 → jX1_text_16 G s0 l K T lev σ Q a0 x1 σ) ∧ (¬ x1 < 0 → (gk σ a0 = 1 ∧ (((gi σ a0 1) < x1 → jX1_text_16 G s0 l K T lev σ Q a0 x1 σ) ∧ (¬ (gi σ a0 1) < x1 → (CQ (wP G s0 l K T) mX1_right lev [.int (iI 1)] σ (onV (fun t2 => gle σ t2 → (∃ a4, gr (gpi a0 1 (iI 0) t2) a0 6 = some a4 ∧ (gk (gpi a0 1 (iI 0) t2) a4 = 3 ∧ (groom G 10 (gpi a0 4 (iI 0) (gpi a0 3 (iI (-1)) (gpi a0 2 (iI 0) (gpi a4 10 (iI 0) (gpi a0 1 (iI 0) t2))))) ∧ (CQ (wP G s0 l K T) mX6_init lev (.ref (gn (gpi a0 4 (iI 0) (gpi a0 3 (iI (-1)) (gpi a0 2 (iI 0) (gpi a4 10 (iI 0) (gpi a0 1 (iI 0) t2)))))) :: [va_rf (gr (gmk 5 10 (gpi a0 4 (iI 0) (gpi a0 3 (iI (-1)) (gpi a0 2 (iI 0) (gpi a4 10 (iI 0) (gpi a0 1 (iI 0) t2)))))) a0 0), .int x1]) (gmk 5 10 (gpi a0 4 (iI 0) (gpi a0 3 (iI (-1)) (gpi a0 2 (iI 0) (gpi a4 10 (iI 0) (gpi a0 1 (iI 0) t2)))))) (onV (fun t8 => gle (gmk 5 10 (gpi a0 4 (iI 0) (gpi a0 3 (iI (-1)) (gpi a0 2 (iI 0) (gpi a4 10 (iI 0) (gpi a0 1 (iI 0) t2)))))) t8 → (CQ (wP G s0 l K T) mX6_read lev (.ref (gn (gpi a0 4 (iI 0) (gpi a0 3 (iI (-1)) (gpi a0 2 (iI 0) (gpi a4 10 (iI 0) (gpi a0 1 (iI 0) t2)))))) :: []) t8 (onR (fun r11 t10 => gle t8 t10 → jX1_text_69 G s0 l K T lev σ Q a0 x1 (iI (-1)) r11 (iI 0) t10) (fun z12 t13 => gle t8 t13 → (gk t13 z12 = 7 ∧ jX1_text_127 G s0 l K T lev σ Q a0 x1 (iI (-1)) (some z12) t13))))) (fun z15 t16 => gle (gmk 5 10 (gpi a0 4 (iI 0) (gpi a0 3 (iI (-1)) (gpi a0 2 (iI 0) (gpi a4 10 (iI 0) (gpi a0 1 (iI 0) t2)))))) t16 → (gk t16 z15 = 7 ∧ jX1_text_127 G s0 l K T lev σ Q a0 x1 (iI (-1)) (some z15) t16)))))))) (fun x t => gle σ t → Q (.threw x) t))))))))) : CQ (wP G s0 l K T) mX1_text (lev + 1) [.ref a0, .int x1] σ Q := by
  refine CQ.of3 4 (lv := [some (va_rf (some a0)), some (.int x1), none, none, none, none]) (by decide) (Nat.le_of_ble_eq_true rfl) (cat1_cons rfl (cat1_cons rfl cat1_nil)) rfl ?_
  refine j_iload_n dX1_text_0 rfl ?_
  refine j_if_lt 16 dX1_text_1 (by decide) (fun c19 => ?_) (fun c19 => ?_)
  · replace h := h.1 c19
    exact h
  · replace h := h.2 c19
    refine j_iload_n dX1_text_4 rfl ?_
    refine j_aload_n (r := some a0) dX1_text_5 rfl ?_
    obtain ⟨hk1, h⟩ := h
    refine kg_geti (a := a0) (j := 1) rfl gfX1_59 (by decide) hk1 dX1_text_6 ?_
    refine j_icmp_gt 16 dX1_text_9 (by decide) (fun c18 => ?_) (fun c18 => ?_)
    · replace h := h.1 c18
      exact h
    · replace h := h.2 c18
      refine j_iconst (v := iI 1) dX1_text_12 rfl ?_
      refine j_goto 17 dX1_text_13 (by decide) ?_
      refine jg_callv (rest := []) (kg_lkS (As := [.int (iI 1)]) ktX1_right q376 rfl rfl dX1_text_17) cwX1_right (Nat.le_of_ble_eq_true rfl) rfl dX1_text_17 (Nat.succ_le_succ (Nat.zero_le _)) (h.mono (onV_mono (fun t2 h hlt2 => ?_) (fun _ _ h => h)))
      replace h := h hlt2
      replace hk1 := hlt2.tag hk1 (by decide)
      refine j_aload_n (r := some a0) dX1_text_20 rfl ?_
      refine j_iconst (v := iI 0) dX1_text_21 rfl ?_
      refine kg_puti (a := a0) rfl gfX1_59 (Or.inl rfl) hk1 (Or.inl (by decide)) dX1_text_22 ?_
      refine j_aload_n (r := some a0) dX1_text_25 rfl ?_
      refine kg_getr (a := a0) (j := 6) rfl gfX1_29 hk1 dX1_text_26 ?_
      refine j_iconst (v := iI 0) dX1_text_29 rfl ?_
      obtain ⟨a4, ea4, hk5, h⟩ := h
      refine kg_puti (a := a4) ea4 gfX1_69 (Or.inl rfl) hk5 (Or.inl (by decide)) dX1_text_30 ?_
      refine j_aload_n (r := some a0) dX1_text_33 rfl ?_
      refine j_iconst (v := iI 0) dX1_text_34 rfl ?_
      refine kg_puti (a := a0) rfl gfX1_72 (Or.inl rfl) hk1 (Or.inl (by decide)) dX1_text_35 ?_
      refine j_aload_n (r := some a0) dX1_text_38 rfl ?_
      refine j_iconst (v := iI (-1)) dX1_text_39 rfl ?_
      refine kg_puti (a := a0) rfl gfX1_13 (Or.inl rfl) hk1 (Or.inl (by decide)) dX1_text_40 ?_
      refine j_aload_n (r := some a0) dX1_text_43 rfl ?_
      refine j_iconst (v := iI 0) dX1_text_44 rfl ?_
      refine kg_puti (a := a0) rfl gfX1_75 (Or.inl rfl) hk1 (Or.inl (by decide)) dX1_text_45 ?_
      refine j_iconst (v := iI (-1)) dX1_text_48 rfl ?_
      refine j_istore_n (lv' := [some (va_rf (some a0)), some (.int x1), some (.int (iI (-1))), none, none, none]) dX1_text_49 (by decide) rfl ?_
      obtain ⟨hg6, h⟩ := h
      refine jg_new (c := 4) (N := 10) (C := "PureHouse$Reader") (by decide) ⟨rfl, rfl⟩ q444 q445 q129 hg6 dX1_text_50 ?_
      replace hk1 := gk_mk (t := 5) (n := 10) hk1 (by decide)
      replace hk5 := gk_mk (t := 5) (n := 10) hk5 (by decide)
      have hk7 := gk_new (t := 5) (n := 10) hg6.2.2
      refine j_dup dX1_text_53 rfl ?_
      refine j_aload_n (r := some a0) dX1_text_54 rfl ?_
      refine kg_getr (a := a0) (j := 0) rfl gfX1_9 hk1 dX1_text_55 ?_
      refine j_iload_n dX1_text_58 rfl ?_
      refine jg_callhv (c := 6) (a := 50) (b := 124) (hp := 127) (ct := 109) (rest := [va_rf (some (gn (gpi a0 4 (iI 0) (gpi a0 3 (iI (-1)) (gpi a0 2 (iI 0) (gpi a4 10 (iI 0) (gpi a0 1 (iI 0) t2)))))))]) (by decide) (kg_lkI (As := [va_rf (gr (gmk 5 10 (gpi a0 4 (iI 0) (gpi a0 3 (iI (-1)) (gpi a0 2 (iI 0) (gpi a4 10 (iI 0) (gpi a0 1 (iI 0) t2)))))) a0 0), .int x1]) (a := (gn (gpi a0 4 (iI 0) (gpi a0 3 (iI (-1)) (gpi a0 2 (iI 0) (gpi a4 10 (iI 0) (gpi a0 1 (iI 0) t2))))))) kiX6_init (Or.inl q446) rfl rfl dX1_text_59) cwX6_init (Nat.le_of_ble_eq_true rfl) rfl ⟨by decide, by decide⟩ (by decide) q375 dX1_text_59 (Nat.succ_le_succ (Nat.zero_le _)) (h.mono (onV_mono (fun t8 h hlt8 => ?_) (fun z15 t16 h hlt8 => ?_)))
      · skip
        replace h := h hlt8
        replace hk1 := hlt8.tag hk1 (by decide)
        replace hk5 := hlt8.tag hk5 (by decide)
        replace hk7 := hlt8.tag hk7 (by decide)
        refine jg_callhr (c := 6) (a := 50) (b := 124) (hp := 127) (ct := 109) (rest := []) (by decide) (kg_lkV (As := []) (a := (gn (gpi a0 4 (iI 0) (gpi a0 3 (iI (-1)) (gpi a0 2 (iI 0) (gpi a4 10 (iI 0) (gpi a0 1 (iI 0) t2))))))) (c := 4) kgX6_read_4 (by decide) rfl hk7 q483 rfl rfl dX1_text_62) cwX6_read (Nat.le_of_ble_eq_true rfl) rfl ⟨by decide, by decide⟩ (by decide) q375 dX1_text_62 (Nat.succ_le_succ (Nat.zero_le _)) (h.mono (onR_mono (fun r11 t10 h hlt10 => ?_) (fun z12 t13 h hlt10 => ?_)))
        · skip
          replace h := h hlt10
          replace hk1 := hlt10.tag hk1 (by decide)
          replace hk5 := hlt10.tag hk5 (by decide)
          replace hk7 := hlt10.tag hk7 (by decide)
          refine j_astore_n (r := r11) (lv' := [some (va_rf (some a0)), some (.int x1), some (.int (iI (-1))), some (va_rf r11), none, none]) dX1_text_65 (by decide) rfl ?_
          refine j_iconst (v := iI 0) dX1_text_66 rfl ?_
          refine j_istore (lv' := [some (va_rf (some a0)), some (.int x1), some (.int (iI (-1))), some (va_rf r11), some (.int (iI 0)), none]) dX1_text_67 (by decide) rfl ?_
          exact h
        · skip
          obtain ⟨hk14, h⟩ := h hlt10
          refine ⟨hk14, ?_⟩
          replace hk1 := hlt10.tag hk1 (by decide)
          replace hk5 := hlt10.tag hk5 (by decide)
          replace hk7 := hlt10.tag hk7 (by decide)
          exact h
      · skip
        obtain ⟨hk17, h⟩ := h hlt8
        refine ⟨hk17, ?_⟩
        replace hk1 := hlt8.tag hk1 (by decide)
        replace hk5 := hlt8.tag hk5 (by decide)
        replace hk7 := hlt8.tag hk7 (by decide)
        exact h
theorem tX1_text_16 {G : GPl} {s0 : State} {l : Launch} {K : Nat → Option Nat} {T : Nat → Nat} {lev : Nat} {st0 : GSt} {Q : Outcome → GSt → Prop} {a0 : Nat} {x1 : Int32} {σ : GSt} (h : (CQ (wP G s0 l K T) mX1_right lev [.int (iI 0)] σ (onV (fun t1 => gle σ t1 → (gk t1 a0 = 1 ∧ (∃ a4, gr (gpi a0 1 (iI 0) t1) a0 6 = some a4 ∧ (gk (gpi a0 1 (iI 0) t1) a4 = 3 ∧ (groom G 10 (gpi a0 4 (iI 0) (gpi a0 3 (iI (-1)) (gpi a0 2 (iI 0) (gpi a4 10 (iI 0) (gpi a0 1 (iI 0) t1))))) ∧ (CQ (wP G s0 l K T) mX6_init lev (.ref (gn (gpi a0 4 (iI 0) (gpi a0 3 (iI (-1)) (gpi a0 2 (iI 0) (gpi a4 10 (iI 0) (gpi a0 1 (iI 0) t1)))))) :: [va_rf (gr (gmk 5 10 (gpi a0 4 (iI 0) (gpi a0 3 (iI (-1)) (gpi a0 2 (iI 0) (gpi a4 10 (iI 0) (gpi a0 1 (iI 0) t1)))))) a0 0), .int x1]) (gmk 5 10 (gpi a0 4 (iI 0) (gpi a0 3 (iI (-1)) (gpi a0 2 (iI 0) (gpi a4 10 (iI 0) (gpi a0 1 (iI 0) t1)))))) (onV (fun t8 => gle (gmk 5 10 (gpi a0 4 (iI 0) (gpi a0 3 (iI (-1)) (gpi a0 2 (iI 0) (gpi a4 10 (iI 0) (gpi a0 1 (iI 0) t1)))))) t8 → (CQ (wP G s0 l K T) mX6_read lev (.ref (gn (gpi a0 4 (iI 0) (gpi a0 3 (iI (-1)) (gpi a0 2 (iI 0) (gpi a4 10 (iI 0) (gpi a0 1 (iI 0) t1)))))) :: []) t8 (onR (fun r11 t10 => gle t8 t10 → jX1_text_69 G s0 l K T lev st0 Q a0 x1 (iI (-1)) r11 (iI 0) t10) (fun z12 t13 => gle t8 t13 → (gk t13 z12 = 7 ∧ jX1_text_127 G s0 l K T lev st0 Q a0 x1 (iI (-1)) (some z12) t13))))) (fun z15 t16 => gle (gmk 5 10 (gpi a0 4 (iI 0) (gpi a0 3 (iI (-1)) (gpi a0 2 (iI 0) (gpi a4 10 (iI 0) (gpi a0 1 (iI 0) t1)))))) t16 → (gk t16 z15 = 7 ∧ jX1_text_127 G s0 l K T lev st0 Q a0 x1 (iI (-1)) (some z15) t16))))))))) (fun x t => gle σ t → Q (.threw x) t)))) : jX1_text_16 G s0 l K T lev st0 Q a0 x1 σ := by
  refine j_iconst (v := iI 0) dX1_text_16 rfl ?_
  refine jg_callv (rest := []) (kg_lkS (As := [.int (iI 0)]) ktX1_right q376 rfl rfl dX1_text_17) cwX1_right (Nat.le_of_ble_eq_true rfl) rfl dX1_text_17 (Nat.succ_le_succ (Nat.zero_le _)) (h.mono (onV_mono (fun t1 h hlt1 => ?_) (fun _ _ h => h)))
  replace h := h hlt1
  refine j_aload_n (r := some a0) dX1_text_20 rfl ?_
  refine j_iconst (v := iI 0) dX1_text_21 rfl ?_
  obtain ⟨hk3, h⟩ := h
  refine kg_puti (a := a0) rfl gfX1_59 (Or.inl rfl) hk3 (Or.inl (by decide)) dX1_text_22 ?_
  refine j_aload_n (r := some a0) dX1_text_25 rfl ?_
  refine kg_getr (a := a0) (j := 6) rfl gfX1_29 hk3 dX1_text_26 ?_
  refine j_iconst (v := iI 0) dX1_text_29 rfl ?_
  obtain ⟨a4, ea4, hk5, h⟩ := h
  refine kg_puti (a := a4) ea4 gfX1_69 (Or.inl rfl) hk5 (Or.inl (by decide)) dX1_text_30 ?_
  refine j_aload_n (r := some a0) dX1_text_33 rfl ?_
  refine j_iconst (v := iI 0) dX1_text_34 rfl ?_
  refine kg_puti (a := a0) rfl gfX1_72 (Or.inl rfl) hk3 (Or.inl (by decide)) dX1_text_35 ?_
  refine j_aload_n (r := some a0) dX1_text_38 rfl ?_
  refine j_iconst (v := iI (-1)) dX1_text_39 rfl ?_
  refine kg_puti (a := a0) rfl gfX1_13 (Or.inl rfl) hk3 (Or.inl (by decide)) dX1_text_40 ?_
  refine j_aload_n (r := some a0) dX1_text_43 rfl ?_
  refine j_iconst (v := iI 0) dX1_text_44 rfl ?_
  refine kg_puti (a := a0) rfl gfX1_75 (Or.inl rfl) hk3 (Or.inl (by decide)) dX1_text_45 ?_
  refine j_iconst (v := iI (-1)) dX1_text_48 rfl ?_
  refine j_istore_n (lv' := [some (va_rf (some a0)), some (.int x1), some (.int (iI (-1))), none, none, none]) dX1_text_49 (by decide) rfl ?_
  obtain ⟨hg6, h⟩ := h
  refine jg_new (c := 4) (N := 10) (C := "PureHouse$Reader") (by decide) ⟨rfl, rfl⟩ q444 q445 q129 hg6 dX1_text_50 ?_
  replace hk3 := gk_mk (t := 5) (n := 10) hk3 (by decide)
  replace hk5 := gk_mk (t := 5) (n := 10) hk5 (by decide)
  have hk7 := gk_new (t := 5) (n := 10) hg6.2.2
  refine j_dup dX1_text_53 rfl ?_
  refine j_aload_n (r := some a0) dX1_text_54 rfl ?_
  refine kg_getr (a := a0) (j := 0) rfl gfX1_9 hk3 dX1_text_55 ?_
  refine j_iload_n dX1_text_58 rfl ?_
  refine jg_callhv (c := 6) (a := 50) (b := 124) (hp := 127) (ct := 109) (rest := [va_rf (some (gn (gpi a0 4 (iI 0) (gpi a0 3 (iI (-1)) (gpi a0 2 (iI 0) (gpi a4 10 (iI 0) (gpi a0 1 (iI 0) t1)))))))]) (by decide) (kg_lkI (As := [va_rf (gr (gmk 5 10 (gpi a0 4 (iI 0) (gpi a0 3 (iI (-1)) (gpi a0 2 (iI 0) (gpi a4 10 (iI 0) (gpi a0 1 (iI 0) t1)))))) a0 0), .int x1]) (a := (gn (gpi a0 4 (iI 0) (gpi a0 3 (iI (-1)) (gpi a0 2 (iI 0) (gpi a4 10 (iI 0) (gpi a0 1 (iI 0) t1))))))) kiX6_init (Or.inl q446) rfl rfl dX1_text_59) cwX6_init (Nat.le_of_ble_eq_true rfl) rfl ⟨by decide, by decide⟩ (by decide) q375 dX1_text_59 (Nat.succ_le_succ (Nat.zero_le _)) (h.mono (onV_mono (fun t8 h hlt8 => ?_) (fun z15 t16 h hlt8 => ?_)))
  · skip
    replace h := h hlt8
    replace hk3 := hlt8.tag hk3 (by decide)
    replace hk5 := hlt8.tag hk5 (by decide)
    replace hk7 := hlt8.tag hk7 (by decide)
    refine jg_callhr (c := 6) (a := 50) (b := 124) (hp := 127) (ct := 109) (rest := []) (by decide) (kg_lkV (As := []) (a := (gn (gpi a0 4 (iI 0) (gpi a0 3 (iI (-1)) (gpi a0 2 (iI 0) (gpi a4 10 (iI 0) (gpi a0 1 (iI 0) t1))))))) (c := 4) kgX6_read_4 (by decide) rfl hk7 q483 rfl rfl dX1_text_62) cwX6_read (Nat.le_of_ble_eq_true rfl) rfl ⟨by decide, by decide⟩ (by decide) q375 dX1_text_62 (Nat.succ_le_succ (Nat.zero_le _)) (h.mono (onR_mono (fun r11 t10 h hlt10 => ?_) (fun z12 t13 h hlt10 => ?_)))
    · skip
      replace h := h hlt10
      replace hk3 := hlt10.tag hk3 (by decide)
      replace hk5 := hlt10.tag hk5 (by decide)
      replace hk7 := hlt10.tag hk7 (by decide)
      refine j_astore_n (r := r11) (lv' := [some (va_rf (some a0)), some (.int x1), some (.int (iI (-1))), some (va_rf r11), none, none]) dX1_text_65 (by decide) rfl ?_
      refine j_iconst (v := iI 0) dX1_text_66 rfl ?_
      refine j_istore (lv' := [some (va_rf (some a0)), some (.int x1), some (.int (iI (-1))), some (va_rf r11), some (.int (iI 0)), none]) dX1_text_67 (by decide) rfl ?_
      exact h
    · skip
      obtain ⟨hk14, h⟩ := h hlt10
      refine ⟨hk14, ?_⟩
      replace hk3 := hlt10.tag hk3 (by decide)
      replace hk5 := hlt10.tag hk5 (by decide)
      replace hk7 := hlt10.tag hk7 (by decide)
      exact h
  · skip
    obtain ⟨hk17, h⟩ := h hlt8
    refine ⟨hk17, ?_⟩
    replace hk3 := hlt8.tag hk3 (by decide)
    replace hk5 := hlt8.tag hk5 (by decide)
    replace hk7 := hlt8.tag hk7 (by decide)
    exact h
theorem tX1_text_69 {G : GPl} {s0 : State} {l : Launch} {K : Nat → Option Nat} {T : Nat → Nat} {lev : Nat} {st0 : GSt} {Q : Outcome → GSt → Prop} {a0 : Nat} {x1 : Int32} {x2 : Int32} {x3 : Option Nat} {x4 : Int32} {σ : GSt} (h : (∃ a1, x3 = some a1 ∧ (gk σ a1 = 22 ∧ (CQ (wP G s0 l K T) mJ2_size lev (.ref a1 :: []) σ (onI (fun r4 t3 => gle σ t3 → ((r4 ≤ x4 → (gk t3 a0 = 1 ∧ Q (.returned (some (.int (gi t3 a0 2)))) t3)) ∧ (¬ r4 ≤ x4 → (CQ (wP G s0 l K T) mJ2_get lev (.ref a1 :: [.int x4]) t3 (onR (fun r7 t6 => gle t3 t6 → (inT t6 r7 [6] ∧ (∃ a9, r7 = some a9 ∧ (gk t6 a9 = 6 ∧ (gk t6 a0 = 1 ∧ (∃ a12, gr t6 a0 6 = some a12 ∧ (gk t6 a12 = 3 ∧ (CQ (wP G s0 l K T) mX3_begins lev (.ref a12 :: []) t6 (onV (fun t14 => gle t6 t14 → (CQ (wP G s0 l K T) mX1_does lev (.ref a0 :: [va_rf r7]) t14 (onV (fun t16 => gle t14 t16 → jX1_text_69 G s0 l K T lev st0 Q a0 x1 (gi t6 a9 1) x3 (x4 + iI 1) (gpi a0 4 ((gi t16 a0 4) + (iI 1)) t16)) (fun z18 t19 => gle t14 t19 → (gk t19 z18 = 7 ∧ jX1_text_127 G s0 l K T lev st0 Q a0 x1 (gi t6 a9 1) (some z18) t19))))) (fun z21 t22 => gle t6 t22 → (gk t22 z21 = 7 ∧ jX1_text_127 G s0 l K T lev st0 Q a0 x1 (gi t6 a9 1) (some z21) t22))))))))))) (fun z24 t25 => gle t3 t25 → (gk t25 z24 = 7 ∧ jX1_text_127 G s0 l K T lev st0 Q a0 x1 x2 (some z24) t25))))))) (fun z28 t29 => gle σ t29 → (gk t29 z28 = 7 ∧ jX1_text_127 G s0 l K T lev st0 Q a0 x1 x2 (some z28) t29))))))) : jX1_text_69 G s0 l K T lev st0 Q a0 x1 x2 x3 x4 σ := by
  refine j_iload dX1_text_69 rfl ?_
  refine j_aload_n (r := x3) dX1_text_71 rfl ?_
  obtain ⟨a1, ea1, hk2, h⟩ := h
  refine jg_callhi (c := 6) (a := 50) (b := 124) (hp := 127) (ct := 109) (rest := [.int x4]) (by decide) (kg_lkV (As := []) (a := a1) (c := 21) kgJ2_size_21 (by decide) rfl hk2 q1326 rfl (by rw [ea1]; rfl) dX1_text_72) cwJ2_size (Nat.le_of_ble_eq_true rfl) rfl ⟨by decide, by decide⟩ (by decide) q375 dX1_text_72 (Nat.succ_le_succ (Nat.zero_le _)) (h.mono (onI_mono (fun r4 t3 h hlt3 => ?_) (fun z28 t29 h hlt3 => ?_)))
  · skip
    replace h := h hlt3
    replace hk2 := hlt3.tag hk2 (by decide)
    refine j_icmp_ge 124 dX1_text_75 (by decide) (fun c27 => ?_) (fun c27 => ?_)
    · replace h := h.1 c27
      refine j_goto 157 dX1_text_124 (by decide) ?_
      refine j_aload_n (r := some a0) dX1_text_157 rfl ?_
      obtain ⟨hk5, h⟩ := h
      refine kg_geti (a := a0) (j := 2) rfl gfX1_72 (by decide) hk5 dX1_text_158 ?_
      exact j_ireturn (ty := .int) rfl rfl dX1_text_161 h
    · replace h := h.2 c27
      refine j_aload_n (r := x3) dX1_text_78 rfl ?_
      refine j_iload dX1_text_79 rfl ?_
      refine jg_callhr (c := 6) (a := 50) (b := 124) (hp := 127) (ct := 109) (rest := []) (by decide) (kg_lkV (As := [.int x4]) (a := a1) (c := 21) kgJ2_get_21 (by decide) rfl hk2 q1327 rfl (by rw [ea1]; rfl) dX1_text_81) cwJ2_get (Nat.le_of_ble_eq_true rfl) rfl ⟨by decide, by decide⟩ (by decide) q375 dX1_text_81 (Nat.succ_le_succ (Nat.zero_le _)) (h.mono (onR_mono (fun r7 t6 h hlt6 => ?_) (fun z24 t25 h hlt6 => ?_)))
      · skip
        replace h := h hlt6
        replace hk2 := hlt6.tag hk2 (by decide)
        obtain ⟨hc8, h⟩ := h
        refine jg_cast (r := r7) cs_PureHouse_Statement q1328 hc8 dX1_text_84 ?_
        refine j_astore (r := r7) (lv' := [some (va_rf (some a0)), some (.int x1), some (.int x2), some (va_rf x3), some (.int x4), some (va_rf r7)]) dX1_text_87 (by decide) rfl ?_
        refine j_aload (r := r7) dX1_text_89 rfl ?_
        obtain ⟨a9, ea9, hk10, h⟩ := h
        refine kg_geti (a := a9) (j := 1) ea9 gfX1_99 (by decide) hk10 dX1_text_91 ?_
        refine j_istore_n (lv' := [some (va_rf (some a0)), some (.int x1), some (.int (gi t6 a9 1)), some (va_rf x3), some (.int x4), some (va_rf r7)]) dX1_text_94 (by decide) rfl ?_
        refine j_aload_n (r := some a0) dX1_text_95 rfl ?_
        obtain ⟨hk11, h⟩ := h
        refine kg_getr (a := a0) (j := 6) rfl gfX1_29 hk11 dX1_text_96 ?_
        obtain ⟨a12, ea12, hk13, h⟩ := h
        refine jg_callhv (c := 6) (a := 50) (b := 124) (hp := 127) (ct := 109) (rest := []) (by decide) (kg_lkV (As := []) (a := a12) (c := 2) kgX3_begins_2 (by decide) rfl hk13 q1329 rfl (by rw [ea12]; rfl) dX1_text_99) cwX3_begins (Nat.le_of_ble_eq_true rfl) rfl ⟨by decide, by decide⟩ (by decide) q375 dX1_text_99 (Nat.succ_le_succ (Nat.zero_le _)) (h.mono (onV_mono (fun t14 h hlt14 => ?_) (fun z21 t22 h hlt14 => ?_)))
        · skip
          replace h := h hlt14
          replace hk2 := hlt14.tag hk2 (by decide)
          replace hk10 := hlt14.tag hk10 (by decide)
          replace hk11 := hlt14.tag hk11 (by decide)
          replace hk13 := hlt14.tag hk13 (by decide)
          refine j_aload_n (r := some a0) dX1_text_102 rfl ?_
          refine j_aload (r := r7) dX1_text_103 rfl ?_
          refine jg_callhv (c := 6) (a := 50) (b := 124) (hp := 127) (ct := 109) (rest := []) (by decide) (kg_lkV (As := [va_rf r7]) (a := a0) (c := 0) kgX1_does_0 (by decide) rfl hk11 q1333 rfl rfl dX1_text_105) cwX1_does (Nat.le_of_ble_eq_true rfl) rfl ⟨by decide, by decide⟩ (by decide) q375 dX1_text_105 (Nat.succ_le_succ (Nat.zero_le _)) (h.mono (onV_mono (fun t16 h hlt16 => ?_) (fun z18 t19 h hlt16 => ?_)))
          · skip
            replace h := h hlt16
            replace hk2 := hlt16.tag hk2 (by decide)
            replace hk10 := hlt16.tag hk10 (by decide)
            replace hk11 := hlt16.tag hk11 (by decide)
            replace hk13 := hlt16.tag hk13 (by decide)
            refine j_aload_n (r := some a0) dX1_text_108 rfl ?_
            refine j_dup dX1_text_109 rfl ?_
            refine kg_geti (a := a0) (j := 4) rfl gfX1_75 (by decide) hk11 dX1_text_110 ?_
            refine j_iconst (v := iI 1) dX1_text_113 rfl ?_
            refine j_iadd dX1_text_114 ?_
            refine kg_puti (a := a0) rfl gfX1_75 (Or.inl rfl) hk11 (Or.inl (by decide)) dX1_text_115 ?_
            refine j_iinc (lv' := [some (va_rf (some a0)), some (.int x1), some (.int (gi t6 a9 1)), some (va_rf x3), some (.int (x4 + iI 1)), some (va_rf r7)]) dX1_text_118 rfl (by decide) rfl ?_
            refine j_goto 69 dX1_text_121 (by decide) ?_
            exact j_mask [true, true, true, true, true, false] rfl h
          · skip
            obtain ⟨hk20, h⟩ := h hlt16
            refine ⟨hk20, ?_⟩
            replace hk2 := hlt16.tag hk2 (by decide)
            replace hk10 := hlt16.tag hk10 (by decide)
            replace hk11 := hlt16.tag hk11 (by decide)
            replace hk13 := hlt16.tag hk13 (by decide)
            exact j_mask [true, true, true, false, false, false] rfl h
        · skip
          obtain ⟨hk23, h⟩ := h hlt14
          refine ⟨hk23, ?_⟩
          replace hk2 := hlt14.tag hk2 (by decide)
          replace hk10 := hlt14.tag hk10 (by decide)
          replace hk11 := hlt14.tag hk11 (by decide)
          replace hk13 := hlt14.tag hk13 (by decide)
          exact j_mask [true, true, true, false, false, false] rfl h
      · skip
        obtain ⟨hk26, h⟩ := h hlt6
        refine ⟨hk26, ?_⟩
        replace hk2 := hlt6.tag hk2 (by decide)
        exact j_mask [true, true, true, false, false, false] rfl h
  · skip
    obtain ⟨hk30, h⟩ := h hlt3
    refine ⟨hk30, ?_⟩
    replace hk2 := hlt3.tag hk2 (by decide)
    exact j_mask [true, true, true, false, false, false] rfl h
theorem tX1_text_127 {G : GPl} {s0 : State} {l : Launch} {K : Nat → Option Nat} {T : Nat → Nat} {lev : Nat} {st0 : GSt} {Q : Outcome → GSt → Prop} {a0 : Nat} {x1 : Int32} {x2 : Int32} {y0 : Option Nat} {σ : GSt} (h : (∃ a1, y0 = some a1 ∧ (gk σ a1 = 7 ∧ (gk σ a0 = 1 ∧ (((gi (gpi a0 2 (gi σ a1 6) σ) a1 6) < (iI 12) → Q (.returned (some (.int (gi (gpi a0 3 (gi (gpi a0 2 (gi σ a1 6) σ) a1 7) (gpi a0 2 (gi σ a1 6) σ)) a0 2)))) (gpi a0 3 (gi (gpi a0 2 (gi σ a1 6) σ) a1 7) (gpi a0 2 (gi σ a1 6) σ))) ∧ (¬ (gi (gpi a0 2 (gi σ a1 6) σ) a1 6) < (iI 12) → Q (.returned (some (.int (gi (gpi a0 3 x2 (gpi a0 2 (gi σ a1 6) σ)) a0 2)))) (gpi a0 3 x2 (gpi a0 2 (gi σ a1 6) σ)))))))) : jX1_text_127 G s0 l K T lev st0 Q a0 x1 x2 y0 σ := by
  refine j_astore_n (r := y0) (lv' := [some (va_rf (some a0)), some (.int x1), some (.int x2), some (va_rf y0), none, none]) dX1_text_127 (by decide) rfl ?_
  refine j_aload_n (r := some a0) dX1_text_128 rfl ?_
  refine j_aload_n (r := y0) dX1_text_129 rfl ?_
  obtain ⟨a1, ea1, hk2, h⟩ := h
  refine kg_geti (a := a1) (j := 6) ea1 gfX1_111 (by decide) hk2 dX1_text_130 ?_
  obtain ⟨hk3, h⟩ := h
  refine kg_puti (a := a0) rfl gfX1_72 (Or.inl rfl) hk3 (Or.inl (by decide)) dX1_text_133 ?_
  refine j_aload_n (r := some a0) dX1_text_136 rfl ?_
  refine j_aload_n (r := y0) dX1_text_137 rfl ?_
  refine kg_geti (a := a1) (j := 6) ea1 gfX1_111 (by decide) hk2 dX1_text_138 ?_
  refine j_bipush (v := iI 12) dX1_text_141 rfl ?_
  refine j_icmp_lt 150 dX1_text_143 (by decide) (fun c4 => ?_) (fun c4 => ?_)
  · replace h := h.1 c4
    refine j_aload_n (r := y0) dX1_text_150 rfl ?_
    refine kg_geti (a := a1) (j := 7) ea1 gfX1_114 (by decide) hk2 dX1_text_151 ?_
    refine kg_puti (a := a0) rfl gfX1_13 (Or.inl rfl) hk3 (Or.inl (by decide)) dX1_text_154 ?_
    refine j_aload_n (r := some a0) dX1_text_157 rfl ?_
    refine kg_geti (a := a0) (j := 2) rfl gfX1_72 (by decide) hk3 dX1_text_158 ?_
    exact j_ireturn (ty := .int) rfl rfl dX1_text_161 h
  · replace h := h.2 c4
    refine j_iload_n dX1_text_146 rfl ?_
    refine j_goto 154 dX1_text_147 (by decide) ?_
    refine kg_puti (a := a0) rfl gfX1_13 (Or.inl rfl) hk3 (Or.inl (by decide)) dX1_text_154 ?_
    refine j_aload_n (r := some a0) dX1_text_157 rfl ?_
    refine kg_geti (a := a0) (j := 2) rfl gfX1_72 (by decide) hk3 dX1_text_158 ?_
    exact j_ireturn (ty := .int) rfl rfl dX1_text_161 h
theorem tX1_right {G : GPl} {s0 : State} {l : Launch} {K : Nat → Option Nat} {T : Nat → Nat} {lev : Nat} {Q : Outcome → GSt → Prop} {x0 : Int32} {σ : GSt} (h : ((x0 = 0 → (groom G 6 σ ∧ (CQ (wP G s0 l K T) mJ10_init lev (.ref (gn σ) :: []) (gmk 25 6 σ) (onV (fun t3 => gle (gmk 25 6 σ) t3 → Q (.threw (gn σ)) t3) (fun x t => gle (gmk 25 6 σ) t → Q (.threw x) t))))) ∧ (¬ x0 = 0 → Q (.returned none) σ))) : CQ (wP G s0 l K T) mX1_right (lev + 1) [.int x0] σ Q := by
  refine CQ.of3 0 (lv := [some (.int x0)]) (by decide) (Nat.le_of_ble_eq_true rfl) (cat1_cons rfl cat1_nil) rfl ?_
  refine j_iload_n dX1_right_0 rfl ?_
  refine j_if_ne 12 dX1_right_1 (by decide) (fun c5 => ?_) (fun c5 => ?_)
  · replace h := h.2 c5
    exact j_return rfl dX1_right_12 h
  · replace h := h.1 c5
    obtain ⟨hg1, h⟩ := h
    refine jg_new (c := 24) (N := 6) (C := "java/lang/IllegalArgumentException") (by decide) ⟨rfl, rfl⟩ q379 q380 q128 hg1 dX1_right_4 ?_
    have hk2 := gk_new (t := 25) (n := 6) hg1.2.2
    refine j_dup dX1_right_7 rfl ?_
    refine jg_callv (rest := [va_rf (some (gn σ))]) (kg_lkI (As := []) (a := (gn σ)) kiJ10_init (Or.inl q421) rfl rfl dX1_right_8) cwJ10_init (Nat.le_of_ble_eq_true rfl) rfl dX1_right_8 (Nat.succ_le_succ (Nat.zero_le _)) (h.mono (onV_mono (fun t3 h hlt3 => ?_) (fun _ _ h => h)))
    replace h := h hlt3
    replace hk2 := hlt3.tag hk2 (by decide)
    exact kg_athrow (a := (gn σ)) rfl rfl dX1_right_11 h
abbrev jX1_does_196 (G : GPl) (s0 : State) (l : Launch) (K : Nat → Option Nat) (T : Nat → Nat) (lev : Nat) (st0 : GSt) (Q : Outcome → GSt → Prop) (a0 : Nat) (x1 : Option Nat) (σ : GSt) : Prop := JQ (wP G s0 l K T) mX1_does (lev + 1) st0 196 [some (va_rf (some a0)), some (va_rf x1)] [] σ Q
theorem tX1_does {G : GPl} {s0 : State} {l : Launch} {K : Nat → Option Nat} {T : Nat → Nat} {lev : Nat} {Q : Outcome → GSt → Prop} {a0 : Nat} {x1 : Option Nat} {σ : GSt} (h : (∃ a1, x1 = some a1 ∧ (gk σ a1 = 6 ∧ (∃ i3, (i3 < 8 ∧ gr σ a1 0 = K (6 + i3)) ∧ ((iI (i3 : Int) = iI 0 → (gk σ a0 = 1 ∧ (CQ (wP G s0 l K T) mX1_table lev (.ref a0 :: [va_rf x1]) σ (onV (fun t5 => gle σ t5 → Q (.returned none) t5) (fun x t => gle σ t → Q (.threw x) t))))) ∧ (iI (i3 : Int) = iI 1 → (gk σ a0 = 1 ∧ (CQ (wP G s0 l K T) mX1_table lev (.ref a0 :: [va_rf x1]) σ (onV (fun t8 => gle σ t8 → Q (.returned none) t8) (fun x t => gle σ t → Q (.threw x) t))))) ∧ (iI (i3 : Int) = iI 2 → (gk σ a0 = 1 ∧ (CQ (wP G s0 l K T) mX1_table lev (.ref a0 :: [va_rf x1]) σ (onV (fun t11 => gle σ t11 → Q (.returned none) t11) (fun x t => gle σ t → Q (.threw x) t))))) ∧ (iI (i3 : Int) = iI 3 → (gk σ a0 = 1 ∧ (CQ (wP G s0 l K T) mX1_tells lev (.ref a0 :: [va_rf x1]) σ (onV (fun t14 => gle σ t14 → Q (.returned none) t14) (fun x t => gle σ t → Q (.threw x) t))))) ∧ (iI (i3 : Int) = iI 4 → (gk σ a0 = 1 ∧ (CQ (wP G s0 l K T) mX1_checks lev (.ref a0 :: [va_rf x1]) σ (onV (fun t17 => gle σ t17 → Q (.returned none) t17) (fun x t => gle σ t → Q (.threw x) t))))) ∧ (iI (i3 : Int) = iI 5 → (gk σ a0 = 1 ∧ (∃ a20, gr σ a0 7 = some a20 ∧ (gk σ a20 = 4 ∧ (CQ (wP G s0 l K T) mX4_judge lev (.ref a20 :: [va_rf (gr σ a1 5), va_rf none]) σ (onV (fun t22 => gle σ t22 → (groom G 2 t22 ∧ (CQ (wP G s0 l K T) mX16_init lev (.ref (gn t22) :: [va_rf (gr (gmk 14 2 t22) a1 5), va_rf none]) (gmk 14 2 t22) (onV (fun t26 => gle (gmk 14 2 t22) t26 → (∃ a28, gr t22 a0 6 = some a28 ∧ (gk t26 a28 = 3 ∧ (CQ (wP G s0 l K T) mX3_tell lev (.ref a28 :: [va_rf (some (gn t22)), .int (iI 0), .int (iI 0), .int (iI 0)]) t26 (onV (fun t30 => gle t26 t30 → (∃ a32, gr t30 a0 6 = some a32 ∧ (gk t30 a32 = 3 ∧ (CQ (wP G s0 l K T) mX3_put lev (.ref a32 :: [.int (iI 10)]) t30 (onV (fun t34 => gle t30 t34 → Q (.returned none) t34) (fun x t => gle t30 t → Q (.threw x) t)))))) (fun x t => gle t26 t → Q (.threw x) t)))))) (fun x t => gle (gmk 14 2 t22) t → Q (.threw x) t))))) (fun x t => gle σ t → Q (.threw x) t))))))) ∧ (iI (i3 : Int) = iI 6 → (gk σ a0 = 1 ∧ (∃ a37, gr σ a0 7 = some a37 ∧ (gk σ a37 = 4 ∧ (CQ (wP G s0 l K T) mX4_judge lev (.ref a37 :: [va_rf (gr σ a1 5), va_rf none]) σ (onV (fun t39 => gle σ t39 → (groom G 2 t39 ∧ (CQ (wP G s0 l K T) mX16_init lev (.ref (gn t39) :: [va_rf (gr (gmk 14 2 t39) a1 5), va_rf none]) (gmk 14 2 t39) (onV (fun t43 => gle (gmk 14 2 t39) t43 → (∃ a45, gr t39 a0 6 = some a45 ∧ (gk t43 a45 = 3 ∧ (CQ (wP G s0 l K T) mX3_head lev (.ref a45 :: [va_rf (some (gn t39))]) t43 (onV (fun t47 => gle t43 t47 → (∃ a49, gr t47 a0 6 = some a49 ∧ (gk t47 a49 = 3 ∧ (∃ a51, gr t47 a49 1 = some a51 ∧ (isTmA t47 a51 ∧ ((isA t47 (gr t47 a49 1) 8 → (CQ (wP G s0 l K T) mX3_put lev (.ref a49 :: [.int (iI 92)]) t47 (onV (fun t55 => gle t47 t55 → jX1_does_196 G s0 l K T lev σ Q a0 x1 t55) (fun x t => gle t47 t → Q (.threw x) t)))) ∧ (¬ isA t47 (gr t47 a49 1) 8 → ((isA t47 (gr t47 a49 1) 9 → (CQ (wP G s0 l K T) mX3_put lev (.ref a49 :: [.int (iI 33)]) t47 (onV (fun t59 => gle t47 t59 → jX1_does_196 G s0 l K T lev σ Q a0 x1 t59) (fun x t => gle t47 t → Q (.threw x) t)))) ∧ (¬ isA t47 (gr t47 a49 1) 9 → jX1_does_196 G s0 l K T lev σ Q a0 x1 t47))))))))) (fun x t => gle t43 t → Q (.threw x) t)))))) (fun x t => gle (gmk 14 2 t39) t → Q (.threw x) t))))) (fun x t => gle σ t → Q (.threw x) t))))))) ∧ (tout (iI (i3 : Int)) 0 6 → (gk σ a0 = 1 ∧ (∃ a62, gr σ a0 7 = some a62 ∧ (gk σ a62 = 4 ∧ (CQ (wP G s0 l K T) mX4_judge lev (.ref a62 :: [va_rf (gr σ a1 5), va_rf none]) σ (onV (fun t64 => gle σ t64 → (∃ a66, gr t64 a0 7 = some a66 ∧ (gk t64 a66 = 4 ∧ (CQ (wP G s0 l K T) mX4_judge lev (.ref a66 :: [va_rf (gr t64 a1 4), va_rf none]) t64 (onV (fun t68 => gle t64 t68 → (groom G 2 t68 ∧ (CQ (wP G s0 l K T) mX16_init lev (.ref (gn t68) :: [va_rf (gr (gmk 14 2 t68) a1 5), va_rf none]) (gmk 14 2 t68) (onV (fun t72 => gle (gmk 14 2 t68) t72 → (groom G 2 t72 ∧ (CQ (wP G s0 l K T) mX16_init lev (.ref (gn t72) :: [va_rf (gr (gmk 14 2 t72) a1 4), va_rf none]) (gmk 14 2 t72) (onV (fun t76 => gle (gmk 14 2 t72) t76 → (∃ a78, gr t68 a0 6 = some a78 ∧ (gk t76 a78 = 3 ∧ (CQ (wP G s0 l K T) mX3_same lev (.ref a78 :: [va_rf (some (gn t68)), va_rf (some (gn t72))]) t76 (onI (fun r81 t80 => gle t76 t80 → ((r81 = 0 → (CQ (wP G s0 l K T) mX3_put_2 lev (.ref a78 :: [va_rf (some (T 1))]) t80 (onV (fun t82 => gle t80 t82 → (∃ a84, gr t82 a0 6 = some a84 ∧ (gk t82 a84 = 3 ∧ (CQ (wP G s0 l K T) mX3_put lev (.ref a84 :: [.int (iI 10)]) t82 (onV (fun t86 => gle t82 t86 → Q (.returned none) t86) (fun x t => gle t82 t → Q (.threw x) t)))))) (fun x t => gle t80 t → Q (.threw x) t)))) ∧ (¬ r81 = 0 → (CQ (wP G s0 l K T) mX3_put_2 lev (.ref a78 :: [va_rf (some (T 0))]) t80 (onV (fun t88 => gle t80 t88 → (∃ a90, gr t88 a0 6 = some a90 ∧ (gk t88 a90 = 3 ∧ (CQ (wP G s0 l K T) mX3_put lev (.ref a90 :: [.int (iI 10)]) t88 (onV (fun t92 => gle t88 t92 → Q (.returned none) t92) (fun x t => gle t88 t → Q (.threw x) t)))))) (fun x t => gle t80 t → Q (.threw x) t)))))) (fun x t => gle t76 t → Q (.threw x) t)))))) (fun x t => gle (gmk 14 2 t72) t → Q (.threw x) t))))) (fun x t => gle (gmk 14 2 t68) t → Q (.threw x) t))))) (fun x t => gle t64 t → Q (.threw x) t)))))) (fun x t => gle σ t → Q (.threw x) t)))))))))))) : CQ (wP G s0 l K T) mX1_does (lev + 1) [.ref a0, va_rf x1] σ Q := by
  refine CQ.of3 0 (lv := [some (va_rf (some a0)), some (va_rf x1)]) (by decide) (Nat.le_of_ble_eq_true rfl) (cat1_cons rfl (cat1_cons (rf_cat _) cat1_nil)) rfl ?_
  refine j_aload_n (r := x1) dX1_does_0 rfl ?_
  obtain ⟨a1, ea1, hk2, h⟩ := h
  refine kg_getr (a := a1) (j := 0) ea1 gfX1_117 hk2 dX1_does_1 ?_
  obtain ⟨i3, hx_, h⟩ := h
  refine kg_ord (stk := []) hx_.1 hx_.2 q1337 dX1_does_4 (Nat.succ_le_succ (Nat.zero_le _)) (Nat.le_of_ble_eq_true rfl) rfl ?_
  rcases tb_case 7 0 (iI (i3 : Int)) with ⟨c95, hc95, ec95⟩ | ec95
  · match c95, hc95, ec95 with
    | 0, _, ec95 =>
      have ec95 : iI (i3 : Int) = iI 0 := ec95
      replace h := h.1 ec95
      refine j_tableIn 48 dX1_does_7 (by rw [ec95]; decide) (by rw [ec95]; decide) (by rw [ec95]; rfl) (by decide) ?_
      refine j_aload_n (r := some a0) dX1_does_48 rfl ?_
      refine j_aload_n (r := x1) dX1_does_49 rfl ?_
      obtain ⟨hk4, h⟩ := h
      refine jg_callv (rest := []) (kg_lkV (As := [va_rf x1]) (a := a0) (c := 0) kgX1_table_0 (by decide) rfl hk4 q1343 rfl rfl dX1_does_50) cwX1_table (Nat.le_of_ble_eq_true rfl) rfl dX1_does_50 (Nat.succ_le_succ (Nat.zero_le _)) (h.mono (onV_mono (fun t5 h hlt5 => ?_) (fun _ _ h => h)))
      replace h := h hlt5
      replace hk2 := hlt5.tag hk2 (by decide)
      replace hk4 := hlt5.tag hk4 (by decide)
      refine j_goto 329 dX1_does_53 (by decide) ?_
      exact j_return rfl dX1_does_329 h
    | 1, _, ec95 =>
      have ec95 : iI (i3 : Int) = iI 1 := ec95
      replace h := h.2.1 ec95
      refine j_tableIn 48 dX1_does_7 (by rw [ec95]; decide) (by rw [ec95]; decide) (by rw [ec95]; rfl) (by decide) ?_
      refine j_aload_n (r := some a0) dX1_does_48 rfl ?_
      refine j_aload_n (r := x1) dX1_does_49 rfl ?_
      obtain ⟨hk7, h⟩ := h
      refine jg_callv (rest := []) (kg_lkV (As := [va_rf x1]) (a := a0) (c := 0) kgX1_table_0 (by decide) rfl hk7 q1343 rfl rfl dX1_does_50) cwX1_table (Nat.le_of_ble_eq_true rfl) rfl dX1_does_50 (Nat.succ_le_succ (Nat.zero_le _)) (h.mono (onV_mono (fun t8 h hlt8 => ?_) (fun _ _ h => h)))
      replace h := h hlt8
      replace hk2 := hlt8.tag hk2 (by decide)
      replace hk7 := hlt8.tag hk7 (by decide)
      refine j_goto 329 dX1_does_53 (by decide) ?_
      exact j_return rfl dX1_does_329 h
    | 2, _, ec95 =>
      have ec95 : iI (i3 : Int) = iI 2 := ec95
      replace h := h.2.2.1 ec95
      refine j_tableIn 48 dX1_does_7 (by rw [ec95]; decide) (by rw [ec95]; decide) (by rw [ec95]; rfl) (by decide) ?_
      refine j_aload_n (r := some a0) dX1_does_48 rfl ?_
      refine j_aload_n (r := x1) dX1_does_49 rfl ?_
      obtain ⟨hk10, h⟩ := h
      refine jg_callv (rest := []) (kg_lkV (As := [va_rf x1]) (a := a0) (c := 0) kgX1_table_0 (by decide) rfl hk10 q1343 rfl rfl dX1_does_50) cwX1_table (Nat.le_of_ble_eq_true rfl) rfl dX1_does_50 (Nat.succ_le_succ (Nat.zero_le _)) (h.mono (onV_mono (fun t11 h hlt11 => ?_) (fun _ _ h => h)))
      replace h := h hlt11
      replace hk2 := hlt11.tag hk2 (by decide)
      replace hk10 := hlt11.tag hk10 (by decide)
      refine j_goto 329 dX1_does_53 (by decide) ?_
      exact j_return rfl dX1_does_329 h
    | 3, _, ec95 =>
      have ec95 : iI (i3 : Int) = iI 3 := ec95
      replace h := h.2.2.2.1 ec95
      refine j_tableIn 56 dX1_does_7 (by rw [ec95]; decide) (by rw [ec95]; decide) (by rw [ec95]; rfl) (by decide) ?_
      refine j_aload_n (r := some a0) dX1_does_56 rfl ?_
      refine j_aload_n (r := x1) dX1_does_57 rfl ?_
      obtain ⟨hk13, h⟩ := h
      refine jg_callv (rest := []) (kg_lkV (As := [va_rf x1]) (a := a0) (c := 0) kgX1_tells_0 (by decide) rfl hk13 q1364 rfl rfl dX1_does_58) cwX1_tells (Nat.le_of_ble_eq_true rfl) rfl dX1_does_58 (Nat.succ_le_succ (Nat.zero_le _)) (h.mono (onV_mono (fun t14 h hlt14 => ?_) (fun _ _ h => h)))
      replace h := h hlt14
      replace hk2 := hlt14.tag hk2 (by decide)
      replace hk13 := hlt14.tag hk13 (by decide)
      refine j_goto 329 dX1_does_61 (by decide) ?_
      exact j_return rfl dX1_does_329 h
    | 4, _, ec95 =>
      have ec95 : iI (i3 : Int) = iI 4 := ec95
      replace h := h.2.2.2.2.1 ec95
      refine j_tableIn 64 dX1_does_7 (by rw [ec95]; decide) (by rw [ec95]; decide) (by rw [ec95]; rfl) (by decide) ?_
      refine j_aload_n (r := some a0) dX1_does_64 rfl ?_
      refine j_aload_n (r := x1) dX1_does_65 rfl ?_
      obtain ⟨hk16, h⟩ := h
      refine jg_callv (rest := []) (kg_lkV (As := [va_rf x1]) (a := a0) (c := 0) kgX1_checks_0 (by decide) rfl hk16 q1776 rfl rfl dX1_does_66) cwX1_checks (Nat.le_of_ble_eq_true rfl) rfl dX1_does_66 (Nat.succ_le_succ (Nat.zero_le _)) (h.mono (onV_mono (fun t17 h hlt17 => ?_) (fun _ _ h => h)))
      replace h := h hlt17
      replace hk2 := hlt17.tag hk2 (by decide)
      replace hk16 := hlt17.tag hk16 (by decide)
      refine j_goto 329 dX1_does_69 (by decide) ?_
      exact j_return rfl dX1_does_329 h
    | 5, _, ec95 =>
      have ec95 : iI (i3 : Int) = iI 5 := ec95
      replace h := h.2.2.2.2.2.1 ec95
      refine j_tableIn 72 dX1_does_7 (by rw [ec95]; decide) (by rw [ec95]; decide) (by rw [ec95]; rfl) (by decide) ?_
      refine j_aload_n (r := some a0) dX1_does_72 rfl ?_
      obtain ⟨hk19, h⟩ := h
      refine kg_getr (a := a0) (j := 7) rfl gfX1_38 hk19 dX1_does_73 ?_
      refine j_aload_n (r := x1) dX1_does_76 rfl ?_
      refine kg_getr (a := a1) (j := 5) ea1 gfX1_134 hk2 dX1_does_77 ?_
      refine j_null dX1_does_80 ?_
      obtain ⟨a20, ea20, hk21, h⟩ := h
      refine jg_callv (rest := []) (kg_lkV (As := [va_rf (gr σ a1 5), va_rf none]) (a := a20) (c := 3) kgX4_judge_3 (by decide) rfl hk21 q1770 rfl (by rw [ea20]; rfl) dX1_does_81) cwX4_judge (Nat.le_of_ble_eq_true rfl) rfl dX1_does_81 (Nat.succ_le_succ (Nat.zero_le _)) (h.mono (onV_mono (fun t22 h hlt22 => ?_) (fun _ _ h => h)))
      replace h := h hlt22
      replace hk2 := hlt22.tag hk2 (by decide)
      replace hk19 := hlt22.tag hk19 (by decide)
      replace hk21 := hlt22.tag hk21 (by decide)
      refine j_aload_n (r := some a0) dX1_does_84 rfl ?_
      refine kg_getr (a := a0) (j := 6) rfl gfX1_29 hk19 dX1_does_85 ?_
      obtain ⟨hg24, h⟩ := h
      refine jg_new (c := 13) (N := 2) (C := "PureHouse$Closure") (by decide) ⟨rfl, rfl⟩ q1771 q1427 q152 hg24 dX1_does_88 ?_
      replace hk2 := gk_mk (t := 14) (n := 2) hk2 (by decide)
      replace hk19 := gk_mk (t := 14) (n := 2) hk19 (by decide)
      replace hk21 := gk_mk (t := 14) (n := 2) hk21 (by decide)
      have hk25 := gk_new (t := 14) (n := 2) hg24.2.2
      refine j_dup dX1_does_91 rfl ?_
      refine j_aload_n (r := x1) dX1_does_92 rfl ?_
      refine kg_getr (a := a1) (j := 5) ea1 gfX1_134 hk2 dX1_does_93 ?_
      refine j_null dX1_does_96 ?_
      refine jg_callv (rest := [va_rf (some (gn t22)), va_rf (gr t22 a0 6)]) (kg_lkI (As := [va_rf (gr (gmk 14 2 t22) a1 5), va_rf none]) (a := (gn t22)) kiX16_init (Or.inl q1772) rfl rfl dX1_does_97) cwX16_init (rm_ok (cat1_cons rfl (cat1_cons (rf_cat _) cat1_nil)) (Nat.le_of_ble_eq_true rfl)) rfl dX1_does_97 (Nat.succ_le_succ (Nat.zero_le _)) (h.mono (onV_mono (fun t26 h hlt26 => ?_) (fun _ _ h => h)))
      replace h := h hlt26
      replace hk2 := hlt26.tag hk2 (by decide)
      replace hk19 := hlt26.tag hk19 (by decide)
      replace hk21 := hlt26.tag hk21 (by decide)
      replace hk25 := hlt26.tag hk25 (by decide)
      refine j_iconst (v := iI 0) dX1_does_100 rfl ?_
      refine j_iconst (v := iI 0) dX1_does_101 rfl ?_
      refine j_iconst (v := iI 0) dX1_does_102 rfl ?_
      obtain ⟨a28, ea28, hk29, h⟩ := h
      refine jg_callv (rest := []) (kg_lkV (As := [va_rf (some (gn t22)), .int (iI 0), .int (iI 0), .int (iI 0)]) (a := a28) (c := 2) kgX3_tell_2 (by decide) rfl hk29 q1780 rfl (by rw [ea28]; rfl) dX1_does_103) cwX3_tell (Nat.le_of_ble_eq_true rfl) rfl dX1_does_103 (Nat.succ_le_succ (Nat.zero_le _)) (h.mono (onV_mono (fun t30 h hlt30 => ?_) (fun _ _ h => h)))
      replace h := h hlt30
      replace hk2 := hlt30.tag hk2 (by decide)
      replace hk19 := hlt30.tag hk19 (by decide)
      replace hk21 := hlt30.tag hk21 (by decide)
      replace hk25 := hlt30.tag hk25 (by decide)
      replace hk29 := hlt30.tag hk29 (by decide)
      refine j_aload_n (r := some a0) dX1_does_106 rfl ?_
      refine kg_getr (a := a0) (j := 6) rfl gfX1_29 hk19 dX1_does_107 ?_
      refine j_bipush (v := iI 10) dX1_does_110 rfl ?_
      obtain ⟨a32, ea32, hk33, h⟩ := h
      refine jg_callv (rest := []) (kg_lkV (As := [.int (iI 10)]) (a := a32) (c := 2) kgX3_put_2 (by decide) rfl hk33 q1823 rfl (by rw [ea32]; rfl) dX1_does_112) cwX3_put (Nat.le_of_ble_eq_true rfl) rfl dX1_does_112 (Nat.succ_le_succ (Nat.zero_le _)) (h.mono (onV_mono (fun t34 h hlt34 => ?_) (fun _ _ h => h)))
      replace h := h hlt34
      replace hk2 := hlt34.tag hk2 (by decide)
      replace hk19 := hlt34.tag hk19 (by decide)
      replace hk21 := hlt34.tag hk21 (by decide)
      replace hk25 := hlt34.tag hk25 (by decide)
      replace hk29 := hlt34.tag hk29 (by decide)
      replace hk33 := hlt34.tag hk33 (by decide)
      refine j_goto 329 dX1_does_115 (by decide) ?_
      exact j_return rfl dX1_does_329 h
    | 6, _, ec95 =>
      have ec95 : iI (i3 : Int) = iI 6 := ec95
      replace h := h.2.2.2.2.2.2.1 ec95
      refine j_tableIn 118 dX1_does_7 (by rw [ec95]; decide) (by rw [ec95]; decide) (by rw [ec95]; rfl) (by decide) ?_
      refine j_aload_n (r := some a0) dX1_does_118 rfl ?_
      obtain ⟨hk36, h⟩ := h
      refine kg_getr (a := a0) (j := 7) rfl gfX1_38 hk36 dX1_does_119 ?_
      refine j_aload_n (r := x1) dX1_does_122 rfl ?_
      refine kg_getr (a := a1) (j := 5) ea1 gfX1_134 hk2 dX1_does_123 ?_
      refine j_null dX1_does_126 ?_
      obtain ⟨a37, ea37, hk38, h⟩ := h
      refine jg_callv (rest := []) (kg_lkV (As := [va_rf (gr σ a1 5), va_rf none]) (a := a37) (c := 3) kgX4_judge_3 (by decide) rfl hk38 q1770 rfl (by rw [ea37]; rfl) dX1_does_127) cwX4_judge (Nat.le_of_ble_eq_true rfl) rfl dX1_does_127 (Nat.succ_le_succ (Nat.zero_le _)) (h.mono (onV_mono (fun t39 h hlt39 => ?_) (fun _ _ h => h)))
      replace h := h hlt39
      replace hk2 := hlt39.tag hk2 (by decide)
      replace hk36 := hlt39.tag hk36 (by decide)
      replace hk38 := hlt39.tag hk38 (by decide)
      refine j_aload_n (r := some a0) dX1_does_130 rfl ?_
      refine kg_getr (a := a0) (j := 6) rfl gfX1_29 hk36 dX1_does_131 ?_
      obtain ⟨hg41, h⟩ := h
      refine jg_new (c := 13) (N := 2) (C := "PureHouse$Closure") (by decide) ⟨rfl, rfl⟩ q1771 q1427 q152 hg41 dX1_does_134 ?_
      replace hk2 := gk_mk (t := 14) (n := 2) hk2 (by decide)
      replace hk36 := gk_mk (t := 14) (n := 2) hk36 (by decide)
      replace hk38 := gk_mk (t := 14) (n := 2) hk38 (by decide)
      have hk42 := gk_new (t := 14) (n := 2) hg41.2.2
      refine j_dup dX1_does_137 rfl ?_
      refine j_aload_n (r := x1) dX1_does_138 rfl ?_
      refine kg_getr (a := a1) (j := 5) ea1 gfX1_134 hk2 dX1_does_139 ?_
      refine j_null dX1_does_142 ?_
      refine jg_callv (rest := [va_rf (some (gn t39)), va_rf (gr t39 a0 6)]) (kg_lkI (As := [va_rf (gr (gmk 14 2 t39) a1 5), va_rf none]) (a := (gn t39)) kiX16_init (Or.inl q1772) rfl rfl dX1_does_143) cwX16_init (rm_ok (cat1_cons rfl (cat1_cons (rf_cat _) cat1_nil)) (Nat.le_of_ble_eq_true rfl)) rfl dX1_does_143 (Nat.succ_le_succ (Nat.zero_le _)) (h.mono (onV_mono (fun t43 h hlt43 => ?_) (fun _ _ h => h)))
      replace h := h hlt43
      replace hk2 := hlt43.tag hk2 (by decide)
      replace hk36 := hlt43.tag hk36 (by decide)
      replace hk38 := hlt43.tag hk38 (by decide)
      replace hk42 := hlt43.tag hk42 (by decide)
      obtain ⟨a45, ea45, hk46, h⟩ := h
      refine jg_callv (rest := []) (kg_lkV (As := [va_rf (some (gn t39))]) (a := a45) (c := 2) kgX3_head_2 (by decide) rfl hk46 q1824 rfl (by rw [ea45]; rfl) dX1_does_146) cwX3_head (Nat.le_of_ble_eq_true rfl) rfl dX1_does_146 (Nat.succ_le_succ (Nat.zero_le _)) (h.mono (onV_mono (fun t47 h hlt47 => ?_) (fun _ _ h => h)))
      replace h := h hlt47
      replace hk2 := hlt47.tag hk2 (by decide)
      replace hk36 := hlt47.tag hk36 (by decide)
      replace hk38 := hlt47.tag hk38 (by decide)
      replace hk42 := hlt47.tag hk42 (by decide)
      replace hk46 := hlt47.tag hk46 (by decide)
      refine j_aload_n (r := some a0) dX1_does_149 rfl ?_
      refine kg_getr (a := a0) (j := 6) rfl gfX1_29 hk36 dX1_does_150 ?_
      obtain ⟨a49, ea49, hk50, h⟩ := h
      refine kg_getr (a := a49) (j := 1) ea49 gfX1_157 hk50 dX1_does_153 ?_
      obtain ⟨a51, ea51, hm52, h⟩ := h
      refine jg_inst (r := gr t47 a49 1) 7 (by decide) q1825 (isTmA.tm (a := a51) hm52 ea51) dX1_does_156 (fun c53 => ?_) (fun c53 => ?_)
      · replace h := h.1 c53
        have hk54 := isA.tag c53 ea51
        refine j_if_eq 174 dX1_does_159 (by decide) (fun q_ => absurd q_ (by decide)) (fun _ => ?_)
        refine j_aload_n (r := some a0) dX1_does_162 rfl ?_
        refine kg_getr (a := a0) (j := 6) rfl gfX1_29 hk36 dX1_does_163 ?_
        refine j_bipush (v := iI 92) dX1_does_166 rfl ?_
        refine jg_callv (rest := []) (kg_lkV (As := [.int (iI 92)]) (a := a49) (c := 2) kgX3_put_2 (by decide) rfl hk50 q1823 rfl (by rw [ea49]; rfl) dX1_does_168) cwX3_put (Nat.le_of_ble_eq_true rfl) rfl dX1_does_168 (Nat.succ_le_succ (Nat.zero_le _)) (h.mono (onV_mono (fun t55 h hlt55 => ?_) (fun _ _ h => h)))
        replace h := h hlt55
        replace hk2 := hlt55.tag hk2 (by decide)
        replace hk36 := hlt55.tag hk36 (by decide)
        replace hk38 := hlt55.tag hk38 (by decide)
        replace hk42 := hlt55.tag hk42 (by decide)
        replace hk46 := hlt55.tag hk46 (by decide)
        replace hk50 := hlt55.tag hk50 (by decide)
        replace hk54 := hlt55.tag hk54 (by decide)
        replace hm52 := hm52.le hlt55
        refine j_goto 196 dX1_does_171 (by decide) ?_
        exact h
      · replace h := h.2 c53
        refine j_if_eq 174 dX1_does_159 (by decide) (fun _ => ?_) (fun q_ => absurd (by decide) q_)
        refine j_aload_n (r := some a0) dX1_does_174 rfl ?_
        refine kg_getr (a := a0) (j := 6) rfl gfX1_29 hk36 dX1_does_175 ?_
        refine kg_getr (a := a49) (j := 1) ea49 gfX1_157 hk50 dX1_does_178 ?_
        refine jg_inst (r := gr t47 a49 1) 8 (by decide) q1826 (isTmA.tm (a := a51) hm52 ea51) dX1_does_181 (fun c57 => ?_) (fun c57 => ?_)
        · replace h := h.1 c57
          have hk58 := isA.tag c57 ea51
          refine j_if_eq 196 dX1_does_184 (by decide) (fun q_ => absurd q_ (by decide)) (fun _ => ?_)
          refine j_aload_n (r := some a0) dX1_does_187 rfl ?_
          refine kg_getr (a := a0) (j := 6) rfl gfX1_29 hk36 dX1_does_188 ?_
          refine j_bipush (v := iI 33) dX1_does_191 rfl ?_
          refine jg_callv (rest := []) (kg_lkV (As := [.int (iI 33)]) (a := a49) (c := 2) kgX3_put_2 (by decide) rfl hk50 q1823 rfl (by rw [ea49]; rfl) dX1_does_193) cwX3_put (Nat.le_of_ble_eq_true rfl) rfl dX1_does_193 (Nat.succ_le_succ (Nat.zero_le _)) (h.mono (onV_mono (fun t59 h hlt59 => ?_) (fun _ _ h => h)))
          replace h := h hlt59
          replace hk2 := hlt59.tag hk2 (by decide)
          replace hk36 := hlt59.tag hk36 (by decide)
          replace hk38 := hlt59.tag hk38 (by decide)
          replace hk42 := hlt59.tag hk42 (by decide)
          replace hk46 := hlt59.tag hk46 (by decide)
          replace hk50 := hlt59.tag hk50 (by decide)
          replace hk58 := hlt59.tag hk58 (by decide)
          replace hm52 := hm52.le hlt59
          exact h
        · replace h := h.2 c57
          refine j_if_eq 196 dX1_does_184 (by decide) (fun _ => ?_) (fun q_ => absurd (by decide) q_)
          exact h
    | q_ + 7, hq_, _ => exact absurd hq_ (by omega)
  · replace h := h.2.2.2.2.2.2.2 ec95
    refine j_tableOut 248 dX1_does_7 ec95 (by decide) ?_
    refine j_aload_n (r := some a0) dX1_does_248 rfl ?_
    obtain ⟨hk61, h⟩ := h
    refine kg_getr (a := a0) (j := 7) rfl gfX1_38 hk61 dX1_does_249 ?_
    refine j_aload_n (r := x1) dX1_does_252 rfl ?_
    refine kg_getr (a := a1) (j := 5) ea1 gfX1_134 hk2 dX1_does_253 ?_
    refine j_null dX1_does_256 ?_
    obtain ⟨a62, ea62, hk63, h⟩ := h
    refine jg_callv (rest := []) (kg_lkV (As := [va_rf (gr σ a1 5), va_rf none]) (a := a62) (c := 3) kgX4_judge_3 (by decide) rfl hk63 q1770 rfl (by rw [ea62]; rfl) dX1_does_257) cwX4_judge (Nat.le_of_ble_eq_true rfl) rfl dX1_does_257 (Nat.succ_le_succ (Nat.zero_le _)) (h.mono (onV_mono (fun t64 h hlt64 => ?_) (fun _ _ h => h)))
    replace h := h hlt64
    replace hk2 := hlt64.tag hk2 (by decide)
    replace hk61 := hlt64.tag hk61 (by decide)
    replace hk63 := hlt64.tag hk63 (by decide)
    refine j_aload_n (r := some a0) dX1_does_260 rfl ?_
    refine kg_getr (a := a0) (j := 7) rfl gfX1_38 hk61 dX1_does_261 ?_
    refine j_aload_n (r := x1) dX1_does_264 rfl ?_
    refine kg_getr (a := a1) (j := 4) ea1 gfX1_178 hk2 dX1_does_265 ?_
    refine j_null dX1_does_268 ?_
    obtain ⟨a66, ea66, hk67, h⟩ := h
    refine jg_callv (rest := []) (kg_lkV (As := [va_rf (gr t64 a1 4), va_rf none]) (a := a66) (c := 3) kgX4_judge_3 (by decide) rfl hk67 q1770 rfl (by rw [ea66]; rfl) dX1_does_269) cwX4_judge (Nat.le_of_ble_eq_true rfl) rfl dX1_does_269 (Nat.succ_le_succ (Nat.zero_le _)) (h.mono (onV_mono (fun t68 h hlt68 => ?_) (fun _ _ h => h)))
    replace h := h hlt68
    replace hk2 := hlt68.tag hk2 (by decide)
    replace hk61 := hlt68.tag hk61 (by decide)
    replace hk63 := hlt68.tag hk63 (by decide)
    replace hk67 := hlt68.tag hk67 (by decide)
    refine j_aload_n (r := some a0) dX1_does_272 rfl ?_
    refine kg_getr (a := a0) (j := 6) rfl gfX1_29 hk61 dX1_does_273 ?_
    refine j_aload_n (r := some a0) dX1_does_276 rfl ?_
    refine kg_getr (a := a0) (j := 6) rfl gfX1_29 hk61 dX1_does_277 ?_
    obtain ⟨hg70, h⟩ := h
    refine jg_new (c := 13) (N := 2) (C := "PureHouse$Closure") (by decide) ⟨rfl, rfl⟩ q1771 q1427 q152 hg70 dX1_does_280 ?_
    replace hk2 := gk_mk (t := 14) (n := 2) hk2 (by decide)
    replace hk61 := gk_mk (t := 14) (n := 2) hk61 (by decide)
    replace hk63 := gk_mk (t := 14) (n := 2) hk63 (by decide)
    replace hk67 := gk_mk (t := 14) (n := 2) hk67 (by decide)
    have hk71 := gk_new (t := 14) (n := 2) hg70.2.2
    refine j_dup dX1_does_283 rfl ?_
    refine j_aload_n (r := x1) dX1_does_284 rfl ?_
    refine kg_getr (a := a1) (j := 5) ea1 gfX1_134 hk2 dX1_does_285 ?_
    refine j_null dX1_does_288 ?_
    refine jg_callv (rest := [va_rf (some (gn t68)), va_rf (gr t68 a0 6), va_rf (gr t68 a0 6)]) (kg_lkI (As := [va_rf (gr (gmk 14 2 t68) a1 5), va_rf none]) (a := (gn t68)) kiX16_init (Or.inl q1772) rfl rfl dX1_does_289) cwX16_init (rm_ok (cat1_cons rfl (cat1_cons (rf_cat _) (cat1_cons (rf_cat _) cat1_nil))) (Nat.le_of_ble_eq_true rfl)) rfl dX1_does_289 (Nat.succ_le_succ (Nat.zero_le _)) (h.mono (onV_mono (fun t72 h hlt72 => ?_) (fun _ _ h => h)))
    replace h := h hlt72
    replace hk2 := hlt72.tag hk2 (by decide)
    replace hk61 := hlt72.tag hk61 (by decide)
    replace hk63 := hlt72.tag hk63 (by decide)
    replace hk67 := hlt72.tag hk67 (by decide)
    replace hk71 := hlt72.tag hk71 (by decide)
    obtain ⟨hg74, h⟩ := h
    refine jg_new (c := 13) (N := 2) (C := "PureHouse$Closure") (by decide) ⟨rfl, rfl⟩ q1771 q1427 q152 hg74 dX1_does_292 ?_
    replace hk2 := gk_mk (t := 14) (n := 2) hk2 (by decide)
    replace hk61 := gk_mk (t := 14) (n := 2) hk61 (by decide)
    replace hk63 := gk_mk (t := 14) (n := 2) hk63 (by decide)
    replace hk67 := gk_mk (t := 14) (n := 2) hk67 (by decide)
    replace hk71 := gk_mk (t := 14) (n := 2) hk71 (by decide)
    have hk75 := gk_new (t := 14) (n := 2) hg74.2.2
    refine j_dup dX1_does_295 rfl ?_
    refine j_aload_n (r := x1) dX1_does_296 rfl ?_
    refine kg_getr (a := a1) (j := 4) ea1 gfX1_178 hk2 dX1_does_297 ?_
    refine j_null dX1_does_300 ?_
    refine jg_callv (rest := [va_rf (some (gn t72)), va_rf (some (gn t68)), va_rf (gr t68 a0 6), va_rf (gr t68 a0 6)]) (kg_lkI (As := [va_rf (gr (gmk 14 2 t72) a1 4), va_rf none]) (a := (gn t72)) kiX16_init (Or.inl q1772) rfl rfl dX1_does_301) cwX16_init (rm_ok (cat1_cons rfl (cat1_cons rfl (cat1_cons (rf_cat _) (cat1_cons (rf_cat _) cat1_nil)))) (Nat.le_of_ble_eq_true rfl)) rfl dX1_does_301 (Nat.succ_le_succ (Nat.zero_le _)) (h.mono (onV_mono (fun t76 h hlt76 => ?_) (fun _ _ h => h)))
    replace h := h hlt76
    replace hk2 := hlt76.tag hk2 (by decide)
    replace hk61 := hlt76.tag hk61 (by decide)
    replace hk63 := hlt76.tag hk63 (by decide)
    replace hk67 := hlt76.tag hk67 (by decide)
    replace hk71 := hlt76.tag hk71 (by decide)
    replace hk75 := hlt76.tag hk75 (by decide)
    obtain ⟨a78, ea78, hk79, h⟩ := h
    refine jg_calli (rest := [va_rf (gr t68 a0 6)]) (kg_lkV (As := [va_rf (some (gn t68)), va_rf (some (gn t72))]) (a := a78) (c := 2) kgX3_same_2 (by decide) rfl hk79 q1774 rfl (by rw [ea78]; rfl) dX1_does_304) cwX3_same (rm_ok (cat1_cons (rf_cat _) cat1_nil) (Nat.le_of_ble_eq_true rfl)) rfl dX1_does_304 (Nat.succ_le_succ (Nat.zero_le _)) (h.mono (onI_mono (fun r81 t80 h hlt80 => ?_) (fun _ _ h => h)))
    replace h := h hlt80
    replace hk2 := hlt80.tag hk2 (by decide)
    replace hk61 := hlt80.tag hk61 (by decide)
    replace hk63 := hlt80.tag hk63 (by decide)
    replace hk67 := hlt80.tag hk67 (by decide)
    replace hk71 := hlt80.tag hk71 (by decide)
    replace hk75 := hlt80.tag hk75 (by decide)
    replace hk79 := hlt80.tag hk79 (by decide)
    refine j_if_eq 315 dX1_does_307 (by decide) (fun c94 => ?_) (fun c94 => ?_)
    · replace h := h.1 c94
      refine jg_ldcS (i := 1) rfl rfl dX1_does_315 ?_
      refine jg_callv (rest := []) (kg_lkV (As := [va_rf (some (T 1))]) (a := a78) (c := 2) kgX3_put_2_2 (by decide) rfl hk79 q1822 rfl (by rw [ea78]; rfl) dX1_does_317) cwX3_put_2 (Nat.le_of_ble_eq_true rfl) rfl dX1_does_317 (Nat.succ_le_succ (Nat.zero_le _)) (h.mono (onV_mono (fun t82 h hlt82 => ?_) (fun _ _ h => h)))
      replace h := h hlt82
      replace hk2 := hlt82.tag hk2 (by decide)
      replace hk61 := hlt82.tag hk61 (by decide)
      replace hk63 := hlt82.tag hk63 (by decide)
      replace hk67 := hlt82.tag hk67 (by decide)
      replace hk71 := hlt82.tag hk71 (by decide)
      replace hk75 := hlt82.tag hk75 (by decide)
      replace hk79 := hlt82.tag hk79 (by decide)
      refine j_aload_n (r := some a0) dX1_does_320 rfl ?_
      refine kg_getr (a := a0) (j := 6) rfl gfX1_29 hk61 dX1_does_321 ?_
      refine j_bipush (v := iI 10) dX1_does_324 rfl ?_
      obtain ⟨a84, ea84, hk85, h⟩ := h
      refine jg_callv (rest := []) (kg_lkV (As := [.int (iI 10)]) (a := a84) (c := 2) kgX3_put_2 (by decide) rfl hk85 q1823 rfl (by rw [ea84]; rfl) dX1_does_326) cwX3_put (Nat.le_of_ble_eq_true rfl) rfl dX1_does_326 (Nat.succ_le_succ (Nat.zero_le _)) (h.mono (onV_mono (fun t86 h hlt86 => ?_) (fun _ _ h => h)))
      replace h := h hlt86
      replace hk2 := hlt86.tag hk2 (by decide)
      replace hk61 := hlt86.tag hk61 (by decide)
      replace hk63 := hlt86.tag hk63 (by decide)
      replace hk67 := hlt86.tag hk67 (by decide)
      replace hk71 := hlt86.tag hk71 (by decide)
      replace hk75 := hlt86.tag hk75 (by decide)
      replace hk79 := hlt86.tag hk79 (by decide)
      replace hk85 := hlt86.tag hk85 (by decide)
      exact j_return rfl dX1_does_329 h
    · replace h := h.2 c94
      refine jg_ldcS (i := 0) rfl rfl dX1_does_310 ?_
      refine j_goto 317 dX1_does_312 (by decide) ?_
      refine jg_callv (rest := []) (kg_lkV (As := [va_rf (some (T 0))]) (a := a78) (c := 2) kgX3_put_2_2 (by decide) rfl hk79 q1822 rfl (by rw [ea78]; rfl) dX1_does_317) cwX3_put_2 (Nat.le_of_ble_eq_true rfl) rfl dX1_does_317 (Nat.succ_le_succ (Nat.zero_le _)) (h.mono (onV_mono (fun t88 h hlt88 => ?_) (fun _ _ h => h)))
      replace h := h hlt88
      replace hk2 := hlt88.tag hk2 (by decide)
      replace hk61 := hlt88.tag hk61 (by decide)
      replace hk63 := hlt88.tag hk63 (by decide)
      replace hk67 := hlt88.tag hk67 (by decide)
      replace hk71 := hlt88.tag hk71 (by decide)
      replace hk75 := hlt88.tag hk75 (by decide)
      replace hk79 := hlt88.tag hk79 (by decide)
      refine j_aload_n (r := some a0) dX1_does_320 rfl ?_
      refine kg_getr (a := a0) (j := 6) rfl gfX1_29 hk61 dX1_does_321 ?_
      refine j_bipush (v := iI 10) dX1_does_324 rfl ?_
      obtain ⟨a90, ea90, hk91, h⟩ := h
      refine jg_callv (rest := []) (kg_lkV (As := [.int (iI 10)]) (a := a90) (c := 2) kgX3_put_2 (by decide) rfl hk91 q1823 rfl (by rw [ea90]; rfl) dX1_does_326) cwX3_put (Nat.le_of_ble_eq_true rfl) rfl dX1_does_326 (Nat.succ_le_succ (Nat.zero_le _)) (h.mono (onV_mono (fun t92 h hlt92 => ?_) (fun _ _ h => h)))
      replace h := h hlt92
      replace hk2 := hlt92.tag hk2 (by decide)
      replace hk61 := hlt92.tag hk61 (by decide)
      replace hk63 := hlt92.tag hk63 (by decide)
      replace hk67 := hlt92.tag hk67 (by decide)
      replace hk71 := hlt92.tag hk71 (by decide)
      replace hk75 := hlt92.tag hk75 (by decide)
      replace hk79 := hlt92.tag hk79 (by decide)
      replace hk91 := hlt92.tag hk91 (by decide)
      exact j_return rfl dX1_does_329 h
theorem tX1_does_196 {G : GPl} {s0 : State} {l : Launch} {K : Nat → Option Nat} {T : Nat → Nat} {lev : Nat} {st0 : GSt} {Q : Outcome → GSt → Prop} {a0 : Nat} {x1 : Option Nat} {σ : GSt} (h : (gk σ a0 = 1 ∧ (∃ a2, gr σ a0 6 = some a2 ∧ (gk σ a2 = 3 ∧ (CQ (wP G s0 l K T) mX3_name lev (.ref a2 :: [va_rf (gr σ a2 1)]) σ (onV (fun t4 => gle σ t4 → (∃ a6, gr t4 a0 6 = some a6 ∧ (gk t4 a6 = 3 ∧ (CQ (wP G s0 l K T) mX3_put lev (.ref a6 :: [.int (iI 32)]) t4 (onV (fun t8 => gle t4 t8 → (∃ a10, gr t8 a0 6 = some a10 ∧ (gk t8 a10 = 3 ∧ (CQ (wP G s0 l K T) mX19_size lev [va_rf (gr t8 a10 3)] t8 (onI (fun r13 t12 => gle t8 t12 → (CQ (wP G s0 l K T) mX3_number lev (.ref a10 :: [.int r13]) t12 (onV (fun t14 => gle t12 t14 → (∃ a16, gr t14 a0 6 = some a16 ∧ (gk t14 a16 = 3 ∧ (CQ (wP G s0 l K T) mX3_put lev (.ref a16 :: [.int (iI 10)]) t14 (onV (fun t18 => gle t14 t18 → Q (.returned none) t18) (fun x t => gle t14 t → Q (.threw x) t)))))) (fun x t => gle t12 t → Q (.threw x) t)))) (fun x t => gle t8 t → Q (.threw x) t)))))) (fun x t => gle t4 t → Q (.threw x) t)))))) (fun x t => gle σ t → Q (.threw x) t))))))) : jX1_does_196 G s0 l K T lev st0 Q a0 x1 σ := by
  refine j_aload_n (r := some a0) dX1_does_196 rfl ?_
  obtain ⟨hk1, h⟩ := h
  refine kg_getr (a := a0) (j := 6) rfl gfX1_29 hk1 dX1_does_197 ?_
  refine j_aload_n (r := some a0) dX1_does_200 rfl ?_
  refine kg_getr (a := a0) (j := 6) rfl gfX1_29 hk1 dX1_does_201 ?_
  obtain ⟨a2, ea2, hk3, h⟩ := h
  refine kg_getr (a := a2) (j := 1) ea2 gfX1_157 hk3 dX1_does_204 ?_
  refine jg_callv (rest := []) (kg_lkV (As := [va_rf (gr σ a2 1)]) (a := a2) (c := 2) kgX3_name_2 (by decide) rfl hk3 q1827 rfl (by rw [ea2]; rfl) dX1_does_207) cwX3_name (Nat.le_of_ble_eq_true rfl) rfl dX1_does_207 (Nat.succ_le_succ (Nat.zero_le _)) (h.mono (onV_mono (fun t4 h hlt4 => ?_) (fun _ _ h => h)))
  replace h := h hlt4
  replace hk1 := hlt4.tag hk1 (by decide)
  replace hk3 := hlt4.tag hk3 (by decide)
  refine j_aload_n (r := some a0) dX1_does_210 rfl ?_
  refine kg_getr (a := a0) (j := 6) rfl gfX1_29 hk1 dX1_does_211 ?_
  refine j_bipush (v := iI 32) dX1_does_214 rfl ?_
  obtain ⟨a6, ea6, hk7, h⟩ := h
  refine jg_callv (rest := []) (kg_lkV (As := [.int (iI 32)]) (a := a6) (c := 2) kgX3_put_2 (by decide) rfl hk7 q1823 rfl (by rw [ea6]; rfl) dX1_does_216) cwX3_put (Nat.le_of_ble_eq_true rfl) rfl dX1_does_216 (Nat.succ_le_succ (Nat.zero_le _)) (h.mono (onV_mono (fun t8 h hlt8 => ?_) (fun _ _ h => h)))
  replace h := h hlt8
  replace hk1 := hlt8.tag hk1 (by decide)
  replace hk3 := hlt8.tag hk3 (by decide)
  replace hk7 := hlt8.tag hk7 (by decide)
  refine j_aload_n (r := some a0) dX1_does_219 rfl ?_
  refine kg_getr (a := a0) (j := 6) rfl gfX1_29 hk1 dX1_does_220 ?_
  refine j_aload_n (r := some a0) dX1_does_223 rfl ?_
  refine kg_getr (a := a0) (j := 6) rfl gfX1_29 hk1 dX1_does_224 ?_
  obtain ⟨a10, ea10, hk11, h⟩ := h
  refine kg_getr (a := a10) (j := 3) ea10 gfX1_166 hk11 dX1_does_227 ?_
  refine jg_calli (rest := [va_rf (gr t8 a0 6)]) (kg_lkS (As := [va_rf (gr t8 a10 3)]) ktX19_size q1828 rfl rfl dX1_does_230) cwX19_size (rm_ok (cat1_cons (rf_cat _) cat1_nil) (Nat.le_of_ble_eq_true rfl)) rfl dX1_does_230 (Nat.succ_le_succ (Nat.zero_le _)) (h.mono (onI_mono (fun r13 t12 h hlt12 => ?_) (fun _ _ h => h)))
  replace h := h hlt12
  replace hk1 := hlt12.tag hk1 (by decide)
  replace hk3 := hlt12.tag hk3 (by decide)
  replace hk7 := hlt12.tag hk7 (by decide)
  replace hk11 := hlt12.tag hk11 (by decide)
  refine jg_callv (rest := []) (kg_lkV (As := [.int r13]) (a := a10) (c := 2) kgX3_number_2 (by decide) rfl hk11 q1829 rfl (by rw [ea10]; rfl) dX1_does_233) cwX3_number (Nat.le_of_ble_eq_true rfl) rfl dX1_does_233 (Nat.succ_le_succ (Nat.zero_le _)) (h.mono (onV_mono (fun t14 h hlt14 => ?_) (fun _ _ h => h)))
  replace h := h hlt14
  replace hk1 := hlt14.tag hk1 (by decide)
  replace hk3 := hlt14.tag hk3 (by decide)
  replace hk7 := hlt14.tag hk7 (by decide)
  replace hk11 := hlt14.tag hk11 (by decide)
  refine j_aload_n (r := some a0) dX1_does_236 rfl ?_
  refine kg_getr (a := a0) (j := 6) rfl gfX1_29 hk1 dX1_does_237 ?_
  refine j_bipush (v := iI 10) dX1_does_240 rfl ?_
  obtain ⟨a16, ea16, hk17, h⟩ := h
  refine jg_callv (rest := []) (kg_lkV (As := [.int (iI 10)]) (a := a16) (c := 2) kgX3_put_2 (by decide) rfl hk17 q1823 rfl (by rw [ea16]; rfl) dX1_does_242) cwX3_put (Nat.le_of_ble_eq_true rfl) rfl dX1_does_242 (Nat.succ_le_succ (Nat.zero_le _)) (h.mono (onV_mono (fun t18 h hlt18 => ?_) (fun _ _ h => h)))
  replace h := h hlt18
  replace hk1 := hlt18.tag hk1 (by decide)
  replace hk3 := hlt18.tag hk3 (by decide)
  replace hk7 := hlt18.tag hk7 (by decide)
  replace hk11 := hlt18.tag hk11 (by decide)
  replace hk17 := hlt18.tag hk17 (by decide)
  refine j_goto 329 dX1_does_245 (by decide) ?_
  exact j_return rfl dX1_does_329 h
theorem tX1_table {G : GPl} {s0 : State} {l : Launch} {K : Nat → Option Nat} {T : Nat → Nat} {lev : Nat} {Q : Outcome → GSt → Prop} {a0 : Nat} {x1 : Option Nat} {σ : GSt} (h : (gk σ a0 = 1 ∧ (∃ a2, gr σ a0 7 = some a2 ∧ (gk σ a2 = 4 ∧ (∃ a4, gr σ a2 2 = some a4 ∧ (gk σ a4 = 22 ∧ (CQ (wP G s0 l K T) mJ2_size lev (.ref a4 :: []) σ (onI (fun r7 t6 => gle σ t6 → ((r7 ≤ 0 → (∃ a8, x1 = some a8 ∧ (gk t6 a8 = 6 ∧ (((gr t6 a8 0) = (K 6) → (∃ a48, gr t6 a8 2 = some a48 ∧ (gk t6 a48 = 104 ∧ (inr (iI 0) (gl t6 a48) ∧ (∃ a51, gr t6 a0 5 = some a51 ∧ (gk t6 a51 = 2 ∧ (CQ (wP G s0 l K T) mX2_find lev (.ref a51 :: [va_rf (gr t6 a48 (ix (iI 0)))]) t6 (onI (fun r54 t53 => gle t6 t53 → ((r54 = (iI (-1)) → (∃ a55, gr t53 a0 5 = some a55 ∧ (gk t53 a55 = 2 ∧ (((gi t53 a55 3) = (iI 8) → (groom G 8 t53 ∧ (∃ a64, gr (gmk 7 8 t53) a8 3 = some a64 ∧ (gk (gmk 7 8 t53) a64 = 101 ∧ (inr (iI 0) (gl (gmk 7 8 t53) a64) ∧ (CQ (wP G s0 l K T) mX8_init lev (.ref (gn t53) :: [.int (iI 5), .int (gi (gmk 7 8 t53) a64 (ix (iI 0)))]) (gmk 7 8 t53) (onV (fun t67 => gle (gmk 7 8 t53) t67 → Q (.threw (gn t53)) t67) (fun x t => gle (gmk 7 8 t53) t → Q (.threw x) t)))))))) ∧ (¬ (gi t53 a55 3) = (iI 8) → (∃ a57, gr t53 a8 2 = some a57 ∧ (gk t53 a57 = 104 ∧ (inr (iI 0) (gl t53 a57) ∧ (CQ (wP G s0 l K T) mX2_add lev (.ref a55 :: [va_rf (gr t53 a57 (ix (iI 0)))]) t53 (onV (fun t60 => gle t53 t60 → Q (.returned none) t60) (fun x t => gle t53 t → Q (.threw x) t))))))))))) ∧ (¬ r54 = (iI (-1)) → (groom G 8 t53 ∧ (∃ a72, gr (gmk 7 8 t53) a8 3 = some a72 ∧ (gk (gmk 7 8 t53) a72 = 101 ∧ (inr (iI 0) (gl (gmk 7 8 t53) a72) ∧ (CQ (wP G s0 l K T) mX8_init lev (.ref (gn t53) :: [.int (iI 4), .int (gi (gmk 7 8 t53) a72 (ix (iI 0)))]) (gmk 7 8 t53) (onV (fun t75 => gle (gmk 7 8 t53) t75 → Q (.threw (gn t53)) t75) (fun x t => gle (gmk 7 8 t53) t → Q (.threw x) t)))))))))) (fun x t => gle t6 t → Q (.threw x) t))))))))) ∧ (¬ (gr t6 a8 0) = (K 6) → (CQ (wP G s0 l K T) mX1_sortAt lev (.ref a0 :: [va_rf x1, .int (iI 0)]) t6 (onI (fun r11 t10 => gle t6 t10 → (CQ (wP G s0 l K T) mX1_sortAt lev (.ref a0 :: [va_rf x1, .int (iI 1)]) t10 (onI (fun r13 t12 => gle t10 t12 → (((gr t12 a8 0) = (K 7) → (∃ a33, gr t12 a0 5 = some a33 ∧ (gk t12 a33 = 2 ∧ (∃ a35, gr t12 a33 1 = some a35 ∧ (gk t12 a35 = 101 ∧ (inr r11 (gl t12 a35) ∧ (((gi t12 a35 (ix r11)) = (iI (-1)) → (inr r11 (gl t12 a35) ∧ Q (.returned none) (gpi a35 (ix r11) r13 t12))) ∧ (¬ (gi t12 a35 (ix r11)) = (iI (-1)) → (groom G 8 t12 ∧ (∃ a41, gr (gmk 7 8 t12) a8 3 = some a41 ∧ (gk (gmk 7 8 t12) a41 = 101 ∧ (inr (iI 0) (gl (gmk 7 8 t12) a41) ∧ (CQ (wP G s0 l K T) mX8_init lev (.ref (gn t12) :: [.int (iI 4), .int (gi (gmk 7 8 t12) a41 (ix (iI 0)))]) (gmk 7 8 t12) (onV (fun t44 => gle (gmk 7 8 t12) t44 → Q (.threw (gn t12)) t44) (fun x t => gle (gmk 7 8 t12) t → Q (.threw x) t))))))))))))))) ∧ (¬ (gr t12 a8 0) = (K 7) → (CQ (wP G s0 l K T) mX1_sortAt lev (.ref a0 :: [va_rf x1, .int (iI 2)]) t12 (onI (fun r15 t14 => gle t12 t14 → (∃ a16, gr t14 a0 5 = some a16 ∧ (gk t14 a16 = 2 ∧ (CQ (wP G s0 l K T) mX2_rule lev (.ref a16 :: [.int r11, .int r13]) t14 (onI (fun r19 t18 => gle t14 t18 → ((r19 = (iI (-1)) → (∃ a20, gr t18 a0 5 = some a20 ∧ (gk t18 a20 = 2 ∧ (∃ a22, gr t18 a20 2 = some a22 ∧ (gk t18 a22 = 101 ∧ (inr (((iI 8) * r11) + r13) (gl t18 a22) ∧ Q (.returned none) (gpi a22 (ix (((iI 8) * r11) + r13)) r15 t18))))))) ∧ (¬ r19 = (iI (-1)) → (groom G 8 t18 ∧ (∃ a27, gr (gmk 7 8 t18) a8 3 = some a27 ∧ (gk (gmk 7 8 t18) a27 = 101 ∧ (inr (iI 0) (gl (gmk 7 8 t18) a27) ∧ (CQ (wP G s0 l K T) mX8_init lev (.ref (gn t18) :: [.int (iI 4), .int (gi (gmk 7 8 t18) a27 (ix (iI 0)))]) (gmk 7 8 t18) (onV (fun t30 => gle (gmk 7 8 t18) t30 → Q (.threw (gn t18)) t30) (fun x t => gle (gmk 7 8 t18) t → Q (.threw x) t)))))))))) (fun x t => gle t14 t → Q (.threw x) t)))))) (fun x t => gle t12 t → Q (.threw x) t)))))) (fun x t => gle t10 t → Q (.threw x) t)))) (fun x t => gle t6 t → Q (.threw x) t)))))))) ∧ (¬ r7 ≤ 0 → (groom G 8 t6 ∧ (∃ a81, x1 = some a81 ∧ (gk (gmk 7 8 t6) a81 = 6 ∧ (CQ (wP G s0 l K T) mX8_init lev (.ref (gn t6) :: [.int (iI 6), .int (gi (gmk 7 8 t6) a81 1)]) (gmk 7 8 t6) (onV (fun t83 => gle (gmk 7 8 t6) t83 → Q (.threw (gn t6)) t83) (fun x t => gle (gmk 7 8 t6) t → Q (.threw x) t))))))))) (fun x t => gle σ t → Q (.threw x) t))))))))) : CQ (wP G s0 l K T) mX1_table (lev + 1) [.ref a0, va_rf x1] σ Q := by
  refine CQ.of3 3 (lv := [some (va_rf (some a0)), some (va_rf x1), none, none, none]) (by decide) (Nat.le_of_ble_eq_true rfl) (cat1_cons rfl (cat1_cons (rf_cat _) cat1_nil)) rfl ?_
  refine j_aload_n (r := some a0) dX1_table_0 rfl ?_
  obtain ⟨hk1, h⟩ := h
  refine kg_getr (a := a0) (j := 7) rfl gfX1_38 hk1 dX1_table_1 ?_
  obtain ⟨a2, ea2, hk3, h⟩ := h
  refine kg_getr (a := a2) (j := 2) ea2 gfX1_206 hk3 dX1_table_4 ?_
  obtain ⟨a4, ea4, hk5, h⟩ := h
  refine jg_calli (rest := []) (kg_lkV (As := []) (a := a4) (c := 21) kgJ2_size_21 (by decide) rfl hk5 q1326 rfl (by rw [ea4]; rfl) dX1_table_7) cwJ2_size (Nat.le_of_ble_eq_true rfl) rfl dX1_table_7 (Nat.succ_le_succ (Nat.zero_le _)) (h.mono (onI_mono (fun r7 t6 h hlt6 => ?_) (fun _ _ h => h)))
  replace h := h hlt6
  replace hk1 := hlt6.tag hk1 (by decide)
  replace hk3 := hlt6.tag hk3 (by decide)
  replace hk5 := hlt6.tag hk5 (by decide)
  refine j_if_le 27 dX1_table_10 (by decide) (fun c85 => ?_) (fun c85 => ?_)
  · replace h := h.1 c85
    refine j_aload_n (r := x1) dX1_table_27 rfl ?_
    obtain ⟨a8, ea8, hk9, h⟩ := h
    refine kg_getr (a := a8) (j := 0) ea8 gfX1_117 hk9 dX1_table_28 ?_
    refine jg_gets (i := 6) rfl flX1_210 dX1_table_31 ?_
    refine j_acmp_ne (x := gr t6 a8 0) (y := K 6) 110 dX1_table_34 (by decide) (fun c78 => ?_) (fun c78 => ?_)
    · replace h := h.2 c78
      refine j_aload_n (r := some a0) dX1_table_110 rfl ?_
      refine j_aload_n (r := x1) dX1_table_111 rfl ?_
      refine j_iconst (v := iI 0) dX1_table_112 rfl ?_
      refine jg_calli (rest := []) (kg_lkV (As := [va_rf x1, .int (iI 0)]) (a := a0) (c := 0) kgX1_sortAt_0 (by decide) rfl hk1 q1355 rfl rfl dX1_table_113) cwX1_sortAt (Nat.le_of_ble_eq_true rfl) rfl dX1_table_113 (Nat.succ_le_succ (Nat.zero_le _)) (h.mono (onI_mono (fun r11 t10 h hlt10 => ?_) (fun _ _ h => h)))
      replace h := h hlt10
      replace hk1 := hlt10.tag hk1 (by decide)
      replace hk3 := hlt10.tag hk3 (by decide)
      replace hk5 := hlt10.tag hk5 (by decide)
      replace hk9 := hlt10.tag hk9 (by decide)
      refine j_istore_n (lv' := [some (va_rf (some a0)), some (va_rf x1), some (.int r11), none, none]) dX1_table_116 (by decide) rfl ?_
      refine j_aload_n (r := some a0) dX1_table_117 rfl ?_
      refine j_aload_n (r := x1) dX1_table_118 rfl ?_
      refine j_iconst (v := iI 1) dX1_table_119 rfl ?_
      refine jg_calli (rest := []) (kg_lkV (As := [va_rf x1, .int (iI 1)]) (a := a0) (c := 0) kgX1_sortAt_0 (by decide) rfl hk1 q1355 rfl rfl dX1_table_120) cwX1_sortAt (Nat.le_of_ble_eq_true rfl) rfl dX1_table_120 (Nat.succ_le_succ (Nat.zero_le _)) (h.mono (onI_mono (fun r13 t12 h hlt12 => ?_) (fun _ _ h => h)))
      replace h := h hlt12
      replace hk1 := hlt12.tag hk1 (by decide)
      replace hk3 := hlt12.tag hk3 (by decide)
      replace hk5 := hlt12.tag hk5 (by decide)
      replace hk9 := hlt12.tag hk9 (by decide)
      refine j_istore_n (lv' := [some (va_rf (some a0)), some (va_rf x1), some (.int r11), some (.int r13), none]) dX1_table_123 (by decide) rfl ?_
      refine j_aload_n (r := x1) dX1_table_124 rfl ?_
      refine kg_getr (a := a8) (j := 0) ea8 gfX1_117 hk9 dX1_table_125 ?_
      refine jg_gets (i := 7) rfl flX1_223 dX1_table_128 ?_
      refine j_acmp_ne (x := gr t12 a8 0) (y := K 7) 173 dX1_table_131 (by decide) (fun c47 => ?_) (fun c47 => ?_)
      · replace h := h.2 c47
        refine j_aload_n (r := some a0) dX1_table_173 rfl ?_
        refine j_aload_n (r := x1) dX1_table_174 rfl ?_
        refine j_iconst (v := iI 2) dX1_table_175 rfl ?_
        refine jg_calli (rest := []) (kg_lkV (As := [va_rf x1, .int (iI 2)]) (a := a0) (c := 0) kgX1_sortAt_0 (by decide) rfl hk1 q1355 rfl rfl dX1_table_176) cwX1_sortAt (Nat.le_of_ble_eq_true rfl) rfl dX1_table_176 (Nat.succ_le_succ (Nat.zero_le _)) (h.mono (onI_mono (fun r15 t14 h hlt14 => ?_) (fun _ _ h => h)))
        replace h := h hlt14
        replace hk1 := hlt14.tag hk1 (by decide)
        replace hk3 := hlt14.tag hk3 (by decide)
        replace hk5 := hlt14.tag hk5 (by decide)
        replace hk9 := hlt14.tag hk9 (by decide)
        refine j_istore (lv' := [some (va_rf (some a0)), some (va_rf x1), some (.int r11), some (.int r13), some (.int r15)]) dX1_table_179 (by decide) rfl ?_
        refine j_aload_n (r := some a0) dX1_table_181 rfl ?_
        refine kg_getr (a := a0) (j := 5) rfl gfX1_20 hk1 dX1_table_182 ?_
        refine j_iload_n dX1_table_185 rfl ?_
        refine j_iload_n dX1_table_186 rfl ?_
        obtain ⟨a16, ea16, hk17, h⟩ := h
        refine jg_calli (rest := []) (kg_lkV (As := [.int r11, .int r13]) (a := a16) (c := 1) kgX2_rule_1 (by decide) rfl hk17 q1360 rfl (by rw [ea16]; rfl) dX1_table_187) cwX2_rule (Nat.le_of_ble_eq_true rfl) rfl dX1_table_187 (Nat.succ_le_succ (Nat.zero_le _)) (h.mono (onI_mono (fun r19 t18 h hlt18 => ?_) (fun _ _ h => h)))
        replace h := h hlt18
        replace hk1 := hlt18.tag hk1 (by decide)
        replace hk3 := hlt18.tag hk3 (by decide)
        replace hk5 := hlt18.tag hk5 (by decide)
        replace hk9 := hlt18.tag hk9 (by decide)
        replace hk17 := hlt18.tag hk17 (by decide)
        refine j_iconst (v := iI (-1)) dX1_table_190 rfl ?_
        refine j_icmp_eq 209 dX1_table_191 (by decide) (fun c32 => ?_) (fun c32 => ?_)
        · replace h := h.1 c32
          refine j_aload_n (r := some a0) dX1_table_209 rfl ?_
          refine kg_getr (a := a0) (j := 5) rfl gfX1_20 hk1 dX1_table_210 ?_
          obtain ⟨a20, ea20, hk21, h⟩ := h
          refine kg_getr (a := a20) (j := 2) ea20 gfX1_233 hk21 dX1_table_213 ?_
          refine j_bipush (v := iI 8) dX1_table_216 rfl ?_
          refine j_iload_n dX1_table_218 rfl ?_
          refine j_imul dX1_table_219 ?_
          refine j_iload_n dX1_table_220 rfl ?_
          refine j_iadd dX1_table_221 ?_
          refine j_iload dX1_table_222 rfl ?_
          obtain ⟨a22, ea22, hk23, hi24, h⟩ := h
          refine kg_ast (a := a22) ea22 hk23 hi24 dX1_table_224 ?_
          exact j_return rfl dX1_table_225 h
        · replace h := h.2 c32
          obtain ⟨hg25, h⟩ := h
          refine jg_new (c := 6) (N := 8) (C := "PureHouse$Fault") (by decide) ⟨rfl, rfl⟩ q375 q989 q143 hg25 dX1_table_194 ?_
          replace hk1 := gk_mk (t := 7) (n := 8) hk1 (by decide)
          replace hk3 := gk_mk (t := 7) (n := 8) hk3 (by decide)
          replace hk5 := gk_mk (t := 7) (n := 8) hk5 (by decide)
          replace hk9 := gk_mk (t := 7) (n := 8) hk9 (by decide)
          replace hk17 := gk_mk (t := 7) (n := 8) hk17 (by decide)
          have hk26 := gk_new (t := 7) (n := 8) hg25.2.2
          refine j_dup dX1_table_197 rfl ?_
          refine j_iconst (v := iI 4) dX1_table_198 rfl ?_
          refine j_aload_n (r := x1) dX1_table_199 rfl ?_
          refine kg_getr (a := a8) (j := 3) ea8 gfX1_200 hk9 dX1_table_200 ?_
          refine j_iconst (v := iI 0) dX1_table_203 rfl ?_
          obtain ⟨a27, ea27, hk28, hi29, h⟩ := h
          refine kg_ald (a := a27) ea27 hk28 hi29 dX1_table_204 ?_
          refine jg_callv (rest := [va_rf (some (gn t18))]) (kg_lkI (As := [.int (iI 4), .int (gi (gmk 7 8 t18) a27 (ix (iI 0)))]) (a := (gn t18)) kiX8_init (Or.inl q1347) rfl rfl dX1_table_205) cwX8_init (Nat.le_of_ble_eq_true rfl) rfl dX1_table_205 (Nat.succ_le_succ (Nat.zero_le _)) (h.mono (onV_mono (fun t30 h hlt30 => ?_) (fun _ _ h => h)))
          replace h := h hlt30
          replace hk1 := hlt30.tag hk1 (by decide)
          replace hk3 := hlt30.tag hk3 (by decide)
          replace hk5 := hlt30.tag hk5 (by decide)
          replace hk9 := hlt30.tag hk9 (by decide)
          replace hk17 := hlt30.tag hk17 (by decide)
          replace hk26 := hlt30.tag hk26 (by decide)
          replace hk28 := hlt30.tag hk28 (by decide)
          exact kg_athrow (a := (gn t18)) rfl rfl dX1_table_208 h
      · replace h := h.1 c47
        refine j_aload_n (r := some a0) dX1_table_134 rfl ?_
        refine kg_getr (a := a0) (j := 5) rfl gfX1_20 hk1 dX1_table_135 ?_
        obtain ⟨a33, ea33, hk34, h⟩ := h
        refine kg_getr (a := a33) (j := 1) ea33 gfX1_226 hk34 dX1_table_138 ?_
        refine j_iload_n dX1_table_141 rfl ?_
        obtain ⟨a35, ea35, hk36, hi37, h⟩ := h
        refine kg_ald (a := a35) ea35 hk36 hi37 dX1_table_142 ?_
        refine j_iconst (v := iI (-1)) dX1_table_143 rfl ?_
        refine j_icmp_eq 162 dX1_table_144 (by decide) (fun c46 => ?_) (fun c46 => ?_)
        · replace h := h.1 c46
          refine j_aload_n (r := some a0) dX1_table_162 rfl ?_
          refine kg_getr (a := a0) (j := 5) rfl gfX1_20 hk1 dX1_table_163 ?_
          refine kg_getr (a := a33) (j := 1) ea33 gfX1_226 hk34 dX1_table_166 ?_
          refine j_iload_n dX1_table_169 rfl ?_
          refine j_iload_n dX1_table_170 rfl ?_
          obtain ⟨hi38, h⟩ := h
          refine kg_ast (a := a35) ea35 hk36 hi38 dX1_table_171 ?_
          exact j_return rfl dX1_table_172 h
        · replace h := h.2 c46
          obtain ⟨hg39, h⟩ := h
          refine jg_new (c := 6) (N := 8) (C := "PureHouse$Fault") (by decide) ⟨rfl, rfl⟩ q375 q989 q143 hg39 dX1_table_147 ?_
          replace hk1 := gk_mk (t := 7) (n := 8) hk1 (by decide)
          replace hk3 := gk_mk (t := 7) (n := 8) hk3 (by decide)
          replace hk5 := gk_mk (t := 7) (n := 8) hk5 (by decide)
          replace hk9 := gk_mk (t := 7) (n := 8) hk9 (by decide)
          replace hk34 := gk_mk (t := 7) (n := 8) hk34 (by decide)
          replace hk36 := gk_mk (t := 7) (n := 8) hk36 (by decide)
          have hk40 := gk_new (t := 7) (n := 8) hg39.2.2
          refine j_dup dX1_table_150 rfl ?_
          refine j_iconst (v := iI 4) dX1_table_151 rfl ?_
          refine j_aload_n (r := x1) dX1_table_152 rfl ?_
          refine kg_getr (a := a8) (j := 3) ea8 gfX1_200 hk9 dX1_table_153 ?_
          refine j_iconst (v := iI 0) dX1_table_156 rfl ?_
          obtain ⟨a41, ea41, hk42, hi43, h⟩ := h
          refine kg_ald (a := a41) ea41 hk42 hi43 dX1_table_157 ?_
          refine jg_callv (rest := [va_rf (some (gn t12))]) (kg_lkI (As := [.int (iI 4), .int (gi (gmk 7 8 t12) a41 (ix (iI 0)))]) (a := (gn t12)) kiX8_init (Or.inl q1347) rfl rfl dX1_table_158) cwX8_init (Nat.le_of_ble_eq_true rfl) rfl dX1_table_158 (Nat.succ_le_succ (Nat.zero_le _)) (h.mono (onV_mono (fun t44 h hlt44 => ?_) (fun _ _ h => h)))
          replace h := h hlt44
          replace hk1 := hlt44.tag hk1 (by decide)
          replace hk3 := hlt44.tag hk3 (by decide)
          replace hk5 := hlt44.tag hk5 (by decide)
          replace hk9 := hlt44.tag hk9 (by decide)
          replace hk34 := hlt44.tag hk34 (by decide)
          replace hk36 := hlt44.tag hk36 (by decide)
          replace hk40 := hlt44.tag hk40 (by decide)
          replace hk42 := hlt44.tag hk42 (by decide)
          exact kg_athrow (a := (gn t12)) rfl rfl dX1_table_161 h
    · replace h := h.1 c78
      refine j_aload_n (r := some a0) dX1_table_37 rfl ?_
      refine kg_getr (a := a0) (j := 5) rfl gfX1_20 hk1 dX1_table_38 ?_
      refine j_aload_n (r := x1) dX1_table_41 rfl ?_
      refine kg_getr (a := a8) (j := 2) ea8 gfX1_192 hk9 dX1_table_42 ?_
      refine j_iconst (v := iI 0) dX1_table_45 rfl ?_
      obtain ⟨a48, ea48, hk49, hi50, h⟩ := h
      refine kg_aald (a := a48) ea48 hk49 (by decide) hi50 dX1_table_46 ?_
      obtain ⟨a51, ea51, hk52, h⟩ := h
      refine jg_calli (rest := []) (kg_lkV (As := [va_rf (gr t6 a48 (ix (iI 0)))]) (a := a51) (c := 1) kgX2_find_1 (by decide) rfl hk52 q1349 rfl (by rw [ea51]; rfl) dX1_table_47) cwX2_find (Nat.le_of_ble_eq_true rfl) rfl dX1_table_47 (Nat.succ_le_succ (Nat.zero_le _)) (h.mono (onI_mono (fun r54 t53 h hlt53 => ?_) (fun _ _ h => h)))
      replace h := h hlt53
      replace hk1 := hlt53.tag hk1 (by decide)
      replace hk3 := hlt53.tag hk3 (by decide)
      replace hk5 := hlt53.tag hk5 (by decide)
      replace hk9 := hlt53.tag hk9 (by decide)
      replace hk49 := hlt53.tag hk49 (by decide)
      replace hk52 := hlt53.tag hk52 (by decide)
      refine j_iconst (v := iI (-1)) dX1_table_50 rfl ?_
      refine j_icmp_eq 69 dX1_table_51 (by decide) (fun c77 => ?_) (fun c77 => ?_)
      · replace h := h.1 c77
        refine j_aload_n (r := some a0) dX1_table_69 rfl ?_
        refine kg_getr (a := a0) (j := 5) rfl gfX1_20 hk1 dX1_table_70 ?_
        obtain ⟨a55, ea55, hk56, h⟩ := h
        refine kg_geti (a := a55) (j := 3) ea55 gfX1_213 (by decide) hk56 dX1_table_73 ?_
        refine j_bipush (v := iI 8) dX1_table_76 rfl ?_
        refine j_icmp_ne 96 dX1_table_78 (by decide) (fun c69 => ?_) (fun c69 => ?_)
        · replace h := h.2 c69
          refine j_aload_n (r := some a0) dX1_table_96 rfl ?_
          refine kg_getr (a := a0) (j := 5) rfl gfX1_20 hk1 dX1_table_97 ?_
          refine j_aload_n (r := x1) dX1_table_100 rfl ?_
          refine kg_getr (a := a8) (j := 2) ea8 gfX1_192 hk9 dX1_table_101 ?_
          refine j_iconst (v := iI 0) dX1_table_104 rfl ?_
          obtain ⟨a57, ea57, hk58, hi59, h⟩ := h
          refine kg_aald (a := a57) ea57 hk58 (by decide) hi59 dX1_table_105 ?_
          refine jg_callv (rest := []) (kg_lkV (As := [va_rf (gr t53 a57 (ix (iI 0)))]) (a := a55) (c := 1) kgX2_add_1 (by decide) rfl hk56 q1354 rfl (by rw [ea55]; rfl) dX1_table_106) cwX2_add (Nat.le_of_ble_eq_true rfl) rfl dX1_table_106 (Nat.succ_le_succ (Nat.zero_le _)) (h.mono (onV_mono (fun t60 h hlt60 => ?_) (fun _ _ h => h)))
          replace h := h hlt60
          replace hk1 := hlt60.tag hk1 (by decide)
          replace hk3 := hlt60.tag hk3 (by decide)
          replace hk5 := hlt60.tag hk5 (by decide)
          replace hk9 := hlt60.tag hk9 (by decide)
          replace hk49 := hlt60.tag hk49 (by decide)
          replace hk52 := hlt60.tag hk52 (by decide)
          replace hk56 := hlt60.tag hk56 (by decide)
          replace hk58 := hlt60.tag hk58 (by decide)
          exact j_return rfl dX1_table_109 h
        · replace h := h.1 c69
          obtain ⟨hg62, h⟩ := h
          refine jg_new (c := 6) (N := 8) (C := "PureHouse$Fault") (by decide) ⟨rfl, rfl⟩ q375 q989 q143 hg62 dX1_table_81 ?_
          replace hk1 := gk_mk (t := 7) (n := 8) hk1 (by decide)
          replace hk3 := gk_mk (t := 7) (n := 8) hk3 (by decide)
          replace hk5 := gk_mk (t := 7) (n := 8) hk5 (by decide)
          replace hk9 := gk_mk (t := 7) (n := 8) hk9 (by decide)
          replace hk49 := gk_mk (t := 7) (n := 8) hk49 (by decide)
          replace hk52 := gk_mk (t := 7) (n := 8) hk52 (by decide)
          replace hk56 := gk_mk (t := 7) (n := 8) hk56 (by decide)
          have hk63 := gk_new (t := 7) (n := 8) hg62.2.2
          refine j_dup dX1_table_84 rfl ?_
          refine j_iconst (v := iI 5) dX1_table_85 rfl ?_
          refine j_aload_n (r := x1) dX1_table_86 rfl ?_
          refine kg_getr (a := a8) (j := 3) ea8 gfX1_200 hk9 dX1_table_87 ?_
          refine j_iconst (v := iI 0) dX1_table_90 rfl ?_
          obtain ⟨a64, ea64, hk65, hi66, h⟩ := h
          refine kg_ald (a := a64) ea64 hk65 hi66 dX1_table_91 ?_
          refine jg_callv (rest := [va_rf (some (gn t53))]) (kg_lkI (As := [.int (iI 5), .int (gi (gmk 7 8 t53) a64 (ix (iI 0)))]) (a := (gn t53)) kiX8_init (Or.inl q1347) rfl rfl dX1_table_92) cwX8_init (Nat.le_of_ble_eq_true rfl) rfl dX1_table_92 (Nat.succ_le_succ (Nat.zero_le _)) (h.mono (onV_mono (fun t67 h hlt67 => ?_) (fun _ _ h => h)))
          replace h := h hlt67
          replace hk1 := hlt67.tag hk1 (by decide)
          replace hk3 := hlt67.tag hk3 (by decide)
          replace hk5 := hlt67.tag hk5 (by decide)
          replace hk9 := hlt67.tag hk9 (by decide)
          replace hk49 := hlt67.tag hk49 (by decide)
          replace hk52 := hlt67.tag hk52 (by decide)
          replace hk56 := hlt67.tag hk56 (by decide)
          replace hk63 := hlt67.tag hk63 (by decide)
          replace hk65 := hlt67.tag hk65 (by decide)
          exact kg_athrow (a := (gn t53)) rfl rfl dX1_table_95 h
      · replace h := h.2 c77
        obtain ⟨hg70, h⟩ := h
        refine jg_new (c := 6) (N := 8) (C := "PureHouse$Fault") (by decide) ⟨rfl, rfl⟩ q375 q989 q143 hg70 dX1_table_54 ?_
        replace hk1 := gk_mk (t := 7) (n := 8) hk1 (by decide)
        replace hk3 := gk_mk (t := 7) (n := 8) hk3 (by decide)
        replace hk5 := gk_mk (t := 7) (n := 8) hk5 (by decide)
        replace hk9 := gk_mk (t := 7) (n := 8) hk9 (by decide)
        replace hk49 := gk_mk (t := 7) (n := 8) hk49 (by decide)
        replace hk52 := gk_mk (t := 7) (n := 8) hk52 (by decide)
        have hk71 := gk_new (t := 7) (n := 8) hg70.2.2
        refine j_dup dX1_table_57 rfl ?_
        refine j_iconst (v := iI 4) dX1_table_58 rfl ?_
        refine j_aload_n (r := x1) dX1_table_59 rfl ?_
        refine kg_getr (a := a8) (j := 3) ea8 gfX1_200 hk9 dX1_table_60 ?_
        refine j_iconst (v := iI 0) dX1_table_63 rfl ?_
        obtain ⟨a72, ea72, hk73, hi74, h⟩ := h
        refine kg_ald (a := a72) ea72 hk73 hi74 dX1_table_64 ?_
        refine jg_callv (rest := [va_rf (some (gn t53))]) (kg_lkI (As := [.int (iI 4), .int (gi (gmk 7 8 t53) a72 (ix (iI 0)))]) (a := (gn t53)) kiX8_init (Or.inl q1347) rfl rfl dX1_table_65) cwX8_init (Nat.le_of_ble_eq_true rfl) rfl dX1_table_65 (Nat.succ_le_succ (Nat.zero_le _)) (h.mono (onV_mono (fun t75 h hlt75 => ?_) (fun _ _ h => h)))
        replace h := h hlt75
        replace hk1 := hlt75.tag hk1 (by decide)
        replace hk3 := hlt75.tag hk3 (by decide)
        replace hk5 := hlt75.tag hk5 (by decide)
        replace hk9 := hlt75.tag hk9 (by decide)
        replace hk49 := hlt75.tag hk49 (by decide)
        replace hk52 := hlt75.tag hk52 (by decide)
        replace hk71 := hlt75.tag hk71 (by decide)
        replace hk73 := hlt75.tag hk73 (by decide)
        exact kg_athrow (a := (gn t53)) rfl rfl dX1_table_68 h
  · replace h := h.2 c85
    obtain ⟨hg79, h⟩ := h
    refine jg_new (c := 6) (N := 8) (C := "PureHouse$Fault") (by decide) ⟨rfl, rfl⟩ q375 q989 q143 hg79 dX1_table_13 ?_
    replace hk1 := gk_mk (t := 7) (n := 8) hk1 (by decide)
    replace hk3 := gk_mk (t := 7) (n := 8) hk3 (by decide)
    replace hk5 := gk_mk (t := 7) (n := 8) hk5 (by decide)
    have hk80 := gk_new (t := 7) (n := 8) hg79.2.2
    refine j_dup dX1_table_16 rfl ?_
    refine j_bipush (v := iI 6) dX1_table_17 rfl ?_
    refine j_aload_n (r := x1) dX1_table_19 rfl ?_
    obtain ⟨a81, ea81, hk82, h⟩ := h
    refine kg_geti (a := a81) (j := 1) ea81 gfX1_99 (by decide) hk82 dX1_table_20 ?_
    refine jg_callv (rest := [va_rf (some (gn t6))]) (kg_lkI (As := [.int (iI 6), .int (gi (gmk 7 8 t6) a81 1)]) (a := (gn t6)) kiX8_init (Or.inl q1347) rfl rfl dX1_table_23) cwX8_init (Nat.le_of_ble_eq_true rfl) rfl dX1_table_23 (Nat.succ_le_succ (Nat.zero_le _)) (h.mono (onV_mono (fun t83 h hlt83 => ?_) (fun _ _ h => h)))
    replace h := h hlt83
    replace hk1 := hlt83.tag hk1 (by decide)
    replace hk3 := hlt83.tag hk3 (by decide)
    replace hk5 := hlt83.tag hk5 (by decide)
    replace hk80 := hlt83.tag hk80 (by decide)
    replace hk82 := hlt83.tag hk82 (by decide)
    exact kg_athrow (a := (gn t6)) rfl rfl dX1_table_26 h
theorem tX1_sortAt {G : GPl} {s0 : State} {l : Launch} {K : Nat → Option Nat} {T : Nat → Nat} {lev : Nat} {Q : Outcome → GSt → Prop} {a0 : Nat} {x1 : Option Nat} {x2 : Int32} {σ : GSt} (h : (gk σ a0 = 1 ∧ (∃ a2, x1 = some a2 ∧ (gk σ a2 = 6 ∧ (∃ a4, gr σ a2 2 = some a4 ∧ (gk σ a4 = 104 ∧ (inr x2 (gl σ a4) ∧ (∃ a7, gr σ a0 5 = some a7 ∧ (gk σ a7 = 2 ∧ (CQ (wP G s0 l K T) mX2_find lev (.ref a7 :: [va_rf (gr σ a4 (ix x2))]) σ (onI (fun r10 t9 => gle σ t9 → ((r10 = (iI (-1)) → (groom G 8 t9 ∧ (∃ a13, gr (gmk 7 8 t9) a2 3 = some a13 ∧ (gk (gmk 7 8 t9) a13 = 101 ∧ (inr x2 (gl (gmk 7 8 t9) a13) ∧ (CQ (wP G s0 l K T) mX8_init lev (.ref (gn t9) :: [.int (iI 3), .int (gi (gmk 7 8 t9) a13 (ix x2))]) (gmk 7 8 t9) (onV (fun t16 => gle (gmk 7 8 t9) t16 → Q (.threw (gn t9)) t16) (fun x t => gle (gmk 7 8 t9) t → Q (.threw x) t)))))))) ∧ (¬ r10 = (iI (-1)) → Q (.returned (some (.int r10))) t9))) (fun x t => gle σ t → Q (.threw x) t)))))))))))) : CQ (wP G s0 l K T) mX1_sortAt (lev + 1) [.ref a0, va_rf x1, .int x2] σ Q := by
  refine CQ.of3 1 (lv := [some (va_rf (some a0)), some (va_rf x1), some (.int x2), none]) (by decide) (Nat.le_of_ble_eq_true rfl) (cat1_cons rfl (cat1_cons (rf_cat _) (cat1_cons rfl cat1_nil))) rfl ?_
  refine j_aload_n (r := some a0) dX1_sortAt_0 rfl ?_
  obtain ⟨hk1, h⟩ := h
  refine kg_getr (a := a0) (j := 5) rfl gfX1_20 hk1 dX1_sortAt_1 ?_
  refine j_aload_n (r := x1) dX1_sortAt_4 rfl ?_
  obtain ⟨a2, ea2, hk3, h⟩ := h
  refine kg_getr (a := a2) (j := 2) ea2 gfX1_192 hk3 dX1_sortAt_5 ?_
  refine j_iload_n dX1_sortAt_8 rfl ?_
  obtain ⟨a4, ea4, hk5, hi6, h⟩ := h
  refine kg_aald (a := a4) ea4 hk5 (by decide) hi6 dX1_sortAt_9 ?_
  obtain ⟨a7, ea7, hk8, h⟩ := h
  refine jg_calli (rest := []) (kg_lkV (As := [va_rf (gr σ a4 (ix x2))]) (a := a7) (c := 1) kgX2_find_1 (by decide) rfl hk8 q1349 rfl (by rw [ea7]; rfl) dX1_sortAt_10) cwX2_find (Nat.le_of_ble_eq_true rfl) rfl dX1_sortAt_10 (Nat.succ_le_succ (Nat.zero_le _)) (h.mono (onI_mono (fun r10 t9 h hlt9 => ?_) (fun _ _ h => h)))
  replace h := h hlt9
  replace hk1 := hlt9.tag hk1 (by decide)
  replace hk3 := hlt9.tag hk3 (by decide)
  replace hk5 := hlt9.tag hk5 (by decide)
  replace hk8 := hlt9.tag hk8 (by decide)
  refine j_istore_n (lv' := [some (va_rf (some a0)), some (va_rf x1), some (.int x2), some (.int r10)]) dX1_sortAt_13 (by decide) rfl ?_
  refine j_iload_n dX1_sortAt_14 rfl ?_
  refine j_iconst (v := iI (-1)) dX1_sortAt_15 rfl ?_
  refine j_icmp_ne 34 dX1_sortAt_16 (by decide) (fun c18 => ?_) (fun c18 => ?_)
  · replace h := h.2 c18
    refine j_iload_n dX1_sortAt_34 rfl ?_
    exact j_ireturn (ty := .int) rfl rfl dX1_sortAt_35 h
  · replace h := h.1 c18
    obtain ⟨hg11, h⟩ := h
    refine jg_new (c := 6) (N := 8) (C := "PureHouse$Fault") (by decide) ⟨rfl, rfl⟩ q375 q989 q143 hg11 dX1_sortAt_19 ?_
    replace hk1 := gk_mk (t := 7) (n := 8) hk1 (by decide)
    replace hk3 := gk_mk (t := 7) (n := 8) hk3 (by decide)
    replace hk5 := gk_mk (t := 7) (n := 8) hk5 (by decide)
    replace hk8 := gk_mk (t := 7) (n := 8) hk8 (by decide)
    have hk12 := gk_new (t := 7) (n := 8) hg11.2.2
    refine j_dup dX1_sortAt_22 rfl ?_
    refine j_iconst (v := iI 3) dX1_sortAt_23 rfl ?_
    refine j_aload_n (r := x1) dX1_sortAt_24 rfl ?_
    refine kg_getr (a := a2) (j := 3) ea2 gfX1_200 hk3 dX1_sortAt_25 ?_
    refine j_iload_n dX1_sortAt_28 rfl ?_
    obtain ⟨a13, ea13, hk14, hi15, h⟩ := h
    refine kg_ald (a := a13) ea13 hk14 hi15 dX1_sortAt_29 ?_
    refine jg_callv (rest := [va_rf (some (gn t9))]) (kg_lkI (As := [.int (iI 3), .int (gi (gmk 7 8 t9) a13 (ix x2))]) (a := (gn t9)) kiX8_init (Or.inl q1347) rfl rfl dX1_sortAt_30) cwX8_init (Nat.le_of_ble_eq_true rfl) rfl dX1_sortAt_30 (Nat.succ_le_succ (Nat.zero_le _)) (h.mono (onV_mono (fun t16 h hlt16 => ?_) (fun _ _ h => h)))
    replace h := h hlt16
    replace hk1 := hlt16.tag hk1 (by decide)
    replace hk3 := hlt16.tag hk3 (by decide)
    replace hk5 := hlt16.tag hk5 (by decide)
    replace hk8 := hlt16.tag hk8 (by decide)
    replace hk12 := hlt16.tag hk12 (by decide)
    replace hk14 := hlt16.tag hk14 (by decide)
    exact kg_athrow (a := (gn t9)) rfl rfl dX1_sortAt_33 h
abbrev jX1_tells_33 (G : GPl) (s0 : State) (l : Launch) (K : Nat → Option Nat) (T : Nat → Nat) (lev : Nat) (st0 : GSt) (Q : Outcome → GSt → Prop) (a0 : Nat) (x1 : Option Nat) (σ : GSt) : Prop := JQ (wP G s0 l K T) mX1_tells (lev + 1) st0 33 [some (va_rf (some a0)), some (va_rf x1), none, none] [] σ Q
abbrev jX1_tells_141 (G : GPl) (s0 : State) (l : Launch) (K : Nat → Option Nat) (T : Nat → Nat) (lev : Nat) (st0 : GSt) (Q : Outcome → GSt → Prop) (a0 : Nat) (x1 : Option Nat) (x2 : Option Nat) (x3 : Int32) (σ : GSt) : Prop := JQ (wP G s0 l K T) mX1_tells (lev + 1) st0 141 [some (va_rf (some a0)), some (va_rf x1), some (va_rf x2), some (.int x3)] [] σ Q
abbrev jX1_tells_184 (G : GPl) (s0 : State) (l : Launch) (K : Nat → Option Nat) (T : Nat → Nat) (lev : Nat) (st0 : GSt) (Q : Outcome → GSt → Prop) (a0 : Nat) (x1 : Option Nat) (x2 : Option Nat) (σ : GSt) : Prop := JQ (wP G s0 l K T) mX1_tells (lev + 1) st0 184 [some (va_rf (some a0)), some (va_rf x1), some (va_rf x2), none] [] σ Q
theorem tX1_tells {G : GPl} {s0 : State} {l : Launch} {K : Nat → Option Nat} {T : Nat → Nat} {lev : Nat} {Q : Outcome → GSt → Prop} {a0 : Nat} {x1 : Option Nat} {σ : GSt} (h : (gk σ a0 = 1 ∧ (∃ a2, x1 = some a2 ∧ (gk σ a2 = 6 ∧ (∃ a4, gr σ a2 2 = some a4 ∧ (gk σ a4 = 104 ∧ (inr (iI 0) (gl σ a4) ∧ (∃ a7, gr σ a0 7 = some a7 ∧ (gk σ a7 = 4 ∧ (CQ (wP G s0 l K T) mX4_find lev (.ref a7 :: [va_rf (gr σ a4 (ix (iI 0)))]) σ (onR (fun r10 t9 => gle σ t9 → ((r10 = none → (∃ a12, gr t9 a2 2 = some a12 ∧ (gk t9 a12 = 104 ∧ (inr (iI 0) (gl t9 a12) ∧ (∃ a15, gr t9 a0 5 = some a15 ∧ (gk t9 a15 = 2 ∧ (CQ (wP G s0 l K T) mX2_find lev (.ref a15 :: [va_rf (gr t9 a12 (ix (iI 0)))]) t9 (onI (fun r18 t17 => gle t9 t17 → ((r18 = (iI (-1)) → (∃ a19, gr t17 a0 7 = some a19 ∧ (gk t17 a19 = 4 ∧ (∃ a21, gr t17 a19 2 = some a21 ∧ (gk t17 a21 = 22 ∧ (CQ (wP G s0 l K T) mJ2_size lev (.ref a21 :: []) t17 (onI (fun r24 t23 => gle t17 t23 → ((r24 = (iI 100) → (groom G 8 t23 ∧ (∃ a59, gr (gmk 7 8 t23) a2 3 = some a59 ∧ (gk (gmk 7 8 t23) a59 = 101 ∧ (inr (iI 0) (gl (gmk 7 8 t23) a59) ∧ (CQ (wP G s0 l K T) mX8_init lev (.ref (gn t23) :: [.int (iI 5), .int (gi (gmk 7 8 t23) a59 (ix (iI 0)))]) (gmk 7 8 t23) (onV (fun t62 => gle (gmk 7 8 t23) t62 → Q (.threw (gn t23)) t62) (fun x t => gle (gmk 7 8 t23) t → Q (.threw x) t)))))))) ∧ (¬ r24 = (iI 100) → ((gr t23 a2 4 = none → (∃ a26, gr t23 a0 7 = some a26 ∧ (gk t23 a26 = 4 ∧ (CQ (wP G s0 l K T) mX4_judge lev (.ref a26 :: [va_rf (gr t23 a2 5), va_rf none]) t23 (onV (fun t28 => gle t23 t28 → (groom G 4 t28 ∧ (∃ a32, gr (gmk 21 4 t28) a2 2 = some a32 ∧ (gk (gmk 21 4 t28) a32 = 104 ∧ (inr (iI 0) (gl (gmk 21 4 t28) a32) ∧ (∃ a35, gr (gmk 21 4 t28) a0 7 = some a35 ∧ (gk (gmk 21 4 t28) a35 = 4 ∧ (CQ (wP G s0 l K T) mX23_init lev (.ref (gn t28) :: [va_rf (gr (gmk 21 4 t28) a32 (ix (iI 0))), va_rf (gr (gmk 21 4 t28) a35 3), .int (gi (gmk 21 4 t28) a35 5)]) (gmk 21 4 t28) (onV (fun t37 => gle (gmk 21 4 t28) t37 → jX1_tells_184 G s0 l K T lev σ Q a0 x1 (some (gn t28)) t37) (fun x t => gle (gmk 21 4 t28) t → Q (.threw x) t)))))))))) (fun x t => gle t23 t → Q (.threw x) t)))))) ∧ (∀ a25, gr t23 a2 4 = some a25 → (∃ a39, gr t23 a0 7 = some a39 ∧ (gk t23 a39 = 4 ∧ (CQ (wP G s0 l K T) mX4_typeSort lev (.ref a39 :: [va_rf (gr t23 a2 4), va_rf none]) t23 (onI (fun r42 t41 => gle t23 t41 → (groom G 4 t41 ∧ (∃ a45, gr (gmk 21 4 t41) a2 2 = some a45 ∧ (gk (gmk 21 4 t41) a45 = 104 ∧ (inr (iI 0) (gl (gmk 21 4 t41) a45) ∧ (∃ a48, gr (gmk 21 4 t41) a0 7 = some a48 ∧ (gk (gmk 21 4 t41) a48 = 4 ∧ (CQ (wP G s0 l K T) mX4_normal lev (.ref a48 :: [va_rf (gr (gmk 21 4 t41) a2 4), va_rf none]) (gmk 21 4 t41) (onR (fun r51 t50 => gle (gmk 21 4 t41) t50 → (CQ (wP G s0 l K T) mX23_init lev (.ref (gn t41) :: [va_rf (gr (gmk 21 4 t41) a45 (ix (iI 0))), va_rf r51, .int r42]) t50 (onV (fun t52 => gle t50 t52 → ((gr t52 a2 5 = none → jX1_tells_141 G s0 l K T lev σ Q a0 x1 (some (gn t41)) r42 t52) ∧ (∀ a54, gr t52 a2 5 = some a54 → (CQ (wP G s0 l K T) mX1_fits lev (.ref a0 :: [va_rf x1, va_rf (gr t52 (gn t41) 1)]) t52 (onV (fun t55 => gle t52 t55 → jX1_tells_141 G s0 l K T lev σ Q a0 x1 (some (gn t41)) r42 t55) (fun x t => gle t52 t → Q (.threw x) t)))))) (fun x t => gle t50 t → Q (.threw x) t)))) (fun x t => gle (gmk 21 4 t41) t → Q (.threw x) t)))))))))) (fun x t => gle t23 t → Q (.threw x) t)))))))))) (fun x t => gle t17 t → Q (.threw x) t)))))))) ∧ (¬ r18 = (iI (-1)) → jX1_tells_33 G s0 l K T lev σ Q a0 x1 t17))) (fun x t => gle t9 t → Q (.threw x) t))))))))) ∧ (∀ a11, r10 = some a11 → jX1_tells_33 G s0 l K T lev σ Q a0 x1 t9))) (fun x t => gle σ t → Q (.threw x) t)))))))))))) : CQ (wP G s0 l K T) mX1_tells (lev + 1) [.ref a0, va_rf x1] σ Q := by
  refine CQ.of3 2 (lv := [some (va_rf (some a0)), some (va_rf x1), none, none]) (by decide) (Nat.le_of_ble_eq_true rfl) (cat1_cons rfl (cat1_cons (rf_cat _) cat1_nil)) rfl ?_
  refine j_aload_n (r := some a0) dX1_tells_0 rfl ?_
  obtain ⟨hk1, h⟩ := h
  refine kg_getr (a := a0) (j := 7) rfl gfX1_38 hk1 dX1_tells_1 ?_
  refine j_aload_n (r := x1) dX1_tells_4 rfl ?_
  obtain ⟨a2, ea2, hk3, h⟩ := h
  refine kg_getr (a := a2) (j := 2) ea2 gfX1_192 hk3 dX1_tells_5 ?_
  refine j_iconst (v := iI 0) dX1_tells_8 rfl ?_
  obtain ⟨a4, ea4, hk5, hi6, h⟩ := h
  refine kg_aald (a := a4) ea4 hk5 (by decide) hi6 dX1_tells_9 ?_
  obtain ⟨a7, ea7, hk8, h⟩ := h
  refine jg_callr (rest := []) (kg_lkV (As := [va_rf (gr σ a4 (ix (iI 0)))]) (a := a7) (c := 3) kgX4_find_3 (by decide) rfl hk8 q1368 rfl (by rw [ea7]; rfl) dX1_tells_10) cwX4_find (Nat.le_of_ble_eq_true rfl) rfl dX1_tells_10 (Nat.succ_le_succ (Nat.zero_le _)) (h.mono (onR_mono (fun r10 t9 h hlt9 => ?_) (fun _ _ h => h)))
  replace h := h hlt9
  replace hk1 := hlt9.tag hk1 (by decide)
  replace hk3 := hlt9.tag hk3 (by decide)
  replace hk5 := hlt9.tag hk5 (by decide)
  replace hk8 := hlt9.tag hk8 (by decide)
  refine j_ifnonnull (r := r10) 33 dX1_tells_13 (by decide) (fun a11 ea11 => ?_) (fun ea11 => ?_)
  · replace h := h.2 a11 ea11
    exact h
  · replace h := h.1 ea11
    refine j_aload_n (r := some a0) dX1_tells_16 rfl ?_
    refine kg_getr (a := a0) (j := 5) rfl gfX1_20 hk1 dX1_tells_17 ?_
    refine j_aload_n (r := x1) dX1_tells_20 rfl ?_
    refine kg_getr (a := a2) (j := 2) ea2 gfX1_192 hk3 dX1_tells_21 ?_
    refine j_iconst (v := iI 0) dX1_tells_24 rfl ?_
    obtain ⟨a12, ea12, hk13, hi14, h⟩ := h
    refine kg_aald (a := a12) ea12 hk13 (by decide) hi14 dX1_tells_25 ?_
    obtain ⟨a15, ea15, hk16, h⟩ := h
    refine jg_calli (rest := []) (kg_lkV (As := [va_rf (gr t9 a12 (ix (iI 0)))]) (a := a15) (c := 1) kgX2_find_1 (by decide) rfl hk16 q1349 rfl (by rw [ea15]; rfl) dX1_tells_26) cwX2_find (Nat.le_of_ble_eq_true rfl) rfl dX1_tells_26 (Nat.succ_le_succ (Nat.zero_le _)) (h.mono (onI_mono (fun r18 t17 h hlt17 => ?_) (fun _ _ h => h)))
    replace h := h hlt17
    replace hk1 := hlt17.tag hk1 (by decide)
    replace hk3 := hlt17.tag hk3 (by decide)
    replace hk5 := hlt17.tag hk5 (by decide)
    replace hk8 := hlt17.tag hk8 (by decide)
    replace hk13 := hlt17.tag hk13 (by decide)
    replace hk16 := hlt17.tag hk16 (by decide)
    refine j_iconst (v := iI (-1)) dX1_tells_29 rfl ?_
    refine j_icmp_eq 48 dX1_tells_30 (by decide) (fun c65 => ?_) (fun c65 => ?_)
    · replace h := h.1 c65
      refine j_aload_n (r := some a0) dX1_tells_48 rfl ?_
      refine kg_getr (a := a0) (j := 7) rfl gfX1_38 hk1 dX1_tells_49 ?_
      obtain ⟨a19, ea19, hk20, h⟩ := h
      refine kg_getr (a := a19) (j := 2) ea19 gfX1_206 hk20 dX1_tells_52 ?_
      obtain ⟨a21, ea21, hk22, h⟩ := h
      refine jg_calli (rest := []) (kg_lkV (As := []) (a := a21) (c := 21) kgJ2_size_21 (by decide) rfl hk22 q1326 rfl (by rw [ea21]; rfl) dX1_tells_55) cwJ2_size (Nat.le_of_ble_eq_true rfl) rfl dX1_tells_55 (Nat.succ_le_succ (Nat.zero_le _)) (h.mono (onI_mono (fun r24 t23 h hlt23 => ?_) (fun _ _ h => h)))
      replace h := h hlt23
      replace hk1 := hlt23.tag hk1 (by decide)
      replace hk3 := hlt23.tag hk3 (by decide)
      replace hk5 := hlt23.tag hk5 (by decide)
      replace hk8 := hlt23.tag hk8 (by decide)
      replace hk13 := hlt23.tag hk13 (by decide)
      replace hk16 := hlt23.tag hk16 (by decide)
      replace hk20 := hlt23.tag hk20 (by decide)
      replace hk22 := hlt23.tag hk22 (by decide)
      refine j_bipush (v := iI 100) dX1_tells_58 rfl ?_
      refine j_icmp_ne 78 dX1_tells_60 (by decide) (fun c64 => ?_) (fun c64 => ?_)
      · replace h := h.2 c64
        refine j_aload_n (r := x1) dX1_tells_78 rfl ?_
        refine kg_getr (a := a2) (j := 4) ea2 gfX1_178 hk3 dX1_tells_79 ?_
        refine j_ifnull (r := gr t23 a2 4) 144 dX1_tells_82 (by decide) (fun ea25 => ?_) (fun a25 ea25 => ?_)
        · replace h := h.1 ea25
          refine j_aload_n (r := some a0) dX1_tells_144 rfl ?_
          refine kg_getr (a := a0) (j := 7) rfl gfX1_38 hk1 dX1_tells_145 ?_
          refine j_aload_n (r := x1) dX1_tells_148 rfl ?_
          refine kg_getr (a := a2) (j := 5) ea2 gfX1_134 hk3 dX1_tells_149 ?_
          refine j_null dX1_tells_152 ?_
          obtain ⟨a26, ea26, hk27, h⟩ := h
          refine jg_callv (rest := []) (kg_lkV (As := [va_rf (gr t23 a2 5), va_rf none]) (a := a26) (c := 3) kgX4_judge_3 (by decide) rfl hk27 q1770 rfl (by rw [ea26]; rfl) dX1_tells_153) cwX4_judge (Nat.le_of_ble_eq_true rfl) rfl dX1_tells_153 (Nat.succ_le_succ (Nat.zero_le _)) (h.mono (onV_mono (fun t28 h hlt28 => ?_) (fun _ _ h => h)))
          replace h := h hlt28
          replace hk1 := hlt28.tag hk1 (by decide)
          replace hk3 := hlt28.tag hk3 (by decide)
          replace hk5 := hlt28.tag hk5 (by decide)
          replace hk8 := hlt28.tag hk8 (by decide)
          replace hk13 := hlt28.tag hk13 (by decide)
          replace hk16 := hlt28.tag hk16 (by decide)
          replace hk20 := hlt28.tag hk20 (by decide)
          replace hk22 := hlt28.tag hk22 (by decide)
          replace hk27 := hlt28.tag hk27 (by decide)
          obtain ⟨hg30, h⟩ := h
          refine jg_new (c := 20) (N := 4) (C := "PureHouse$Name") (by decide) ⟨rfl, rfl⟩ q1738 q1739 q159 hg30 dX1_tells_156 ?_
          replace hk1 := gk_mk (t := 21) (n := 4) hk1 (by decide)
          replace hk3 := gk_mk (t := 21) (n := 4) hk3 (by decide)
          replace hk5 := gk_mk (t := 21) (n := 4) hk5 (by decide)
          replace hk8 := gk_mk (t := 21) (n := 4) hk8 (by decide)
          replace hk13 := gk_mk (t := 21) (n := 4) hk13 (by decide)
          replace hk16 := gk_mk (t := 21) (n := 4) hk16 (by decide)
          replace hk20 := gk_mk (t := 21) (n := 4) hk20 (by decide)
          replace hk22 := gk_mk (t := 21) (n := 4) hk22 (by decide)
          replace hk27 := gk_mk (t := 21) (n := 4) hk27 (by decide)
          have hk31 := gk_new (t := 21) (n := 4) hg30.2.2
          refine j_dup dX1_tells_159 rfl ?_
          refine j_aload_n (r := x1) dX1_tells_160 rfl ?_
          refine kg_getr (a := a2) (j := 2) ea2 gfX1_192 hk3 dX1_tells_161 ?_
          refine j_iconst (v := iI 0) dX1_tells_164 rfl ?_
          obtain ⟨a32, ea32, hk33, hi34, h⟩ := h
          refine kg_aald (a := a32) ea32 hk33 (by decide) hi34 dX1_tells_165 ?_
          refine j_aload_n (r := some a0) dX1_tells_166 rfl ?_
          refine kg_getr (a := a0) (j := 7) rfl gfX1_38 hk1 dX1_tells_167 ?_
          obtain ⟨a35, ea35, hk36, h⟩ := h
          refine kg_getr (a := a35) (j := 3) ea35 gfX1_257 hk36 dX1_tells_170 ?_
          refine j_aload_n (r := some a0) dX1_tells_173 rfl ?_
          refine kg_getr (a := a0) (j := 7) rfl gfX1_38 hk1 dX1_tells_174 ?_
          refine kg_geti (a := a35) (j := 5) ea35 gfX1_258 (by decide) hk36 dX1_tells_177 ?_
          refine jg_callv (rest := [va_rf (some (gn t28))]) (kg_lkI (As := [va_rf (gr (gmk 21 4 t28) a32 (ix (iI 0))), va_rf (gr (gmk 21 4 t28) a35 3), .int (gi (gmk 21 4 t28) a35 5)]) (a := (gn t28)) kiX23_init (Or.inl q1741) rfl rfl dX1_tells_180) cwX23_init (Nat.le_of_ble_eq_true rfl) rfl dX1_tells_180 (Nat.succ_le_succ (Nat.zero_le _)) (h.mono (onV_mono (fun t37 h hlt37 => ?_) (fun _ _ h => h)))
          replace h := h hlt37
          replace hk1 := hlt37.tag hk1 (by decide)
          replace hk3 := hlt37.tag hk3 (by decide)
          replace hk5 := hlt37.tag hk5 (by decide)
          replace hk8 := hlt37.tag hk8 (by decide)
          replace hk13 := hlt37.tag hk13 (by decide)
          replace hk16 := hlt37.tag hk16 (by decide)
          replace hk20 := hlt37.tag hk20 (by decide)
          replace hk22 := hlt37.tag hk22 (by decide)
          replace hk27 := hlt37.tag hk27 (by decide)
          replace hk31 := hlt37.tag hk31 (by decide)
          replace hk33 := hlt37.tag hk33 (by decide)
          replace hk36 := hlt37.tag hk36 (by decide)
          refine j_astore_n (r := some (gn t28)) (lv' := [some (va_rf (some a0)), some (va_rf x1), some (va_rf (some (gn t28))), none]) dX1_tells_183 (by decide) rfl ?_
          exact h
        · replace h := h.2 a25 ea25
          refine j_aload_n (r := some a0) dX1_tells_85 rfl ?_
          refine kg_getr (a := a0) (j := 7) rfl gfX1_38 hk1 dX1_tells_86 ?_
          refine j_aload_n (r := x1) dX1_tells_89 rfl ?_
          refine kg_getr (a := a2) (j := 4) ea2 gfX1_178 hk3 dX1_tells_90 ?_
          refine j_null dX1_tells_93 ?_
          obtain ⟨a39, ea39, hk40, h⟩ := h
          refine jg_calli (rest := []) (kg_lkV (As := [va_rf (gr t23 a2 4), va_rf none]) (a := a39) (c := 3) kgX4_typeSort_3 (by decide) rfl hk40 q1376 rfl (by rw [ea39]; rfl) dX1_tells_94) cwX4_typeSort (Nat.le_of_ble_eq_true rfl) rfl dX1_tells_94 (Nat.succ_le_succ (Nat.zero_le _)) (h.mono (onI_mono (fun r42 t41 h hlt41 => ?_) (fun _ _ h => h)))
          replace h := h hlt41
          replace hk1 := hlt41.tag hk1 (by decide)
          replace hk3 := hlt41.tag hk3 (by decide)
          replace hk5 := hlt41.tag hk5 (by decide)
          replace hk8 := hlt41.tag hk8 (by decide)
          replace hk13 := hlt41.tag hk13 (by decide)
          replace hk16 := hlt41.tag hk16 (by decide)
          replace hk20 := hlt41.tag hk20 (by decide)
          replace hk22 := hlt41.tag hk22 (by decide)
          replace hk40 := hlt41.tag hk40 (by decide)
          refine j_istore_n (lv' := [some (va_rf (some a0)), some (va_rf x1), none, some (.int r42)]) dX1_tells_97 (by decide) rfl ?_
          obtain ⟨hg43, h⟩ := h
          refine jg_new (c := 20) (N := 4) (C := "PureHouse$Name") (by decide) ⟨rfl, rfl⟩ q1738 q1739 q159 hg43 dX1_tells_98 ?_
          replace hk1 := gk_mk (t := 21) (n := 4) hk1 (by decide)
          replace hk3 := gk_mk (t := 21) (n := 4) hk3 (by decide)
          replace hk5 := gk_mk (t := 21) (n := 4) hk5 (by decide)
          replace hk8 := gk_mk (t := 21) (n := 4) hk8 (by decide)
          replace hk13 := gk_mk (t := 21) (n := 4) hk13 (by decide)
          replace hk16 := gk_mk (t := 21) (n := 4) hk16 (by decide)
          replace hk20 := gk_mk (t := 21) (n := 4) hk20 (by decide)
          replace hk22 := gk_mk (t := 21) (n := 4) hk22 (by decide)
          replace hk40 := gk_mk (t := 21) (n := 4) hk40 (by decide)
          have hk44 := gk_new (t := 21) (n := 4) hg43.2.2
          refine j_dup dX1_tells_101 rfl ?_
          refine j_aload_n (r := x1) dX1_tells_102 rfl ?_
          refine kg_getr (a := a2) (j := 2) ea2 gfX1_192 hk3 dX1_tells_103 ?_
          refine j_iconst (v := iI 0) dX1_tells_106 rfl ?_
          obtain ⟨a45, ea45, hk46, hi47, h⟩ := h
          refine kg_aald (a := a45) ea45 hk46 (by decide) hi47 dX1_tells_107 ?_
          refine j_aload_n (r := some a0) dX1_tells_108 rfl ?_
          refine kg_getr (a := a0) (j := 7) rfl gfX1_38 hk1 dX1_tells_109 ?_
          refine j_aload_n (r := x1) dX1_tells_112 rfl ?_
          refine kg_getr (a := a2) (j := 4) ea2 gfX1_178 hk3 dX1_tells_113 ?_
          refine j_null dX1_tells_116 ?_
          obtain ⟨a48, ea48, hk49, h⟩ := h
          refine jg_callr (rest := [va_rf (gr (gmk 21 4 t41) a45 (ix (iI 0))), va_rf (some (gn t41)), va_rf (some (gn t41))]) (kg_lkV (As := [va_rf (gr (gmk 21 4 t41) a2 4), va_rf none]) (a := a48) (c := 3) kgX4_normal_3 (by decide) rfl hk49 q1740 rfl (by rw [ea48]; rfl) dX1_tells_117) cwX4_normal (rm_ok (cat1_cons (rf_cat _) (cat1_cons rfl (cat1_cons rfl cat1_nil))) (Nat.le_of_ble_eq_true rfl)) rfl dX1_tells_117 (Nat.succ_le_succ (Nat.zero_le _)) (h.mono (onR_mono (fun r51 t50 h hlt50 => ?_) (fun _ _ h => h)))
          replace h := h hlt50
          replace hk1 := hlt50.tag hk1 (by decide)
          replace hk3 := hlt50.tag hk3 (by decide)
          replace hk5 := hlt50.tag hk5 (by decide)
          replace hk8 := hlt50.tag hk8 (by decide)
          replace hk13 := hlt50.tag hk13 (by decide)
          replace hk16 := hlt50.tag hk16 (by decide)
          replace hk20 := hlt50.tag hk20 (by decide)
          replace hk22 := hlt50.tag hk22 (by decide)
          replace hk40 := hlt50.tag hk40 (by decide)
          replace hk44 := hlt50.tag hk44 (by decide)
          replace hk46 := hlt50.tag hk46 (by decide)
          replace hk49 := hlt50.tag hk49 (by decide)
          refine j_iload_n dX1_tells_120 rfl ?_
          refine jg_callv (rest := [va_rf (some (gn t41))]) (kg_lkI (As := [va_rf (gr (gmk 21 4 t41) a45 (ix (iI 0))), va_rf r51, .int r42]) (a := (gn t41)) kiX23_init (Or.inl q1741) rfl rfl dX1_tells_121) cwX23_init (Nat.le_of_ble_eq_true rfl) rfl dX1_tells_121 (Nat.succ_le_succ (Nat.zero_le _)) (h.mono (onV_mono (fun t52 h hlt52 => ?_) (fun _ _ h => h)))
          replace h := h hlt52
          replace hk1 := hlt52.tag hk1 (by decide)
          replace hk3 := hlt52.tag hk3 (by decide)
          replace hk5 := hlt52.tag hk5 (by decide)
          replace hk8 := hlt52.tag hk8 (by decide)
          replace hk13 := hlt52.tag hk13 (by decide)
          replace hk16 := hlt52.tag hk16 (by decide)
          replace hk20 := hlt52.tag hk20 (by decide)
          replace hk22 := hlt52.tag hk22 (by decide)
          replace hk40 := hlt52.tag hk40 (by decide)
          replace hk44 := hlt52.tag hk44 (by decide)
          replace hk46 := hlt52.tag hk46 (by decide)
          replace hk49 := hlt52.tag hk49 (by decide)
          refine j_astore_n (r := some (gn t41)) (lv' := [some (va_rf (some a0)), some (va_rf x1), some (va_rf (some (gn t41))), some (.int r42)]) dX1_tells_124 (by decide) rfl ?_
          refine j_aload_n (r := x1) dX1_tells_125 rfl ?_
          refine kg_getr (a := a2) (j := 5) ea2 gfX1_134 hk3 dX1_tells_126 ?_
          refine j_ifnull (r := gr t52 a2 5) 141 dX1_tells_129 (by decide) (fun ea54 => ?_) (fun a54 ea54 => ?_)
          · replace h := h.1 ea54
            exact h
          · replace h := h.2 a54 ea54
            refine j_aload_n (r := some a0) dX1_tells_132 rfl ?_
            refine j_aload_n (r := x1) dX1_tells_133 rfl ?_
            refine j_aload_n (r := some (gn t41)) dX1_tells_134 rfl ?_
            refine kg_getr (a := (gn t41)) (j := 1) rfl gfX1_252 hk44 dX1_tells_135 ?_
            refine jg_callv (rest := []) (kg_lkV (As := [va_rf x1, va_rf (gr t52 (gn t41) 1)]) (a := a0) (c := 0) kgX1_fits_0 (by decide) rfl hk1 q1766 rfl rfl dX1_tells_138) cwX1_fits (Nat.le_of_ble_eq_true rfl) rfl dX1_tells_138 (Nat.succ_le_succ (Nat.zero_le _)) (h.mono (onV_mono (fun t55 h hlt55 => ?_) (fun _ _ h => h)))
            replace h := h hlt55
            replace hk1 := hlt55.tag hk1 (by decide)
            replace hk3 := hlt55.tag hk3 (by decide)
            replace hk5 := hlt55.tag hk5 (by decide)
            replace hk8 := hlt55.tag hk8 (by decide)
            replace hk13 := hlt55.tag hk13 (by decide)
            replace hk16 := hlt55.tag hk16 (by decide)
            replace hk20 := hlt55.tag hk20 (by decide)
            replace hk22 := hlt55.tag hk22 (by decide)
            replace hk40 := hlt55.tag hk40 (by decide)
            replace hk44 := hlt55.tag hk44 (by decide)
            replace hk46 := hlt55.tag hk46 (by decide)
            replace hk49 := hlt55.tag hk49 (by decide)
            exact h
      · replace h := h.1 c64
        obtain ⟨hg57, h⟩ := h
        refine jg_new (c := 6) (N := 8) (C := "PureHouse$Fault") (by decide) ⟨rfl, rfl⟩ q375 q989 q143 hg57 dX1_tells_63 ?_
        replace hk1 := gk_mk (t := 7) (n := 8) hk1 (by decide)
        replace hk3 := gk_mk (t := 7) (n := 8) hk3 (by decide)
        replace hk5 := gk_mk (t := 7) (n := 8) hk5 (by decide)
        replace hk8 := gk_mk (t := 7) (n := 8) hk8 (by decide)
        replace hk13 := gk_mk (t := 7) (n := 8) hk13 (by decide)
        replace hk16 := gk_mk (t := 7) (n := 8) hk16 (by decide)
        replace hk20 := gk_mk (t := 7) (n := 8) hk20 (by decide)
        replace hk22 := gk_mk (t := 7) (n := 8) hk22 (by decide)
        have hk58 := gk_new (t := 7) (n := 8) hg57.2.2
        refine j_dup dX1_tells_66 rfl ?_
        refine j_iconst (v := iI 5) dX1_tells_67 rfl ?_
        refine j_aload_n (r := x1) dX1_tells_68 rfl ?_
        refine kg_getr (a := a2) (j := 3) ea2 gfX1_200 hk3 dX1_tells_69 ?_
        refine j_iconst (v := iI 0) dX1_tells_72 rfl ?_
        obtain ⟨a59, ea59, hk60, hi61, h⟩ := h
        refine kg_ald (a := a59) ea59 hk60 hi61 dX1_tells_73 ?_
        refine jg_callv (rest := [va_rf (some (gn t23))]) (kg_lkI (As := [.int (iI 5), .int (gi (gmk 7 8 t23) a59 (ix (iI 0)))]) (a := (gn t23)) kiX8_init (Or.inl q1347) rfl rfl dX1_tells_74) cwX8_init (Nat.le_of_ble_eq_true rfl) rfl dX1_tells_74 (Nat.succ_le_succ (Nat.zero_le _)) (h.mono (onV_mono (fun t62 h hlt62 => ?_) (fun _ _ h => h)))
        replace h := h hlt62
        replace hk1 := hlt62.tag hk1 (by decide)
        replace hk3 := hlt62.tag hk3 (by decide)
        replace hk5 := hlt62.tag hk5 (by decide)
        replace hk8 := hlt62.tag hk8 (by decide)
        replace hk13 := hlt62.tag hk13 (by decide)
        replace hk16 := hlt62.tag hk16 (by decide)
        replace hk20 := hlt62.tag hk20 (by decide)
        replace hk22 := hlt62.tag hk22 (by decide)
        replace hk58 := hlt62.tag hk58 (by decide)
        replace hk60 := hlt62.tag hk60 (by decide)
        exact kg_athrow (a := (gn t23)) rfl rfl dX1_tells_77 h
    · replace h := h.2 c65
      exact h
theorem tX1_tells_33 {G : GPl} {s0 : State} {l : Launch} {K : Nat → Option Nat} {T : Nat → Nat} {lev : Nat} {st0 : GSt} {Q : Outcome → GSt → Prop} {a0 : Nat} {x1 : Option Nat} {σ : GSt} (h : (groom G 8 σ ∧ (∃ a3, x1 = some a3 ∧ (gk (gmk 7 8 σ) a3 = 6 ∧ (∃ a5, gr (gmk 7 8 σ) a3 3 = some a5 ∧ (gk (gmk 7 8 σ) a5 = 101 ∧ (inr (iI 0) (gl (gmk 7 8 σ) a5) ∧ (CQ (wP G s0 l K T) mX8_init lev (.ref (gn σ) :: [.int (iI 4), .int (gi (gmk 7 8 σ) a5 (ix (iI 0)))]) (gmk 7 8 σ) (onV (fun t8 => gle (gmk 7 8 σ) t8 → Q (.threw (gn σ)) t8) (fun x t => gle (gmk 7 8 σ) t → Q (.threw x) t)))))))))) : jX1_tells_33 G s0 l K T lev st0 Q a0 x1 σ := by
  obtain ⟨hg1, h⟩ := h
  refine jg_new (c := 6) (N := 8) (C := "PureHouse$Fault") (by decide) ⟨rfl, rfl⟩ q375 q989 q143 hg1 dX1_tells_33 ?_
  have hk2 := gk_new (t := 7) (n := 8) hg1.2.2
  refine j_dup dX1_tells_36 rfl ?_
  refine j_iconst (v := iI 4) dX1_tells_37 rfl ?_
  refine j_aload_n (r := x1) dX1_tells_38 rfl ?_
  obtain ⟨a3, ea3, hk4, h⟩ := h
  refine kg_getr (a := a3) (j := 3) ea3 gfX1_200 hk4 dX1_tells_39 ?_
  refine j_iconst (v := iI 0) dX1_tells_42 rfl ?_
  obtain ⟨a5, ea5, hk6, hi7, h⟩ := h
  refine kg_ald (a := a5) ea5 hk6 hi7 dX1_tells_43 ?_
  refine jg_callv (rest := [va_rf (some (gn σ))]) (kg_lkI (As := [.int (iI 4), .int (gi (gmk 7 8 σ) a5 (ix (iI 0)))]) (a := (gn σ)) kiX8_init (Or.inl q1347) rfl rfl dX1_tells_44) cwX8_init (Nat.le_of_ble_eq_true rfl) rfl dX1_tells_44 (Nat.succ_le_succ (Nat.zero_le _)) (h.mono (onV_mono (fun t8 h hlt8 => ?_) (fun _ _ h => h)))
  replace h := h hlt8
  replace hk2 := hlt8.tag hk2 (by decide)
  replace hk4 := hlt8.tag hk4 (by decide)
  replace hk6 := hlt8.tag hk6 (by decide)
  exact kg_athrow (a := (gn σ)) rfl rfl dX1_tells_47 h
theorem tX1_tells_141 {G : GPl} {s0 : State} {l : Launch} {K : Nat → Option Nat} {T : Nat → Nat} {lev : Nat} {st0 : GSt} {Q : Outcome → GSt → Prop} {a0 : Nat} {x1 : Option Nat} {x2 : Option Nat} {x3 : Int32} {σ : GSt} (h : jX1_tells_184 G s0 l K T lev st0 Q a0 x1 x2 σ) : jX1_tells_141 G s0 l K T lev st0 Q a0 x1 x2 x3 σ := by
  refine j_goto 184 dX1_tells_141 (by decide) ?_
  exact j_mask [true, true, true, false] rfl h
theorem tX1_tells_184 {G : GPl} {s0 : State} {l : Launch} {K : Nat → Option Nat} {T : Nat → Nat} {lev : Nat} {st0 : GSt} {Q : Outcome → GSt → Prop} {a0 : Nat} {x1 : Option Nat} {x2 : Option Nat} {σ : GSt} (h : (∃ a1, x1 = some a1 ∧ (gk σ a1 = 6 ∧ (∃ a3, x2 = some a3 ∧ (gk σ a3 = 21 ∧ (gk (gpr a3 3 (gr σ a1 5) σ) a0 = 1 ∧ (∃ a6, gr (gpr a3 3 (gr σ a1 5) σ) a0 7 = some a6 ∧ (gk (gpr a3 3 (gr σ a1 5) σ) a6 = 4 ∧ (∃ a8, gr (gpr a3 3 (gr σ a1 5) σ) a6 2 = some a8 ∧ (gk (gpr a3 3 (gr σ a1 5) σ) a8 = 22 ∧ (CQ (wP G s0 l K T) mJ2_add lev (.ref a8 :: [va_rf x2]) (gpr a3 3 (gr σ a1 5) σ) (onI (fun r11 t10 => gle (gpr a3 3 (gr σ a1 5) σ) t10 → Q (.returned none) t10) (fun x t => gle (gpr a3 3 (gr σ a1 5) σ) t → Q (.threw x) t))))))))))))) : jX1_tells_184 G s0 l K T lev st0 Q a0 x1 x2 σ := by
  refine j_aload_n (r := x2) dX1_tells_184 rfl ?_
  refine j_aload_n (r := x1) dX1_tells_185 rfl ?_
  obtain ⟨a1, ea1, hk2, h⟩ := h
  refine kg_getr (a := a1) (j := 5) ea1 gfX1_134 hk2 dX1_tells_186 ?_
  obtain ⟨a3, ea3, hk4, h⟩ := h
  refine kg_putr (a := a3) (x := gr σ a1 5) ea3 gfX1_261 (Or.inl rfl) hk4 (Or.inl (by decide)) dX1_tells_189 ?_
  refine j_aload_n (r := some a0) dX1_tells_192 rfl ?_
  obtain ⟨hk5, h⟩ := h
  refine kg_getr (a := a0) (j := 7) rfl gfX1_38 hk5 dX1_tells_193 ?_
  obtain ⟨a6, ea6, hk7, h⟩ := h
  refine kg_getr (a := a6) (j := 2) ea6 gfX1_206 hk7 dX1_tells_196 ?_
  refine j_aload_n (r := x2) dX1_tells_199 rfl ?_
  obtain ⟨a8, ea8, hk9, h⟩ := h
  refine jg_calli (rest := []) (kg_lkV (As := [va_rf x2]) (a := a8) (c := 21) kgJ2_add_21 (by decide) rfl hk9 q1775 rfl (by rw [ea8]; rfl) dX1_tells_200) cwJ2_add (Nat.le_of_ble_eq_true rfl) rfl dX1_tells_200 (Nat.succ_le_succ (Nat.zero_le _)) (h.mono (onI_mono (fun r11 t10 h hlt10 => ?_) (fun _ _ h => h)))
  replace h := h hlt10
  replace hk2 := hlt10.tag hk2 (by decide)
  replace hk4 := hlt10.tag hk4 (by decide)
  replace hk5 := hlt10.tag hk5 (by decide)
  replace hk7 := hlt10.tag hk7 (by decide)
  replace hk9 := hlt10.tag hk9 (by decide)
  refine j_pop dX1_tells_203 rfl ?_
  exact j_return rfl dX1_tells_204 h
theorem tX1_fits {G : GPl} {s0 : State} {l : Launch} {K : Nat → Option Nat} {T : Nat → Nat} {lev : Nat} {Q : Outcome → GSt → Prop} {a0 : Nat} {x1 : Option Nat} {x2 : Option Nat} {σ : GSt} (h : (gk σ a0 = 1 ∧ (∃ a2, x1 = some a2 ∧ (gk σ a2 = 6 ∧ (∃ a4, gr σ a0 7 = some a4 ∧ (gk σ a4 = 4 ∧ (CQ (wP G s0 l K T) mX4_judge lev (.ref a4 :: [va_rf (gr σ a2 5), va_rf none]) σ (onV (fun t6 => gle σ t6 → (groom G 2 t6 ∧ (CQ (wP G s0 l K T) mX16_init lev (.ref (gn t6) :: [va_rf x2, va_rf none]) (gmk 14 2 t6) (onV (fun t10 => gle (gmk 14 2 t6) t10 → (∃ a12, gr t10 a0 7 = some a12 ∧ (gk t10 a12 = 4 ∧ (CQ (wP G s0 l K T) mX4_found lev (.ref a12 :: []) t10 (onR (fun r15 t14 => gle t10 t14 → (∃ a16, gr t6 a0 6 = some a16 ∧ (gk t14 a16 = 3 ∧ (CQ (wP G s0 l K T) mX3_same lev (.ref a16 :: [va_rf (some (gn t6)), va_rf r15]) t14 (onI (fun r19 t18 => gle t14 t18 → ((r19 = 0 → (groom G 8 t18 ∧ (∃ a22, gr (gmk 7 8 t18) a2 5 = some a22 ∧ (isTmA (gmk 7 8 t18) a22 ∧ (CQ (wP G s0 l K T) mX8_init lev (.ref (gn t18) :: [.int (iI 11), .int (gi (gmk 7 8 t18) a22 1)]) (gmk 7 8 t18) (onV (fun t24 => gle (gmk 7 8 t18) t24 → Q (.threw (gn t18)) t24) (fun x t => gle (gmk 7 8 t18) t → Q (.threw x) t))))))) ∧ (¬ r19 = 0 → Q (.returned none) t18))) (fun x t => gle t14 t → Q (.threw x) t)))))) (fun x t => gle t10 t → Q (.threw x) t)))))) (fun x t => gle (gmk 14 2 t6) t → Q (.threw x) t))))) (fun x t => gle σ t → Q (.threw x) t))))))))) : CQ (wP G s0 l K T) mX1_fits (lev + 1) [.ref a0, va_rf x1, va_rf x2] σ Q := by
  refine CQ.of3 0 (lv := [some (va_rf (some a0)), some (va_rf x1), some (va_rf x2)]) (by decide) (Nat.le_of_ble_eq_true rfl) (cat1_cons rfl (cat1_cons (rf_cat _) (cat1_cons (rf_cat _) cat1_nil))) rfl ?_
  refine j_aload_n (r := some a0) dX1_fits_0 rfl ?_
  obtain ⟨hk1, h⟩ := h
  refine kg_getr (a := a0) (j := 7) rfl gfX1_38 hk1 dX1_fits_1 ?_
  refine j_aload_n (r := x1) dX1_fits_4 rfl ?_
  obtain ⟨a2, ea2, hk3, h⟩ := h
  refine kg_getr (a := a2) (j := 5) ea2 gfX1_134 hk3 dX1_fits_5 ?_
  refine j_null dX1_fits_8 ?_
  obtain ⟨a4, ea4, hk5, h⟩ := h
  refine jg_callv (rest := []) (kg_lkV (As := [va_rf (gr σ a2 5), va_rf none]) (a := a4) (c := 3) kgX4_judge_3 (by decide) rfl hk5 q1770 rfl (by rw [ea4]; rfl) dX1_fits_9) cwX4_judge (Nat.le_of_ble_eq_true rfl) rfl dX1_fits_9 (Nat.succ_le_succ (Nat.zero_le _)) (h.mono (onV_mono (fun t6 h hlt6 => ?_) (fun _ _ h => h)))
  replace h := h hlt6
  replace hk1 := hlt6.tag hk1 (by decide)
  replace hk3 := hlt6.tag hk3 (by decide)
  replace hk5 := hlt6.tag hk5 (by decide)
  refine j_aload_n (r := some a0) dX1_fits_12 rfl ?_
  refine kg_getr (a := a0) (j := 6) rfl gfX1_29 hk1 dX1_fits_13 ?_
  obtain ⟨hg8, h⟩ := h
  refine jg_new (c := 13) (N := 2) (C := "PureHouse$Closure") (by decide) ⟨rfl, rfl⟩ q1771 q1427 q152 hg8 dX1_fits_16 ?_
  replace hk1 := gk_mk (t := 14) (n := 2) hk1 (by decide)
  replace hk3 := gk_mk (t := 14) (n := 2) hk3 (by decide)
  replace hk5 := gk_mk (t := 14) (n := 2) hk5 (by decide)
  have hk9 := gk_new (t := 14) (n := 2) hg8.2.2
  refine j_dup dX1_fits_19 rfl ?_
  refine j_aload_n (r := x2) dX1_fits_20 rfl ?_
  refine j_null dX1_fits_21 ?_
  refine jg_callv (rest := [va_rf (some (gn t6)), va_rf (gr t6 a0 6)]) (kg_lkI (As := [va_rf x2, va_rf none]) (a := (gn t6)) kiX16_init (Or.inl q1772) rfl rfl dX1_fits_22) cwX16_init (rm_ok (cat1_cons rfl (cat1_cons (rf_cat _) cat1_nil)) (Nat.le_of_ble_eq_true rfl)) rfl dX1_fits_22 (Nat.succ_le_succ (Nat.zero_le _)) (h.mono (onV_mono (fun t10 h hlt10 => ?_) (fun _ _ h => h)))
  replace h := h hlt10
  replace hk1 := hlt10.tag hk1 (by decide)
  replace hk3 := hlt10.tag hk3 (by decide)
  replace hk5 := hlt10.tag hk5 (by decide)
  replace hk9 := hlt10.tag hk9 (by decide)
  refine j_aload_n (r := some a0) dX1_fits_25 rfl ?_
  refine kg_getr (a := a0) (j := 7) rfl gfX1_38 hk1 dX1_fits_26 ?_
  obtain ⟨a12, ea12, hk13, h⟩ := h
  refine jg_callr (rest := [va_rf (some (gn t6)), va_rf (gr t6 a0 6)]) (kg_lkV (As := []) (a := a12) (c := 3) kgX4_found_3 (by decide) rfl hk13 q1773 rfl (by rw [ea12]; rfl) dX1_fits_29) cwX4_found (rm_ok (cat1_cons rfl (cat1_cons (rf_cat _) cat1_nil)) (Nat.le_of_ble_eq_true rfl)) rfl dX1_fits_29 (Nat.succ_le_succ (Nat.zero_le _)) (h.mono (onR_mono (fun r15 t14 h hlt14 => ?_) (fun _ _ h => h)))
  replace h := h hlt14
  replace hk1 := hlt14.tag hk1 (by decide)
  replace hk3 := hlt14.tag hk3 (by decide)
  replace hk5 := hlt14.tag hk5 (by decide)
  replace hk9 := hlt14.tag hk9 (by decide)
  replace hk13 := hlt14.tag hk13 (by decide)
  obtain ⟨a16, ea16, hk17, h⟩ := h
  refine jg_calli (rest := []) (kg_lkV (As := [va_rf (some (gn t6)), va_rf r15]) (a := a16) (c := 2) kgX3_same_2 (by decide) rfl hk17 q1774 rfl (by rw [ea16]; rfl) dX1_fits_32) cwX3_same (Nat.le_of_ble_eq_true rfl) rfl dX1_fits_32 (Nat.succ_le_succ (Nat.zero_le _)) (h.mono (onI_mono (fun r19 t18 h hlt18 => ?_) (fun _ _ h => h)))
  replace h := h hlt18
  replace hk1 := hlt18.tag hk1 (by decide)
  replace hk3 := hlt18.tag hk3 (by decide)
  replace hk5 := hlt18.tag hk5 (by decide)
  replace hk9 := hlt18.tag hk9 (by decide)
  replace hk13 := hlt18.tag hk13 (by decide)
  replace hk17 := hlt18.tag hk17 (by decide)
  refine j_if_ne 55 dX1_fits_35 (by decide) (fun c26 => ?_) (fun c26 => ?_)
  · replace h := h.2 c26
    exact j_return rfl dX1_fits_55 h
  · replace h := h.1 c26
    obtain ⟨hg20, h⟩ := h
    refine jg_new (c := 6) (N := 8) (C := "PureHouse$Fault") (by decide) ⟨rfl, rfl⟩ q375 q989 q143 hg20 dX1_fits_38 ?_
    replace hk1 := gk_mk (t := 7) (n := 8) hk1 (by decide)
    replace hk3 := gk_mk (t := 7) (n := 8) hk3 (by decide)
    replace hk5 := gk_mk (t := 7) (n := 8) hk5 (by decide)
    replace hk9 := gk_mk (t := 7) (n := 8) hk9 (by decide)
    replace hk13 := gk_mk (t := 7) (n := 8) hk13 (by decide)
    replace hk17 := gk_mk (t := 7) (n := 8) hk17 (by decide)
    have hk21 := gk_new (t := 7) (n := 8) hg20.2.2
    refine j_dup dX1_fits_41 rfl ?_
    refine j_bipush (v := iI 11) dX1_fits_42 rfl ?_
    refine j_aload_n (r := x1) dX1_fits_44 rfl ?_
    refine kg_getr (a := a2) (j := 5) ea2 gfX1_134 hk3 dX1_fits_45 ?_
    obtain ⟨a22, ea22, hm23, h⟩ := h
    refine kg_getT (j := 1) (a := a22) (by decide) ea22 flX1_271 hm23 dX1_fits_48 ?_
    refine jg_callv (rest := [va_rf (some (gn t18))]) (kg_lkI (As := [.int (iI 11), .int (gi (gmk 7 8 t18) a22 1)]) (a := (gn t18)) kiX8_init (Or.inl q1347) rfl rfl dX1_fits_51) cwX8_init (Nat.le_of_ble_eq_true rfl) rfl dX1_fits_51 (Nat.succ_le_succ (Nat.zero_le _)) (h.mono (onV_mono (fun t24 h hlt24 => ?_) (fun _ _ h => h)))
    replace h := h hlt24
    replace hk1 := hlt24.tag hk1 (by decide)
    replace hk3 := hlt24.tag hk3 (by decide)
    replace hk5 := hlt24.tag hk5 (by decide)
    replace hk9 := hlt24.tag hk9 (by decide)
    replace hk13 := hlt24.tag hk13 (by decide)
    replace hk17 := hlt24.tag hk17 (by decide)
    replace hk21 := hlt24.tag hk21 (by decide)
    replace hm23 := hm23.le hlt24
    exact kg_athrow (a := (gn t18)) rfl rfl dX1_fits_54 h
abbrev jX1_checks_78 (G : GPl) (s0 : State) (l : Launch) (K : Nat → Option Nat) (T : Nat → Nat) (lev : Nat) (st0 : GSt) (Q : Outcome → GSt → Prop) (a0 : Nat) (x1 : Option Nat) (σ : GSt) : Prop := JQ (wP G s0 l K T) mX1_checks (lev + 1) st0 78 [some (va_rf (some a0)), some (va_rf x1)] [] σ Q
theorem tX1_checks {G : GPl} {s0 : State} {l : Launch} {K : Nat → Option Nat} {T : Nat → Nat} {lev : Nat} {Q : Outcome → GSt → Prop} {a0 : Nat} {x1 : Option Nat} {σ : GSt} (h : (∃ a1, x1 = some a1 ∧ (gk σ a1 = 6 ∧ ((gr σ a1 4 = none → (gk σ a0 = 1 ∧ (∃ a5, gr σ a0 7 = some a5 ∧ (gk σ a5 = 4 ∧ (CQ (wP G s0 l K T) mX4_judge lev (.ref a5 :: [va_rf (gr σ a1 5), va_rf none]) σ (onV (fun t7 => gle σ t7 → (∃ a9, gr t7 a0 7 = some a9 ∧ (gk t7 a9 = 4 ∧ (CQ (wP G s0 l K T) mX4_found lev (.ref a9 :: []) t7 (onR (fun r12 t11 => gle t7 t11 → (∃ a13, gr t7 a0 6 = some a13 ∧ (gk t11 a13 = 3 ∧ (CQ (wP G s0 l K T) mX3_tell lev (.ref a13 :: [va_rf r12, .int (iI 0), .int (iI 0), .int (iI 0)]) t11 (onV (fun t15 => gle t11 t15 → jX1_checks_78 G s0 l K T lev σ Q a0 x1 t15) (fun x t => gle t11 t → Q (.threw x) t)))))) (fun x t => gle t7 t → Q (.threw x) t)))))) (fun x t => gle σ t → Q (.threw x) t))))))) ∧ (∀ a3, gr σ a1 4 = some a3 → (gk σ a0 = 1 ∧ (∃ a18, gr σ a0 7 = some a18 ∧ (gk σ a18 = 4 ∧ (CQ (wP G s0 l K T) mX4_typeSort lev (.ref a18 :: [va_rf (gr σ a1 4), va_rf none]) σ (onI (fun r21 t20 => gle σ t20 → (∃ a22, gr t20 a0 7 = some a22 ∧ (gk t20 a22 = 4 ∧ (CQ (wP G s0 l K T) mX4_normal lev (.ref a22 :: [va_rf (gr t20 a1 4), va_rf none]) t20 (onR (fun r25 t24 => gle t20 t24 → (CQ (wP G s0 l K T) mX1_fits lev (.ref a0 :: [va_rf x1, va_rf r25]) t24 (onV (fun t26 => gle t24 t26 → (∃ a28, gr t26 a0 6 = some a28 ∧ (gk t26 a28 = 3 ∧ (CQ (wP G s0 l K T) mX3_put_2 lev (.ref a28 :: [va_rf (some (T 0))]) t26 (onV (fun t30 => gle t26 t30 → jX1_checks_78 G s0 l K T lev σ Q a0 x1 t30) (fun x t => gle t26 t → Q (.threw x) t)))))) (fun x t => gle t24 t → Q (.threw x) t)))) (fun x t => gle t20 t → Q (.threw x) t)))))) (fun x t => gle σ t → Q (.threw x) t))))))))))) : CQ (wP G s0 l K T) mX1_checks (lev + 1) [.ref a0, va_rf x1] σ Q := by
  refine CQ.of3 0 (lv := [some (va_rf (some a0)), some (va_rf x1)]) (by decide) (Nat.le_of_ble_eq_true rfl) (cat1_cons rfl (cat1_cons (rf_cat _) cat1_nil)) rfl ?_
  refine j_aload_n (r := x1) dX1_checks_0 rfl ?_
  obtain ⟨a1, ea1, hk2, h⟩ := h
  refine kg_getr (a := a1) (j := 4) ea1 gfX1_178 hk2 dX1_checks_1 ?_
  refine j_ifnonnull (r := gr σ a1 4) 39 dX1_checks_4 (by decide) (fun a3 ea3 => ?_) (fun ea3 => ?_)
  · replace h := h.2 a3 ea3
    refine j_aload_n (r := some a0) dX1_checks_39 rfl ?_
    obtain ⟨hk17, h⟩ := h
    refine kg_getr (a := a0) (j := 7) rfl gfX1_38 hk17 dX1_checks_40 ?_
    refine j_aload_n (r := x1) dX1_checks_43 rfl ?_
    refine kg_getr (a := a1) (j := 4) ea1 gfX1_178 hk2 dX1_checks_44 ?_
    refine j_null dX1_checks_47 ?_
    obtain ⟨a18, ea18, hk19, h⟩ := h
    refine jg_calli (rest := []) (kg_lkV (As := [va_rf (gr σ a1 4), va_rf none]) (a := a18) (c := 3) kgX4_typeSort_3 (by decide) rfl hk19 q1376 rfl (by rw [ea18]; rfl) dX1_checks_48) cwX4_typeSort (Nat.le_of_ble_eq_true rfl) rfl dX1_checks_48 (Nat.succ_le_succ (Nat.zero_le _)) (h.mono (onI_mono (fun r21 t20 h hlt20 => ?_) (fun _ _ h => h)))
    replace h := h hlt20
    replace hk2 := hlt20.tag hk2 (by decide)
    replace hk17 := hlt20.tag hk17 (by decide)
    replace hk19 := hlt20.tag hk19 (by decide)
    refine j_pop dX1_checks_51 rfl ?_
    refine j_aload_n (r := some a0) dX1_checks_52 rfl ?_
    refine j_aload_n (r := x1) dX1_checks_53 rfl ?_
    refine j_aload_n (r := some a0) dX1_checks_54 rfl ?_
    refine kg_getr (a := a0) (j := 7) rfl gfX1_38 hk17 dX1_checks_55 ?_
    refine j_aload_n (r := x1) dX1_checks_58 rfl ?_
    refine kg_getr (a := a1) (j := 4) ea1 gfX1_178 hk2 dX1_checks_59 ?_
    refine j_null dX1_checks_62 ?_
    obtain ⟨a22, ea22, hk23, h⟩ := h
    refine jg_callr (rest := [va_rf x1, va_rf (some a0)]) (kg_lkV (As := [va_rf (gr t20 a1 4), va_rf none]) (a := a22) (c := 3) kgX4_normal_3 (by decide) rfl hk23 q1740 rfl (by rw [ea22]; rfl) dX1_checks_63) cwX4_normal (rm_ok (cat1_cons (rf_cat _) (cat1_cons rfl cat1_nil)) (Nat.le_of_ble_eq_true rfl)) rfl dX1_checks_63 (Nat.succ_le_succ (Nat.zero_le _)) (h.mono (onR_mono (fun r25 t24 h hlt24 => ?_) (fun _ _ h => h)))
    replace h := h hlt24
    replace hk2 := hlt24.tag hk2 (by decide)
    replace hk17 := hlt24.tag hk17 (by decide)
    replace hk19 := hlt24.tag hk19 (by decide)
    replace hk23 := hlt24.tag hk23 (by decide)
    refine jg_callv (rest := []) (kg_lkV (As := [va_rf x1, va_rf r25]) (a := a0) (c := 0) kgX1_fits_0 (by decide) rfl hk17 q1766 rfl rfl dX1_checks_66) cwX1_fits (Nat.le_of_ble_eq_true rfl) rfl dX1_checks_66 (Nat.succ_le_succ (Nat.zero_le _)) (h.mono (onV_mono (fun t26 h hlt26 => ?_) (fun _ _ h => h)))
    replace h := h hlt26
    replace hk2 := hlt26.tag hk2 (by decide)
    replace hk17 := hlt26.tag hk17 (by decide)
    replace hk19 := hlt26.tag hk19 (by decide)
    replace hk23 := hlt26.tag hk23 (by decide)
    refine j_aload_n (r := some a0) dX1_checks_69 rfl ?_
    refine kg_getr (a := a0) (j := 6) rfl gfX1_29 hk17 dX1_checks_70 ?_
    refine jg_ldcS (i := 0) rfl rfl dX1_checks_73 ?_
    obtain ⟨a28, ea28, hk29, h⟩ := h
    refine jg_callv (rest := []) (kg_lkV (As := [va_rf (some (T 0))]) (a := a28) (c := 2) kgX3_put_2_2 (by decide) rfl hk29 q1822 rfl (by rw [ea28]; rfl) dX1_checks_75) cwX3_put_2 (Nat.le_of_ble_eq_true rfl) rfl dX1_checks_75 (Nat.succ_le_succ (Nat.zero_le _)) (h.mono (onV_mono (fun t30 h hlt30 => ?_) (fun _ _ h => h)))
    replace h := h hlt30
    replace hk2 := hlt30.tag hk2 (by decide)
    replace hk17 := hlt30.tag hk17 (by decide)
    replace hk19 := hlt30.tag hk19 (by decide)
    replace hk23 := hlt30.tag hk23 (by decide)
    replace hk29 := hlt30.tag hk29 (by decide)
    exact h
  · replace h := h.1 ea3
    refine j_aload_n (r := some a0) dX1_checks_7 rfl ?_
    obtain ⟨hk4, h⟩ := h
    refine kg_getr (a := a0) (j := 7) rfl gfX1_38 hk4 dX1_checks_8 ?_
    refine j_aload_n (r := x1) dX1_checks_11 rfl ?_
    refine kg_getr (a := a1) (j := 5) ea1 gfX1_134 hk2 dX1_checks_12 ?_
    refine j_null dX1_checks_15 ?_
    obtain ⟨a5, ea5, hk6, h⟩ := h
    refine jg_callv (rest := []) (kg_lkV (As := [va_rf (gr σ a1 5), va_rf none]) (a := a5) (c := 3) kgX4_judge_3 (by decide) rfl hk6 q1770 rfl (by rw [ea5]; rfl) dX1_checks_16) cwX4_judge (Nat.le_of_ble_eq_true rfl) rfl dX1_checks_16 (Nat.succ_le_succ (Nat.zero_le _)) (h.mono (onV_mono (fun t7 h hlt7 => ?_) (fun _ _ h => h)))
    replace h := h hlt7
    replace hk2 := hlt7.tag hk2 (by decide)
    replace hk4 := hlt7.tag hk4 (by decide)
    replace hk6 := hlt7.tag hk6 (by decide)
    refine j_aload_n (r := some a0) dX1_checks_19 rfl ?_
    refine kg_getr (a := a0) (j := 6) rfl gfX1_29 hk4 dX1_checks_20 ?_
    refine j_aload_n (r := some a0) dX1_checks_23 rfl ?_
    refine kg_getr (a := a0) (j := 7) rfl gfX1_38 hk4 dX1_checks_24 ?_
    obtain ⟨a9, ea9, hk10, h⟩ := h
    refine jg_callr (rest := [va_rf (gr t7 a0 6)]) (kg_lkV (As := []) (a := a9) (c := 3) kgX4_found_3 (by decide) rfl hk10 q1773 rfl (by rw [ea9]; rfl) dX1_checks_27) cwX4_found (rm_ok (cat1_cons (rf_cat _) cat1_nil) (Nat.le_of_ble_eq_true rfl)) rfl dX1_checks_27 (Nat.succ_le_succ (Nat.zero_le _)) (h.mono (onR_mono (fun r12 t11 h hlt11 => ?_) (fun _ _ h => h)))
    replace h := h hlt11
    replace hk2 := hlt11.tag hk2 (by decide)
    replace hk4 := hlt11.tag hk4 (by decide)
    replace hk6 := hlt11.tag hk6 (by decide)
    replace hk10 := hlt11.tag hk10 (by decide)
    refine j_iconst (v := iI 0) dX1_checks_30 rfl ?_
    refine j_iconst (v := iI 0) dX1_checks_31 rfl ?_
    refine j_iconst (v := iI 0) dX1_checks_32 rfl ?_
    obtain ⟨a13, ea13, hk14, h⟩ := h
    refine jg_callv (rest := []) (kg_lkV (As := [va_rf r12, .int (iI 0), .int (iI 0), .int (iI 0)]) (a := a13) (c := 2) kgX3_tell_2 (by decide) rfl hk14 q1780 rfl (by rw [ea13]; rfl) dX1_checks_33) cwX3_tell (Nat.le_of_ble_eq_true rfl) rfl dX1_checks_33 (Nat.succ_le_succ (Nat.zero_le _)) (h.mono (onV_mono (fun t15 h hlt15 => ?_) (fun _ _ h => h)))
    replace h := h hlt15
    replace hk2 := hlt15.tag hk2 (by decide)
    replace hk4 := hlt15.tag hk4 (by decide)
    replace hk6 := hlt15.tag hk6 (by decide)
    replace hk10 := hlt15.tag hk10 (by decide)
    replace hk14 := hlt15.tag hk14 (by decide)
    refine j_goto 78 dX1_checks_36 (by decide) ?_
    exact h
theorem tX1_checks_78 {G : GPl} {s0 : State} {l : Launch} {K : Nat → Option Nat} {T : Nat → Nat} {lev : Nat} {st0 : GSt} {Q : Outcome → GSt → Prop} {a0 : Nat} {x1 : Option Nat} {σ : GSt} (h : (gk σ a0 = 1 ∧ (∃ a2, gr σ a0 6 = some a2 ∧ (gk σ a2 = 3 ∧ (CQ (wP G s0 l K T) mX3_put lev (.ref a2 :: [.int (iI 10)]) σ (onV (fun t4 => gle σ t4 → Q (.returned none) t4) (fun x t => gle σ t → Q (.threw x) t))))))) : jX1_checks_78 G s0 l K T lev st0 Q a0 x1 σ := by
  refine j_aload_n (r := some a0) dX1_checks_78 rfl ?_
  obtain ⟨hk1, h⟩ := h
  refine kg_getr (a := a0) (j := 6) rfl gfX1_29 hk1 dX1_checks_79 ?_
  refine j_bipush (v := iI 10) dX1_checks_82 rfl ?_
  obtain ⟨a2, ea2, hk3, h⟩ := h
  refine jg_callv (rest := []) (kg_lkV (As := [.int (iI 10)]) (a := a2) (c := 2) kgX3_put_2 (by decide) rfl hk3 q1823 rfl (by rw [ea2]; rfl) dX1_checks_84) cwX3_put (Nat.le_of_ble_eq_true rfl) rfl dX1_checks_84 (Nat.succ_le_succ (Nat.zero_le _)) (h.mono (onV_mono (fun t4 h hlt4 => ?_) (fun _ _ h => h)))
  replace h := h hlt4
  replace hk1 := hlt4.tag hk1 (by decide)
  replace hk3 := hlt4.tag hk3 (by decide)
  exact j_return rfl dX1_checks_87 h
abbrev jX1_fault_13 (G : GPl) (s0 : State) (l : Launch) (K : Nat → Option Nat) (T : Nat → Nat) (lev : Nat) (st0 : GSt) (Q : Outcome → GSt → Prop) (a0 : Nat) (x1 : Int32) (σ : GSt) : Prop := JQ (wP G s0 l K T) mX1_fault (lev + 1) st0 13 [some (va_rf (some a0)), some (.int x1)] [] σ Q
theorem tX1_fault {G : GPl} {s0 : State} {l : Launch} {K : Nat → Option Nat} {T : Nat → Nat} {lev : Nat} {Q : Outcome → GSt → Prop} {a0 : Nat} {x1 : Int32} {σ : GSt} (h : ((x1 < 0 → jX1_fault_13 G s0 l K T lev σ Q a0 x1 σ) ∧ (¬ x1 < 0 → (((iI 2) < x1 → jX1_fault_13 G s0 l K T lev σ Q a0 x1 σ) ∧ (¬ (iI 2) < x1 → (CQ (wP G s0 l K T) mX1_there lev [.int (iI 1)] σ (onV (fun t1 => gle σ t1 → ((x1 = 0 → (gk t1 a0 = 1 ∧ Q (.returned (some (.int (gi t1 a0 2)))) t1)) ∧ (¬ x1 = 0 → ((x1 = (iI 1) → (gk t1 a0 = 1 ∧ Q (.returned (some (.int (gi t1 a0 3)))) t1)) ∧ (¬ x1 = (iI 1) → (gk t1 a0 = 1 ∧ Q (.returned (some (.int (gi t1 a0 4)))) t1)))))) (fun x t => gle σ t → Q (.threw x) t)))))))) : CQ (wP G s0 l K T) mX1_fault (lev + 1) [.ref a0, .int x1] σ Q := by
  refine CQ.of3 0 (lv := [some (va_rf (some a0)), some (.int x1)]) (by decide) (Nat.le_of_ble_eq_true rfl) (cat1_cons rfl (cat1_cons rfl cat1_nil)) rfl ?_
  refine j_iload_n dX1_fault_0 rfl ?_
  refine j_if_lt 13 dX1_fault_1 (by decide) (fun c9 => ?_) (fun c9 => ?_)
  · replace h := h.1 c9
    exact h
  · replace h := h.2 c9
    refine j_iload_n dX1_fault_4 rfl ?_
    refine j_iconst (v := iI 2) dX1_fault_5 rfl ?_
    refine j_icmp_gt 13 dX1_fault_6 (by decide) (fun c8 => ?_) (fun c8 => ?_)
    · replace h := h.1 c8
      exact h
    · replace h := h.2 c8
      refine j_iconst (v := iI 1) dX1_fault_9 rfl ?_
      refine j_goto 14 dX1_fault_10 (by decide) ?_
      refine jg_callv (rest := []) (kg_lkS (As := [.int (iI 1)]) ktX1_there q1839 rfl rfl dX1_fault_14) cwX1_there (Nat.le_of_ble_eq_true rfl) rfl dX1_fault_14 (Nat.succ_le_succ (Nat.zero_le _)) (h.mono (onV_mono (fun t1 h hlt1 => ?_) (fun _ _ h => h)))
      replace h := h hlt1
      refine j_iload_n dX1_fault_17 rfl ?_
      refine j_if_ne 28 dX1_fault_18 (by decide) (fun c7 => ?_) (fun c7 => ?_)
      · replace h := h.2 c7
        refine j_iload_n dX1_fault_28 rfl ?_
        refine j_iconst (v := iI 1) dX1_fault_29 rfl ?_
        refine j_icmp_ne 40 dX1_fault_30 (by decide) (fun c5 => ?_) (fun c5 => ?_)
        · replace h := h.2 c5
          refine j_aload_n (r := some a0) dX1_fault_40 rfl ?_
          obtain ⟨hk3, h⟩ := h
          refine kg_geti (a := a0) (j := 4) rfl gfX1_75 (by decide) hk3 dX1_fault_41 ?_
          exact j_ireturn (ty := .int) rfl rfl dX1_fault_44 h
        · replace h := h.1 c5
          refine j_aload_n (r := some a0) dX1_fault_33 rfl ?_
          obtain ⟨hk4, h⟩ := h
          refine kg_geti (a := a0) (j := 3) rfl gfX1_13 (by decide) hk4 dX1_fault_34 ?_
          refine j_goto 44 dX1_fault_37 (by decide) ?_
          exact j_ireturn (ty := .int) rfl rfl dX1_fault_44 h
      · replace h := h.1 c7
        refine j_aload_n (r := some a0) dX1_fault_21 rfl ?_
        obtain ⟨hk6, h⟩ := h
        refine kg_geti (a := a0) (j := 2) rfl gfX1_72 (by decide) hk6 dX1_fault_22 ?_
        refine j_goto 44 dX1_fault_25 (by decide) ?_
        exact j_ireturn (ty := .int) rfl rfl dX1_fault_44 h
theorem tX1_fault_13 {G : GPl} {s0 : State} {l : Launch} {K : Nat → Option Nat} {T : Nat → Nat} {lev : Nat} {st0 : GSt} {Q : Outcome → GSt → Prop} {a0 : Nat} {x1 : Int32} {σ : GSt} (h : (CQ (wP G s0 l K T) mX1_there lev [.int (iI 0)] σ (onV (fun t1 => gle σ t1 → ((x1 = 0 → (gk t1 a0 = 1 ∧ Q (.returned (some (.int (gi t1 a0 2)))) t1)) ∧ (¬ x1 = 0 → ((x1 = (iI 1) → (gk t1 a0 = 1 ∧ Q (.returned (some (.int (gi t1 a0 3)))) t1)) ∧ (¬ x1 = (iI 1) → (gk t1 a0 = 1 ∧ Q (.returned (some (.int (gi t1 a0 4)))) t1)))))) (fun x t => gle σ t → Q (.threw x) t)))) : jX1_fault_13 G s0 l K T lev st0 Q a0 x1 σ := by
  refine j_iconst (v := iI 0) dX1_fault_13 rfl ?_
  refine jg_callv (rest := []) (kg_lkS (As := [.int (iI 0)]) ktX1_there q1839 rfl rfl dX1_fault_14) cwX1_there (Nat.le_of_ble_eq_true rfl) rfl dX1_fault_14 (Nat.succ_le_succ (Nat.zero_le _)) (h.mono (onV_mono (fun t1 h hlt1 => ?_) (fun _ _ h => h)))
  replace h := h hlt1
  refine j_iload_n dX1_fault_17 rfl ?_
  refine j_if_ne 28 dX1_fault_18 (by decide) (fun c7 => ?_) (fun c7 => ?_)
  · replace h := h.2 c7
    refine j_iload_n dX1_fault_28 rfl ?_
    refine j_iconst (v := iI 1) dX1_fault_29 rfl ?_
    refine j_icmp_ne 40 dX1_fault_30 (by decide) (fun c5 => ?_) (fun c5 => ?_)
    · replace h := h.2 c5
      refine j_aload_n (r := some a0) dX1_fault_40 rfl ?_
      obtain ⟨hk3, h⟩ := h
      refine kg_geti (a := a0) (j := 4) rfl gfX1_75 (by decide) hk3 dX1_fault_41 ?_
      exact j_ireturn (ty := .int) rfl rfl dX1_fault_44 h
    · replace h := h.1 c5
      refine j_aload_n (r := some a0) dX1_fault_33 rfl ?_
      obtain ⟨hk4, h⟩ := h
      refine kg_geti (a := a0) (j := 3) rfl gfX1_13 (by decide) hk4 dX1_fault_34 ?_
      refine j_goto 44 dX1_fault_37 (by decide) ?_
      exact j_ireturn (ty := .int) rfl rfl dX1_fault_44 h
  · replace h := h.1 c7
    refine j_aload_n (r := some a0) dX1_fault_21 rfl ?_
    obtain ⟨hk6, h⟩ := h
    refine kg_geti (a := a0) (j := 2) rfl gfX1_72 (by decide) hk6 dX1_fault_22 ?_
    refine j_goto 44 dX1_fault_25 (by decide) ?_
    exact j_ireturn (ty := .int) rfl rfl dX1_fault_44 h
theorem tX1_there {G : GPl} {s0 : State} {l : Launch} {K : Nat → Option Nat} {T : Nat → Nat} {lev : Nat} {Q : Outcome → GSt → Prop} {x0 : Int32} {σ : GSt} (h : ((x0 = 0 → (groom G 6 σ ∧ (CQ (wP G s0 l K T) mJ20_init lev (.ref (gn σ) :: []) (gmk 26 6 σ) (onV (fun t3 => gle (gmk 26 6 σ) t3 → Q (.threw (gn σ)) t3) (fun x t => gle (gmk 26 6 σ) t → Q (.threw x) t))))) ∧ (¬ x0 = 0 → Q (.returned none) σ))) : CQ (wP G s0 l K T) mX1_there (lev + 1) [.int x0] σ Q := by
  refine CQ.of3 0 (lv := [some (.int x0)]) (by decide) (Nat.le_of_ble_eq_true rfl) (cat1_cons rfl cat1_nil) rfl ?_
  refine j_iload_n dX1_there_0 rfl ?_
  refine j_if_ne 12 dX1_there_1 (by decide) (fun c5 => ?_) (fun c5 => ?_)
  · replace h := h.2 c5
    exact j_return rfl dX1_there_12 h
  · replace h := h.1 c5
    obtain ⟨hg1, h⟩ := h
    refine jg_new (c := 25) (N := 6) (C := "java/util/NoSuchElementException") (by decide) ⟨rfl, rfl⟩ q1842 q1843 q160 hg1 dX1_there_4 ?_
    have hk2 := gk_new (t := 26) (n := 6) hg1.2.2
    refine j_dup dX1_there_7 rfl ?_
    refine jg_callv (rest := [va_rf (some (gn σ))]) (kg_lkI (As := []) (a := (gn σ)) kiJ20_init (Or.inl q1851) rfl rfl dX1_there_8) cwJ20_init (Nat.le_of_ble_eq_true rfl) rfl dX1_there_8 (Nat.succ_le_succ (Nat.zero_le _)) (h.mono (onV_mono (fun t3 h hlt3 => ?_) (fun _ _ h => h)))
    replace h := h hlt3
    replace hk2 := hlt3.tag hk2 (by decide)
    exact kg_athrow (a := (gn σ)) rfl rfl dX1_there_11 h
abbrev jX1_corner_14 (G : GPl) (s0 : State) (l : Launch) (K : Nat → Option Nat) (T : Nat → Nat) (lev : Nat) (st0 : GSt) (Q : Outcome → GSt → Prop) (a0 : Nat) (x1 : Int32) (σ : GSt) : Prop := JQ (wP G s0 l K T) mX1_corner (lev + 1) st0 14 [some (va_rf (some a0)), some (.int x1), none] [] σ Q
theorem tX1_corner {G : GPl} {s0 : State} {l : Launch} {K : Nat → Option Nat} {T : Nat → Nat} {lev : Nat} {Q : Outcome → GSt → Prop} {a0 : Nat} {x1 : Int32} {σ : GSt} (h : ((x1 < 0 → jX1_corner_14 G s0 l K T lev σ Q a0 x1 σ) ∧ (¬ x1 < 0 → (((iI 8) < x1 → jX1_corner_14 G s0 l K T lev σ Q a0 x1 σ) ∧ (¬ (iI 8) < x1 → (CQ (wP G s0 l K T) mX1_right lev [.int (iI 1)] σ (onV (fun t1 => gle σ t1 → (gk t1 a0 = 1 ∧ (∃ a4, gr t1 a0 7 = some a4 ∧ (gk t1 a4 = 4 ∧ (∃ a6, gr t1 a4 2 = some a6 ∧ (gk t1 a6 = 22 ∧ (CQ (wP G s0 l K T) mJ2_size lev (.ref a6 :: []) t1 (onI (fun r9 t8 => gle t1 t8 → (∃ a10, gr t8 a0 7 = some a10 ∧ (gk t8 a10 = 4 ∧ (∃ a12, gr t8 a10 2 = some a12 ∧ (gk t8 a12 = 22 ∧ (CQ (wP G s0 l K T) mJ2_clear lev (.ref a12 :: []) t8 (onV (fun t14 => gle t8 t14 → (∃ a16, gr (gpi a0 9 (iI 0) t14) a0 5 = some a16 ∧ (gk (gpi a0 9 (iI 0) t14) a16 = 2 ∧ (CQ (wP G s0 l K T) mX2_corner lev (.ref a16 :: [.int x1]) (gpi a0 9 (iI 0) t14) (onV (fun t18 => gle (gpi a0 9 (iI 0) t14) t18 → Q (.returned (some (.int r9))) t18) (fun x t => gle (gpi a0 9 (iI 0) t14) t → Q (.threw x) t)))))) (fun x t => gle t8 t → Q (.threw x) t)))))))) (fun x t => gle t1 t → Q (.threw x) t))))))))) (fun x t => gle σ t → Q (.threw x) t)))))))) : CQ (wP G s0 l K T) mX1_corner (lev + 1) [.ref a0, .int x1] σ Q := by
  refine CQ.of3 1 (lv := [some (va_rf (some a0)), some (.int x1), none]) (by decide) (Nat.le_of_ble_eq_true rfl) (cat1_cons rfl (cat1_cons rfl cat1_nil)) rfl ?_
  refine j_iload_n dX1_corner_0 rfl ?_
  refine j_if_lt 14 dX1_corner_1 (by decide) (fun c21 => ?_) (fun c21 => ?_)
  · replace h := h.1 c21
    exact h
  · replace h := h.2 c21
    refine j_iload_n dX1_corner_4 rfl ?_
    refine j_bipush (v := iI 8) dX1_corner_5 rfl ?_
    refine j_icmp_gt 14 dX1_corner_7 (by decide) (fun c20 => ?_) (fun c20 => ?_)
    · replace h := h.1 c20
      exact h
    · replace h := h.2 c20
      refine j_iconst (v := iI 1) dX1_corner_10 rfl ?_
      refine j_goto 15 dX1_corner_11 (by decide) ?_
      refine jg_callv (rest := []) (kg_lkS (As := [.int (iI 1)]) ktX1_right q376 rfl rfl dX1_corner_15) cwX1_right (Nat.le_of_ble_eq_true rfl) rfl dX1_corner_15 (Nat.succ_le_succ (Nat.zero_le _)) (h.mono (onV_mono (fun t1 h hlt1 => ?_) (fun _ _ h => h)))
      replace h := h hlt1
      refine j_aload_n (r := some a0) dX1_corner_18 rfl ?_
      obtain ⟨hk3, h⟩ := h
      refine kg_getr (a := a0) (j := 7) rfl gfX1_38 hk3 dX1_corner_19 ?_
      obtain ⟨a4, ea4, hk5, h⟩ := h
      refine kg_getr (a := a4) (j := 2) ea4 gfX1_206 hk5 dX1_corner_22 ?_
      obtain ⟨a6, ea6, hk7, h⟩ := h
      refine jg_calli (rest := []) (kg_lkV (As := []) (a := a6) (c := 21) kgJ2_size_21 (by decide) rfl hk7 q1326 rfl (by rw [ea6]; rfl) dX1_corner_25) cwJ2_size (Nat.le_of_ble_eq_true rfl) rfl dX1_corner_25 (Nat.succ_le_succ (Nat.zero_le _)) (h.mono (onI_mono (fun r9 t8 h hlt8 => ?_) (fun _ _ h => h)))
      replace h := h hlt8
      replace hk3 := hlt8.tag hk3 (by decide)
      replace hk5 := hlt8.tag hk5 (by decide)
      replace hk7 := hlt8.tag hk7 (by decide)
      refine j_istore_n (lv' := [some (va_rf (some a0)), some (.int x1), some (.int r9)]) dX1_corner_28 (by decide) rfl ?_
      refine j_aload_n (r := some a0) dX1_corner_29 rfl ?_
      refine kg_getr (a := a0) (j := 7) rfl gfX1_38 hk3 dX1_corner_30 ?_
      obtain ⟨a10, ea10, hk11, h⟩ := h
      refine kg_getr (a := a10) (j := 2) ea10 gfX1_206 hk11 dX1_corner_33 ?_
      obtain ⟨a12, ea12, hk13, h⟩ := h
      refine jg_callv (rest := []) (kg_lkV (As := []) (a := a12) (c := 21) kgJ2_clear_21 (by decide) rfl hk13 q1864 rfl (by rw [ea12]; rfl) dX1_corner_36) cwJ2_clear (Nat.le_of_ble_eq_true rfl) rfl dX1_corner_36 (Nat.succ_le_succ (Nat.zero_le _)) (h.mono (onV_mono (fun t14 h hlt14 => ?_) (fun _ _ h => h)))
      replace h := h hlt14
      replace hk3 := hlt14.tag hk3 (by decide)
      replace hk5 := hlt14.tag hk5 (by decide)
      replace hk7 := hlt14.tag hk7 (by decide)
      replace hk11 := hlt14.tag hk11 (by decide)
      replace hk13 := hlt14.tag hk13 (by decide)
      refine j_aload_n (r := some a0) dX1_corner_39 rfl ?_
      refine j_iconst (v := iI 0) dX1_corner_40 rfl ?_
      refine kg_puti (a := a0) rfl gfX1_282 (Or.inl rfl) hk3 (Or.inl (by decide)) dX1_corner_41 ?_
      refine j_aload_n (r := some a0) dX1_corner_44 rfl ?_
      refine kg_getr (a := a0) (j := 5) rfl gfX1_20 hk3 dX1_corner_45 ?_
      refine j_iload_n dX1_corner_48 rfl ?_
      obtain ⟨a16, ea16, hk17, h⟩ := h
      refine jg_callv (rest := []) (kg_lkV (As := [.int x1]) (a := a16) (c := 1) kgX2_corner_1 (by decide) rfl hk17 q310 rfl (by rw [ea16]; rfl) dX1_corner_49) cwX2_corner (Nat.le_of_ble_eq_true rfl) rfl dX1_corner_49 (Nat.succ_le_succ (Nat.zero_le _)) (h.mono (onV_mono (fun t18 h hlt18 => ?_) (fun _ _ h => h)))
      replace h := h hlt18
      replace hk3 := hlt18.tag hk3 (by decide)
      replace hk5 := hlt18.tag hk5 (by decide)
      replace hk7 := hlt18.tag hk7 (by decide)
      replace hk11 := hlt18.tag hk11 (by decide)
      replace hk13 := hlt18.tag hk13 (by decide)
      replace hk17 := hlt18.tag hk17 (by decide)
      refine j_iload_n dX1_corner_52 rfl ?_
      exact j_ireturn (ty := .int) rfl rfl dX1_corner_53 h
theorem tX1_corner_14 {G : GPl} {s0 : State} {l : Launch} {K : Nat → Option Nat} {T : Nat → Nat} {lev : Nat} {st0 : GSt} {Q : Outcome → GSt → Prop} {a0 : Nat} {x1 : Int32} {σ : GSt} (h : (CQ (wP G s0 l K T) mX1_right lev [.int (iI 0)] σ (onV (fun t1 => gle σ t1 → (gk t1 a0 = 1 ∧ (∃ a4, gr t1 a0 7 = some a4 ∧ (gk t1 a4 = 4 ∧ (∃ a6, gr t1 a4 2 = some a6 ∧ (gk t1 a6 = 22 ∧ (CQ (wP G s0 l K T) mJ2_size lev (.ref a6 :: []) t1 (onI (fun r9 t8 => gle t1 t8 → (∃ a10, gr t8 a0 7 = some a10 ∧ (gk t8 a10 = 4 ∧ (∃ a12, gr t8 a10 2 = some a12 ∧ (gk t8 a12 = 22 ∧ (CQ (wP G s0 l K T) mJ2_clear lev (.ref a12 :: []) t8 (onV (fun t14 => gle t8 t14 → (∃ a16, gr (gpi a0 9 (iI 0) t14) a0 5 = some a16 ∧ (gk (gpi a0 9 (iI 0) t14) a16 = 2 ∧ (CQ (wP G s0 l K T) mX2_corner lev (.ref a16 :: [.int x1]) (gpi a0 9 (iI 0) t14) (onV (fun t18 => gle (gpi a0 9 (iI 0) t14) t18 → Q (.returned (some (.int r9))) t18) (fun x t => gle (gpi a0 9 (iI 0) t14) t → Q (.threw x) t)))))) (fun x t => gle t8 t → Q (.threw x) t)))))))) (fun x t => gle t1 t → Q (.threw x) t))))))))) (fun x t => gle σ t → Q (.threw x) t)))) : jX1_corner_14 G s0 l K T lev st0 Q a0 x1 σ := by
  refine j_iconst (v := iI 0) dX1_corner_14 rfl ?_
  refine jg_callv (rest := []) (kg_lkS (As := [.int (iI 0)]) ktX1_right q376 rfl rfl dX1_corner_15) cwX1_right (Nat.le_of_ble_eq_true rfl) rfl dX1_corner_15 (Nat.succ_le_succ (Nat.zero_le _)) (h.mono (onV_mono (fun t1 h hlt1 => ?_) (fun _ _ h => h)))
  replace h := h hlt1
  refine j_aload_n (r := some a0) dX1_corner_18 rfl ?_
  obtain ⟨hk3, h⟩ := h
  refine kg_getr (a := a0) (j := 7) rfl gfX1_38 hk3 dX1_corner_19 ?_
  obtain ⟨a4, ea4, hk5, h⟩ := h
  refine kg_getr (a := a4) (j := 2) ea4 gfX1_206 hk5 dX1_corner_22 ?_
  obtain ⟨a6, ea6, hk7, h⟩ := h
  refine jg_calli (rest := []) (kg_lkV (As := []) (a := a6) (c := 21) kgJ2_size_21 (by decide) rfl hk7 q1326 rfl (by rw [ea6]; rfl) dX1_corner_25) cwJ2_size (Nat.le_of_ble_eq_true rfl) rfl dX1_corner_25 (Nat.succ_le_succ (Nat.zero_le _)) (h.mono (onI_mono (fun r9 t8 h hlt8 => ?_) (fun _ _ h => h)))
  replace h := h hlt8
  replace hk3 := hlt8.tag hk3 (by decide)
  replace hk5 := hlt8.tag hk5 (by decide)
  replace hk7 := hlt8.tag hk7 (by decide)
  refine j_istore_n (lv' := [some (va_rf (some a0)), some (.int x1), some (.int r9)]) dX1_corner_28 (by decide) rfl ?_
  refine j_aload_n (r := some a0) dX1_corner_29 rfl ?_
  refine kg_getr (a := a0) (j := 7) rfl gfX1_38 hk3 dX1_corner_30 ?_
  obtain ⟨a10, ea10, hk11, h⟩ := h
  refine kg_getr (a := a10) (j := 2) ea10 gfX1_206 hk11 dX1_corner_33 ?_
  obtain ⟨a12, ea12, hk13, h⟩ := h
  refine jg_callv (rest := []) (kg_lkV (As := []) (a := a12) (c := 21) kgJ2_clear_21 (by decide) rfl hk13 q1864 rfl (by rw [ea12]; rfl) dX1_corner_36) cwJ2_clear (Nat.le_of_ble_eq_true rfl) rfl dX1_corner_36 (Nat.succ_le_succ (Nat.zero_le _)) (h.mono (onV_mono (fun t14 h hlt14 => ?_) (fun _ _ h => h)))
  replace h := h hlt14
  replace hk3 := hlt14.tag hk3 (by decide)
  replace hk5 := hlt14.tag hk5 (by decide)
  replace hk7 := hlt14.tag hk7 (by decide)
  replace hk11 := hlt14.tag hk11 (by decide)
  replace hk13 := hlt14.tag hk13 (by decide)
  refine j_aload_n (r := some a0) dX1_corner_39 rfl ?_
  refine j_iconst (v := iI 0) dX1_corner_40 rfl ?_
  refine kg_puti (a := a0) rfl gfX1_282 (Or.inl rfl) hk3 (Or.inl (by decide)) dX1_corner_41 ?_
  refine j_aload_n (r := some a0) dX1_corner_44 rfl ?_
  refine kg_getr (a := a0) (j := 5) rfl gfX1_20 hk3 dX1_corner_45 ?_
  refine j_iload_n dX1_corner_48 rfl ?_
  obtain ⟨a16, ea16, hk17, h⟩ := h
  refine jg_callv (rest := []) (kg_lkV (As := [.int x1]) (a := a16) (c := 1) kgX2_corner_1 (by decide) rfl hk17 q310 rfl (by rw [ea16]; rfl) dX1_corner_49) cwX2_corner (Nat.le_of_ble_eq_true rfl) rfl dX1_corner_49 (Nat.succ_le_succ (Nat.zero_le _)) (h.mono (onV_mono (fun t18 h hlt18 => ?_) (fun _ _ h => h)))
  replace h := h hlt18
  replace hk3 := hlt18.tag hk3 (by decide)
  replace hk5 := hlt18.tag hk5 (by decide)
  replace hk7 := hlt18.tag hk7 (by decide)
  replace hk11 := hlt18.tag hk11 (by decide)
  replace hk13 := hlt18.tag hk13 (by decide)
  replace hk17 := hlt18.tag hk17 (by decide)
  refine j_iload_n dX1_corner_52 rfl ?_
  exact j_ireturn (ty := .int) rfl rfl dX1_corner_53 h
abbrev jX1_limit_16 (G : GPl) (s0 : State) (l : Launch) (K : Nat → Option Nat) (T : Nat → Nat) (lev : Nat) (st0 : GSt) (Q : Outcome → GSt → Prop) (a0 : Nat) (x1 : Int32) (σ : GSt) : Prop := JQ (wP G s0 l K T) mX1_limit (lev + 1) st0 16 [some (va_rf (some a0)), some (.int x1), none] [] σ Q
theorem tX1_limit {G : GPl} {s0 : State} {l : Launch} {K : Nat → Option Nat} {T : Nat → Nat} {lev : Nat} {Q : Outcome → GSt → Prop} {a0 : Nat} {x1 : Int32} {σ : GSt} (h : ((x1 < (iI 1) → jX1_limit_16 G s0 l K T lev σ Q a0 x1 σ) ∧ (¬ x1 < (iI 1) → (((iI 20000) < x1 → jX1_limit_16 G s0 l K T lev σ Q a0 x1 σ) ∧ (¬ (iI 20000) < x1 → (CQ (wP G s0 l K T) mX1_right lev [.int (iI 1)] σ (onV (fun t1 => gle σ t1 → (gk t1 a0 = 1 ∧ (∃ a4, gr t1 a0 6 = some a4 ∧ (gk t1 a4 = 3 ∧ Q (.returned (some (.int (gi t1 a4 7)))) (gpi a4 7 x1 t1))))) (fun x t => gle σ t → Q (.threw x) t)))))))) : CQ (wP G s0 l K T) mX1_limit (lev + 1) [.ref a0, .int x1] σ Q := by
  refine CQ.of3 1 (lv := [some (va_rf (some a0)), some (.int x1), none]) (by decide) (Nat.le_of_ble_eq_true rfl) (cat1_cons rfl (cat1_cons rfl cat1_nil)) rfl ?_
  refine j_iload_n dX1_limit_0 rfl ?_
  refine j_iconst (v := iI 1) dX1_limit_1 rfl ?_
  refine j_icmp_lt 16 dX1_limit_2 (by decide) (fun c7 => ?_) (fun c7 => ?_)
  · replace h := h.1 c7
    exact h
  · replace h := h.2 c7
    refine j_iload_n dX1_limit_5 rfl ?_
    refine j_sipush (v := iI 20000) dX1_limit_6 rfl ?_
    refine j_icmp_gt 16 dX1_limit_9 (by decide) (fun c6 => ?_) (fun c6 => ?_)
    · replace h := h.1 c6
      exact h
    · replace h := h.2 c6
      refine j_iconst (v := iI 1) dX1_limit_12 rfl ?_
      refine j_goto 17 dX1_limit_13 (by decide) ?_
      refine jg_callv (rest := []) (kg_lkS (As := [.int (iI 1)]) ktX1_right q376 rfl rfl dX1_limit_17) cwX1_right (Nat.le_of_ble_eq_true rfl) rfl dX1_limit_17 (Nat.succ_le_succ (Nat.zero_le _)) (h.mono (onV_mono (fun t1 h hlt1 => ?_) (fun _ _ h => h)))
      replace h := h hlt1
      refine j_aload_n (r := some a0) dX1_limit_20 rfl ?_
      obtain ⟨hk3, h⟩ := h
      refine kg_getr (a := a0) (j := 6) rfl gfX1_29 hk3 dX1_limit_21 ?_
      obtain ⟨a4, ea4, hk5, h⟩ := h
      refine kg_geti (a := a4) (j := 7) ea4 gfX1_285 (by decide) hk5 dX1_limit_24 ?_
      refine j_istore_n (lv' := [some (va_rf (some a0)), some (.int x1), some (.int (gi t1 a4 7))]) dX1_limit_27 (by decide) rfl ?_
      refine j_aload_n (r := some a0) dX1_limit_28 rfl ?_
      refine kg_getr (a := a0) (j := 6) rfl gfX1_29 hk3 dX1_limit_29 ?_
      refine j_iload_n dX1_limit_32 rfl ?_
      refine kg_puti (a := a4) ea4 gfX1_285 (Or.inl rfl) hk5 (Or.inl (by decide)) dX1_limit_33 ?_
      refine j_iload_n dX1_limit_36 rfl ?_
      exact j_ireturn (ty := .int) rfl rfl dX1_limit_37 h
theorem tX1_limit_16 {G : GPl} {s0 : State} {l : Launch} {K : Nat → Option Nat} {T : Nat → Nat} {lev : Nat} {st0 : GSt} {Q : Outcome → GSt → Prop} {a0 : Nat} {x1 : Int32} {σ : GSt} (h : (CQ (wP G s0 l K T) mX1_right lev [.int (iI 0)] σ (onV (fun t1 => gle σ t1 → (gk t1 a0 = 1 ∧ (∃ a4, gr t1 a0 6 = some a4 ∧ (gk t1 a4 = 3 ∧ Q (.returned (some (.int (gi t1 a4 7)))) (gpi a4 7 x1 t1))))) (fun x t => gle σ t → Q (.threw x) t)))) : jX1_limit_16 G s0 l K T lev st0 Q a0 x1 σ := by
  refine j_iconst (v := iI 0) dX1_limit_16 rfl ?_
  refine jg_callv (rest := []) (kg_lkS (As := [.int (iI 0)]) ktX1_right q376 rfl rfl dX1_limit_17) cwX1_right (Nat.le_of_ble_eq_true rfl) rfl dX1_limit_17 (Nat.succ_le_succ (Nat.zero_le _)) (h.mono (onV_mono (fun t1 h hlt1 => ?_) (fun _ _ h => h)))
  replace h := h hlt1
  refine j_aload_n (r := some a0) dX1_limit_20 rfl ?_
  obtain ⟨hk3, h⟩ := h
  refine kg_getr (a := a0) (j := 6) rfl gfX1_29 hk3 dX1_limit_21 ?_
  obtain ⟨a4, ea4, hk5, h⟩ := h
  refine kg_geti (a := a4) (j := 7) ea4 gfX1_285 (by decide) hk5 dX1_limit_24 ?_
  refine j_istore_n (lv' := [some (va_rf (some a0)), some (.int x1), some (.int (gi t1 a4 7))]) dX1_limit_27 (by decide) rfl ?_
  refine j_aload_n (r := some a0) dX1_limit_28 rfl ?_
  refine kg_getr (a := a0) (j := 6) rfl gfX1_29 hk3 dX1_limit_29 ?_
  refine j_iload_n dX1_limit_32 rfl ?_
  refine kg_puti (a := a4) ea4 gfX1_285 (Or.inl rfl) hk5 (Or.inl (by decide)) dX1_limit_33 ?_
  refine j_iload_n dX1_limit_36 rfl ?_
  exact j_ireturn (ty := .int) rfl rfl dX1_limit_37 h
abbrev jX1_out_25 (G : GPl) (s0 : State) (l : Launch) (K : Nat → Option Nat) (T : Nat → Nat) (lev : Nat) (st0 : GSt) (Q : Outcome → GSt → Prop) (a0 : Nat) (x1 : Int32) (σ : GSt) : Prop := JQ (wP G s0 l K T) mX1_out (lev + 1) st0 25 [some (va_rf (some a0)), some (.int x1)] [] σ Q
theorem tX1_out {G : GPl} {s0 : State} {l : Launch} {K : Nat → Option Nat} {T : Nat → Nat} {lev : Nat} {Q : Outcome → GSt → Prop} {a0 : Nat} {x1 : Int32} {σ : GSt} (h : ((x1 < 0 → jX1_out_25 G s0 l K T lev σ Q a0 x1 σ) ∧ (¬ x1 < 0 → (gk σ a0 = 1 ∧ (∃ a2, gr σ a0 6 = some a2 ∧ (gk σ a2 = 3 ∧ (((if gi σ a2 10 < iI 3000 then gi σ a2 10 else iI 3000) ≤ x1 → jX1_out_25 G s0 l K T lev σ Q a0 x1 σ) ∧ (¬ (if gi σ a2 10 < iI 3000 then gi σ a2 10 else iI 3000) ≤ x1 → (CQ (wP G s0 l K T) mX1_there lev [.int (iI 1)] σ (onV (fun t4 => gle σ t4 → (∃ a6, gr t4 a0 6 = some a6 ∧ (gk t4 a6 = 3 ∧ (∃ a8, gr t4 a6 9 = some a8 ∧ (gk t4 a8 = 102 ∧ (inr x1 (gl t4 a8) ∧ Q (.returned (some (.int (gi t4 a8 (ix x1))))) t4)))))) (fun x t => gle σ t → Q (.threw x) t))))))))))) : CQ (wP G s0 l K T) mX1_out (lev + 1) [.ref a0, .int x1] σ Q := by
  refine CQ.of3 0 (lv := [some (va_rf (some a0)), some (.int x1)]) (by decide) (Nat.le_of_ble_eq_true rfl) (cat1_cons rfl (cat1_cons rfl cat1_nil)) rfl ?_
  refine j_iload_n dX1_out_0 rfl ?_
  refine j_if_lt 25 dX1_out_1 (by decide) (fun c12 => ?_) (fun c12 => ?_)
  · replace h := h.1 c12
    exact h
  · replace h := h.2 c12
    refine j_iload_n dX1_out_4 rfl ?_
    refine j_sipush (v := iI 3000) dX1_out_5 rfl ?_
    refine j_aload_n (r := some a0) dX1_out_8 rfl ?_
    obtain ⟨hk1, h⟩ := h
    refine kg_getr (a := a0) (j := 6) rfl gfX1_29 hk1 dX1_out_9 ?_
    obtain ⟨a2, ea2, hk3, h⟩ := h
    refine kg_geti (a := a2) (j := 10) ea2 gfX1_69 (by decide) hk3 dX1_out_12 ?_
    refine jg_mmin (x := iI 3000) (y := gi σ a2 10) (stk := [.int x1]) (Nat.succ_le_succ (Nat.zero_le _)) q1882 q588 q135 q589 (Nat.le_of_ble_eq_true rfl) dX1_out_15 ?_
    refine j_icmp_ge 25 dX1_out_18 (by decide) (fun c11 => ?_) (fun c11 => ?_)
    · replace h := h.1 c11
      exact h
    · replace h := h.2 c11
      refine j_iconst (v := iI 1) dX1_out_21 rfl ?_
      refine j_goto 26 dX1_out_22 (by decide) ?_
      refine jg_callv (rest := []) (kg_lkS (As := [.int (iI 1)]) ktX1_there q1839 rfl rfl dX1_out_26) cwX1_there (Nat.le_of_ble_eq_true rfl) rfl dX1_out_26 (Nat.succ_le_succ (Nat.zero_le _)) (h.mono (onV_mono (fun t4 h hlt4 => ?_) (fun _ _ h => h)))
      replace h := h hlt4
      replace hk1 := hlt4.tag hk1 (by decide)
      replace hk3 := hlt4.tag hk3 (by decide)
      refine j_aload_n (r := some a0) dX1_out_29 rfl ?_
      refine kg_getr (a := a0) (j := 6) rfl gfX1_29 hk1 dX1_out_30 ?_
      obtain ⟨a6, ea6, hk7, h⟩ := h
      refine kg_getr (a := a6) (j := 9) ea6 gfX1_293 hk7 dX1_out_33 ?_
      refine j_iload_n dX1_out_36 rfl ?_
      obtain ⟨a8, ea8, hk9, hi10, h⟩ := h
      refine kg_bald (a := a8) ea8 hk9 hi10 dX1_out_37 ?_
      exact j_ireturn (ty := .int) rfl rfl dX1_out_38 h
theorem tX1_out_25 {G : GPl} {s0 : State} {l : Launch} {K : Nat → Option Nat} {T : Nat → Nat} {lev : Nat} {st0 : GSt} {Q : Outcome → GSt → Prop} {a0 : Nat} {x1 : Int32} {σ : GSt} (h : (CQ (wP G s0 l K T) mX1_there lev [.int (iI 0)] σ (onV (fun t1 => gle σ t1 → (gk t1 a0 = 1 ∧ (∃ a4, gr t1 a0 6 = some a4 ∧ (gk t1 a4 = 3 ∧ (∃ a6, gr t1 a4 9 = some a6 ∧ (gk t1 a6 = 102 ∧ (inr x1 (gl t1 a6) ∧ Q (.returned (some (.int (gi t1 a6 (ix x1))))) t1))))))) (fun x t => gle σ t → Q (.threw x) t)))) : jX1_out_25 G s0 l K T lev st0 Q a0 x1 σ := by
  refine j_iconst (v := iI 0) dX1_out_25 rfl ?_
  refine jg_callv (rest := []) (kg_lkS (As := [.int (iI 0)]) ktX1_there q1839 rfl rfl dX1_out_26) cwX1_there (Nat.le_of_ble_eq_true rfl) rfl dX1_out_26 (Nat.succ_le_succ (Nat.zero_le _)) (h.mono (onV_mono (fun t1 h hlt1 => ?_) (fun _ _ h => h)))
  replace h := h hlt1
  refine j_aload_n (r := some a0) dX1_out_29 rfl ?_
  obtain ⟨hk3, h⟩ := h
  refine kg_getr (a := a0) (j := 6) rfl gfX1_29 hk3 dX1_out_30 ?_
  obtain ⟨a4, ea4, hk5, h⟩ := h
  refine kg_getr (a := a4) (j := 9) ea4 gfX1_293 hk5 dX1_out_33 ?_
  refine j_iload_n dX1_out_36 rfl ?_
  obtain ⟨a6, ea6, hk7, hi8, h⟩ := h
  refine kg_bald (a := a6) ea6 hk7 hi8 dX1_out_37 ?_
  exact j_ireturn (ty := .int) rfl rfl dX1_out_38 h
abbrev jX1_count_14 (G : GPl) (s0 : State) (l : Launch) (K : Nat → Option Nat) (T : Nat → Nat) (lev : Nat) (st0 : GSt) (Q : Outcome → GSt → Prop) (a0 : Nat) (x1 : Int32) (σ : GSt) : Prop := JQ (wP G s0 l K T) mX1_count (lev + 1) st0 14 [some (va_rf (some a0)), some (.int x1)] [] σ Q
theorem tX1_count {G : GPl} {s0 : State} {l : Launch} {K : Nat → Option Nat} {T : Nat → Nat} {lev : Nat} {Q : Outcome → GSt → Prop} {a0 : Nat} {x1 : Int32} {σ : GSt} (h : ((x1 < 0 → jX1_count_14 G s0 l K T lev σ Q a0 x1 σ) ∧ (¬ x1 < 0 → (((iI 13) < x1 → jX1_count_14 G s0 l K T lev σ Q a0 x1 σ) ∧ (¬ (iI 13) < x1 → (CQ (wP G s0 l K T) mX1_there lev [.int (iI 1)] σ (onV (fun t1 => gle σ t1 → ((x1 = iI 0 → (gk t1 a0 = 1 ∧ (∃ a4, gr t1 a0 6 = some a4 ∧ (gk t1 a4 = 3 ∧ Q (.returned (some (.int (gi t1 a4 5)))) t1)))) ∧ (x1 = iI 1 → (gk t1 a0 = 1 ∧ (∃ a7, gr t1 a0 6 = some a7 ∧ (gk t1 a7 = 3 ∧ (∃ a9, gr t1 a7 4 = some a9 ∧ (gk t1 a9 = 101 ∧ (inr (x1 - (iI 1)) (gl t1 a9) ∧ Q (.returned (some (.int (gi t1 a9 (ix (x1 - (iI 1))))))) t1))))))) ∧ (x1 = iI 2 → (gk t1 a0 = 1 ∧ (∃ a13, gr t1 a0 6 = some a13 ∧ (gk t1 a13 = 3 ∧ (∃ a15, gr t1 a13 4 = some a15 ∧ (gk t1 a15 = 101 ∧ (inr (x1 - (iI 1)) (gl t1 a15) ∧ Q (.returned (some (.int (gi t1 a15 (ix (x1 - (iI 1))))))) t1))))))) ∧ (x1 = iI 3 → (gk t1 a0 = 1 ∧ (∃ a19, gr t1 a0 6 = some a19 ∧ (gk t1 a19 = 3 ∧ (∃ a21, gr t1 a19 4 = some a21 ∧ (gk t1 a21 = 101 ∧ (inr (x1 - (iI 1)) (gl t1 a21) ∧ Q (.returned (some (.int (gi t1 a21 (ix (x1 - (iI 1))))))) t1))))))) ∧ (x1 = iI 4 → (gk t1 a0 = 1 ∧ (∃ a25, gr t1 a0 6 = some a25 ∧ (gk t1 a25 = 3 ∧ (∃ a27, gr t1 a25 4 = some a27 ∧ (gk t1 a27 = 101 ∧ (inr (x1 - (iI 1)) (gl t1 a27) ∧ Q (.returned (some (.int (gi t1 a27 (ix (x1 - (iI 1))))))) t1))))))) ∧ (x1 = iI 5 → (gk t1 a0 = 1 ∧ (∃ a31, gr t1 a0 6 = some a31 ∧ (gk t1 a31 = 3 ∧ (∃ a33, gr t1 a31 4 = some a33 ∧ (gk t1 a33 = 101 ∧ (inr (x1 - (iI 1)) (gl t1 a33) ∧ Q (.returned (some (.int (gi t1 a33 (ix (x1 - (iI 1))))))) t1))))))) ∧ (x1 = iI 6 → (gk t1 a0 = 1 ∧ (∃ a37, gr t1 a0 6 = some a37 ∧ (gk t1 a37 = 3 ∧ (∃ a39, gr t1 a37 4 = some a39 ∧ (gk t1 a39 = 101 ∧ (inr (x1 - (iI 1)) (gl t1 a39) ∧ Q (.returned (some (.int (gi t1 a39 (ix (x1 - (iI 1))))))) t1))))))) ∧ (x1 = iI 7 → (gk t1 a0 = 1 ∧ (∃ a43, gr t1 a0 6 = some a43 ∧ (gk t1 a43 = 3 ∧ Q (.returned (some (.int (gi t1 a43 6)))) t1)))) ∧ (x1 = iI 8 → (gk t1 a0 = 1 ∧ (∃ a46, gr t1 a0 7 = some a46 ∧ (gk t1 a46 = 4 ∧ (∃ a48, gr t1 a46 2 = some a48 ∧ (gk t1 a48 = 22 ∧ (CQ (wP G s0 l K T) mJ2_size lev (.ref a48 :: []) t1 (onI (fun r51 t50 => gle t1 t50 → Q (.returned (some (.int r51))) t50) (fun x t => gle t1 t → Q (.threw x) t))))))))) ∧ (x1 = iI 9 → (gk t1 a0 = 1 ∧ (∃ a53, gr t1 a0 5 = some a53 ∧ (gk t1 a53 = 2 ∧ Q (.returned (some (.int (gi t1 a53 3)))) t1)))) ∧ (x1 = iI 10 → (gk t1 a0 = 1 ∧ (∃ a56, gr t1 a0 5 = some a56 ∧ (gk t1 a56 = 2 ∧ (CQ (wP G s0 l K T) mX2_count lev (.ref a56 :: [va_rf (gr t1 a56 1)]) t1 (onI (fun r59 t58 => gle t1 t58 → Q (.returned (some (.int r59))) t58) (fun x t => gle t1 t → Q (.threw x) t))))))) ∧ (x1 = iI 11 → (gk t1 a0 = 1 ∧ (∃ a61, gr t1 a0 5 = some a61 ∧ (gk t1 a61 = 2 ∧ (CQ (wP G s0 l K T) mX2_count lev (.ref a61 :: [va_rf (gr t1 a61 2)]) t1 (onI (fun r64 t63 => gle t1 t63 → Q (.returned (some (.int r64))) t63) (fun x t => gle t1 t → Q (.threw x) t))))))) ∧ (x1 = iI 12 → (gk t1 a0 = 1 ∧ Q (.returned (some (.int (gi t1 a0 9)))) t1)) ∧ (x1 = iI 13 → (gk t1 a0 = 1 ∧ Q (.returned (some (.int (gi t1 a0 1)))) t1)) ∧ (tout x1 0 13 → (gk t1 a0 = 1 ∧ (∃ a68, gr t1 a0 6 = some a68 ∧ (gk t1 a68 = 3 ∧ (∃ a70, gr t1 a68 4 = some a70 ∧ (gk t1 a70 = 101 ∧ (inr (x1 - (iI 1)) (gl t1 a70) ∧ Q (.returned (some (.int (gi t1 a70 (ix (x1 - (iI 1))))))) t1))))))))) (fun x t => gle σ t → Q (.threw x) t)))))))) : CQ (wP G s0 l K T) mX1_count (lev + 1) [.ref a0, .int x1] σ Q := by
  refine CQ.of3 0 (lv := [some (va_rf (some a0)), some (.int x1)]) (by decide) (Nat.le_of_ble_eq_true rfl) (cat1_cons rfl (cat1_cons rfl cat1_nil)) rfl ?_
  refine j_iload_n dX1_count_0 rfl ?_
  refine j_if_lt 14 dX1_count_1 (by decide) (fun c75 => ?_) (fun c75 => ?_)
  · replace h := h.1 c75
    exact h
  · replace h := h.2 c75
    refine j_iload_n dX1_count_4 rfl ?_
    refine j_bipush (v := iI 13) dX1_count_5 rfl ?_
    refine j_icmp_gt 14 dX1_count_7 (by decide) (fun c74 => ?_) (fun c74 => ?_)
    · replace h := h.1 c74
      exact h
    · replace h := h.2 c74
      refine j_iconst (v := iI 1) dX1_count_10 rfl ?_
      refine j_goto 15 dX1_count_11 (by decide) ?_
      refine jg_callv (rest := []) (kg_lkS (As := [.int (iI 1)]) ktX1_there q1839 rfl rfl dX1_count_15) cwX1_there (Nat.le_of_ble_eq_true rfl) rfl dX1_count_15 (Nat.succ_le_succ (Nat.zero_le _)) (h.mono (onV_mono (fun t1 h hlt1 => ?_) (fun _ _ h => h)))
      replace h := h hlt1
      refine j_iload_n dX1_count_18 rfl ?_
      rcases tb_case 14 0 (x1) with ⟨c73, hc73, ec73⟩ | ec73
      · match c73, hc73, ec73 with
        | 0, _, ec73 =>
          have ec73 : x1 = iI 0 := ec73
          replace h := h.1 ec73
          refine j_tableIn 88 dX1_count_19 (by rw [ec73]; decide) (by rw [ec73]; decide) (by rw [ec73]; rfl) (by decide) ?_
          refine j_aload_n (r := some a0) dX1_count_88 rfl ?_
          obtain ⟨hk3, h⟩ := h
          refine kg_getr (a := a0) (j := 6) rfl gfX1_29 hk3 dX1_count_89 ?_
          obtain ⟨a4, ea4, hk5, h⟩ := h
          refine kg_geti (a := a4) (j := 5) ea4 gfX1_296 (by decide) hk5 dX1_count_92 ?_
          exact j_ireturn (ty := .int) rfl rfl dX1_count_95 h
        | 1, _, ec73 =>
          have ec73 : x1 = iI 1 := ec73
          replace h := h.2.1 ec73
          refine j_tableIn 163 dX1_count_19 (by rw [ec73]; decide) (by rw [ec73]; decide) (by rw [ec73]; rfl) (by decide) ?_
          refine j_aload_n (r := some a0) dX1_count_163 rfl ?_
          obtain ⟨hk6, h⟩ := h
          refine kg_getr (a := a0) (j := 6) rfl gfX1_29 hk6 dX1_count_164 ?_
          obtain ⟨a7, ea7, hk8, h⟩ := h
          refine kg_getr (a := a7) (j := 4) ea7 gfX1_306 hk8 dX1_count_167 ?_
          refine j_iload_n dX1_count_170 rfl ?_
          refine j_iconst (v := iI 1) dX1_count_171 rfl ?_
          refine j_isub dX1_count_172 ?_
          obtain ⟨a9, ea9, hk10, hi11, h⟩ := h
          refine kg_ald (a := a9) ea9 hk10 hi11 dX1_count_173 ?_
          exact j_ireturn (ty := .int) rfl rfl dX1_count_174 h
        | 2, _, ec73 =>
          have ec73 : x1 = iI 2 := ec73
          replace h := h.2.2.1 ec73
          refine j_tableIn 163 dX1_count_19 (by rw [ec73]; decide) (by rw [ec73]; decide) (by rw [ec73]; rfl) (by decide) ?_
          refine j_aload_n (r := some a0) dX1_count_163 rfl ?_
          obtain ⟨hk12, h⟩ := h
          refine kg_getr (a := a0) (j := 6) rfl gfX1_29 hk12 dX1_count_164 ?_
          obtain ⟨a13, ea13, hk14, h⟩ := h
          refine kg_getr (a := a13) (j := 4) ea13 gfX1_306 hk14 dX1_count_167 ?_
          refine j_iload_n dX1_count_170 rfl ?_
          refine j_iconst (v := iI 1) dX1_count_171 rfl ?_
          refine j_isub dX1_count_172 ?_
          obtain ⟨a15, ea15, hk16, hi17, h⟩ := h
          refine kg_ald (a := a15) ea15 hk16 hi17 dX1_count_173 ?_
          exact j_ireturn (ty := .int) rfl rfl dX1_count_174 h
        | 3, _, ec73 =>
          have ec73 : x1 = iI 3 := ec73
          replace h := h.2.2.2.1 ec73
          refine j_tableIn 163 dX1_count_19 (by rw [ec73]; decide) (by rw [ec73]; decide) (by rw [ec73]; rfl) (by decide) ?_
          refine j_aload_n (r := some a0) dX1_count_163 rfl ?_
          obtain ⟨hk18, h⟩ := h
          refine kg_getr (a := a0) (j := 6) rfl gfX1_29 hk18 dX1_count_164 ?_
          obtain ⟨a19, ea19, hk20, h⟩ := h
          refine kg_getr (a := a19) (j := 4) ea19 gfX1_306 hk20 dX1_count_167 ?_
          refine j_iload_n dX1_count_170 rfl ?_
          refine j_iconst (v := iI 1) dX1_count_171 rfl ?_
          refine j_isub dX1_count_172 ?_
          obtain ⟨a21, ea21, hk22, hi23, h⟩ := h
          refine kg_ald (a := a21) ea21 hk22 hi23 dX1_count_173 ?_
          exact j_ireturn (ty := .int) rfl rfl dX1_count_174 h
        | 4, _, ec73 =>
          have ec73 : x1 = iI 4 := ec73
          replace h := h.2.2.2.2.1 ec73
          refine j_tableIn 163 dX1_count_19 (by rw [ec73]; decide) (by rw [ec73]; decide) (by rw [ec73]; rfl) (by decide) ?_
          refine j_aload_n (r := some a0) dX1_count_163 rfl ?_
          obtain ⟨hk24, h⟩ := h
          refine kg_getr (a := a0) (j := 6) rfl gfX1_29 hk24 dX1_count_164 ?_
          obtain ⟨a25, ea25, hk26, h⟩ := h
          refine kg_getr (a := a25) (j := 4) ea25 gfX1_306 hk26 dX1_count_167 ?_
          refine j_iload_n dX1_count_170 rfl ?_
          refine j_iconst (v := iI 1) dX1_count_171 rfl ?_
          refine j_isub dX1_count_172 ?_
          obtain ⟨a27, ea27, hk28, hi29, h⟩ := h
          refine kg_ald (a := a27) ea27 hk28 hi29 dX1_count_173 ?_
          exact j_ireturn (ty := .int) rfl rfl dX1_count_174 h
        | 5, _, ec73 =>
          have ec73 : x1 = iI 5 := ec73
          replace h := h.2.2.2.2.2.1 ec73
          refine j_tableIn 163 dX1_count_19 (by rw [ec73]; decide) (by rw [ec73]; decide) (by rw [ec73]; rfl) (by decide) ?_
          refine j_aload_n (r := some a0) dX1_count_163 rfl ?_
          obtain ⟨hk30, h⟩ := h
          refine kg_getr (a := a0) (j := 6) rfl gfX1_29 hk30 dX1_count_164 ?_
          obtain ⟨a31, ea31, hk32, h⟩ := h
          refine kg_getr (a := a31) (j := 4) ea31 gfX1_306 hk32 dX1_count_167 ?_
          refine j_iload_n dX1_count_170 rfl ?_
          refine j_iconst (v := iI 1) dX1_count_171 rfl ?_
          refine j_isub dX1_count_172 ?_
          obtain ⟨a33, ea33, hk34, hi35, h⟩ := h
          refine kg_ald (a := a33) ea33 hk34 hi35 dX1_count_173 ?_
          exact j_ireturn (ty := .int) rfl rfl dX1_count_174 h
        | 6, _, ec73 =>
          have ec73 : x1 = iI 6 := ec73
          replace h := h.2.2.2.2.2.2.1 ec73
          refine j_tableIn 163 dX1_count_19 (by rw [ec73]; decide) (by rw [ec73]; decide) (by rw [ec73]; rfl) (by decide) ?_
          refine j_aload_n (r := some a0) dX1_count_163 rfl ?_
          obtain ⟨hk36, h⟩ := h
          refine kg_getr (a := a0) (j := 6) rfl gfX1_29 hk36 dX1_count_164 ?_
          obtain ⟨a37, ea37, hk38, h⟩ := h
          refine kg_getr (a := a37) (j := 4) ea37 gfX1_306 hk38 dX1_count_167 ?_
          refine j_iload_n dX1_count_170 rfl ?_
          refine j_iconst (v := iI 1) dX1_count_171 rfl ?_
          refine j_isub dX1_count_172 ?_
          obtain ⟨a39, ea39, hk40, hi41, h⟩ := h
          refine kg_ald (a := a39) ea39 hk40 hi41 dX1_count_173 ?_
          exact j_ireturn (ty := .int) rfl rfl dX1_count_174 h
        | 7, _, ec73 =>
          have ec73 : x1 = iI 7 := ec73
          replace h := h.2.2.2.2.2.2.2.1 ec73
          refine j_tableIn 96 dX1_count_19 (by rw [ec73]; decide) (by rw [ec73]; decide) (by rw [ec73]; rfl) (by decide) ?_
          refine j_aload_n (r := some a0) dX1_count_96 rfl ?_
          obtain ⟨hk42, h⟩ := h
          refine kg_getr (a := a0) (j := 6) rfl gfX1_29 hk42 dX1_count_97 ?_
          obtain ⟨a43, ea43, hk44, h⟩ := h
          refine kg_geti (a := a43) (j := 6) ea43 gfX1_299 (by decide) hk44 dX1_count_100 ?_
          exact j_ireturn (ty := .int) rfl rfl dX1_count_103 h
        | 8, _, ec73 =>
          have ec73 : x1 = iI 8 := ec73
          replace h := h.2.2.2.2.2.2.2.2.1 ec73
          refine j_tableIn 104 dX1_count_19 (by rw [ec73]; decide) (by rw [ec73]; decide) (by rw [ec73]; rfl) (by decide) ?_
          refine j_aload_n (r := some a0) dX1_count_104 rfl ?_
          obtain ⟨hk45, h⟩ := h
          refine kg_getr (a := a0) (j := 7) rfl gfX1_38 hk45 dX1_count_105 ?_
          obtain ⟨a46, ea46, hk47, h⟩ := h
          refine kg_getr (a := a46) (j := 2) ea46 gfX1_206 hk47 dX1_count_108 ?_
          obtain ⟨a48, ea48, hk49, h⟩ := h
          refine jg_calli (rest := []) (kg_lkV (As := []) (a := a48) (c := 21) kgJ2_size_21 (by decide) rfl hk49 q1326 rfl (by rw [ea48]; rfl) dX1_count_111) cwJ2_size (Nat.le_of_ble_eq_true rfl) rfl dX1_count_111 (Nat.succ_le_succ (Nat.zero_le _)) (h.mono (onI_mono (fun r51 t50 h hlt50 => ?_) (fun _ _ h => h)))
          replace h := h hlt50
          replace hk45 := hlt50.tag hk45 (by decide)
          replace hk47 := hlt50.tag hk47 (by decide)
          replace hk49 := hlt50.tag hk49 (by decide)
          exact j_ireturn (ty := .int) rfl rfl dX1_count_114 h
        | 9, _, ec73 =>
          have ec73 : x1 = iI 9 := ec73
          replace h := h.2.2.2.2.2.2.2.2.2.1 ec73
          refine j_tableIn 115 dX1_count_19 (by rw [ec73]; decide) (by rw [ec73]; decide) (by rw [ec73]; rfl) (by decide) ?_
          refine j_aload_n (r := some a0) dX1_count_115 rfl ?_
          obtain ⟨hk52, h⟩ := h
          refine kg_getr (a := a0) (j := 5) rfl gfX1_20 hk52 dX1_count_116 ?_
          obtain ⟨a53, ea53, hk54, h⟩ := h
          refine kg_geti (a := a53) (j := 3) ea53 gfX1_213 (by decide) hk54 dX1_count_119 ?_
          exact j_ireturn (ty := .int) rfl rfl dX1_count_122 h
        | 10, _, ec73 =>
          have ec73 : x1 = iI 10 := ec73
          replace h := h.2.2.2.2.2.2.2.2.2.2.1 ec73
          refine j_tableIn 123 dX1_count_19 (by rw [ec73]; decide) (by rw [ec73]; decide) (by rw [ec73]; rfl) (by decide) ?_
          refine j_aload_n (r := some a0) dX1_count_123 rfl ?_
          obtain ⟨hk55, h⟩ := h
          refine kg_getr (a := a0) (j := 5) rfl gfX1_20 hk55 dX1_count_124 ?_
          refine j_aload_n (r := some a0) dX1_count_127 rfl ?_
          refine kg_getr (a := a0) (j := 5) rfl gfX1_20 hk55 dX1_count_128 ?_
          obtain ⟨a56, ea56, hk57, h⟩ := h
          refine kg_getr (a := a56) (j := 1) ea56 gfX1_226 hk57 dX1_count_131 ?_
          refine jg_calli (rest := []) (kg_lkV (As := [va_rf (gr t1 a56 1)]) (a := a56) (c := 1) kgX2_count_1 (by decide) rfl hk57 q1890 rfl (by rw [ea56]; rfl) dX1_count_134) cwX2_count (Nat.le_of_ble_eq_true rfl) rfl dX1_count_134 (Nat.succ_le_succ (Nat.zero_le _)) (h.mono (onI_mono (fun r59 t58 h hlt58 => ?_) (fun _ _ h => h)))
          replace h := h hlt58
          replace hk55 := hlt58.tag hk55 (by decide)
          replace hk57 := hlt58.tag hk57 (by decide)
          exact j_ireturn (ty := .int) rfl rfl dX1_count_137 h
        | 11, _, ec73 =>
          have ec73 : x1 = iI 11 := ec73
          replace h := h.2.2.2.2.2.2.2.2.2.2.2.1 ec73
          refine j_tableIn 138 dX1_count_19 (by rw [ec73]; decide) (by rw [ec73]; decide) (by rw [ec73]; rfl) (by decide) ?_
          refine j_aload_n (r := some a0) dX1_count_138 rfl ?_
          obtain ⟨hk60, h⟩ := h
          refine kg_getr (a := a0) (j := 5) rfl gfX1_20 hk60 dX1_count_139 ?_
          refine j_aload_n (r := some a0) dX1_count_142 rfl ?_
          refine kg_getr (a := a0) (j := 5) rfl gfX1_20 hk60 dX1_count_143 ?_
          obtain ⟨a61, ea61, hk62, h⟩ := h
          refine kg_getr (a := a61) (j := 2) ea61 gfX1_233 hk62 dX1_count_146 ?_
          refine jg_calli (rest := []) (kg_lkV (As := [va_rf (gr t1 a61 2)]) (a := a61) (c := 1) kgX2_count_1 (by decide) rfl hk62 q1890 rfl (by rw [ea61]; rfl) dX1_count_149) cwX2_count (Nat.le_of_ble_eq_true rfl) rfl dX1_count_149 (Nat.succ_le_succ (Nat.zero_le _)) (h.mono (onI_mono (fun r64 t63 h hlt63 => ?_) (fun _ _ h => h)))
          replace h := h hlt63
          replace hk60 := hlt63.tag hk60 (by decide)
          replace hk62 := hlt63.tag hk62 (by decide)
          exact j_ireturn (ty := .int) rfl rfl dX1_count_152 h
        | 12, _, ec73 =>
          have ec73 : x1 = iI 12 := ec73
          replace h := h.2.2.2.2.2.2.2.2.2.2.2.2.1 ec73
          refine j_tableIn 153 dX1_count_19 (by rw [ec73]; decide) (by rw [ec73]; decide) (by rw [ec73]; rfl) (by decide) ?_
          refine j_aload_n (r := some a0) dX1_count_153 rfl ?_
          obtain ⟨hk65, h⟩ := h
          refine kg_geti (a := a0) (j := 9) rfl gfX1_282 (by decide) hk65 dX1_count_154 ?_
          exact j_ireturn (ty := .int) rfl rfl dX1_count_157 h
        | 13, _, ec73 =>
          have ec73 : x1 = iI 13 := ec73
          replace h := h.2.2.2.2.2.2.2.2.2.2.2.2.2.1 ec73
          refine j_tableIn 158 dX1_count_19 (by rw [ec73]; decide) (by rw [ec73]; decide) (by rw [ec73]; rfl) (by decide) ?_
          refine j_aload_n (r := some a0) dX1_count_158 rfl ?_
          obtain ⟨hk66, h⟩ := h
          refine kg_geti (a := a0) (j := 1) rfl gfX1_59 (by decide) hk66 dX1_count_159 ?_
          exact j_ireturn (ty := .int) rfl rfl dX1_count_162 h
        | q_ + 14, hq_, _ => exact absurd hq_ (by omega)
      · replace h := h.2.2.2.2.2.2.2.2.2.2.2.2.2.2 ec73
        refine j_tableOut 163 dX1_count_19 ec73 (by decide) ?_
        refine j_aload_n (r := some a0) dX1_count_163 rfl ?_
        obtain ⟨hk67, h⟩ := h
        refine kg_getr (a := a0) (j := 6) rfl gfX1_29 hk67 dX1_count_164 ?_
        obtain ⟨a68, ea68, hk69, h⟩ := h
        refine kg_getr (a := a68) (j := 4) ea68 gfX1_306 hk69 dX1_count_167 ?_
        refine j_iload_n dX1_count_170 rfl ?_
        refine j_iconst (v := iI 1) dX1_count_171 rfl ?_
        refine j_isub dX1_count_172 ?_
        obtain ⟨a70, ea70, hk71, hi72, h⟩ := h
        refine kg_ald (a := a70) ea70 hk71 hi72 dX1_count_173 ?_
        exact j_ireturn (ty := .int) rfl rfl dX1_count_174 h
theorem tX1_count_14 {G : GPl} {s0 : State} {l : Launch} {K : Nat → Option Nat} {T : Nat → Nat} {lev : Nat} {st0 : GSt} {Q : Outcome → GSt → Prop} {a0 : Nat} {x1 : Int32} {σ : GSt} (h : (CQ (wP G s0 l K T) mX1_there lev [.int (iI 0)] σ (onV (fun t1 => gle σ t1 → ((x1 = iI 0 → (gk t1 a0 = 1 ∧ (∃ a4, gr t1 a0 6 = some a4 ∧ (gk t1 a4 = 3 ∧ Q (.returned (some (.int (gi t1 a4 5)))) t1)))) ∧ (x1 = iI 1 → (gk t1 a0 = 1 ∧ (∃ a7, gr t1 a0 6 = some a7 ∧ (gk t1 a7 = 3 ∧ (∃ a9, gr t1 a7 4 = some a9 ∧ (gk t1 a9 = 101 ∧ (inr (x1 - (iI 1)) (gl t1 a9) ∧ Q (.returned (some (.int (gi t1 a9 (ix (x1 - (iI 1))))))) t1))))))) ∧ (x1 = iI 2 → (gk t1 a0 = 1 ∧ (∃ a13, gr t1 a0 6 = some a13 ∧ (gk t1 a13 = 3 ∧ (∃ a15, gr t1 a13 4 = some a15 ∧ (gk t1 a15 = 101 ∧ (inr (x1 - (iI 1)) (gl t1 a15) ∧ Q (.returned (some (.int (gi t1 a15 (ix (x1 - (iI 1))))))) t1))))))) ∧ (x1 = iI 3 → (gk t1 a0 = 1 ∧ (∃ a19, gr t1 a0 6 = some a19 ∧ (gk t1 a19 = 3 ∧ (∃ a21, gr t1 a19 4 = some a21 ∧ (gk t1 a21 = 101 ∧ (inr (x1 - (iI 1)) (gl t1 a21) ∧ Q (.returned (some (.int (gi t1 a21 (ix (x1 - (iI 1))))))) t1))))))) ∧ (x1 = iI 4 → (gk t1 a0 = 1 ∧ (∃ a25, gr t1 a0 6 = some a25 ∧ (gk t1 a25 = 3 ∧ (∃ a27, gr t1 a25 4 = some a27 ∧ (gk t1 a27 = 101 ∧ (inr (x1 - (iI 1)) (gl t1 a27) ∧ Q (.returned (some (.int (gi t1 a27 (ix (x1 - (iI 1))))))) t1))))))) ∧ (x1 = iI 5 → (gk t1 a0 = 1 ∧ (∃ a31, gr t1 a0 6 = some a31 ∧ (gk t1 a31 = 3 ∧ (∃ a33, gr t1 a31 4 = some a33 ∧ (gk t1 a33 = 101 ∧ (inr (x1 - (iI 1)) (gl t1 a33) ∧ Q (.returned (some (.int (gi t1 a33 (ix (x1 - (iI 1))))))) t1))))))) ∧ (x1 = iI 6 → (gk t1 a0 = 1 ∧ (∃ a37, gr t1 a0 6 = some a37 ∧ (gk t1 a37 = 3 ∧ (∃ a39, gr t1 a37 4 = some a39 ∧ (gk t1 a39 = 101 ∧ (inr (x1 - (iI 1)) (gl t1 a39) ∧ Q (.returned (some (.int (gi t1 a39 (ix (x1 - (iI 1))))))) t1))))))) ∧ (x1 = iI 7 → (gk t1 a0 = 1 ∧ (∃ a43, gr t1 a0 6 = some a43 ∧ (gk t1 a43 = 3 ∧ Q (.returned (some (.int (gi t1 a43 6)))) t1)))) ∧ (x1 = iI 8 → (gk t1 a0 = 1 ∧ (∃ a46, gr t1 a0 7 = some a46 ∧ (gk t1 a46 = 4 ∧ (∃ a48, gr t1 a46 2 = some a48 ∧ (gk t1 a48 = 22 ∧ (CQ (wP G s0 l K T) mJ2_size lev (.ref a48 :: []) t1 (onI (fun r51 t50 => gle t1 t50 → Q (.returned (some (.int r51))) t50) (fun x t => gle t1 t → Q (.threw x) t))))))))) ∧ (x1 = iI 9 → (gk t1 a0 = 1 ∧ (∃ a53, gr t1 a0 5 = some a53 ∧ (gk t1 a53 = 2 ∧ Q (.returned (some (.int (gi t1 a53 3)))) t1)))) ∧ (x1 = iI 10 → (gk t1 a0 = 1 ∧ (∃ a56, gr t1 a0 5 = some a56 ∧ (gk t1 a56 = 2 ∧ (CQ (wP G s0 l K T) mX2_count lev (.ref a56 :: [va_rf (gr t1 a56 1)]) t1 (onI (fun r59 t58 => gle t1 t58 → Q (.returned (some (.int r59))) t58) (fun x t => gle t1 t → Q (.threw x) t))))))) ∧ (x1 = iI 11 → (gk t1 a0 = 1 ∧ (∃ a61, gr t1 a0 5 = some a61 ∧ (gk t1 a61 = 2 ∧ (CQ (wP G s0 l K T) mX2_count lev (.ref a61 :: [va_rf (gr t1 a61 2)]) t1 (onI (fun r64 t63 => gle t1 t63 → Q (.returned (some (.int r64))) t63) (fun x t => gle t1 t → Q (.threw x) t))))))) ∧ (x1 = iI 12 → (gk t1 a0 = 1 ∧ Q (.returned (some (.int (gi t1 a0 9)))) t1)) ∧ (x1 = iI 13 → (gk t1 a0 = 1 ∧ Q (.returned (some (.int (gi t1 a0 1)))) t1)) ∧ (tout x1 0 13 → (gk t1 a0 = 1 ∧ (∃ a68, gr t1 a0 6 = some a68 ∧ (gk t1 a68 = 3 ∧ (∃ a70, gr t1 a68 4 = some a70 ∧ (gk t1 a70 = 101 ∧ (inr (x1 - (iI 1)) (gl t1 a70) ∧ Q (.returned (some (.int (gi t1 a70 (ix (x1 - (iI 1))))))) t1))))))))) (fun x t => gle σ t → Q (.threw x) t)))) : jX1_count_14 G s0 l K T lev st0 Q a0 x1 σ := by
  refine j_iconst (v := iI 0) dX1_count_14 rfl ?_
  refine jg_callv (rest := []) (kg_lkS (As := [.int (iI 0)]) ktX1_there q1839 rfl rfl dX1_count_15) cwX1_there (Nat.le_of_ble_eq_true rfl) rfl dX1_count_15 (Nat.succ_le_succ (Nat.zero_le _)) (h.mono (onV_mono (fun t1 h hlt1 => ?_) (fun _ _ h => h)))
  replace h := h hlt1
  refine j_iload_n dX1_count_18 rfl ?_
  rcases tb_case 14 0 (x1) with ⟨c73, hc73, ec73⟩ | ec73
  · match c73, hc73, ec73 with
    | 0, _, ec73 =>
      have ec73 : x1 = iI 0 := ec73
      replace h := h.1 ec73
      refine j_tableIn 88 dX1_count_19 (by rw [ec73]; decide) (by rw [ec73]; decide) (by rw [ec73]; rfl) (by decide) ?_
      refine j_aload_n (r := some a0) dX1_count_88 rfl ?_
      obtain ⟨hk3, h⟩ := h
      refine kg_getr (a := a0) (j := 6) rfl gfX1_29 hk3 dX1_count_89 ?_
      obtain ⟨a4, ea4, hk5, h⟩ := h
      refine kg_geti (a := a4) (j := 5) ea4 gfX1_296 (by decide) hk5 dX1_count_92 ?_
      exact j_ireturn (ty := .int) rfl rfl dX1_count_95 h
    | 1, _, ec73 =>
      have ec73 : x1 = iI 1 := ec73
      replace h := h.2.1 ec73
      refine j_tableIn 163 dX1_count_19 (by rw [ec73]; decide) (by rw [ec73]; decide) (by rw [ec73]; rfl) (by decide) ?_
      refine j_aload_n (r := some a0) dX1_count_163 rfl ?_
      obtain ⟨hk6, h⟩ := h
      refine kg_getr (a := a0) (j := 6) rfl gfX1_29 hk6 dX1_count_164 ?_
      obtain ⟨a7, ea7, hk8, h⟩ := h
      refine kg_getr (a := a7) (j := 4) ea7 gfX1_306 hk8 dX1_count_167 ?_
      refine j_iload_n dX1_count_170 rfl ?_
      refine j_iconst (v := iI 1) dX1_count_171 rfl ?_
      refine j_isub dX1_count_172 ?_
      obtain ⟨a9, ea9, hk10, hi11, h⟩ := h
      refine kg_ald (a := a9) ea9 hk10 hi11 dX1_count_173 ?_
      exact j_ireturn (ty := .int) rfl rfl dX1_count_174 h
    | 2, _, ec73 =>
      have ec73 : x1 = iI 2 := ec73
      replace h := h.2.2.1 ec73
      refine j_tableIn 163 dX1_count_19 (by rw [ec73]; decide) (by rw [ec73]; decide) (by rw [ec73]; rfl) (by decide) ?_
      refine j_aload_n (r := some a0) dX1_count_163 rfl ?_
      obtain ⟨hk12, h⟩ := h
      refine kg_getr (a := a0) (j := 6) rfl gfX1_29 hk12 dX1_count_164 ?_
      obtain ⟨a13, ea13, hk14, h⟩ := h
      refine kg_getr (a := a13) (j := 4) ea13 gfX1_306 hk14 dX1_count_167 ?_
      refine j_iload_n dX1_count_170 rfl ?_
      refine j_iconst (v := iI 1) dX1_count_171 rfl ?_
      refine j_isub dX1_count_172 ?_
      obtain ⟨a15, ea15, hk16, hi17, h⟩ := h
      refine kg_ald (a := a15) ea15 hk16 hi17 dX1_count_173 ?_
      exact j_ireturn (ty := .int) rfl rfl dX1_count_174 h
    | 3, _, ec73 =>
      have ec73 : x1 = iI 3 := ec73
      replace h := h.2.2.2.1 ec73
      refine j_tableIn 163 dX1_count_19 (by rw [ec73]; decide) (by rw [ec73]; decide) (by rw [ec73]; rfl) (by decide) ?_
      refine j_aload_n (r := some a0) dX1_count_163 rfl ?_
      obtain ⟨hk18, h⟩ := h
      refine kg_getr (a := a0) (j := 6) rfl gfX1_29 hk18 dX1_count_164 ?_
      obtain ⟨a19, ea19, hk20, h⟩ := h
      refine kg_getr (a := a19) (j := 4) ea19 gfX1_306 hk20 dX1_count_167 ?_
      refine j_iload_n dX1_count_170 rfl ?_
      refine j_iconst (v := iI 1) dX1_count_171 rfl ?_
      refine j_isub dX1_count_172 ?_
      obtain ⟨a21, ea21, hk22, hi23, h⟩ := h
      refine kg_ald (a := a21) ea21 hk22 hi23 dX1_count_173 ?_
      exact j_ireturn (ty := .int) rfl rfl dX1_count_174 h
    | 4, _, ec73 =>
      have ec73 : x1 = iI 4 := ec73
      replace h := h.2.2.2.2.1 ec73
      refine j_tableIn 163 dX1_count_19 (by rw [ec73]; decide) (by rw [ec73]; decide) (by rw [ec73]; rfl) (by decide) ?_
      refine j_aload_n (r := some a0) dX1_count_163 rfl ?_
      obtain ⟨hk24, h⟩ := h
      refine kg_getr (a := a0) (j := 6) rfl gfX1_29 hk24 dX1_count_164 ?_
      obtain ⟨a25, ea25, hk26, h⟩ := h
      refine kg_getr (a := a25) (j := 4) ea25 gfX1_306 hk26 dX1_count_167 ?_
      refine j_iload_n dX1_count_170 rfl ?_
      refine j_iconst (v := iI 1) dX1_count_171 rfl ?_
      refine j_isub dX1_count_172 ?_
      obtain ⟨a27, ea27, hk28, hi29, h⟩ := h
      refine kg_ald (a := a27) ea27 hk28 hi29 dX1_count_173 ?_
      exact j_ireturn (ty := .int) rfl rfl dX1_count_174 h
    | 5, _, ec73 =>
      have ec73 : x1 = iI 5 := ec73
      replace h := h.2.2.2.2.2.1 ec73
      refine j_tableIn 163 dX1_count_19 (by rw [ec73]; decide) (by rw [ec73]; decide) (by rw [ec73]; rfl) (by decide) ?_
      refine j_aload_n (r := some a0) dX1_count_163 rfl ?_
      obtain ⟨hk30, h⟩ := h
      refine kg_getr (a := a0) (j := 6) rfl gfX1_29 hk30 dX1_count_164 ?_
      obtain ⟨a31, ea31, hk32, h⟩ := h
      refine kg_getr (a := a31) (j := 4) ea31 gfX1_306 hk32 dX1_count_167 ?_
      refine j_iload_n dX1_count_170 rfl ?_
      refine j_iconst (v := iI 1) dX1_count_171 rfl ?_
      refine j_isub dX1_count_172 ?_
      obtain ⟨a33, ea33, hk34, hi35, h⟩ := h
      refine kg_ald (a := a33) ea33 hk34 hi35 dX1_count_173 ?_
      exact j_ireturn (ty := .int) rfl rfl dX1_count_174 h
    | 6, _, ec73 =>
      have ec73 : x1 = iI 6 := ec73
      replace h := h.2.2.2.2.2.2.1 ec73
      refine j_tableIn 163 dX1_count_19 (by rw [ec73]; decide) (by rw [ec73]; decide) (by rw [ec73]; rfl) (by decide) ?_
      refine j_aload_n (r := some a0) dX1_count_163 rfl ?_
      obtain ⟨hk36, h⟩ := h
      refine kg_getr (a := a0) (j := 6) rfl gfX1_29 hk36 dX1_count_164 ?_
      obtain ⟨a37, ea37, hk38, h⟩ := h
      refine kg_getr (a := a37) (j := 4) ea37 gfX1_306 hk38 dX1_count_167 ?_
      refine j_iload_n dX1_count_170 rfl ?_
      refine j_iconst (v := iI 1) dX1_count_171 rfl ?_
      refine j_isub dX1_count_172 ?_
      obtain ⟨a39, ea39, hk40, hi41, h⟩ := h
      refine kg_ald (a := a39) ea39 hk40 hi41 dX1_count_173 ?_
      exact j_ireturn (ty := .int) rfl rfl dX1_count_174 h
    | 7, _, ec73 =>
      have ec73 : x1 = iI 7 := ec73
      replace h := h.2.2.2.2.2.2.2.1 ec73
      refine j_tableIn 96 dX1_count_19 (by rw [ec73]; decide) (by rw [ec73]; decide) (by rw [ec73]; rfl) (by decide) ?_
      refine j_aload_n (r := some a0) dX1_count_96 rfl ?_
      obtain ⟨hk42, h⟩ := h
      refine kg_getr (a := a0) (j := 6) rfl gfX1_29 hk42 dX1_count_97 ?_
      obtain ⟨a43, ea43, hk44, h⟩ := h
      refine kg_geti (a := a43) (j := 6) ea43 gfX1_299 (by decide) hk44 dX1_count_100 ?_
      exact j_ireturn (ty := .int) rfl rfl dX1_count_103 h
    | 8, _, ec73 =>
      have ec73 : x1 = iI 8 := ec73
      replace h := h.2.2.2.2.2.2.2.2.1 ec73
      refine j_tableIn 104 dX1_count_19 (by rw [ec73]; decide) (by rw [ec73]; decide) (by rw [ec73]; rfl) (by decide) ?_
      refine j_aload_n (r := some a0) dX1_count_104 rfl ?_
      obtain ⟨hk45, h⟩ := h
      refine kg_getr (a := a0) (j := 7) rfl gfX1_38 hk45 dX1_count_105 ?_
      obtain ⟨a46, ea46, hk47, h⟩ := h
      refine kg_getr (a := a46) (j := 2) ea46 gfX1_206 hk47 dX1_count_108 ?_
      obtain ⟨a48, ea48, hk49, h⟩ := h
      refine jg_calli (rest := []) (kg_lkV (As := []) (a := a48) (c := 21) kgJ2_size_21 (by decide) rfl hk49 q1326 rfl (by rw [ea48]; rfl) dX1_count_111) cwJ2_size (Nat.le_of_ble_eq_true rfl) rfl dX1_count_111 (Nat.succ_le_succ (Nat.zero_le _)) (h.mono (onI_mono (fun r51 t50 h hlt50 => ?_) (fun _ _ h => h)))
      replace h := h hlt50
      replace hk45 := hlt50.tag hk45 (by decide)
      replace hk47 := hlt50.tag hk47 (by decide)
      replace hk49 := hlt50.tag hk49 (by decide)
      exact j_ireturn (ty := .int) rfl rfl dX1_count_114 h
    | 9, _, ec73 =>
      have ec73 : x1 = iI 9 := ec73
      replace h := h.2.2.2.2.2.2.2.2.2.1 ec73
      refine j_tableIn 115 dX1_count_19 (by rw [ec73]; decide) (by rw [ec73]; decide) (by rw [ec73]; rfl) (by decide) ?_
      refine j_aload_n (r := some a0) dX1_count_115 rfl ?_
      obtain ⟨hk52, h⟩ := h
      refine kg_getr (a := a0) (j := 5) rfl gfX1_20 hk52 dX1_count_116 ?_
      obtain ⟨a53, ea53, hk54, h⟩ := h
      refine kg_geti (a := a53) (j := 3) ea53 gfX1_213 (by decide) hk54 dX1_count_119 ?_
      exact j_ireturn (ty := .int) rfl rfl dX1_count_122 h
    | 10, _, ec73 =>
      have ec73 : x1 = iI 10 := ec73
      replace h := h.2.2.2.2.2.2.2.2.2.2.1 ec73
      refine j_tableIn 123 dX1_count_19 (by rw [ec73]; decide) (by rw [ec73]; decide) (by rw [ec73]; rfl) (by decide) ?_
      refine j_aload_n (r := some a0) dX1_count_123 rfl ?_
      obtain ⟨hk55, h⟩ := h
      refine kg_getr (a := a0) (j := 5) rfl gfX1_20 hk55 dX1_count_124 ?_
      refine j_aload_n (r := some a0) dX1_count_127 rfl ?_
      refine kg_getr (a := a0) (j := 5) rfl gfX1_20 hk55 dX1_count_128 ?_
      obtain ⟨a56, ea56, hk57, h⟩ := h
      refine kg_getr (a := a56) (j := 1) ea56 gfX1_226 hk57 dX1_count_131 ?_
      refine jg_calli (rest := []) (kg_lkV (As := [va_rf (gr t1 a56 1)]) (a := a56) (c := 1) kgX2_count_1 (by decide) rfl hk57 q1890 rfl (by rw [ea56]; rfl) dX1_count_134) cwX2_count (Nat.le_of_ble_eq_true rfl) rfl dX1_count_134 (Nat.succ_le_succ (Nat.zero_le _)) (h.mono (onI_mono (fun r59 t58 h hlt58 => ?_) (fun _ _ h => h)))
      replace h := h hlt58
      replace hk55 := hlt58.tag hk55 (by decide)
      replace hk57 := hlt58.tag hk57 (by decide)
      exact j_ireturn (ty := .int) rfl rfl dX1_count_137 h
    | 11, _, ec73 =>
      have ec73 : x1 = iI 11 := ec73
      replace h := h.2.2.2.2.2.2.2.2.2.2.2.1 ec73
      refine j_tableIn 138 dX1_count_19 (by rw [ec73]; decide) (by rw [ec73]; decide) (by rw [ec73]; rfl) (by decide) ?_
      refine j_aload_n (r := some a0) dX1_count_138 rfl ?_
      obtain ⟨hk60, h⟩ := h
      refine kg_getr (a := a0) (j := 5) rfl gfX1_20 hk60 dX1_count_139 ?_
      refine j_aload_n (r := some a0) dX1_count_142 rfl ?_
      refine kg_getr (a := a0) (j := 5) rfl gfX1_20 hk60 dX1_count_143 ?_
      obtain ⟨a61, ea61, hk62, h⟩ := h
      refine kg_getr (a := a61) (j := 2) ea61 gfX1_233 hk62 dX1_count_146 ?_
      refine jg_calli (rest := []) (kg_lkV (As := [va_rf (gr t1 a61 2)]) (a := a61) (c := 1) kgX2_count_1 (by decide) rfl hk62 q1890 rfl (by rw [ea61]; rfl) dX1_count_149) cwX2_count (Nat.le_of_ble_eq_true rfl) rfl dX1_count_149 (Nat.succ_le_succ (Nat.zero_le _)) (h.mono (onI_mono (fun r64 t63 h hlt63 => ?_) (fun _ _ h => h)))
      replace h := h hlt63
      replace hk60 := hlt63.tag hk60 (by decide)
      replace hk62 := hlt63.tag hk62 (by decide)
      exact j_ireturn (ty := .int) rfl rfl dX1_count_152 h
    | 12, _, ec73 =>
      have ec73 : x1 = iI 12 := ec73
      replace h := h.2.2.2.2.2.2.2.2.2.2.2.2.1 ec73
      refine j_tableIn 153 dX1_count_19 (by rw [ec73]; decide) (by rw [ec73]; decide) (by rw [ec73]; rfl) (by decide) ?_
      refine j_aload_n (r := some a0) dX1_count_153 rfl ?_
      obtain ⟨hk65, h⟩ := h
      refine kg_geti (a := a0) (j := 9) rfl gfX1_282 (by decide) hk65 dX1_count_154 ?_
      exact j_ireturn (ty := .int) rfl rfl dX1_count_157 h
    | 13, _, ec73 =>
      have ec73 : x1 = iI 13 := ec73
      replace h := h.2.2.2.2.2.2.2.2.2.2.2.2.2.1 ec73
      refine j_tableIn 158 dX1_count_19 (by rw [ec73]; decide) (by rw [ec73]; decide) (by rw [ec73]; rfl) (by decide) ?_
      refine j_aload_n (r := some a0) dX1_count_158 rfl ?_
      obtain ⟨hk66, h⟩ := h
      refine kg_geti (a := a0) (j := 1) rfl gfX1_59 (by decide) hk66 dX1_count_159 ?_
      exact j_ireturn (ty := .int) rfl rfl dX1_count_162 h
    | q_ + 14, hq_, _ => exact absurd hq_ (by omega)
  · replace h := h.2.2.2.2.2.2.2.2.2.2.2.2.2.2 ec73
    refine j_tableOut 163 dX1_count_19 ec73 (by decide) ?_
    refine j_aload_n (r := some a0) dX1_count_163 rfl ?_
    obtain ⟨hk67, h⟩ := h
    refine kg_getr (a := a0) (j := 6) rfl gfX1_29 hk67 dX1_count_164 ?_
    obtain ⟨a68, ea68, hk69, h⟩ := h
    refine kg_getr (a := a68) (j := 4) ea68 gfX1_306 hk69 dX1_count_167 ?_
    refine j_iload_n dX1_count_170 rfl ?_
    refine j_iconst (v := iI 1) dX1_count_171 rfl ?_
    refine j_isub dX1_count_172 ?_
    obtain ⟨a70, ea70, hk71, hi72, h⟩ := h
    refine kg_ald (a := a70) ea70 hk71 hi72 dX1_count_173 ?_
    exact j_ireturn (ty := .int) rfl rfl dX1_count_174 h
theorem tX1_name {G : GPl} {s0 : State} {l : Launch} {K : Nat → Option Nat} {T : Nat → Nat} {lev : Nat} {Q : Outcome → GSt → Prop} {a0 : Nat} {x1 : Int32} {x2 : Int32} {σ : GSt} (h : (gk σ a0 = 1 ∧ (CQ (wP G s0 l K T) mX1_nameAt lev (.ref a0 :: [.int x1]) σ (onR (fun r3 t2 => gle σ t2 → ((x2 < 0 → (CQ (wP G s0 l K T) mX1_there lev [.int (iI 0)] t2 (onV (fun t4 => gle t2 t4 → ((x2 = 0 → (∃ a20, r3 = some a20 ∧ (gk t4 a20 = 21 ∧ ((gr t4 a20 3 = none → Q (.returned (some (.int (iI 0)))) t4) ∧ (∀ a22, gr t4 a20 3 = some a22 → Q (.returned (some (.int (iI 1)))) t4))))) ∧ (¬ x2 = 0 → ((x2 = (iI 1) → (∃ a17, r3 = some a17 ∧ (gk t4 a17 = 21 ∧ Q (.returned (some (.int (gi t4 a17 2)))) t4))) ∧ (¬ x2 = (iI 1) → ((x2 = (iI 2) → (∃ a10, r3 = some a10 ∧ (gk t4 a10 = 21 ∧ (∃ a12, gr t4 a10 0 = some a12 ∧ (gk t4 a12 = 23 ∧ (CQ (wP G s0 l K T) mJ3_length lev (.ref a12 :: []) t4 (onI (fun r15 t14 => gle t4 t14 → Q (.returned (some (.int r15))) t14) (fun x t => gle t4 t → Q (.threw x) t)))))))) ∧ (¬ x2 = (iI 2) → (∃ a6, r3 = some a6 ∧ (gk t4 a6 = 21 ∧ (CQ (wP G s0 l K T) mX1_signOf lev [va_rf (gr t4 a6 0), .int (x2 - (iI 3))] t4 (onI (fun r9 t8 => gle t4 t8 → Q (.returned (some (.int r9))) t8) (fun x t => gle t4 t → Q (.threw x) t)))))))))))) (fun x t => gle t2 t → Q (.threw x) t)))) ∧ (¬ x2 < 0 → (CQ (wP G s0 l K T) mX1_there lev [.int (iI 1)] t2 (onV (fun t24 => gle t2 t24 → ((x2 = 0 → (∃ a40, r3 = some a40 ∧ (gk t24 a40 = 21 ∧ ((gr t24 a40 3 = none → Q (.returned (some (.int (iI 0)))) t24) ∧ (∀ a42, gr t24 a40 3 = some a42 → Q (.returned (some (.int (iI 1)))) t24))))) ∧ (¬ x2 = 0 → ((x2 = (iI 1) → (∃ a37, r3 = some a37 ∧ (gk t24 a37 = 21 ∧ Q (.returned (some (.int (gi t24 a37 2)))) t24))) ∧ (¬ x2 = (iI 1) → ((x2 = (iI 2) → (∃ a30, r3 = some a30 ∧ (gk t24 a30 = 21 ∧ (∃ a32, gr t24 a30 0 = some a32 ∧ (gk t24 a32 = 23 ∧ (CQ (wP G s0 l K T) mJ3_length lev (.ref a32 :: []) t24 (onI (fun r35 t34 => gle t24 t34 → Q (.returned (some (.int r35))) t34) (fun x t => gle t24 t → Q (.threw x) t)))))))) ∧ (¬ x2 = (iI 2) → (∃ a26, r3 = some a26 ∧ (gk t24 a26 = 21 ∧ (CQ (wP G s0 l K T) mX1_signOf lev [va_rf (gr t24 a26 0), .int (x2 - (iI 3))] t24 (onI (fun r29 t28 => gle t24 t28 → Q (.returned (some (.int r29))) t28) (fun x t => gle t24 t → Q (.threw x) t)))))))))))) (fun x t => gle t2 t → Q (.threw x) t)))))) (fun x t => gle σ t → Q (.threw x) t))))) : CQ (wP G s0 l K T) mX1_name (lev + 1) [.ref a0, .int x1, .int x2] σ Q := by
  refine CQ.of3 1 (lv := [some (va_rf (some a0)), some (.int x1), some (.int x2), none]) (by decide) (Nat.le_of_ble_eq_true rfl) (cat1_cons rfl (cat1_cons rfl (cat1_cons rfl cat1_nil))) rfl ?_
  refine j_aload_n (r := some a0) dX1_name_0 rfl ?_
  refine j_iload_n dX1_name_1 rfl ?_
  obtain ⟨hk1, h⟩ := h
  refine jg_callr (rest := []) (kg_lkV (As := [.int x1]) (a := a0) (c := 0) kgX1_nameAt_0 (by decide) rfl hk1 q1901 rfl rfl dX1_name_2) cwX1_nameAt (Nat.le_of_ble_eq_true rfl) rfl dX1_name_2 (Nat.succ_le_succ (Nat.zero_le _)) (h.mono (onR_mono (fun r3 t2 h hlt2 => ?_) (fun _ _ h => h)))
  replace h := h hlt2
  replace hk1 := hlt2.tag hk1 (by decide)
  refine j_astore_n (r := r3) (lv' := [some (va_rf (some a0)), some (.int x1), some (.int x2), some (va_rf r3)]) dX1_name_5 (by decide) rfl ?_
  refine j_iload_n dX1_name_6 rfl ?_
  refine j_if_lt 14 dX1_name_7 (by decide) (fun c44 => ?_) (fun c44 => ?_)
  · replace h := h.1 c44
    refine j_iconst (v := iI 0) dX1_name_14 rfl ?_
    refine jg_callv (rest := []) (kg_lkS (As := [.int (iI 0)]) ktX1_there q1839 rfl rfl dX1_name_15) cwX1_there (Nat.le_of_ble_eq_true rfl) rfl dX1_name_15 (Nat.succ_le_succ (Nat.zero_le _)) (h.mono (onV_mono (fun t4 h hlt4 => ?_) (fun _ _ h => h)))
    replace h := h hlt4
    replace hk1 := hlt4.tag hk1 (by decide)
    refine j_iload_n dX1_name_18 rfl ?_
    refine j_if_ne 37 dX1_name_19 (by decide) (fun c23 => ?_) (fun c23 => ?_)
    · replace h := h.2 c23
      refine j_iload_n dX1_name_37 rfl ?_
      refine j_iconst (v := iI 1) dX1_name_38 rfl ?_
      refine j_icmp_ne 49 dX1_name_39 (by decide) (fun c19 => ?_) (fun c19 => ?_)
      · replace h := h.2 c19
        refine j_iload_n dX1_name_49 rfl ?_
        refine j_iconst (v := iI 2) dX1_name_50 rfl ?_
        refine j_icmp_ne 64 dX1_name_51 (by decide) (fun c16 => ?_) (fun c16 => ?_)
        · replace h := h.2 c16
          refine j_aload_n (r := r3) dX1_name_64 rfl ?_
          obtain ⟨a6, ea6, hk7, h⟩ := h
          refine kg_getr (a := a6) (j := 0) ea6 gfX1_323 hk7 dX1_name_65 ?_
          refine j_iload_n dX1_name_68 rfl ?_
          refine j_iconst (v := iI 3) dX1_name_69 rfl ?_
          refine j_isub dX1_name_70 ?_
          refine jg_calli (rest := []) (kg_lkS (As := [va_rf (gr t4 a6 0), .int (x2 - (iI 3))]) ktX1_signOf q1906 rfl rfl dX1_name_71) cwX1_signOf (Nat.le_of_ble_eq_true rfl) rfl dX1_name_71 (Nat.succ_le_succ (Nat.zero_le _)) (h.mono (onI_mono (fun r9 t8 h hlt8 => ?_) (fun _ _ h => h)))
          replace h := h hlt8
          replace hk1 := hlt8.tag hk1 (by decide)
          replace hk7 := hlt8.tag hk7 (by decide)
          exact j_ireturn (ty := .int) rfl rfl dX1_name_74 h
        · replace h := h.1 c16
          refine j_aload_n (r := r3) dX1_name_54 rfl ?_
          obtain ⟨a10, ea10, hk11, h⟩ := h
          refine kg_getr (a := a10) (j := 0) ea10 gfX1_323 hk11 dX1_name_55 ?_
          obtain ⟨a12, ea12, hk13, h⟩ := h
          refine jg_calli (rest := []) (kg_lkV (As := []) (a := a12) (c := 22) kgJ3_length_22 (by decide) rfl hk13 q1905 rfl (by rw [ea12]; rfl) dX1_name_58) cwJ3_length (Nat.le_of_ble_eq_true rfl) rfl dX1_name_58 (Nat.succ_le_succ (Nat.zero_le _)) (h.mono (onI_mono (fun r15 t14 h hlt14 => ?_) (fun _ _ h => h)))
          replace h := h hlt14
          replace hk1 := hlt14.tag hk1 (by decide)
          replace hk11 := hlt14.tag hk11 (by decide)
          replace hk13 := hlt14.tag hk13 (by decide)
          refine j_goto 74 dX1_name_61 (by decide) ?_
          exact j_ireturn (ty := .int) rfl rfl dX1_name_74 h
      · replace h := h.1 c19
        refine j_aload_n (r := r3) dX1_name_42 rfl ?_
        obtain ⟨a17, ea17, hk18, h⟩ := h
        refine kg_geti (a := a17) (j := 2) ea17 gfX1_322 (by decide) hk18 dX1_name_43 ?_
        refine j_goto 74 dX1_name_46 (by decide) ?_
        exact j_ireturn (ty := .int) rfl rfl dX1_name_74 h
    · replace h := h.1 c23
      refine j_aload_n (r := r3) dX1_name_22 rfl ?_
      obtain ⟨a20, ea20, hk21, h⟩ := h
      refine kg_getr (a := a20) (j := 3) ea20 gfX1_261 hk21 dX1_name_23 ?_
      refine j_ifnull (r := gr t4 a20 3) 33 dX1_name_26 (by decide) (fun ea22 => ?_) (fun a22 ea22 => ?_)
      · replace h := h.1 ea22
        refine j_iconst (v := iI 0) dX1_name_33 rfl ?_
        refine j_goto 74 dX1_name_34 (by decide) ?_
        exact j_ireturn (ty := .int) rfl rfl dX1_name_74 h
      · replace h := h.2 a22 ea22
        refine j_iconst (v := iI 1) dX1_name_29 rfl ?_
        refine j_goto 74 dX1_name_30 (by decide) ?_
        exact j_ireturn (ty := .int) rfl rfl dX1_name_74 h
  · replace h := h.2 c44
    refine j_iconst (v := iI 1) dX1_name_10 rfl ?_
    refine j_goto 15 dX1_name_11 (by decide) ?_
    refine jg_callv (rest := []) (kg_lkS (As := [.int (iI 1)]) ktX1_there q1839 rfl rfl dX1_name_15) cwX1_there (Nat.le_of_ble_eq_true rfl) rfl dX1_name_15 (Nat.succ_le_succ (Nat.zero_le _)) (h.mono (onV_mono (fun t24 h hlt24 => ?_) (fun _ _ h => h)))
    replace h := h hlt24
    replace hk1 := hlt24.tag hk1 (by decide)
    refine j_iload_n dX1_name_18 rfl ?_
    refine j_if_ne 37 dX1_name_19 (by decide) (fun c43 => ?_) (fun c43 => ?_)
    · replace h := h.2 c43
      refine j_iload_n dX1_name_37 rfl ?_
      refine j_iconst (v := iI 1) dX1_name_38 rfl ?_
      refine j_icmp_ne 49 dX1_name_39 (by decide) (fun c39 => ?_) (fun c39 => ?_)
      · replace h := h.2 c39
        refine j_iload_n dX1_name_49 rfl ?_
        refine j_iconst (v := iI 2) dX1_name_50 rfl ?_
        refine j_icmp_ne 64 dX1_name_51 (by decide) (fun c36 => ?_) (fun c36 => ?_)
        · replace h := h.2 c36
          refine j_aload_n (r := r3) dX1_name_64 rfl ?_
          obtain ⟨a26, ea26, hk27, h⟩ := h
          refine kg_getr (a := a26) (j := 0) ea26 gfX1_323 hk27 dX1_name_65 ?_
          refine j_iload_n dX1_name_68 rfl ?_
          refine j_iconst (v := iI 3) dX1_name_69 rfl ?_
          refine j_isub dX1_name_70 ?_
          refine jg_calli (rest := []) (kg_lkS (As := [va_rf (gr t24 a26 0), .int (x2 - (iI 3))]) ktX1_signOf q1906 rfl rfl dX1_name_71) cwX1_signOf (Nat.le_of_ble_eq_true rfl) rfl dX1_name_71 (Nat.succ_le_succ (Nat.zero_le _)) (h.mono (onI_mono (fun r29 t28 h hlt28 => ?_) (fun _ _ h => h)))
          replace h := h hlt28
          replace hk1 := hlt28.tag hk1 (by decide)
          replace hk27 := hlt28.tag hk27 (by decide)
          exact j_ireturn (ty := .int) rfl rfl dX1_name_74 h
        · replace h := h.1 c36
          refine j_aload_n (r := r3) dX1_name_54 rfl ?_
          obtain ⟨a30, ea30, hk31, h⟩ := h
          refine kg_getr (a := a30) (j := 0) ea30 gfX1_323 hk31 dX1_name_55 ?_
          obtain ⟨a32, ea32, hk33, h⟩ := h
          refine jg_calli (rest := []) (kg_lkV (As := []) (a := a32) (c := 22) kgJ3_length_22 (by decide) rfl hk33 q1905 rfl (by rw [ea32]; rfl) dX1_name_58) cwJ3_length (Nat.le_of_ble_eq_true rfl) rfl dX1_name_58 (Nat.succ_le_succ (Nat.zero_le _)) (h.mono (onI_mono (fun r35 t34 h hlt34 => ?_) (fun _ _ h => h)))
          replace h := h hlt34
          replace hk1 := hlt34.tag hk1 (by decide)
          replace hk31 := hlt34.tag hk31 (by decide)
          replace hk33 := hlt34.tag hk33 (by decide)
          refine j_goto 74 dX1_name_61 (by decide) ?_
          exact j_ireturn (ty := .int) rfl rfl dX1_name_74 h
      · replace h := h.1 c39
        refine j_aload_n (r := r3) dX1_name_42 rfl ?_
        obtain ⟨a37, ea37, hk38, h⟩ := h
        refine kg_geti (a := a37) (j := 2) ea37 gfX1_322 (by decide) hk38 dX1_name_43 ?_
        refine j_goto 74 dX1_name_46 (by decide) ?_
        exact j_ireturn (ty := .int) rfl rfl dX1_name_74 h
    · replace h := h.1 c43
      refine j_aload_n (r := r3) dX1_name_22 rfl ?_
      obtain ⟨a40, ea40, hk41, h⟩ := h
      refine kg_getr (a := a40) (j := 3) ea40 gfX1_261 hk41 dX1_name_23 ?_
      refine j_ifnull (r := gr t24 a40 3) 33 dX1_name_26 (by decide) (fun ea42 => ?_) (fun a42 ea42 => ?_)
      · replace h := h.1 ea42
        refine j_iconst (v := iI 0) dX1_name_33 rfl ?_
        refine j_goto 74 dX1_name_34 (by decide) ?_
        exact j_ireturn (ty := .int) rfl rfl dX1_name_74 h
      · replace h := h.2 a42 ea42
        refine j_iconst (v := iI 1) dX1_name_29 rfl ?_
        refine j_goto 74 dX1_name_30 (by decide) ?_
        exact j_ireturn (ty := .int) rfl rfl dX1_name_74 h
abbrev jX1_nameAt_22 (G : GPl) (s0 : State) (l : Launch) (K : Nat → Option Nat) (T : Nat → Nat) (lev : Nat) (st0 : GSt) (Q : Outcome → GSt → Prop) (a0 : Nat) (x1 : Int32) (σ : GSt) : Prop := JQ (wP G s0 l K T) mX1_nameAt (lev + 1) st0 22 [some (va_rf (some a0)), some (.int x1)] [] σ Q
theorem tX1_nameAt {G : GPl} {s0 : State} {l : Launch} {K : Nat → Option Nat} {T : Nat → Nat} {lev : Nat} {Q : Outcome → GSt → Prop} {a0 : Nat} {x1 : Int32} {σ : GSt} (h : ((x1 < 0 → jX1_nameAt_22 G s0 l K T lev σ Q a0 x1 σ) ∧ (¬ x1 < 0 → (gk σ a0 = 1 ∧ (∃ a2, gr σ a0 7 = some a2 ∧ (gk σ a2 = 4 ∧ (∃ a4, gr σ a2 2 = some a4 ∧ (gk σ a4 = 22 ∧ (CQ (wP G s0 l K T) mJ2_size lev (.ref a4 :: []) σ (onI (fun r7 t6 => gle σ t6 → ((r7 ≤ x1 → jX1_nameAt_22 G s0 l K T lev σ Q a0 x1 t6) ∧ (¬ r7 ≤ x1 → (CQ (wP G s0 l K T) mX1_there lev [.int (iI 1)] t6 (onV (fun t8 => gle t6 t8 → (∃ a10, gr t8 a0 7 = some a10 ∧ (gk t8 a10 = 4 ∧ (∃ a12, gr t8 a10 2 = some a12 ∧ (gk t8 a12 = 22 ∧ (CQ (wP G s0 l K T) mJ2_get lev (.ref a12 :: [.int x1]) t8 (onR (fun r15 t14 => gle t8 t14 → (inT t14 r15 [21] ∧ Q (.returned (some (va_rf r15))) t14)) (fun x t => gle t8 t → Q (.threw x) t)))))))) (fun x t => gle t6 t → Q (.threw x) t)))))) (fun x t => gle σ t → Q (.threw x) t))))))))))) : CQ (wP G s0 l K T) mX1_nameAt (lev + 1) [.ref a0, .int x1] σ Q := by
  refine CQ.of3 0 (lv := [some (va_rf (some a0)), some (.int x1)]) (by decide) (Nat.le_of_ble_eq_true rfl) (cat1_cons rfl (cat1_cons rfl cat1_nil)) rfl ?_
  refine j_iload_n dX1_nameAt_0 rfl ?_
  refine j_if_lt 22 dX1_nameAt_1 (by decide) (fun c18 => ?_) (fun c18 => ?_)
  · replace h := h.1 c18
    exact h
  · replace h := h.2 c18
    refine j_iload_n dX1_nameAt_4 rfl ?_
    refine j_aload_n (r := some a0) dX1_nameAt_5 rfl ?_
    obtain ⟨hk1, h⟩ := h
    refine kg_getr (a := a0) (j := 7) rfl gfX1_38 hk1 dX1_nameAt_6 ?_
    obtain ⟨a2, ea2, hk3, h⟩ := h
    refine kg_getr (a := a2) (j := 2) ea2 gfX1_206 hk3 dX1_nameAt_9 ?_
    obtain ⟨a4, ea4, hk5, h⟩ := h
    refine jg_calli (rest := [.int x1]) (kg_lkV (As := []) (a := a4) (c := 21) kgJ2_size_21 (by decide) rfl hk5 q1326 rfl (by rw [ea4]; rfl) dX1_nameAt_12) cwJ2_size (Nat.le_of_ble_eq_true rfl) rfl dX1_nameAt_12 (Nat.succ_le_succ (Nat.zero_le _)) (h.mono (onI_mono (fun r7 t6 h hlt6 => ?_) (fun _ _ h => h)))
    replace h := h hlt6
    replace hk1 := hlt6.tag hk1 (by decide)
    replace hk3 := hlt6.tag hk3 (by decide)
    replace hk5 := hlt6.tag hk5 (by decide)
    refine j_icmp_ge 22 dX1_nameAt_15 (by decide) (fun c17 => ?_) (fun c17 => ?_)
    · replace h := h.1 c17
      exact h
    · replace h := h.2 c17
      refine j_iconst (v := iI 1) dX1_nameAt_18 rfl ?_
      refine j_goto 23 dX1_nameAt_19 (by decide) ?_
      refine jg_callv (rest := []) (kg_lkS (As := [.int (iI 1)]) ktX1_there q1839 rfl rfl dX1_nameAt_23) cwX1_there (Nat.le_of_ble_eq_true rfl) rfl dX1_nameAt_23 (Nat.succ_le_succ (Nat.zero_le _)) (h.mono (onV_mono (fun t8 h hlt8 => ?_) (fun _ _ h => h)))
      replace h := h hlt8
      replace hk1 := hlt8.tag hk1 (by decide)
      replace hk3 := hlt8.tag hk3 (by decide)
      replace hk5 := hlt8.tag hk5 (by decide)
      refine j_aload_n (r := some a0) dX1_nameAt_26 rfl ?_
      refine kg_getr (a := a0) (j := 7) rfl gfX1_38 hk1 dX1_nameAt_27 ?_
      obtain ⟨a10, ea10, hk11, h⟩ := h
      refine kg_getr (a := a10) (j := 2) ea10 gfX1_206 hk11 dX1_nameAt_30 ?_
      refine j_iload_n dX1_nameAt_33 rfl ?_
      obtain ⟨a12, ea12, hk13, h⟩ := h
      refine jg_callr (rest := []) (kg_lkV (As := [.int x1]) (a := a12) (c := 21) kgJ2_get_21 (by decide) rfl hk13 q1327 rfl (by rw [ea12]; rfl) dX1_nameAt_34) cwJ2_get (Nat.le_of_ble_eq_true rfl) rfl dX1_nameAt_34 (Nat.succ_le_succ (Nat.zero_le _)) (h.mono (onR_mono (fun r15 t14 h hlt14 => ?_) (fun _ _ h => h)))
      replace h := h hlt14
      replace hk1 := hlt14.tag hk1 (by decide)
      replace hk3 := hlt14.tag hk3 (by decide)
      replace hk5 := hlt14.tag hk5 (by decide)
      replace hk11 := hlt14.tag hk11 (by decide)
      replace hk13 := hlt14.tag hk13 (by decide)
      obtain ⟨hc16, h⟩ := h
      refine jg_cast (r := r15) cs_PureHouse_Name q1738 hc16 dX1_nameAt_37 ?_
      exact j_areturn (r := r15) rfl (Or.inl ⟨_, rfl⟩) dX1_nameAt_40 h
theorem tX1_nameAt_22 {G : GPl} {s0 : State} {l : Launch} {K : Nat → Option Nat} {T : Nat → Nat} {lev : Nat} {st0 : GSt} {Q : Outcome → GSt → Prop} {a0 : Nat} {x1 : Int32} {σ : GSt} (h : (CQ (wP G s0 l K T) mX1_there lev [.int (iI 0)] σ (onV (fun t1 => gle σ t1 → (gk t1 a0 = 1 ∧ (∃ a4, gr t1 a0 7 = some a4 ∧ (gk t1 a4 = 4 ∧ (∃ a6, gr t1 a4 2 = some a6 ∧ (gk t1 a6 = 22 ∧ (CQ (wP G s0 l K T) mJ2_get lev (.ref a6 :: [.int x1]) t1 (onR (fun r9 t8 => gle t1 t8 → (inT t8 r9 [21] ∧ Q (.returned (some (va_rf r9))) t8)) (fun x t => gle t1 t → Q (.threw x) t))))))))) (fun x t => gle σ t → Q (.threw x) t)))) : jX1_nameAt_22 G s0 l K T lev st0 Q a0 x1 σ := by
  refine j_iconst (v := iI 0) dX1_nameAt_22 rfl ?_
  refine jg_callv (rest := []) (kg_lkS (As := [.int (iI 0)]) ktX1_there q1839 rfl rfl dX1_nameAt_23) cwX1_there (Nat.le_of_ble_eq_true rfl) rfl dX1_nameAt_23 (Nat.succ_le_succ (Nat.zero_le _)) (h.mono (onV_mono (fun t1 h hlt1 => ?_) (fun _ _ h => h)))
  replace h := h hlt1
  refine j_aload_n (r := some a0) dX1_nameAt_26 rfl ?_
  obtain ⟨hk3, h⟩ := h
  refine kg_getr (a := a0) (j := 7) rfl gfX1_38 hk3 dX1_nameAt_27 ?_
  obtain ⟨a4, ea4, hk5, h⟩ := h
  refine kg_getr (a := a4) (j := 2) ea4 gfX1_206 hk5 dX1_nameAt_30 ?_
  refine j_iload_n dX1_nameAt_33 rfl ?_
  obtain ⟨a6, ea6, hk7, h⟩ := h
  refine jg_callr (rest := []) (kg_lkV (As := [.int x1]) (a := a6) (c := 21) kgJ2_get_21 (by decide) rfl hk7 q1327 rfl (by rw [ea6]; rfl) dX1_nameAt_34) cwJ2_get (Nat.le_of_ble_eq_true rfl) rfl dX1_nameAt_34 (Nat.succ_le_succ (Nat.zero_le _)) (h.mono (onR_mono (fun r9 t8 h hlt8 => ?_) (fun _ _ h => h)))
  replace h := h hlt8
  replace hk3 := hlt8.tag hk3 (by decide)
  replace hk5 := hlt8.tag hk5 (by decide)
  replace hk7 := hlt8.tag hk7 (by decide)
  obtain ⟨hc10, h⟩ := h
  refine jg_cast (r := r9) cs_PureHouse_Name q1738 hc10 dX1_nameAt_37 ?_
  exact j_areturn (r := r9) rfl (Or.inl ⟨_, rfl⟩) dX1_nameAt_40 h
theorem tX1_signOf {G : GPl} {s0 : State} {l : Launch} {K : Nat → Option Nat} {T : Nat → Nat} {lev : Nat} {Q : Outcome → GSt → Prop} {x0 : Option Nat} {x1 : Int32} {σ : GSt} (h : (∃ a1, x0 = some a1 ∧ (gk σ a1 = 23 ∧ (CQ (wP G s0 l K T) mJ3_length lev (.ref a1 :: []) σ (onI (fun r4 t3 => gle σ t3 → ((r4 ≤ x1 → Q (.returned (some (.int (iI (-1))))) t3) ∧ (¬ r4 ≤ x1 → (CQ (wP G s0 l K T) mJ3_charAt lev (.ref a1 :: [.int x1]) t3 (onI (fun r6 t5 => gle t3 t5 → Q (.returned (some (.int r6))) t5) (fun x t => gle t3 t → Q (.threw x) t)))))) (fun x t => gle σ t → Q (.threw x) t)))))) : CQ (wP G s0 l K T) mX1_signOf (lev + 1) [va_rf x0, .int x1] σ Q := by
  refine CQ.of3 0 (lv := [some (va_rf x0), some (.int x1)]) (by decide) (Nat.le_of_ble_eq_true rfl) (cat1_cons (rf_cat _) (cat1_cons rfl cat1_nil)) rfl ?_
  refine j_iload_n dX1_signOf_0 rfl ?_
  refine j_aload_n (r := x0) dX1_signOf_1 rfl ?_
  obtain ⟨a1, ea1, hk2, h⟩ := h
  refine jg_calli (rest := [.int x1]) (kg_lkV (As := []) (a := a1) (c := 22) kgJ3_length_22 (by decide) rfl hk2 q1905 rfl (by rw [ea1]; rfl) dX1_signOf_2) cwJ3_length (Nat.le_of_ble_eq_true rfl) rfl dX1_signOf_2 (Nat.succ_le_succ (Nat.zero_le _)) (h.mono (onI_mono (fun r4 t3 h hlt3 => ?_) (fun _ _ h => h)))
  replace h := h hlt3
  replace hk2 := hlt3.tag hk2 (by decide)
  refine j_icmp_ge 16 dX1_signOf_5 (by decide) (fun c7 => ?_) (fun c7 => ?_)
  · replace h := h.1 c7
    refine j_iconst (v := iI (-1)) dX1_signOf_16 rfl ?_
    exact j_ireturn (ty := .int) rfl rfl dX1_signOf_17 h
  · replace h := h.2 c7
    refine j_aload_n (r := x0) dX1_signOf_8 rfl ?_
    refine j_iload_n dX1_signOf_9 rfl ?_
    refine jg_calli (rest := []) (kg_lkV (As := [.int x1]) (a := a1) (c := 22) kgJ3_charAt_22 (by decide) rfl hk2 q1909 rfl (by rw [ea1]; rfl) dX1_signOf_10) cwJ3_charAt (Nat.le_of_ble_eq_true rfl) rfl dX1_signOf_10 (Nat.succ_le_succ (Nat.zero_le _)) (h.mono (onI_mono (fun r6 t5 h hlt5 => ?_) (fun _ _ h => h)))
    replace h := h hlt5
    replace hk2 := hlt5.tag hk2 (by decide)
    refine j_goto 17 dX1_signOf_13 (by decide) ?_
    exact j_ireturn (ty := .int) rfl rfl dX1_signOf_17 h
abbrev jX1_sort_23 (G : GPl) (s0 : State) (l : Launch) (K : Nat → Option Nat) (T : Nat → Nat) (lev : Nat) (st0 : GSt) (Q : Outcome → GSt → Prop) (a0 : Nat) (x1 : Int32) (x2 : Int32) (σ : GSt) : Prop := JQ (wP G s0 l K T) mX1_sort (lev + 1) st0 23 [some (va_rf (some a0)), some (.int x1), some (.int x2)] [] σ Q
theorem tX1_sort {G : GPl} {s0 : State} {l : Launch} {K : Nat → Option Nat} {T : Nat → Nat} {lev : Nat} {Q : Outcome → GSt → Prop} {a0 : Nat} {x1 : Int32} {x2 : Int32} {σ : GSt} (h : ((x1 < 0 → jX1_sort_23 G s0 l K T lev σ Q a0 x1 x2 σ) ∧ (¬ x1 < 0 → (gk σ a0 = 1 ∧ (∃ a2, gr σ a0 5 = some a2 ∧ (gk σ a2 = 2 ∧ (((gi σ a2 3) ≤ x1 → jX1_sort_23 G s0 l K T lev σ Q a0 x1 x2 σ) ∧ (¬ (gi σ a2 3) ≤ x1 → ((x2 < 0 → jX1_sort_23 G s0 l K T lev σ Q a0 x1 x2 σ) ∧ (¬ x2 < 0 → (CQ (wP G s0 l K T) mX1_there lev [.int (iI 1)] σ (onV (fun t4 => gle σ t4 → ((x2 = 0 → (∃ a23, gr t4 a0 5 = some a23 ∧ (gk t4 a23 = 2 ∧ (∃ a25, gr t4 a23 1 = some a25 ∧ (gk t4 a25 = 101 ∧ (inr x1 (gl t4 a25) ∧ Q (.returned (some (.int (gi t4 a25 (ix x1))))) t4)))))) ∧ (¬ x2 = 0 → ((x2 = (iI 1) → (∃ a13, gr t4 a0 5 = some a13 ∧ (gk t4 a13 = 2 ∧ (∃ a15, gr t4 a13 0 = some a15 ∧ (gk t4 a15 = 104 ∧ (inr x1 (gl t4 a15) ∧ (∃ a18, gr t4 a15 (ix x1) = some a18 ∧ (gk t4 a18 = 23 ∧ (CQ (wP G s0 l K T) mJ3_length lev (.ref a18 :: []) t4 (onI (fun r21 t20 => gle t4 t20 → Q (.returned (some (.int r21))) t20) (fun x t => gle t4 t → Q (.threw x) t))))))))))) ∧ (¬ x2 = (iI 1) → (∃ a6, gr t4 a0 5 = some a6 ∧ (gk t4 a6 = 2 ∧ (∃ a8, gr t4 a6 0 = some a8 ∧ (gk t4 a8 = 104 ∧ (inr x1 (gl t4 a8) ∧ (CQ (wP G s0 l K T) mX1_signOf lev [va_rf (gr t4 a8 (ix x1)), .int (x2 - (iI 2))] t4 (onI (fun r12 t11 => gle t4 t11 → Q (.returned (some (.int r12))) t11) (fun x t => gle t4 t → Q (.threw x) t))))))))))))) (fun x t => gle σ t → Q (.threw x) t))))))))))))) : CQ (wP G s0 l K T) mX1_sort (lev + 1) [.ref a0, .int x1, .int x2] σ Q := by
  refine CQ.of3 0 (lv := [some (va_rf (some a0)), some (.int x1), some (.int x2)]) (by decide) (Nat.le_of_ble_eq_true rfl) (cat1_cons rfl (cat1_cons rfl (cat1_cons rfl cat1_nil))) rfl ?_
  refine j_iload_n dX1_sort_0 rfl ?_
  refine j_if_lt 23 dX1_sort_1 (by decide) (fun c31 => ?_) (fun c31 => ?_)
  · replace h := h.1 c31
    exact h
  · replace h := h.2 c31
    refine j_iload_n dX1_sort_4 rfl ?_
    refine j_aload_n (r := some a0) dX1_sort_5 rfl ?_
    obtain ⟨hk1, h⟩ := h
    refine kg_getr (a := a0) (j := 5) rfl gfX1_20 hk1 dX1_sort_6 ?_
    obtain ⟨a2, ea2, hk3, h⟩ := h
    refine kg_geti (a := a2) (j := 3) ea2 gfX1_213 (by decide) hk3 dX1_sort_9 ?_
    refine j_icmp_ge 23 dX1_sort_12 (by decide) (fun c30 => ?_) (fun c30 => ?_)
    · replace h := h.1 c30
      exact h
    · replace h := h.2 c30
      refine j_iload_n dX1_sort_15 rfl ?_
      refine j_if_lt 23 dX1_sort_16 (by decide) (fun c29 => ?_) (fun c29 => ?_)
      · replace h := h.1 c29
        exact h
      · replace h := h.2 c29
        refine j_iconst (v := iI 1) dX1_sort_19 rfl ?_
        refine j_goto 24 dX1_sort_20 (by decide) ?_
        refine jg_callv (rest := []) (kg_lkS (As := [.int (iI 1)]) ktX1_there q1839 rfl rfl dX1_sort_24) cwX1_there (Nat.le_of_ble_eq_true rfl) rfl dX1_sort_24 (Nat.succ_le_succ (Nat.zero_le _)) (h.mono (onV_mono (fun t4 h hlt4 => ?_) (fun _ _ h => h)))
        replace h := h hlt4
        replace hk1 := hlt4.tag hk1 (by decide)
        replace hk3 := hlt4.tag hk3 (by decide)
        refine j_iload_n dX1_sort_27 rfl ?_
        refine j_if_ne 43 dX1_sort_28 (by decide) (fun c28 => ?_) (fun c28 => ?_)
        · replace h := h.2 c28
          refine j_iload_n dX1_sort_43 rfl ?_
          refine j_iconst (v := iI 1) dX1_sort_44 rfl ?_
          refine j_icmp_ne 63 dX1_sort_45 (by decide) (fun c22 => ?_) (fun c22 => ?_)
          · replace h := h.2 c22
            refine j_aload_n (r := some a0) dX1_sort_63 rfl ?_
            refine kg_getr (a := a0) (j := 5) rfl gfX1_20 hk1 dX1_sort_64 ?_
            obtain ⟨a6, ea6, hk7, h⟩ := h
            refine kg_getr (a := a6) (j := 0) ea6 gfX1_330 hk7 dX1_sort_67 ?_
            refine j_iload_n dX1_sort_70 rfl ?_
            obtain ⟨a8, ea8, hk9, hi10, h⟩ := h
            refine kg_aald (a := a8) ea8 hk9 (by decide) hi10 dX1_sort_71 ?_
            refine j_iload_n dX1_sort_72 rfl ?_
            refine j_iconst (v := iI 2) dX1_sort_73 rfl ?_
            refine j_isub dX1_sort_74 ?_
            refine jg_calli (rest := []) (kg_lkS (As := [va_rf (gr t4 a8 (ix x1)), .int (x2 - (iI 2))]) ktX1_signOf q1906 rfl rfl dX1_sort_75) cwX1_signOf (Nat.le_of_ble_eq_true rfl) rfl dX1_sort_75 (Nat.succ_le_succ (Nat.zero_le _)) (h.mono (onI_mono (fun r12 t11 h hlt11 => ?_) (fun _ _ h => h)))
            replace h := h hlt11
            replace hk1 := hlt11.tag hk1 (by decide)
            replace hk3 := hlt11.tag hk3 (by decide)
            replace hk7 := hlt11.tag hk7 (by decide)
            replace hk9 := hlt11.tag hk9 (by decide)
            exact j_ireturn (ty := .int) rfl rfl dX1_sort_78 h
          · replace h := h.1 c22
            refine j_aload_n (r := some a0) dX1_sort_48 rfl ?_
            refine kg_getr (a := a0) (j := 5) rfl gfX1_20 hk1 dX1_sort_49 ?_
            obtain ⟨a13, ea13, hk14, h⟩ := h
            refine kg_getr (a := a13) (j := 0) ea13 gfX1_330 hk14 dX1_sort_52 ?_
            refine j_iload_n dX1_sort_55 rfl ?_
            obtain ⟨a15, ea15, hk16, hi17, h⟩ := h
            refine kg_aald (a := a15) ea15 hk16 (by decide) hi17 dX1_sort_56 ?_
            obtain ⟨a18, ea18, hk19, h⟩ := h
            refine jg_calli (rest := []) (kg_lkV (As := []) (a := a18) (c := 22) kgJ3_length_22 (by decide) rfl hk19 q1905 rfl (by rw [ea18]; rfl) dX1_sort_57) cwJ3_length (Nat.le_of_ble_eq_true rfl) rfl dX1_sort_57 (Nat.succ_le_succ (Nat.zero_le _)) (h.mono (onI_mono (fun r21 t20 h hlt20 => ?_) (fun _ _ h => h)))
            replace h := h hlt20
            replace hk1 := hlt20.tag hk1 (by decide)
            replace hk3 := hlt20.tag hk3 (by decide)
            replace hk14 := hlt20.tag hk14 (by decide)
            replace hk16 := hlt20.tag hk16 (by decide)
            replace hk19 := hlt20.tag hk19 (by decide)
            refine j_goto 78 dX1_sort_60 (by decide) ?_
            exact j_ireturn (ty := .int) rfl rfl dX1_sort_78 h
        · replace h := h.1 c28
          refine j_aload_n (r := some a0) dX1_sort_31 rfl ?_
          refine kg_getr (a := a0) (j := 5) rfl gfX1_20 hk1 dX1_sort_32 ?_
          obtain ⟨a23, ea23, hk24, h⟩ := h
          refine kg_getr (a := a23) (j := 1) ea23 gfX1_226 hk24 dX1_sort_35 ?_
          refine j_iload_n dX1_sort_38 rfl ?_
          obtain ⟨a25, ea25, hk26, hi27, h⟩ := h
          refine kg_ald (a := a25) ea25 hk26 hi27 dX1_sort_39 ?_
          refine j_goto 78 dX1_sort_40 (by decide) ?_
          exact j_ireturn (ty := .int) rfl rfl dX1_sort_78 h
theorem tX1_sort_23 {G : GPl} {s0 : State} {l : Launch} {K : Nat → Option Nat} {T : Nat → Nat} {lev : Nat} {st0 : GSt} {Q : Outcome → GSt → Prop} {a0 : Nat} {x1 : Int32} {x2 : Int32} {σ : GSt} (h : (CQ (wP G s0 l K T) mX1_there lev [.int (iI 0)] σ (onV (fun t1 => gle σ t1 → ((x2 = 0 → (gk t1 a0 = 1 ∧ (∃ a23, gr t1 a0 5 = some a23 ∧ (gk t1 a23 = 2 ∧ (∃ a25, gr t1 a23 1 = some a25 ∧ (gk t1 a25 = 101 ∧ (inr x1 (gl t1 a25) ∧ Q (.returned (some (.int (gi t1 a25 (ix x1))))) t1))))))) ∧ (¬ x2 = 0 → ((x2 = (iI 1) → (gk t1 a0 = 1 ∧ (∃ a12, gr t1 a0 5 = some a12 ∧ (gk t1 a12 = 2 ∧ (∃ a14, gr t1 a12 0 = some a14 ∧ (gk t1 a14 = 104 ∧ (inr x1 (gl t1 a14) ∧ (∃ a17, gr t1 a14 (ix x1) = some a17 ∧ (gk t1 a17 = 23 ∧ (CQ (wP G s0 l K T) mJ3_length lev (.ref a17 :: []) t1 (onI (fun r20 t19 => gle t1 t19 → Q (.returned (some (.int r20))) t19) (fun x t => gle t1 t → Q (.threw x) t)))))))))))) ∧ (¬ x2 = (iI 1) → (gk t1 a0 = 1 ∧ (∃ a4, gr t1 a0 5 = some a4 ∧ (gk t1 a4 = 2 ∧ (∃ a6, gr t1 a4 0 = some a6 ∧ (gk t1 a6 = 104 ∧ (inr x1 (gl t1 a6) ∧ (CQ (wP G s0 l K T) mX1_signOf lev [va_rf (gr t1 a6 (ix x1)), .int (x2 - (iI 2))] t1 (onI (fun r10 t9 => gle t1 t9 → Q (.returned (some (.int r10))) t9) (fun x t => gle t1 t → Q (.threw x) t)))))))))))))) (fun x t => gle σ t → Q (.threw x) t)))) : jX1_sort_23 G s0 l K T lev st0 Q a0 x1 x2 σ := by
  refine j_iconst (v := iI 0) dX1_sort_23 rfl ?_
  refine jg_callv (rest := []) (kg_lkS (As := [.int (iI 0)]) ktX1_there q1839 rfl rfl dX1_sort_24) cwX1_there (Nat.le_of_ble_eq_true rfl) rfl dX1_sort_24 (Nat.succ_le_succ (Nat.zero_le _)) (h.mono (onV_mono (fun t1 h hlt1 => ?_) (fun _ _ h => h)))
  replace h := h hlt1
  refine j_iload_n dX1_sort_27 rfl ?_
  refine j_if_ne 43 dX1_sort_28 (by decide) (fun c28 => ?_) (fun c28 => ?_)
  · replace h := h.2 c28
    refine j_iload_n dX1_sort_43 rfl ?_
    refine j_iconst (v := iI 1) dX1_sort_44 rfl ?_
    refine j_icmp_ne 63 dX1_sort_45 (by decide) (fun c21 => ?_) (fun c21 => ?_)
    · replace h := h.2 c21
      refine j_aload_n (r := some a0) dX1_sort_63 rfl ?_
      obtain ⟨hk3, h⟩ := h
      refine kg_getr (a := a0) (j := 5) rfl gfX1_20 hk3 dX1_sort_64 ?_
      obtain ⟨a4, ea4, hk5, h⟩ := h
      refine kg_getr (a := a4) (j := 0) ea4 gfX1_330 hk5 dX1_sort_67 ?_
      refine j_iload_n dX1_sort_70 rfl ?_
      obtain ⟨a6, ea6, hk7, hi8, h⟩ := h
      refine kg_aald (a := a6) ea6 hk7 (by decide) hi8 dX1_sort_71 ?_
      refine j_iload_n dX1_sort_72 rfl ?_
      refine j_iconst (v := iI 2) dX1_sort_73 rfl ?_
      refine j_isub dX1_sort_74 ?_
      refine jg_calli (rest := []) (kg_lkS (As := [va_rf (gr t1 a6 (ix x1)), .int (x2 - (iI 2))]) ktX1_signOf q1906 rfl rfl dX1_sort_75) cwX1_signOf (Nat.le_of_ble_eq_true rfl) rfl dX1_sort_75 (Nat.succ_le_succ (Nat.zero_le _)) (h.mono (onI_mono (fun r10 t9 h hlt9 => ?_) (fun _ _ h => h)))
      replace h := h hlt9
      replace hk3 := hlt9.tag hk3 (by decide)
      replace hk5 := hlt9.tag hk5 (by decide)
      replace hk7 := hlt9.tag hk7 (by decide)
      exact j_ireturn (ty := .int) rfl rfl dX1_sort_78 h
    · replace h := h.1 c21
      refine j_aload_n (r := some a0) dX1_sort_48 rfl ?_
      obtain ⟨hk11, h⟩ := h
      refine kg_getr (a := a0) (j := 5) rfl gfX1_20 hk11 dX1_sort_49 ?_
      obtain ⟨a12, ea12, hk13, h⟩ := h
      refine kg_getr (a := a12) (j := 0) ea12 gfX1_330 hk13 dX1_sort_52 ?_
      refine j_iload_n dX1_sort_55 rfl ?_
      obtain ⟨a14, ea14, hk15, hi16, h⟩ := h
      refine kg_aald (a := a14) ea14 hk15 (by decide) hi16 dX1_sort_56 ?_
      obtain ⟨a17, ea17, hk18, h⟩ := h
      refine jg_calli (rest := []) (kg_lkV (As := []) (a := a17) (c := 22) kgJ3_length_22 (by decide) rfl hk18 q1905 rfl (by rw [ea17]; rfl) dX1_sort_57) cwJ3_length (Nat.le_of_ble_eq_true rfl) rfl dX1_sort_57 (Nat.succ_le_succ (Nat.zero_le _)) (h.mono (onI_mono (fun r20 t19 h hlt19 => ?_) (fun _ _ h => h)))
      replace h := h hlt19
      replace hk11 := hlt19.tag hk11 (by decide)
      replace hk13 := hlt19.tag hk13 (by decide)
      replace hk15 := hlt19.tag hk15 (by decide)
      replace hk18 := hlt19.tag hk18 (by decide)
      refine j_goto 78 dX1_sort_60 (by decide) ?_
      exact j_ireturn (ty := .int) rfl rfl dX1_sort_78 h
  · replace h := h.1 c28
    refine j_aload_n (r := some a0) dX1_sort_31 rfl ?_
    obtain ⟨hk22, h⟩ := h
    refine kg_getr (a := a0) (j := 5) rfl gfX1_20 hk22 dX1_sort_32 ?_
    obtain ⟨a23, ea23, hk24, h⟩ := h
    refine kg_getr (a := a23) (j := 1) ea23 gfX1_226 hk24 dX1_sort_35 ?_
    refine j_iload_n dX1_sort_38 rfl ?_
    obtain ⟨a25, ea25, hk26, hi27, h⟩ := h
    refine kg_ald (a := a25) ea25 hk26 hi27 dX1_sort_39 ?_
    refine j_goto 78 dX1_sort_40 (by decide) ?_
    exact j_ireturn (ty := .int) rfl rfl dX1_sort_78 h
abbrev jX1_rule_34 (G : GPl) (s0 : State) (l : Launch) (K : Nat → Option Nat) (T : Nat → Nat) (lev : Nat) (st0 : GSt) (Q : Outcome → GSt → Prop) (a0 : Nat) (x1 : Int32) (x2 : Int32) (σ : GSt) : Prop := JQ (wP G s0 l K T) mX1_rule (lev + 1) st0 34 [some (va_rf (some a0)), some (.int x1), some (.int x2)] [] σ Q
theorem tX1_rule {G : GPl} {s0 : State} {l : Launch} {K : Nat → Option Nat} {T : Nat → Nat} {lev : Nat} {Q : Outcome → GSt → Prop} {a0 : Nat} {x1 : Int32} {x2 : Int32} {σ : GSt} (h : ((x1 < 0 → jX1_rule_34 G s0 l K T lev σ Q a0 x1 x2 σ) ∧ (¬ x1 < 0 → (gk σ a0 = 1 ∧ (∃ a2, gr σ a0 5 = some a2 ∧ (gk σ a2 = 2 ∧ (((gi σ a2 3) ≤ x1 → jX1_rule_34 G s0 l K T lev σ Q a0 x1 x2 σ) ∧ (¬ (gi σ a2 3) ≤ x1 → ((x2 < 0 → jX1_rule_34 G s0 l K T lev σ Q a0 x1 x2 σ) ∧ (¬ x2 < 0 → (((gi σ a2 3) ≤ x2 → jX1_rule_34 G s0 l K T lev σ Q a0 x1 x2 σ) ∧ (¬ (gi σ a2 3) ≤ x2 → (CQ (wP G s0 l K T) mX1_there lev [.int (iI 1)] σ (onV (fun t4 => gle σ t4 → (∃ a6, gr t4 a0 5 = some a6 ∧ (gk t4 a6 = 2 ∧ (CQ (wP G s0 l K T) mX2_rule lev (.ref a6 :: [.int x1, .int x2]) t4 (onI (fun r9 t8 => gle t4 t8 → Q (.returned (some (.int r9))) t8) (fun x t => gle t4 t → Q (.threw x) t)))))) (fun x t => gle σ t → Q (.threw x) t))))))))))))))) : CQ (wP G s0 l K T) mX1_rule (lev + 1) [.ref a0, .int x1, .int x2] σ Q := by
  refine CQ.of3 0 (lv := [some (va_rf (some a0)), some (.int x1), some (.int x2)]) (by decide) (Nat.le_of_ble_eq_true rfl) (cat1_cons rfl (cat1_cons rfl (cat1_cons rfl cat1_nil))) rfl ?_
  refine j_iload_n dX1_rule_0 rfl ?_
  refine j_if_lt 34 dX1_rule_1 (by decide) (fun c13 => ?_) (fun c13 => ?_)
  · replace h := h.1 c13
    exact h
  · replace h := h.2 c13
    refine j_iload_n dX1_rule_4 rfl ?_
    refine j_aload_n (r := some a0) dX1_rule_5 rfl ?_
    obtain ⟨hk1, h⟩ := h
    refine kg_getr (a := a0) (j := 5) rfl gfX1_20 hk1 dX1_rule_6 ?_
    obtain ⟨a2, ea2, hk3, h⟩ := h
    refine kg_geti (a := a2) (j := 3) ea2 gfX1_213 (by decide) hk3 dX1_rule_9 ?_
    refine j_icmp_ge 34 dX1_rule_12 (by decide) (fun c12 => ?_) (fun c12 => ?_)
    · replace h := h.1 c12
      exact h
    · replace h := h.2 c12
      refine j_iload_n dX1_rule_15 rfl ?_
      refine j_if_lt 34 dX1_rule_16 (by decide) (fun c11 => ?_) (fun c11 => ?_)
      · replace h := h.1 c11
        exact h
      · replace h := h.2 c11
        refine j_iload_n dX1_rule_19 rfl ?_
        refine j_aload_n (r := some a0) dX1_rule_20 rfl ?_
        refine kg_getr (a := a0) (j := 5) rfl gfX1_20 hk1 dX1_rule_21 ?_
        refine kg_geti (a := a2) (j := 3) ea2 gfX1_213 (by decide) hk3 dX1_rule_24 ?_
        refine j_icmp_ge 34 dX1_rule_27 (by decide) (fun c10 => ?_) (fun c10 => ?_)
        · replace h := h.1 c10
          exact h
        · replace h := h.2 c10
          refine j_iconst (v := iI 1) dX1_rule_30 rfl ?_
          refine j_goto 35 dX1_rule_31 (by decide) ?_
          refine jg_callv (rest := []) (kg_lkS (As := [.int (iI 1)]) ktX1_there q1839 rfl rfl dX1_rule_35) cwX1_there (Nat.le_of_ble_eq_true rfl) rfl dX1_rule_35 (Nat.succ_le_succ (Nat.zero_le _)) (h.mono (onV_mono (fun t4 h hlt4 => ?_) (fun _ _ h => h)))
          replace h := h hlt4
          replace hk1 := hlt4.tag hk1 (by decide)
          replace hk3 := hlt4.tag hk3 (by decide)
          refine j_aload_n (r := some a0) dX1_rule_38 rfl ?_
          refine kg_getr (a := a0) (j := 5) rfl gfX1_20 hk1 dX1_rule_39 ?_
          refine j_iload_n dX1_rule_42 rfl ?_
          refine j_iload_n dX1_rule_43 rfl ?_
          obtain ⟨a6, ea6, hk7, h⟩ := h
          refine jg_calli (rest := []) (kg_lkV (As := [.int x1, .int x2]) (a := a6) (c := 1) kgX2_rule_1 (by decide) rfl hk7 q1360 rfl (by rw [ea6]; rfl) dX1_rule_44) cwX2_rule (Nat.le_of_ble_eq_true rfl) rfl dX1_rule_44 (Nat.succ_le_succ (Nat.zero_le _)) (h.mono (onI_mono (fun r9 t8 h hlt8 => ?_) (fun _ _ h => h)))
          replace h := h hlt8
          replace hk1 := hlt8.tag hk1 (by decide)
          replace hk3 := hlt8.tag hk3 (by decide)
          replace hk7 := hlt8.tag hk7 (by decide)
          exact j_ireturn (ty := .int) rfl rfl dX1_rule_47 h
theorem tX1_rule_34 {G : GPl} {s0 : State} {l : Launch} {K : Nat → Option Nat} {T : Nat → Nat} {lev : Nat} {st0 : GSt} {Q : Outcome → GSt → Prop} {a0 : Nat} {x1 : Int32} {x2 : Int32} {σ : GSt} (h : (CQ (wP G s0 l K T) mX1_there lev [.int (iI 0)] σ (onV (fun t1 => gle σ t1 → (gk t1 a0 = 1 ∧ (∃ a4, gr t1 a0 5 = some a4 ∧ (gk t1 a4 = 2 ∧ (CQ (wP G s0 l K T) mX2_rule lev (.ref a4 :: [.int x1, .int x2]) t1 (onI (fun r7 t6 => gle t1 t6 → Q (.returned (some (.int r7))) t6) (fun x t => gle t1 t → Q (.threw x) t))))))) (fun x t => gle σ t → Q (.threw x) t)))) : jX1_rule_34 G s0 l K T lev st0 Q a0 x1 x2 σ := by
  refine j_iconst (v := iI 0) dX1_rule_34 rfl ?_
  refine jg_callv (rest := []) (kg_lkS (As := [.int (iI 0)]) ktX1_there q1839 rfl rfl dX1_rule_35) cwX1_there (Nat.le_of_ble_eq_true rfl) rfl dX1_rule_35 (Nat.succ_le_succ (Nat.zero_le _)) (h.mono (onV_mono (fun t1 h hlt1 => ?_) (fun _ _ h => h)))
  replace h := h hlt1
  refine j_aload_n (r := some a0) dX1_rule_38 rfl ?_
  obtain ⟨hk3, h⟩ := h
  refine kg_getr (a := a0) (j := 5) rfl gfX1_20 hk3 dX1_rule_39 ?_
  refine j_iload_n dX1_rule_42 rfl ?_
  refine j_iload_n dX1_rule_43 rfl ?_
  obtain ⟨a4, ea4, hk5, h⟩ := h
  refine jg_calli (rest := []) (kg_lkV (As := [.int x1, .int x2]) (a := a4) (c := 1) kgX2_rule_1 (by decide) rfl hk5 q1360 rfl (by rw [ea4]; rfl) dX1_rule_44) cwX2_rule (Nat.le_of_ble_eq_true rfl) rfl dX1_rule_44 (Nat.succ_le_succ (Nat.zero_le _)) (h.mono (onI_mono (fun r7 t6 h hlt6 => ?_) (fun _ _ h => h)))
  replace h := h hlt6
  replace hk3 := hlt6.tag hk3 (by decide)
  replace hk5 := hlt6.tag hk5 (by decide)
  exact j_ireturn (ty := .int) rfl rfl dX1_rule_47 h
abbrev jX1_type_51 (G : GPl) (s0 : State) (l : Launch) (K : Nat → Option Nat) (T : Nat → Nat) (lev : Nat) (st0 : GSt) (Q : Outcome → GSt → Prop) (a0 : Nat) (x1 : Int32) (x2 : Option Nat) (y0 : Option Nat) (σ : GSt) : Prop := JQ (wP G s0 l K T) mX1_type (lev + 1) st0 51 [some (va_rf (some a0)), some (.int x1), some (va_rf x2), none] [va_rf y0] σ Q
theorem tX1_type {G : GPl} {s0 : State} {l : Launch} {K : Nat → Option Nat} {T : Nat → Nat} {lev : Nat} {Q : Outcome → GSt → Prop} {a0 : Nat} {x1 : Int32} {σ : GSt} (h : (gk σ a0 = 1 ∧ (CQ (wP G s0 l K T) mX1_nameAt lev (.ref a0 :: [.int x1]) σ (onR (fun r3 t2 => gle σ t2 → (∃ a4, gr t2 a0 6 = some a4 ∧ (gk t2 a4 = 3 ∧ (∃ a6, gr (gpi a4 10 (iI 0) t2) a0 6 = some a6 ∧ (gk (gpi a4 10 (iI 0) t2) a6 = 3 ∧ (CQ (wP G s0 l K T) mX3_begins lev (.ref a6 :: []) (gpi a4 10 (iI 0) t2) (onV (fun t8 => gle (gpi a4 10 (iI 0) t2) t8 → (groom G 2 t8 ∧ (∃ a12, r3 = some a12 ∧ (gk (gmk 14 2 t8) a12 = 21 ∧ (CQ (wP G s0 l K T) mX16_init lev (.ref (gn t8) :: [va_rf (gr (gmk 14 2 t8) a12 1), va_rf none]) (gmk 14 2 t8) (onV (fun t14 => gle (gmk 14 2 t8) t14 → (∃ a16, gr t8 a0 6 = some a16 ∧ (gk t14 a16 = 3 ∧ (CQ (wP G s0 l K T) mX3_tell lev (.ref a16 :: [va_rf (some (gn t8)), .int (iI 0), .int (iI 0), .int (iI 0)]) t14 (onV (fun t18 => gle t14 t18 → (∃ a20, gr t18 a0 6 = some a20 ∧ (gk t18 a20 = 3 ∧ Q (.returned (some (.int (gi t18 a20 10)))) t18))) (fun z22 t23 => gle t14 t23 → (gk t23 z22 = 7 ∧ jX1_type_51 G s0 l K T lev σ Q a0 x1 r3 (some z22) t23))))))) (fun z25 t26 => gle (gmk 14 2 t8) t26 → (gk t26 z25 = 7 ∧ jX1_type_51 G s0 l K T lev σ Q a0 x1 r3 (some z25) t26)))))))) (fun x t => gle (gpi a4 10 (iI 0) t2) t → Q (.threw x) t)))))))) (fun x t => gle σ t → Q (.threw x) t))))) : CQ (wP G s0 l K T) mX1_type (lev + 1) [.ref a0, .int x1] σ Q := by
  refine CQ.of3 2 (lv := [some (va_rf (some a0)), some (.int x1), none, none]) (by decide) (Nat.le_of_ble_eq_true rfl) (cat1_cons rfl (cat1_cons rfl cat1_nil)) rfl ?_
  refine j_aload_n (r := some a0) dX1_type_0 rfl ?_
  refine j_iload_n dX1_type_1 rfl ?_
  obtain ⟨hk1, h⟩ := h
  refine jg_callr (rest := []) (kg_lkV (As := [.int x1]) (a := a0) (c := 0) kgX1_nameAt_0 (by decide) rfl hk1 q1901 rfl rfl dX1_type_2) cwX1_nameAt (Nat.le_of_ble_eq_true rfl) rfl dX1_type_2 (Nat.succ_le_succ (Nat.zero_le _)) (h.mono (onR_mono (fun r3 t2 h hlt2 => ?_) (fun _ _ h => h)))
  replace h := h hlt2
  replace hk1 := hlt2.tag hk1 (by decide)
  refine j_astore_n (r := r3) (lv' := [some (va_rf (some a0)), some (.int x1), some (va_rf r3), none]) dX1_type_5 (by decide) rfl ?_
  refine j_aload_n (r := some a0) dX1_type_6 rfl ?_
  refine kg_getr (a := a0) (j := 6) rfl gfX1_29 hk1 dX1_type_7 ?_
  refine j_iconst (v := iI 0) dX1_type_10 rfl ?_
  obtain ⟨a4, ea4, hk5, h⟩ := h
  refine kg_puti (a := a4) ea4 gfX1_69 (Or.inl rfl) hk5 (Or.inl (by decide)) dX1_type_11 ?_
  refine j_aload_n (r := some a0) dX1_type_14 rfl ?_
  refine kg_getr (a := a0) (j := 6) rfl gfX1_29 hk1 dX1_type_15 ?_
  obtain ⟨a6, ea6, hk7, h⟩ := h
  refine jg_callv (rest := []) (kg_lkV (As := []) (a := a6) (c := 2) kgX3_begins_2 (by decide) rfl hk7 q1329 rfl (by rw [ea6]; rfl) dX1_type_18) cwX3_begins (Nat.le_of_ble_eq_true rfl) rfl dX1_type_18 (Nat.succ_le_succ (Nat.zero_le _)) (h.mono (onV_mono (fun t8 h hlt8 => ?_) (fun _ _ h => h)))
  replace h := h hlt8
  replace hk1 := hlt8.tag hk1 (by decide)
  replace hk5 := hlt8.tag hk5 (by decide)
  replace hk7 := hlt8.tag hk7 (by decide)
  refine j_aload_n (r := some a0) dX1_type_21 rfl ?_
  refine kg_getr (a := a0) (j := 6) rfl gfX1_29 hk1 dX1_type_22 ?_
  obtain ⟨hg10, h⟩ := h
  refine jg_new (c := 13) (N := 2) (C := "PureHouse$Closure") (by decide) ⟨rfl, rfl⟩ q1771 q1427 q152 hg10 dX1_type_25 ?_
  replace hk1 := gk_mk (t := 14) (n := 2) hk1 (by decide)
  replace hk5 := gk_mk (t := 14) (n := 2) hk5 (by decide)
  replace hk7 := gk_mk (t := 14) (n := 2) hk7 (by decide)
  have hk11 := gk_new (t := 14) (n := 2) hg10.2.2
  refine j_dup dX1_type_28 rfl ?_
  refine j_aload_n (r := r3) dX1_type_29 rfl ?_
  obtain ⟨a12, ea12, hk13, h⟩ := h
  refine kg_getr (a := a12) (j := 1) ea12 gfX1_252 hk13 dX1_type_30 ?_
  refine j_null dX1_type_33 ?_
  refine jg_callhv (c := 6) (a := 21) (b := 50) (hp := 51) (ct := 109) (rest := [va_rf (some (gn t8)), va_rf (gr t8 a0 6)]) (by decide) (kg_lkI (As := [va_rf (gr (gmk 14 2 t8) a12 1), va_rf none]) (a := (gn t8)) kiX16_init (Or.inl q1772) rfl rfl dX1_type_34) cwX16_init (rm_ok (cat1_cons rfl (cat1_cons (rf_cat _) cat1_nil)) (Nat.le_of_ble_eq_true rfl)) rfl ⟨by decide, by decide⟩ (by decide) q375 dX1_type_34 (Nat.succ_le_succ (Nat.zero_le _)) (h.mono (onV_mono (fun t14 h hlt14 => ?_) (fun z25 t26 h hlt14 => ?_)))
  · skip
    replace h := h hlt14
    replace hk1 := hlt14.tag hk1 (by decide)
    replace hk5 := hlt14.tag hk5 (by decide)
    replace hk7 := hlt14.tag hk7 (by decide)
    replace hk11 := hlt14.tag hk11 (by decide)
    replace hk13 := hlt14.tag hk13 (by decide)
    refine j_iconst (v := iI 0) dX1_type_37 rfl ?_
    refine j_iconst (v := iI 0) dX1_type_38 rfl ?_
    refine j_iconst (v := iI 0) dX1_type_39 rfl ?_
    obtain ⟨a16, ea16, hk17, h⟩ := h
    refine jg_callhv (c := 6) (a := 21) (b := 50) (hp := 51) (ct := 109) (rest := []) (by decide) (kg_lkV (As := [va_rf (some (gn t8)), .int (iI 0), .int (iI 0), .int (iI 0)]) (a := a16) (c := 2) kgX3_tell_2 (by decide) rfl hk17 q1780 rfl (by rw [ea16]; rfl) dX1_type_40) cwX3_tell (Nat.le_of_ble_eq_true rfl) rfl ⟨by decide, by decide⟩ (by decide) q375 dX1_type_40 (Nat.succ_le_succ (Nat.zero_le _)) (h.mono (onV_mono (fun t18 h hlt18 => ?_) (fun z22 t23 h hlt18 => ?_)))
    · skip
      replace h := h hlt18
      replace hk1 := hlt18.tag hk1 (by decide)
      replace hk5 := hlt18.tag hk5 (by decide)
      replace hk7 := hlt18.tag hk7 (by decide)
      replace hk11 := hlt18.tag hk11 (by decide)
      replace hk13 := hlt18.tag hk13 (by decide)
      replace hk17 := hlt18.tag hk17 (by decide)
      refine j_aload_n (r := some a0) dX1_type_43 rfl ?_
      refine kg_getr (a := a0) (j := 6) rfl gfX1_29 hk1 dX1_type_44 ?_
      obtain ⟨a20, ea20, hk21, h⟩ := h
      refine kg_geti (a := a20) (j := 10) ea20 gfX1_69 (by decide) hk21 dX1_type_47 ?_
      exact j_ireturn (ty := .int) rfl rfl dX1_type_50 h
    · skip
      obtain ⟨hk24, h⟩ := h hlt18
      refine ⟨hk24, ?_⟩
      replace hk1 := hlt18.tag hk1 (by decide)
      replace hk5 := hlt18.tag hk5 (by decide)
      replace hk7 := hlt18.tag hk7 (by decide)
      replace hk11 := hlt18.tag hk11 (by decide)
      replace hk13 := hlt18.tag hk13 (by decide)
      replace hk17 := hlt18.tag hk17 (by decide)
      exact h
  · skip
    obtain ⟨hk27, h⟩ := h hlt14
    refine ⟨hk27, ?_⟩
    replace hk1 := hlt14.tag hk1 (by decide)
    replace hk5 := hlt14.tag hk5 (by decide)
    replace hk7 := hlt14.tag hk7 (by decide)
    replace hk11 := hlt14.tag hk11 (by decide)
    replace hk13 := hlt14.tag hk13 (by decide)
    exact h
theorem tX1_type_51 {G : GPl} {s0 : State} {l : Launch} {K : Nat → Option Nat} {T : Nat → Nat} {lev : Nat} {st0 : GSt} {Q : Outcome → GSt → Prop} {a0 : Nat} {x1 : Int32} {x2 : Option Nat} {y0 : Option Nat} {σ : GSt} (h : (∃ a1, y0 = some a1 ∧ (gk σ a1 = 7 ∧ Q (.returned (some (.int (-(gi σ a1 6))))) σ))) : jX1_type_51 G s0 l K T lev st0 Q a0 x1 x2 y0 σ := by
  refine j_astore_n (r := y0) (lv' := [some (va_rf (some a0)), some (.int x1), some (va_rf x2), some (va_rf y0)]) dX1_type_51 (by decide) rfl ?_
  refine j_aload_n (r := y0) dX1_type_52 rfl ?_
  obtain ⟨a1, ea1, hk2, h⟩ := h
  refine kg_geti (a := a1) (j := 6) ea1 gfX1_111 (by decide) hk2 dX1_type_53 ?_
  refine j_ineg dX1_type_56 ?_
  exact j_ireturn (ty := .int) rfl rfl dX1_type_57 h
abbrev jX1_same_45 (G : GPl) (s0 : State) (l : Launch) (K : Nat → Option Nat) (T : Nat → Nat) (lev : Nat) (st0 : GSt) (Q : Outcome → GSt → Prop) (a0 : Nat) (x1 : Int32) (x2 : Int32) (x3 : Option Nat) (x4 : Option Nat) (y0 : Option Nat) (σ : GSt) : Prop := JQ (wP G s0 l K T) mX1_same (lev + 1) st0 45 [some (va_rf (some a0)), some (.int x1), some (.int x2), some (va_rf x3), some (va_rf x4), none] [va_rf y0] σ Q
theorem tX1_same {G : GPl} {s0 : State} {l : Launch} {K : Nat → Option Nat} {T : Nat → Nat} {lev : Nat} {Q : Outcome → GSt → Prop} {a0 : Nat} {x1 : Int32} {x2 : Int32} {σ : GSt} (h : (gk σ a0 = 1 ∧ (CQ (wP G s0 l K T) mX1_nameAt lev (.ref a0 :: [.int x1]) σ (onR (fun r3 t2 => gle σ t2 → (CQ (wP G s0 l K T) mX1_nameAt lev (.ref a0 :: [.int x2]) t2 (onR (fun r5 t4 => gle t2 t4 → (∃ a6, gr t4 a0 6 = some a6 ∧ (gk t4 a6 = 3 ∧ (CQ (wP G s0 l K T) mX3_begins lev (.ref a6 :: []) t4 (onV (fun t8 => gle t4 t8 → (CQ (wP G s0 l K T) mX1_named lev [va_rf r3] t8 (onR (fun r11 t10 => gle t8 t10 → (CQ (wP G s0 l K T) mX1_named lev [va_rf r5] t10 (onR (fun r13 t12 => gle t10 t12 → (∃ a14, gr t8 a0 6 = some a14 ∧ (gk t12 a14 = 3 ∧ (CQ (wP G s0 l K T) mX3_same lev (.ref a14 :: [va_rf r11, va_rf r13]) t12 (onI (fun r17 t16 => gle t12 t16 → ((r17 = 0 → Q (.returned (some (.int (iI 0)))) t16) ∧ (¬ r17 = 0 → Q (.returned (some (.int (iI 1)))) t16))) (fun z19 t20 => gle t12 t20 → (gk t20 z19 = 7 ∧ jX1_same_45 G s0 l K T lev σ Q a0 x1 x2 r3 r5 (some z19) t20))))))) (fun z22 t23 => gle t10 t23 → (gk t23 z22 = 7 ∧ jX1_same_45 G s0 l K T lev σ Q a0 x1 x2 r3 r5 (some z22) t23))))) (fun z25 t26 => gle t8 t26 → (gk t26 z25 = 7 ∧ jX1_same_45 G s0 l K T lev σ Q a0 x1 x2 r3 r5 (some z25) t26))))) (fun x t => gle t4 t → Q (.threw x) t)))))) (fun x t => gle t2 t → Q (.threw x) t)))) (fun x t => gle σ t → Q (.threw x) t))))) : CQ (wP G s0 l K T) mX1_same (lev + 1) [.ref a0, .int x1, .int x2] σ Q := by
  refine CQ.of3 3 (lv := [some (va_rf (some a0)), some (.int x1), some (.int x2), none, none, none]) (by decide) (Nat.le_of_ble_eq_true rfl) (cat1_cons rfl (cat1_cons rfl (cat1_cons rfl cat1_nil))) rfl ?_
  refine j_aload_n (r := some a0) dX1_same_0 rfl ?_
  refine j_iload_n dX1_same_1 rfl ?_
  obtain ⟨hk1, h⟩ := h
  refine jg_callr (rest := []) (kg_lkV (As := [.int x1]) (a := a0) (c := 0) kgX1_nameAt_0 (by decide) rfl hk1 q1901 rfl rfl dX1_same_2) cwX1_nameAt (Nat.le_of_ble_eq_true rfl) rfl dX1_same_2 (Nat.succ_le_succ (Nat.zero_le _)) (h.mono (onR_mono (fun r3 t2 h hlt2 => ?_) (fun _ _ h => h)))
  replace h := h hlt2
  replace hk1 := hlt2.tag hk1 (by decide)
  refine j_astore_n (r := r3) (lv' := [some (va_rf (some a0)), some (.int x1), some (.int x2), some (va_rf r3), none, none]) dX1_same_5 (by decide) rfl ?_
  refine j_aload_n (r := some a0) dX1_same_6 rfl ?_
  refine j_iload_n dX1_same_7 rfl ?_
  refine jg_callr (rest := []) (kg_lkV (As := [.int x2]) (a := a0) (c := 0) kgX1_nameAt_0 (by decide) rfl hk1 q1901 rfl rfl dX1_same_8) cwX1_nameAt (Nat.le_of_ble_eq_true rfl) rfl dX1_same_8 (Nat.succ_le_succ (Nat.zero_le _)) (h.mono (onR_mono (fun r5 t4 h hlt4 => ?_) (fun _ _ h => h)))
  replace h := h hlt4
  replace hk1 := hlt4.tag hk1 (by decide)
  refine j_astore (r := r5) (lv' := [some (va_rf (some a0)), some (.int x1), some (.int x2), some (va_rf r3), some (va_rf r5), none]) dX1_same_11 (by decide) rfl ?_
  refine j_aload_n (r := some a0) dX1_same_13 rfl ?_
  refine kg_getr (a := a0) (j := 6) rfl gfX1_29 hk1 dX1_same_14 ?_
  obtain ⟨a6, ea6, hk7, h⟩ := h
  refine jg_callv (rest := []) (kg_lkV (As := []) (a := a6) (c := 2) kgX3_begins_2 (by decide) rfl hk7 q1329 rfl (by rw [ea6]; rfl) dX1_same_17) cwX3_begins (Nat.le_of_ble_eq_true rfl) rfl dX1_same_17 (Nat.succ_le_succ (Nat.zero_le _)) (h.mono (onV_mono (fun t8 h hlt8 => ?_) (fun _ _ h => h)))
  replace h := h hlt8
  replace hk1 := hlt8.tag hk1 (by decide)
  replace hk7 := hlt8.tag hk7 (by decide)
  refine j_aload_n (r := some a0) dX1_same_20 rfl ?_
  refine kg_getr (a := a0) (j := 6) rfl gfX1_29 hk1 dX1_same_21 ?_
  refine j_aload_n (r := r3) dX1_same_24 rfl ?_
  refine jg_callhr (c := 6) (a := 20) (b := 44) (hp := 45) (ct := 109) (rest := [va_rf (gr t8 a0 6)]) (by decide) (kg_lkS (As := [va_rf r3]) ktX1_named q1938 rfl rfl dX1_same_25) cwX1_named (rm_ok (cat1_cons (rf_cat _) cat1_nil) (Nat.le_of_ble_eq_true rfl)) rfl ⟨by decide, by decide⟩ (by decide) q375 dX1_same_25 (Nat.succ_le_succ (Nat.zero_le _)) (h.mono (onR_mono (fun r11 t10 h hlt10 => ?_) (fun z25 t26 h hlt10 => ?_)))
  · skip
    replace h := h hlt10
    replace hk1 := hlt10.tag hk1 (by decide)
    replace hk7 := hlt10.tag hk7 (by decide)
    refine j_aload (r := r5) dX1_same_28 rfl ?_
    refine jg_callhr (c := 6) (a := 20) (b := 44) (hp := 45) (ct := 109) (rest := [va_rf r11, va_rf (gr t8 a0 6)]) (by decide) (kg_lkS (As := [va_rf r5]) ktX1_named q1938 rfl rfl dX1_same_30) cwX1_named (rm_ok (cat1_cons (rf_cat _) (cat1_cons (rf_cat _) cat1_nil)) (Nat.le_of_ble_eq_true rfl)) rfl ⟨by decide, by decide⟩ (by decide) q375 dX1_same_30 (Nat.succ_le_succ (Nat.zero_le _)) (h.mono (onR_mono (fun r13 t12 h hlt12 => ?_) (fun z22 t23 h hlt12 => ?_)))
    · skip
      replace h := h hlt12
      replace hk1 := hlt12.tag hk1 (by decide)
      replace hk7 := hlt12.tag hk7 (by decide)
      obtain ⟨a14, ea14, hk15, h⟩ := h
      refine jg_callhi (c := 6) (a := 20) (b := 44) (hp := 45) (ct := 109) (rest := []) (by decide) (kg_lkV (As := [va_rf r11, va_rf r13]) (a := a14) (c := 2) kgX3_same_2 (by decide) rfl hk15 q1774 rfl (by rw [ea14]; rfl) dX1_same_33) cwX3_same (Nat.le_of_ble_eq_true rfl) rfl ⟨by decide, by decide⟩ (by decide) q375 dX1_same_33 (Nat.succ_le_succ (Nat.zero_le _)) (h.mono (onI_mono (fun r17 t16 h hlt16 => ?_) (fun z19 t20 h hlt16 => ?_)))
      · skip
        replace h := h hlt16
        replace hk1 := hlt16.tag hk1 (by decide)
        replace hk7 := hlt16.tag hk7 (by decide)
        replace hk15 := hlt16.tag hk15 (by decide)
        refine j_if_eq 43 dX1_same_36 (by decide) (fun c18 => ?_) (fun c18 => ?_)
        · replace h := h.1 c18
          refine j_iconst (v := iI 0) dX1_same_43 rfl ?_
          exact j_ireturn (ty := .int) rfl rfl dX1_same_44 h
        · replace h := h.2 c18
          refine j_iconst (v := iI 1) dX1_same_39 rfl ?_
          refine j_goto 44 dX1_same_40 (by decide) ?_
          exact j_ireturn (ty := .int) rfl rfl dX1_same_44 h
      · skip
        obtain ⟨hk21, h⟩ := h hlt16
        refine ⟨hk21, ?_⟩
        replace hk1 := hlt16.tag hk1 (by decide)
        replace hk7 := hlt16.tag hk7 (by decide)
        replace hk15 := hlt16.tag hk15 (by decide)
        exact h
    · skip
      obtain ⟨hk24, h⟩ := h hlt12
      refine ⟨hk24, ?_⟩
      replace hk1 := hlt12.tag hk1 (by decide)
      replace hk7 := hlt12.tag hk7 (by decide)
      exact h
  · skip
    obtain ⟨hk27, h⟩ := h hlt10
    refine ⟨hk27, ?_⟩
    replace hk1 := hlt10.tag hk1 (by decide)
    replace hk7 := hlt10.tag hk7 (by decide)
    exact h
theorem tX1_same_45 {G : GPl} {s0 : State} {l : Launch} {K : Nat → Option Nat} {T : Nat → Nat} {lev : Nat} {st0 : GSt} {Q : Outcome → GSt → Prop} {a0 : Nat} {x1 : Int32} {x2 : Int32} {x3 : Option Nat} {x4 : Option Nat} {y0 : Option Nat} {σ : GSt} (h : (∃ a1, y0 = some a1 ∧ (gk σ a1 = 7 ∧ Q (.returned (some (.int (-(gi σ a1 6))))) σ))) : jX1_same_45 G s0 l K T lev st0 Q a0 x1 x2 x3 x4 y0 σ := by
  refine j_astore (r := y0) (lv' := [some (va_rf (some a0)), some (.int x1), some (.int x2), some (va_rf x3), some (va_rf x4), some (va_rf y0)]) dX1_same_45 (by decide) rfl ?_
  refine j_aload (r := y0) dX1_same_47 rfl ?_
  obtain ⟨a1, ea1, hk2, h⟩ := h
  refine kg_geti (a := a1) (j := 6) ea1 gfX1_111 (by decide) hk2 dX1_same_49 ?_
  refine j_ineg dX1_same_52 ?_
  exact j_ireturn (ty := .int) rfl rfl dX1_same_53 h
theorem tX1_named {G : GPl} {s0 : State} {l : Launch} {K : Nat → Option Nat} {T : Nat → Nat} {lev : Nat} {Q : Outcome → GSt → Prop} {x0 : Option Nat} {σ : GSt} (h : (groom G 5 σ ∧ (∃ a3, x0 = some a3 ∧ (gk (gmk 12 5 σ) a3 = 21 ∧ (CQ (wP G s0 l K T) mX14_init lev (.ref (gn σ) :: [va_rf (gr (gmk 12 5 σ) a3 0)]) (gmk 12 5 σ) (onV (fun t5 => gle (gmk 12 5 σ) t5 → (groom G 2 (gpr (gn σ) 3 x0 t5) ∧ (CQ (wP G s0 l K T) mX16_init lev (.ref (gn (gpr (gn σ) 3 x0 t5)) :: [va_rf (some (gn σ)), va_rf none]) (gmk 14 2 (gpr (gn σ) 3 x0 t5)) (onV (fun t9 => gle (gmk 14 2 (gpr (gn σ) 3 x0 t5)) t9 → Q (.returned (some (va_rf (some (gn (gpr (gn σ) 3 x0 t5)))))) t9) (fun x t => gle (gmk 14 2 (gpr (gn σ) 3 x0 t5)) t → Q (.threw x) t))))) (fun x t => gle (gmk 12 5 σ) t → Q (.threw x) t))))))) : CQ (wP G s0 l K T) mX1_named (lev + 1) [va_rf x0] σ Q := by
  refine CQ.of3 1 (lv := [some (va_rf x0), none]) (by decide) (Nat.le_of_ble_eq_true rfl) (cat1_cons (rf_cat _) cat1_nil) rfl ?_
  obtain ⟨hg1, h⟩ := h
  refine jg_new (c := 11) (N := 5) (C := "PureHouse$Free") (by decide) ⟨rfl, rfl⟩ q1941 q1251 q150 hg1 dX1_named_0 ?_
  have hk2 := gk_new (t := 12) (n := 5) hg1.2.2
  refine j_dup dX1_named_3 rfl ?_
  refine j_aload_n (r := x0) dX1_named_4 rfl ?_
  obtain ⟨a3, ea3, hk4, h⟩ := h
  refine kg_getr (a := a3) (j := 0) ea3 gfX1_323 hk4 dX1_named_5 ?_
  refine jg_callv (rest := [va_rf (some (gn σ))]) (kg_lkI (As := [va_rf (gr (gmk 12 5 σ) a3 0)]) (a := (gn σ)) kiX14_init (Or.inl q1942) rfl rfl dX1_named_8) cwX14_init (Nat.le_of_ble_eq_true rfl) rfl dX1_named_8 (Nat.succ_le_succ (Nat.zero_le _)) (h.mono (onV_mono (fun t5 h hlt5 => ?_) (fun _ _ h => h)))
  replace h := h hlt5
  replace hk2 := hlt5.tag hk2 (by decide)
  replace hk4 := hlt5.tag hk4 (by decide)
  refine j_astore_n (r := some (gn σ)) (lv' := [some (va_rf x0), some (va_rf (some (gn σ)))]) dX1_named_11 (by decide) rfl ?_
  refine j_aload_n (r := some (gn σ)) dX1_named_12 rfl ?_
  refine j_aload_n (r := x0) dX1_named_13 rfl ?_
  refine kg_putr (a := (gn σ)) (x := x0) rfl gfX1_339 (Or.inl rfl) hk2 (Or.inl (by decide)) dX1_named_14 ?_
  obtain ⟨hg7, h⟩ := h
  refine jg_new (c := 13) (N := 2) (C := "PureHouse$Closure") (by decide) ⟨rfl, rfl⟩ q1771 q1427 q152 hg7 dX1_named_17 ?_
  replace hk2 := gk_mk (t := 14) (n := 2) hk2 (by decide)
  replace hk4 := gk_mk (t := 14) (n := 2) hk4 (by decide)
  have hk8 := gk_new (t := 14) (n := 2) hg7.2.2
  refine j_dup dX1_named_20 rfl ?_
  refine j_aload_n (r := some (gn σ)) dX1_named_21 rfl ?_
  refine j_null dX1_named_22 ?_
  refine jg_callv (rest := [va_rf (some (gn (gpr (gn σ) 3 x0 t5)))]) (kg_lkI (As := [va_rf (some (gn σ)), va_rf none]) (a := (gn (gpr (gn σ) 3 x0 t5))) kiX16_init (Or.inl q1772) rfl rfl dX1_named_23) cwX16_init (Nat.le_of_ble_eq_true rfl) rfl dX1_named_23 (Nat.succ_le_succ (Nat.zero_le _)) (h.mono (onV_mono (fun t9 h hlt9 => ?_) (fun _ _ h => h)))
  replace h := h hlt9
  replace hk2 := hlt9.tag hk2 (by decide)
  replace hk4 := hlt9.tag hk4 (by decide)
  replace hk8 := hlt9.tag hk8 (by decide)
  exact j_areturn (r := some (gn (gpr (gn σ) 3 x0 t5))) rfl (Or.inl ⟨_, rfl⟩) dX1_named_26 h
theorem tX1_mark {G : GPl} {s0 : State} {l : Launch} {K : Nat → Option Nat} {T : Nat → Nat} {lev : Nat} {Q : Outcome → GSt → Prop} {a0 : Nat} {σ : GSt} (h : (gk σ a0 = 1 ∧ (((iI 20) ≤ (gi σ a0 9) → (CQ (wP G s0 l K T) mX1_able lev [.int (iI 0)] σ (onV (fun t2 => gle σ t2 → (∃ a4, gr t2 a0 7 = some a4 ∧ (gk t2 a4 = 4 ∧ (∃ a6, gr t2 a4 2 = some a6 ∧ (gk t2 a6 = 22 ∧ (CQ (wP G s0 l K T) mJ2_size lev (.ref a6 :: []) t2 (onI (fun r9 t8 => gle t2 t8 → (∃ a10, gr t2 a0 8 = some a10 ∧ (gk t8 a10 = 101 ∧ (inr (gi t2 a0 9) (gl t8 a10) ∧ Q (.returned (some (.int (gi (gpi a0 9 ((gi (gpi a10 (ix (gi t2 a0 9)) r9 t8) a0 9) + (iI 1)) (gpi a10 (ix (gi t2 a0 9)) r9 t8)) a0 9)))) (gpi a0 9 ((gi (gpi a10 (ix (gi t2 a0 9)) r9 t8) a0 9) + (iI 1)) (gpi a10 (ix (gi t2 a0 9)) r9 t8)))))) (fun x t => gle t2 t → Q (.threw x) t)))))))) (fun x t => gle σ t → Q (.threw x) t)))) ∧ (¬ (iI 20) ≤ (gi σ a0 9) → (CQ (wP G s0 l K T) mX1_able lev [.int (iI 1)] σ (onV (fun t13 => gle σ t13 → (∃ a15, gr t13 a0 7 = some a15 ∧ (gk t13 a15 = 4 ∧ (∃ a17, gr t13 a15 2 = some a17 ∧ (gk t13 a17 = 22 ∧ (CQ (wP G s0 l K T) mJ2_size lev (.ref a17 :: []) t13 (onI (fun r20 t19 => gle t13 t19 → (∃ a21, gr t13 a0 8 = some a21 ∧ (gk t19 a21 = 101 ∧ (inr (gi t13 a0 9) (gl t19 a21) ∧ Q (.returned (some (.int (gi (gpi a0 9 ((gi (gpi a21 (ix (gi t13 a0 9)) r20 t19) a0 9) + (iI 1)) (gpi a21 (ix (gi t13 a0 9)) r20 t19)) a0 9)))) (gpi a0 9 ((gi (gpi a21 (ix (gi t13 a0 9)) r20 t19) a0 9) + (iI 1)) (gpi a21 (ix (gi t13 a0 9)) r20 t19)))))) (fun x t => gle t13 t → Q (.threw x) t)))))))) (fun x t => gle σ t → Q (.threw x) t))))))) : CQ (wP G s0 l K T) mX1_mark (lev + 1) [.ref a0] σ Q := by
  refine CQ.of3 0 (lv := [some (va_rf (some a0))]) (by decide) (Nat.le_of_ble_eq_true rfl) (cat1_cons rfl cat1_nil) rfl ?_
  refine j_aload_n (r := some a0) dX1_mark_0 rfl ?_
  obtain ⟨hk1, h⟩ := h
  refine kg_geti (a := a0) (j := 9) rfl gfX1_282 (by decide) hk1 dX1_mark_1 ?_
  refine j_bipush (v := iI 20) dX1_mark_4 rfl ?_
  refine j_icmp_ge 13 dX1_mark_6 (by decide) (fun c24 => ?_) (fun c24 => ?_)
  · replace h := h.1 c24
    refine j_iconst (v := iI 0) dX1_mark_13 rfl ?_
    refine jg_callv (rest := []) (kg_lkS (As := [.int (iI 0)]) ktX1_able q1951 rfl rfl dX1_mark_14) cwX1_able (Nat.le_of_ble_eq_true rfl) rfl dX1_mark_14 (Nat.succ_le_succ (Nat.zero_le _)) (h.mono (onV_mono (fun t2 h hlt2 => ?_) (fun _ _ h => h)))
    replace h := h hlt2
    replace hk1 := hlt2.tag hk1 (by decide)
    refine j_aload_n (r := some a0) dX1_mark_17 rfl ?_
    refine kg_getr (a := a0) (j := 8) rfl gfX1_42 hk1 dX1_mark_18 ?_
    refine j_aload_n (r := some a0) dX1_mark_21 rfl ?_
    refine kg_geti (a := a0) (j := 9) rfl gfX1_282 (by decide) hk1 dX1_mark_22 ?_
    refine j_aload_n (r := some a0) dX1_mark_25 rfl ?_
    refine kg_getr (a := a0) (j := 7) rfl gfX1_38 hk1 dX1_mark_26 ?_
    obtain ⟨a4, ea4, hk5, h⟩ := h
    refine kg_getr (a := a4) (j := 2) ea4 gfX1_206 hk5 dX1_mark_29 ?_
    obtain ⟨a6, ea6, hk7, h⟩ := h
    refine jg_calli (rest := [.int (gi t2 a0 9), va_rf (gr t2 a0 8)]) (kg_lkV (As := []) (a := a6) (c := 21) kgJ2_size_21 (by decide) rfl hk7 q1326 rfl (by rw [ea6]; rfl) dX1_mark_32) cwJ2_size (rm_ok (cat1_cons rfl (cat1_cons (rf_cat _) cat1_nil)) (Nat.le_of_ble_eq_true rfl)) rfl dX1_mark_32 (Nat.succ_le_succ (Nat.zero_le _)) (h.mono (onI_mono (fun r9 t8 h hlt8 => ?_) (fun _ _ h => h)))
    replace h := h hlt8
    replace hk1 := hlt8.tag hk1 (by decide)
    replace hk5 := hlt8.tag hk5 (by decide)
    replace hk7 := hlt8.tag hk7 (by decide)
    obtain ⟨a10, ea10, hk11, hi12, h⟩ := h
    refine kg_ast (a := a10) ea10 hk11 hi12 dX1_mark_35 ?_
    refine j_aload_n (r := some a0) dX1_mark_36 rfl ?_
    refine j_dup dX1_mark_37 rfl ?_
    refine kg_geti (a := a0) (j := 9) rfl gfX1_282 (by decide) hk1 dX1_mark_38 ?_
    refine j_iconst (v := iI 1) dX1_mark_41 rfl ?_
    refine j_iadd dX1_mark_42 ?_
    refine kg_puti (a := a0) rfl gfX1_282 (Or.inl rfl) hk1 (Or.inl (by decide)) dX1_mark_43 ?_
    refine j_aload_n (r := some a0) dX1_mark_46 rfl ?_
    refine kg_geti (a := a0) (j := 9) rfl gfX1_282 (by decide) hk1 dX1_mark_47 ?_
    exact j_ireturn (ty := .int) rfl rfl dX1_mark_50 h
  · replace h := h.2 c24
    refine j_iconst (v := iI 1) dX1_mark_9 rfl ?_
    refine j_goto 14 dX1_mark_10 (by decide) ?_
    refine jg_callv (rest := []) (kg_lkS (As := [.int (iI 1)]) ktX1_able q1951 rfl rfl dX1_mark_14) cwX1_able (Nat.le_of_ble_eq_true rfl) rfl dX1_mark_14 (Nat.succ_le_succ (Nat.zero_le _)) (h.mono (onV_mono (fun t13 h hlt13 => ?_) (fun _ _ h => h)))
    replace h := h hlt13
    replace hk1 := hlt13.tag hk1 (by decide)
    refine j_aload_n (r := some a0) dX1_mark_17 rfl ?_
    refine kg_getr (a := a0) (j := 8) rfl gfX1_42 hk1 dX1_mark_18 ?_
    refine j_aload_n (r := some a0) dX1_mark_21 rfl ?_
    refine kg_geti (a := a0) (j := 9) rfl gfX1_282 (by decide) hk1 dX1_mark_22 ?_
    refine j_aload_n (r := some a0) dX1_mark_25 rfl ?_
    refine kg_getr (a := a0) (j := 7) rfl gfX1_38 hk1 dX1_mark_26 ?_
    obtain ⟨a15, ea15, hk16, h⟩ := h
    refine kg_getr (a := a15) (j := 2) ea15 gfX1_206 hk16 dX1_mark_29 ?_
    obtain ⟨a17, ea17, hk18, h⟩ := h
    refine jg_calli (rest := [.int (gi t13 a0 9), va_rf (gr t13 a0 8)]) (kg_lkV (As := []) (a := a17) (c := 21) kgJ2_size_21 (by decide) rfl hk18 q1326 rfl (by rw [ea17]; rfl) dX1_mark_32) cwJ2_size (rm_ok (cat1_cons rfl (cat1_cons (rf_cat _) cat1_nil)) (Nat.le_of_ble_eq_true rfl)) rfl dX1_mark_32 (Nat.succ_le_succ (Nat.zero_le _)) (h.mono (onI_mono (fun r20 t19 h hlt19 => ?_) (fun _ _ h => h)))
    replace h := h hlt19
    replace hk1 := hlt19.tag hk1 (by decide)
    replace hk16 := hlt19.tag hk16 (by decide)
    replace hk18 := hlt19.tag hk18 (by decide)
    obtain ⟨a21, ea21, hk22, hi23, h⟩ := h
    refine kg_ast (a := a21) ea21 hk22 hi23 dX1_mark_35 ?_
    refine j_aload_n (r := some a0) dX1_mark_36 rfl ?_
    refine j_dup dX1_mark_37 rfl ?_
    refine kg_geti (a := a0) (j := 9) rfl gfX1_282 (by decide) hk1 dX1_mark_38 ?_
    refine j_iconst (v := iI 1) dX1_mark_41 rfl ?_
    refine j_iadd dX1_mark_42 ?_
    refine kg_puti (a := a0) rfl gfX1_282 (Or.inl rfl) hk1 (Or.inl (by decide)) dX1_mark_43 ?_
    refine j_aload_n (r := some a0) dX1_mark_46 rfl ?_
    refine kg_geti (a := a0) (j := 9) rfl gfX1_282 (by decide) hk1 dX1_mark_47 ?_
    exact j_ireturn (ty := .int) rfl rfl dX1_mark_50 h
theorem tX1_able {G : GPl} {s0 : State} {l : Launch} {K : Nat → Option Nat} {T : Nat → Nat} {lev : Nat} {Q : Outcome → GSt → Prop} {x0 : Int32} {σ : GSt} (h : ((x0 = 0 → (groom G 6 σ ∧ (CQ (wP G s0 l K T) mJ21_init lev (.ref (gn σ) :: []) (gmk 27 6 σ) (onV (fun t3 => gle (gmk 27 6 σ) t3 → Q (.threw (gn σ)) t3) (fun x t => gle (gmk 27 6 σ) t → Q (.threw x) t))))) ∧ (¬ x0 = 0 → Q (.returned none) σ))) : CQ (wP G s0 l K T) mX1_able (lev + 1) [.int x0] σ Q := by
  refine CQ.of3 0 (lv := [some (.int x0)]) (by decide) (Nat.le_of_ble_eq_true rfl) (cat1_cons rfl cat1_nil) rfl ?_
  refine j_iload_n dX1_able_0 rfl ?_
  refine j_if_ne 12 dX1_able_1 (by decide) (fun c5 => ?_) (fun c5 => ?_)
  · replace h := h.2 c5
    exact j_return rfl dX1_able_12 h
  · replace h := h.1 c5
    obtain ⟨hg1, h⟩ := h
    refine jg_new (c := 26) (N := 6) (C := "java/lang/IllegalStateException") (by decide) ⟨rfl, rfl⟩ q1954 q1955 q161 hg1 dX1_able_4 ?_
    have hk2 := gk_new (t := 27) (n := 6) hg1.2.2
    refine j_dup dX1_able_7 rfl ?_
    refine jg_callv (rest := [va_rf (some (gn σ))]) (kg_lkI (As := []) (a := (gn σ)) kiJ21_init (Or.inl q1963) rfl rfl dX1_able_8) cwJ21_init (Nat.le_of_ble_eq_true rfl) rfl dX1_able_8 (Nat.succ_le_succ (Nat.zero_le _)) (h.mono (onV_mono (fun t3 h hlt3 => ?_) (fun _ _ h => h)))
    replace h := h hlt3
    replace hk2 := hlt3.tag hk2 (by decide)
    exact kg_athrow (a := (gn σ)) rfl rfl dX1_able_11 h
abbrev jX1_back_25 (G : GPl) (s0 : State) (l : Launch) (K : Nat → Option Nat) (T : Nat → Nat) (lev : Nat) (st0 : GSt) (Q : Outcome → GSt → Prop) (a0 : Nat) (σ : GSt) : Prop := JQ (wP G s0 l K T) mX1_back (lev + 1) st0 25 [some (va_rf (some a0))] [] σ Q
theorem tX1_back {G : GPl} {s0 : State} {l : Launch} {K : Nat → Option Nat} {T : Nat → Nat} {lev : Nat} {Q : Outcome → GSt → Prop} {a0 : Nat} {σ : GSt} (h : (gk σ a0 = 1 ∧ (((gi σ a0 9) ≤ 0 → (CQ (wP G s0 l K T) mX1_able lev [.int (iI 0)] σ (onV (fun t2 => gle σ t2 → jX1_back_25 G s0 l K T lev σ Q a0 (gpi a0 9 ((gi t2 a0 9) - (iI 1)) t2)) (fun x t => gle σ t → Q (.threw x) t)))) ∧ (¬ (gi σ a0 9) ≤ 0 → (CQ (wP G s0 l K T) mX1_able lev [.int (iI 1)] σ (onV (fun t4 => gle σ t4 → jX1_back_25 G s0 l K T lev σ Q a0 (gpi a0 9 ((gi t4 a0 9) - (iI 1)) t4)) (fun x t => gle σ t → Q (.threw x) t))))))) : CQ (wP G s0 l K T) mX1_back (lev + 1) [.ref a0] σ Q := by
  refine CQ.of3 0 (lv := [some (va_rf (some a0))]) (by decide) (Nat.le_of_ble_eq_true rfl) (cat1_cons rfl cat1_nil) rfl ?_
  refine j_aload_n (r := some a0) dX1_back_0 rfl ?_
  obtain ⟨hk1, h⟩ := h
  refine kg_geti (a := a0) (j := 9) rfl gfX1_282 (by decide) hk1 dX1_back_1 ?_
  refine j_if_le 11 dX1_back_4 (by decide) (fun c6 => ?_) (fun c6 => ?_)
  · replace h := h.1 c6
    refine j_iconst (v := iI 0) dX1_back_11 rfl ?_
    refine jg_callv (rest := []) (kg_lkS (As := [.int (iI 0)]) ktX1_able q1951 rfl rfl dX1_back_12) cwX1_able (Nat.le_of_ble_eq_true rfl) rfl dX1_back_12 (Nat.succ_le_succ (Nat.zero_le _)) (h.mono (onV_mono (fun t2 h hlt2 => ?_) (fun _ _ h => h)))
    replace h := h hlt2
    replace hk1 := hlt2.tag hk1 (by decide)
    refine j_aload_n (r := some a0) dX1_back_15 rfl ?_
    refine j_dup dX1_back_16 rfl ?_
    refine kg_geti (a := a0) (j := 9) rfl gfX1_282 (by decide) hk1 dX1_back_17 ?_
    refine j_iconst (v := iI 1) dX1_back_20 rfl ?_
    refine j_isub dX1_back_21 ?_
    refine kg_puti (a := a0) rfl gfX1_282 (Or.inl rfl) hk1 (Or.inl (by decide)) dX1_back_22 ?_
    exact h
  · replace h := h.2 c6
    refine j_iconst (v := iI 1) dX1_back_7 rfl ?_
    refine j_goto 12 dX1_back_8 (by decide) ?_
    refine jg_callv (rest := []) (kg_lkS (As := [.int (iI 1)]) ktX1_able q1951 rfl rfl dX1_back_12) cwX1_able (Nat.le_of_ble_eq_true rfl) rfl dX1_back_12 (Nat.succ_le_succ (Nat.zero_le _)) (h.mono (onV_mono (fun t4 h hlt4 => ?_) (fun _ _ h => h)))
    replace h := h hlt4
    replace hk1 := hlt4.tag hk1 (by decide)
    refine j_aload_n (r := some a0) dX1_back_15 rfl ?_
    refine j_dup dX1_back_16 rfl ?_
    refine kg_geti (a := a0) (j := 9) rfl gfX1_282 (by decide) hk1 dX1_back_17 ?_
    refine j_iconst (v := iI 1) dX1_back_20 rfl ?_
    refine j_isub dX1_back_21 ?_
    refine kg_puti (a := a0) rfl gfX1_282 (Or.inl rfl) hk1 (Or.inl (by decide)) dX1_back_22 ?_
    exact h
theorem tX1_back_25 {G : GPl} {s0 : State} {l : Launch} {K : Nat → Option Nat} {T : Nat → Nat} {lev : Nat} {st0 : GSt} {Q : Outcome → GSt → Prop} {a0 : Nat} {σ : GSt} (h : (gk σ a0 = 1 ∧ (∃ a2, gr σ a0 7 = some a2 ∧ (gk σ a2 = 4 ∧ (∃ a4, gr σ a2 2 = some a4 ∧ (gk σ a4 = 22 ∧ (CQ (wP G s0 l K T) mJ2_size lev (.ref a4 :: []) σ (onI (fun r7 t6 => gle σ t6 → (∃ a8, gr t6 a0 8 = some a8 ∧ (gk t6 a8 = 101 ∧ (inr (gi t6 a0 9) (gl t6 a8) ∧ ((r7 ≤ (gi t6 a8 (ix (gi t6 a0 9))) → (∃ a11, gr t6 a0 7 = some a11 ∧ (gk t6 a11 = 4 ∧ (∃ a13, gr t6 a11 2 = some a13 ∧ (gk t6 a13 = 22 ∧ (CQ (wP G s0 l K T) mJ2_size lev (.ref a13 :: []) t6 (onI (fun r16 t15 => gle t6 t15 → Q (.returned (some (.int r16))) t15) (fun x t => gle t6 t → Q (.threw x) t)))))))) ∧ (¬ r7 ≤ (gi t6 a8 (ix (gi t6 a0 9))) → (∃ a17, gr t6 a0 7 = some a17 ∧ (gk t6 a17 = 4 ∧ (∃ a19, gr t6 a17 2 = some a19 ∧ (gk t6 a19 = 22 ∧ (CQ (wP G s0 l K T) mJ2_size lev (.ref a19 :: []) t6 (onI (fun r22 t21 => gle t6 t21 → (CQ (wP G s0 l K T) mJ2_remove lev (.ref a19 :: [.int (r22 - (iI 1))]) t21 (onR (fun r24 t23 => gle t21 t23 → jX1_back_25 G s0 l K T lev st0 Q a0 t23) (fun x t => gle t21 t → Q (.threw x) t)))) (fun x t => gle t6 t → Q (.threw x) t))))))))))))) (fun x t => gle σ t → Q (.threw x) t))))))))) : jX1_back_25 G s0 l K T lev st0 Q a0 σ := by
  refine j_aload_n (r := some a0) dX1_back_25 rfl ?_
  obtain ⟨hk1, h⟩ := h
  refine kg_getr (a := a0) (j := 7) rfl gfX1_38 hk1 dX1_back_26 ?_
  obtain ⟨a2, ea2, hk3, h⟩ := h
  refine kg_getr (a := a2) (j := 2) ea2 gfX1_206 hk3 dX1_back_29 ?_
  obtain ⟨a4, ea4, hk5, h⟩ := h
  refine jg_calli (rest := []) (kg_lkV (As := []) (a := a4) (c := 21) kgJ2_size_21 (by decide) rfl hk5 q1326 rfl (by rw [ea4]; rfl) dX1_back_32) cwJ2_size (Nat.le_of_ble_eq_true rfl) rfl dX1_back_32 (Nat.succ_le_succ (Nat.zero_le _)) (h.mono (onI_mono (fun r7 t6 h hlt6 => ?_) (fun _ _ h => h)))
  replace h := h hlt6
  replace hk1 := hlt6.tag hk1 (by decide)
  replace hk3 := hlt6.tag hk3 (by decide)
  replace hk5 := hlt6.tag hk5 (by decide)
  refine j_aload_n (r := some a0) dX1_back_35 rfl ?_
  refine kg_getr (a := a0) (j := 8) rfl gfX1_42 hk1 dX1_back_36 ?_
  refine j_aload_n (r := some a0) dX1_back_39 rfl ?_
  refine kg_geti (a := a0) (j := 9) rfl gfX1_282 (by decide) hk1 dX1_back_40 ?_
  obtain ⟨a8, ea8, hk9, hi10, h⟩ := h
  refine kg_ald (a := a8) ea8 hk9 hi10 dX1_back_43 ?_
  refine j_icmp_le 73 dX1_back_44 (by decide) (fun c25 => ?_) (fun c25 => ?_)
  · replace h := h.1 c25
    refine j_aload_n (r := some a0) dX1_back_73 rfl ?_
    refine kg_getr (a := a0) (j := 7) rfl gfX1_38 hk1 dX1_back_74 ?_
    obtain ⟨a11, ea11, hk12, h⟩ := h
    refine kg_getr (a := a11) (j := 2) ea11 gfX1_206 hk12 dX1_back_77 ?_
    obtain ⟨a13, ea13, hk14, h⟩ := h
    refine jg_calli (rest := []) (kg_lkV (As := []) (a := a13) (c := 21) kgJ2_size_21 (by decide) rfl hk14 q1326 rfl (by rw [ea13]; rfl) dX1_back_80) cwJ2_size (Nat.le_of_ble_eq_true rfl) rfl dX1_back_80 (Nat.succ_le_succ (Nat.zero_le _)) (h.mono (onI_mono (fun r16 t15 h hlt15 => ?_) (fun _ _ h => h)))
    replace h := h hlt15
    replace hk1 := hlt15.tag hk1 (by decide)
    replace hk3 := hlt15.tag hk3 (by decide)
    replace hk5 := hlt15.tag hk5 (by decide)
    replace hk9 := hlt15.tag hk9 (by decide)
    replace hk12 := hlt15.tag hk12 (by decide)
    replace hk14 := hlt15.tag hk14 (by decide)
    exact j_ireturn (ty := .int) rfl rfl dX1_back_83 h
  · replace h := h.2 c25
    refine j_aload_n (r := some a0) dX1_back_47 rfl ?_
    refine kg_getr (a := a0) (j := 7) rfl gfX1_38 hk1 dX1_back_48 ?_
    obtain ⟨a17, ea17, hk18, h⟩ := h
    refine kg_getr (a := a17) (j := 2) ea17 gfX1_206 hk18 dX1_back_51 ?_
    refine j_aload_n (r := some a0) dX1_back_54 rfl ?_
    refine kg_getr (a := a0) (j := 7) rfl gfX1_38 hk1 dX1_back_55 ?_
    refine kg_getr (a := a17) (j := 2) ea17 gfX1_206 hk18 dX1_back_58 ?_
    obtain ⟨a19, ea19, hk20, h⟩ := h
    refine jg_calli (rest := [va_rf (gr t6 a17 2)]) (kg_lkV (As := []) (a := a19) (c := 21) kgJ2_size_21 (by decide) rfl hk20 q1326 rfl (by rw [ea19]; rfl) dX1_back_61) cwJ2_size (rm_ok (cat1_cons (rf_cat _) cat1_nil) (Nat.le_of_ble_eq_true rfl)) rfl dX1_back_61 (Nat.succ_le_succ (Nat.zero_le _)) (h.mono (onI_mono (fun r22 t21 h hlt21 => ?_) (fun _ _ h => h)))
    replace h := h hlt21
    replace hk1 := hlt21.tag hk1 (by decide)
    replace hk3 := hlt21.tag hk3 (by decide)
    replace hk5 := hlt21.tag hk5 (by decide)
    replace hk9 := hlt21.tag hk9 (by decide)
    replace hk18 := hlt21.tag hk18 (by decide)
    replace hk20 := hlt21.tag hk20 (by decide)
    refine j_iconst (v := iI 1) dX1_back_64 rfl ?_
    refine j_isub dX1_back_65 ?_
    refine jg_callr (rest := []) (kg_lkV (As := [.int (r22 - (iI 1))]) (a := a19) (c := 21) kgJ2_remove_21 (by decide) rfl hk20 q1976 rfl (by rw [ea19]; rfl) dX1_back_66) cwJ2_remove (Nat.le_of_ble_eq_true rfl) rfl dX1_back_66 (Nat.succ_le_succ (Nat.zero_le _)) (h.mono (onR_mono (fun r24 t23 h hlt23 => ?_) (fun _ _ h => h)))
    replace h := h hlt23
    replace hk1 := hlt23.tag hk1 (by decide)
    replace hk3 := hlt23.tag hk3 (by decide)
    replace hk5 := hlt23.tag hk5 (by decide)
    replace hk9 := hlt23.tag hk9 (by decide)
    replace hk18 := hlt23.tag hk18 (by decide)
    replace hk20 := hlt23.tag hk20 (by decide)
    refine j_pop dX1_back_69 (rf_cat _) ?_
    refine j_goto 25 dX1_back_70 (by decide) ?_
    exact h
