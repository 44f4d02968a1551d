/-! trees (made by gen/geng.py) -/
set_option maxRecDepth 100000
set_option maxHeartbeats 4000000 in
theorem tY5_init {G : GPl} {s0 : State} {l : Launch} {K : Nat → Option Nat} {T : Nat → Nat} {lev : Nat} {Q : Outcome → GSt → Prop} {a0 : Nat} {σ : GSt} (h : (groom G 9 σ ∧ (inr (iI 0) (gl (gmk 104 9 σ) (gn σ)) ∧ (stOK (gmk 104 9 σ) (some (T 15)) "java/lang/String" ∧ (inr (iI 1) (gl (gpr (gn σ) (ix (iI 0)) (some (T 15)) (gmk 104 9 σ)) (gn σ)) ∧ (stOK (gpr (gn σ) (ix (iI 0)) (some (T 15)) (gmk 104 9 σ)) (some (T 16)) "java/lang/String" ∧ (inr (iI 2) (gl (gpr (gn σ) (ix (iI 1)) (some (T 16)) (gpr (gn σ) (ix (iI 0)) (some (T 15)) (gmk 104 9 σ))) (gn σ)) ∧ (stOK (gpr (gn σ) (ix (iI 1)) (some (T 16)) (gpr (gn σ) (ix (iI 0)) (some (T 15)) (gmk 104 9 σ))) (some (T 17)) "java/lang/String" ∧ (inr (iI 3) (gl (gpr (gn σ) (ix (iI 2)) (some (T 17)) (gpr (gn σ) (ix (iI 1)) (some (T 16)) (gpr (gn σ) (ix (iI 0)) (some (T 15)) (gmk 104 9 σ)))) (gn σ)) ∧ (stOK (gpr (gn σ) (ix (iI 2)) (some (T 17)) (gpr (gn σ) (ix (iI 1)) (some (T 16)) (gpr (gn σ) (ix (iI 0)) (some (T 15)) (gmk 104 9 σ)))) (some (T 18)) "java/lang/String" ∧ (inr (iI 4) (gl (gpr (gn σ) (ix (iI 3)) (some (T 18)) (gpr (gn σ) (ix (iI 2)) (some (T 17)) (gpr (gn σ) (ix (iI 1)) (some (T 16)) (gpr (gn σ) (ix (iI 0)) (some (T 15)) (gmk 104 9 σ))))) (gn σ)) ∧ (stOK (gpr (gn σ) (ix (iI 3)) (some (T 18)) (gpr (gn σ) (ix (iI 2)) (some (T 17)) (gpr (gn σ) (ix (iI 1)) (some (T 16)) (gpr (gn σ) (ix (iI 0)) (some (T 15)) (gmk 104 9 σ))))) (some (T 19)) "java/lang/String" ∧ (inr (iI 5) (gl (gpr (gn σ) (ix (iI 4)) (some (T 19)) (gpr (gn σ) (ix (iI 3)) (some (T 18)) (gpr (gn σ) (ix (iI 2)) (some (T 17)) (gpr (gn σ) (ix (iI 1)) (some (T 16)) (gpr (gn σ) (ix (iI 0)) (some (T 15)) (gmk 104 9 σ)))))) (gn σ)) ∧ (stOK (gpr (gn σ) (ix (iI 4)) (some (T 19)) (gpr (gn σ) (ix (iI 3)) (some (T 18)) (gpr (gn σ) (ix (iI 2)) (some (T 17)) (gpr (gn σ) (ix (iI 1)) (some (T 16)) (gpr (gn σ) (ix (iI 0)) (some (T 15)) (gmk 104 9 σ)))))) (some (T 20)) "java/lang/String" ∧ (inr (iI 6) (gl (gpr (gn σ) (ix (iI 5)) (some (T 20)) (gpr (gn σ) (ix (iI 4)) (some (T 19)) (gpr (gn σ) (ix (iI 3)) (some (T 18)) (gpr (gn σ) (ix (iI 2)) (some (T 17)) (gpr (gn σ) (ix (iI 1)) (some (T 16)) (gpr (gn σ) (ix (iI 0)) (some (T 15)) (gmk 104 9 σ))))))) (gn σ)) ∧ (stOK (gpr (gn σ) (ix (iI 5)) (some (T 20)) (gpr (gn σ) (ix (iI 4)) (some (T 19)) (gpr (gn σ) (ix (iI 3)) (some (T 18)) (gpr (gn σ) (ix (iI 2)) (some (T 17)) (gpr (gn σ) (ix (iI 1)) (some (T 16)) (gpr (gn σ) (ix (iI 0)) (some (T 15)) (gmk 104 9 σ))))))) (some (T 21)) "java/lang/String" ∧ (inr (iI 7) (gl (gpr (gn σ) (ix (iI 6)) (some (T 21)) (gpr (gn σ) (ix (iI 5)) (some (T 20)) (gpr (gn σ) (ix (iI 4)) (some (T 19)) (gpr (gn σ) (ix (iI 3)) (some (T 18)) (gpr (gn σ) (ix (iI 2)) (some (T 17)) (gpr (gn σ) (ix (iI 1)) (some (T 16)) (gpr (gn σ) (ix (iI 0)) (some (T 15)) (gmk 104 9 σ)))))))) (gn σ)) ∧ (stOK (gpr (gn σ) (ix (iI 6)) (some (T 21)) (gpr (gn σ) (ix (iI 5)) (some (T 20)) (gpr (gn σ) (ix (iI 4)) (some (T 19)) (gpr (gn σ) (ix (iI 3)) (some (T 18)) (gpr (gn σ) (ix (iI 2)) (some (T 17)) (gpr (gn σ) (ix (iI 1)) (some (T 16)) (gpr (gn σ) (ix (iI 0)) (some (T 15)) (gmk 104 9 σ)))))))) (some (T 22)) "java/lang/String" ∧ (inr (iI 8) (gl (gpr (gn σ) (ix (iI 7)) (some (T 22)) (gpr (gn σ) (ix (iI 6)) (some (T 21)) (gpr (gn σ) (ix (iI 5)) (some (T 20)) (gpr (gn σ) (ix (iI 4)) (some (T 19)) (gpr (gn σ) (ix (iI 3)) (some (T 18)) (gpr (gn σ) (ix (iI 2)) (some (T 17)) (gpr (gn σ) (ix (iI 1)) (some (T 16)) (gpr (gn σ) (ix (iI 0)) (some (T 15)) (gmk 104 9 σ))))))))) (gn σ)) ∧ (stOK (gpr (gn σ) (ix (iI 7)) (some (T 22)) (gpr (gn σ) (ix (iI 6)) (some (T 21)) (gpr (gn σ) (ix (iI 5)) (some (T 20)) (gpr (gn σ) (ix (iI 4)) (some (T 19)) (gpr (gn σ) (ix (iI 3)) (some (T 18)) (gpr (gn σ) (ix (iI 2)) (some (T 17)) (gpr (gn σ) (ix (iI 1)) (some (T 16)) (gpr (gn σ) (ix (iI 0)) (some (T 15)) (gmk 104 9 σ))))))))) (some (T 23)) "java/lang/String" ∧ (gk (gpr (gn σ) (ix (iI 8)) (some (T 23)) (gpr (gn σ) (ix (iI 7)) (some (T 22)) (gpr (gn σ) (ix (iI 6)) (some (T 21)) (gpr (gn σ) (ix (iI 5)) (some (T 20)) (gpr (gn σ) (ix (iI 4)) (some (T 19)) (gpr (gn σ) (ix (iI 3)) (some (T 18)) (gpr (gn σ) (ix (iI 2)) (some (T 17)) (gpr (gn σ) (ix (iI 1)) (some (T 16)) (gpr (gn σ) (ix (iI 0)) (some (T 15)) (gmk 104 9 σ)))))))))) a0 = 28 ∧ (∀ z22, z22 = gpr a0 0 (some (gn σ)) (gpr (gn σ) (ix (iI 8)) (some (T 23)) (gpr (gn σ) (ix (iI 7)) (some (T 22)) (gpr (gn σ) (ix (iI 6)) (some (T 21)) (gpr (gn σ) (ix (iI 5)) (some (T 20)) (gpr (gn σ) (ix (iI 4)) (some (T 19)) (gpr (gn σ) (ix (iI 3)) (some (T 18)) (gpr (gn σ) (ix (iI 2)) (some (T 17)) (gpr (gn σ) (ix (iI 1)) (some (T 16)) (gpr (gn σ) (ix (iI 0)) (some (T 15)) (gmk 104 9 σ)))))))))) → (groom G 4000 z22 ∧ (∀ z25, z25 = gpr a0 2 (some (gn z22)) (gmk 101 4000 z22) → (groom G 4000 z25 ∧ (∀ z28, z28 = gpi a0 13 (iI (-1)) (gpr a0 4 (some (gn z25)) (gmk 101 4000 z25)) → (groom G 96 z28 ∧ (∀ z31, z31 = gpr a0 16 (some (gn z28)) (gmk 101 96 z28) → (groom G 8 z31 ∧ (∀ z34, z34 = gpr a0 17 (some (gn z31)) (gmk 101 8 z31) → (groom G 8 z34 ∧ (∀ z37, z37 = gpr a0 18 (some (gn z34)) (gmk 101 8 z34) → (groom G 64 z37 ∧ (∀ z40, z40 = gpr a0 19 (some (gn z37)) (gmk 101 64 z37) → (groom G 1200 z40 ∧ (∀ z43, z43 = gpr a0 21 (some (gn z40)) (gmk 101 1200 z40) → (groom G 100 z43 ∧ (∀ z46, z46 = gpr a0 22 (some (gn z43)) (gmk 101 100 z43) → (groom G 100 z46 ∧ (∀ z49, z49 = gpr a0 23 (some (gn z46)) (gmk 101 100 z46) → (groom G 100 z49 ∧ (∀ z52, z52 = gpr a0 24 (some (gn z49)) (gmk 101 100 z49) → (groom G 100 z52 ∧ (∀ z55, z55 = gpr a0 25 (some (gn z52)) (gmk 101 100 z52) → (groom G 100 z55 ∧ (∀ z58, z58 = gpr a0 26 (some (gn z55)) (gmk 101 100 z55) → (groom G 20 z58 ∧ (∀ z61, z61 = gpr a0 28 (some (gn z58)) (gmk 101 20 z58) → (groom G 140000 z61 ∧ (∀ z64, z64 = gpr a0 30 (some (gn z61)) (gmk 101 140000 z61) → (groom G 140000 z64 ∧ (∀ z67, z67 = gpr a0 31 (some (gn z64)) (gmk 101 140000 z64) → (groom G 140000 z67 ∧ (∀ z70, z70 = gpr a0 32 (some (gn z67)) (gmk 101 140000 z67) → (groom G 140000 z70 ∧ (∀ z73, z73 = gpr a0 33 (some (gn z70)) (gmk 101 140000 z70) → (groom G 140000 z73 ∧ (∀ z76, z76 = gpr a0 34 (some (gn z73)) (gmk 101 140000 z73) → (groom G 140000 z76 ∧ (∀ z79, z79 = gpr a0 35 (some (gn z76)) (gmk 101 140000 z76) → (groom G 140000 z79 ∧ (∀ z82, z82 = gpr a0 36 (some (gn z79)) (gmk 101 140000 z79) → (groom G 140000 z82 ∧ (∀ z85, z85 = gpr a0 37 (some (gn z82)) (gmk 101 140000 z82) → (groom G 140000 z85 ∧ (∀ z88, z88 = gpr a0 38 (some (gn z85)) (gmk 101 140000 z85) → (groom G 140000 z88 ∧ (∀ z91, z91 = gpr a0 40 (some (gn z88)) (gmk 101 140000 z88) → (groom G 140000 z91 ∧ (∀ z94, z94 = gpr a0 41 (some (gn z91)) (gmk 101 140000 z91) → (groom G 50 z94 ∧ (∀ z97, z97 = gpr a0 42 (some (gn z94)) (gmk 101 50 z94) → (groom G 80000 z97 ∧ (∀ z100, z100 = gpr a0 44 (some (gn z97)) (gmk 101 80000 z97) → (groom G 80000 z100 ∧ (∀ z103, z103 = gpr a0 45 (some (gn z100)) (gmk 101 80000 z100) → (groom G 80000 z103 ∧ (∀ z106, z106 = gpr a0 46 (some (gn z103)) (gmk 101 80000 z103) → (groom G 80000 z106 ∧ (∀ z109, z109 = gpi a0 48 (iI 1) (gpr a0 47 (some (gn z106)) (gmk 101 80000 z106)) → (groom G 21000 z109 ∧ (∀ z112, z112 = gpr a0 49 (some (gn z109)) (gmk 101 21000 z109) → (groom G 21000 z112 ∧ (∀ z115, z115 = gpr a0 50 (some (gn z112)) (gmk 101 21000 z112) → (groom G 4000 z115 ∧ (∀ z118, z118 = gpi a0 63 (iI 5000) (gpr a0 58 (some (gn z115)) (gmk 101 4000 z115)) → (groom G 3000 z118 ∧ (CQ (wP G s0 l K T) mY5_table lev (.ref a0 :: [.int (iI 7)]) (gpr a0 74 (some (gn z118)) (gmk 101 3000 z118)) (onV (fun t121 => gle (gpr a0 74 (some (gn z118)) (gmk 101 3000 z118)) t121 → Q (.returned none) t121) (fun x t => gle (gpr a0 74 (some (gn z118)) (gmk 101 3000 z118)) t → Q (.threw x) t)))))))))))))))))))))))))))))))))))))))))))))))))))))))))))))))))))))))))))))))))))))))))) : CQ (wP G s0 l K T) mY5_init (lev + 1) [.ref a0] σ Q := by
  refine CQ.of3 0 (lv := [some (va_rf (some a0))]) (by decide) (Nat.le_of_ble_eq_true rfl) (cat1_cons rfl cat1_nil) rfl ?_
  refine j_aload_n (r := some a0) dX5_init_0 rfl ?_
  refine jg_objI q1982 q168 q169 (Nat.succ_le_succ (Nat.zero_le _)) (Nat.le_of_ble_eq_true rfl) dX5_init_1 ?_
  refine j_aload_n (r := some a0) dX5_init_4 rfl ?_
  refine j_bipush (v := iI 9) dX5_init_5 rfl ?_
  obtain ⟨hg1, h⟩ := h
  refine jg_anew (n0 := 9) (Or.inr ⟨rfl, rfl⟩) q1983 q177 ⟨by decide, by decide⟩ (by decide) hg1 dX5_init_7 ?_
  have hk2 := gk_new (t := 104) (n := 9) hg1.2.2
  refine j_dup dX5_init_10 rfl ?_
  refine j_iconst (v := iI 0) dX5_init_11 rfl ?_
  refine jg_ldcS (i := 15) rfl rfl dX5_init_12 ?_
  obtain ⟨hi3, hs4, h⟩ := h
  refine kg_aast (a := (gn σ)) (x := some (T 15)) (C := "java/lang/String") rfl hk2 (by decide) hi3 hs4 dX5_init_14 ?_
  refine j_dup dX5_init_15 rfl ?_
  refine j_iconst (v := iI 1) dX5_init_16 rfl ?_
  refine jg_ldcS (i := 16) rfl rfl dX5_init_17 ?_
  obtain ⟨hi5, hs6, h⟩ := h
  refine kg_aast (a := (gn σ)) (x := some (T 16)) (C := "java/lang/String") rfl hk2 (by decide) hi5 hs6 dX5_init_19 ?_
  refine j_dup dX5_init_20 rfl ?_
  refine j_iconst (v := iI 2) dX5_init_21 rfl ?_
  refine jg_ldcS (i := 17) rfl rfl dX5_init_22 ?_
  obtain ⟨hi7, hs8, h⟩ := h
  refine kg_aast (a := (gn σ)) (x := some (T 17)) (C := "java/lang/String") rfl hk2 (by decide) hi7 hs8 dX5_init_24 ?_
  refine j_dup dX5_init_25 rfl ?_
  refine j_iconst (v := iI 3) dX5_init_26 rfl ?_
  refine jg_ldcS (i := 18) rfl rfl dX5_init_27 ?_
  obtain ⟨hi9, hs10, h⟩ := h
  refine kg_aast (a := (gn σ)) (x := some (T 18)) (C := "java/lang/String") rfl hk2 (by decide) hi9 hs10 dX5_init_29 ?_
  refine j_dup dX5_init_30 rfl ?_
  refine j_iconst (v := iI 4) dX5_init_31 rfl ?_
  refine jg_ldcS (i := 19) rfl rfl dX5_init_32 ?_
  obtain ⟨hi11, hs12, h⟩ := h
  refine kg_aast (a := (gn σ)) (x := some (T 19)) (C := "java/lang/String") rfl hk2 (by decide) hi11 hs12 dX5_init_34 ?_
  refine j_dup dX5_init_35 rfl ?_
  refine j_iconst (v := iI 5) dX5_init_36 rfl ?_
  refine jg_ldcS (i := 20) rfl rfl dX5_init_37 ?_
  obtain ⟨hi13, hs14, h⟩ := h
  refine kg_aast (a := (gn σ)) (x := some (T 20)) (C := "java/lang/String") rfl hk2 (by decide) hi13 hs14 dX5_init_39 ?_
  refine j_dup dX5_init_40 rfl ?_
  refine j_bipush (v := iI 6) dX5_init_41 rfl ?_
  refine jg_ldcS (i := 21) rfl rfl dX5_init_43 ?_
  obtain ⟨hi15, hs16, h⟩ := h
  refine kg_aast (a := (gn σ)) (x := some (T 21)) (C := "java/lang/String") rfl hk2 (by decide) hi15 hs16 dX5_init_45 ?_
  refine j_dup dX5_init_46 rfl ?_
  refine j_bipush (v := iI 7) dX5_init_47 rfl ?_
  refine jg_ldcS (i := 22) rfl rfl dX5_init_49 ?_
  obtain ⟨hi17, hs18, h⟩ := h
  refine kg_aast (a := (gn σ)) (x := some (T 22)) (C := "java/lang/String") rfl hk2 (by decide) hi17 hs18 dX5_init_51 ?_
  refine j_dup dX5_init_52 rfl ?_
  refine j_bipush (v := iI 8) dX5_init_53 rfl ?_
  refine jg_ldcS (i := 23) rfl rfl dX5_init_55 ?_
  obtain ⟨hi19, hs20, h⟩ := h
  refine kg_aast (a := (gn σ)) (x := some (T 23)) (C := "java/lang/String") rfl hk2 (by decide) hi19 hs20 dX5_init_57 ?_
  obtain ⟨hk21, h⟩ := h
  refine kg_putr (a := a0) (x := some (gn σ)) rfl gfY5_27 (Or.inr ⟨rfl, rfl⟩) hk21 (Or.inl (by decide)) dX5_init_58 ?_
  refine j_aload_n (r := some a0) dX5_init_61 rfl ?_
  refine j_sipush (v := iI 4000) dX5_init_62 rfl ?_
  obtain ⟨z22, hz22⟩ : ∃ z_, z_ = gpr a0 0 (some (gn σ)) (gpr (gn σ) (ix (iI 8)) (some (T 23)) (gpr (gn σ) (ix (iI 7)) (some (T 22)) (gpr (gn σ) (ix (iI 6)) (some (T 21)) (gpr (gn σ) (ix (iI 5)) (some (T 20)) (gpr (gn σ) (ix (iI 4)) (some (T 19)) (gpr (gn σ) (ix (iI 3)) (some (T 18)) (gpr (gn σ) (ix (iI 2)) (some (T 17)) (gpr (gn σ) (ix (iI 1)) (some (T 16)) (gpr (gn σ) (ix (iI 0)) (some (T 15)) (gmk 104 9 σ)))))))))) := ⟨_, rfl⟩
  replace h := h z22 hz22
  replace hk21 : gk z22 a0 = 28 := by rw [hz22]; exact hk21
  rw [← hz22]
  obtain ⟨hg23, h⟩ := h
  refine jg_newarr (n0 := 4000) (Or.inl ⟨rfl, rfl, rfl⟩) q198 ⟨by decide, by decide⟩ (by decide) hg23 dX5_init_65 ?_
  replace hk21 := gk_mk (t := 101) (n := 4000) hk21 (by decide)
  refine kg_putr (a := a0) (x := some (gn z22)) rfl gfY5_33 (Or.inr ⟨rfl, rfl⟩) hk21 (Or.inl (by decide)) dX5_init_67 ?_
  refine j_aload_n (r := some a0) dX5_init_70 rfl ?_
  refine j_sipush (v := iI 4000) dX5_init_71 rfl ?_
  obtain ⟨z25, hz25⟩ : ∃ z_, z_ = gpr a0 2 (some (gn z22)) (gmk 101 4000 z22) := ⟨_, rfl⟩
  replace h := h z25 hz25
  replace hk21 : gk z25 a0 = 28 := by rw [hz25]; exact hk21
  rw [← hz25]
  obtain ⟨hg26, h⟩ := h
  refine jg_newarr (n0 := 4000) (Or.inl ⟨rfl, rfl, rfl⟩) q198 ⟨by decide, by decide⟩ (by decide) hg26 dX5_init_74 ?_
  replace hk21 := gk_mk (t := 101) (n := 4000) hk21 (by decide)
  refine kg_putr (a := a0) (x := some (gn z25)) rfl gfY5_37 (Or.inr ⟨rfl, rfl⟩) hk21 (Or.inl (by decide)) dX5_init_76 ?_
  refine j_aload_n (r := some a0) dX5_init_79 rfl ?_
  refine j_iconst (v := iI (-1)) dX5_init_80 rfl ?_
  refine kg_puti (a := a0) rfl gfY5_40 (Or.inl rfl) hk21 (Or.inl (by decide)) dX5_init_81 ?_
  refine j_aload_n (r := some a0) dX5_init_84 rfl ?_
  refine j_bipush (v := iI 96) dX5_init_85 rfl ?_
  obtain ⟨z28, hz28⟩ : ∃ z_, z_ = gpi a0 13 (iI (-1)) (gpr a0 4 (some (gn z25)) (gmk 101 4000 z25)) := ⟨_, rfl⟩
  replace h := h z28 hz28
  replace hk21 : gk z28 a0 = 28 := by rw [hz28]; exact hk21
  rw [← hz28]
  obtain ⟨hg29, h⟩ := h
  refine jg_newarr (n0 := 96) (Or.inl ⟨rfl, rfl, rfl⟩) q198 ⟨by decide, by decide⟩ (by decide) hg29 dX5_init_87 ?_
  replace hk21 := gk_mk (t := 101) (n := 96) hk21 (by decide)
  refine kg_putr (a := a0) (x := some (gn z28)) rfl gfY5_44 (Or.inr ⟨rfl, rfl⟩) hk21 (Or.inl (by decide)) dX5_init_89 ?_
  refine j_aload_n (r := some a0) dX5_init_92 rfl ?_
  refine j_bipush (v := iI 8) dX5_init_93 rfl ?_
  obtain ⟨z31, hz31⟩ : ∃ z_, z_ = gpr a0 16 (some (gn z28)) (gmk 101 96 z28) := ⟨_, rfl⟩
  replace h := h z31 hz31
  replace hk21 : gk z31 a0 = 28 := by rw [hz31]; exact hk21
  rw [← hz31]
  obtain ⟨hg32, h⟩ := h
  refine jg_newarr (n0 := 8) (Or.inl ⟨rfl, rfl, rfl⟩) q198 ⟨by decide, by decide⟩ (by decide) hg32 dX5_init_95 ?_
  replace hk21 := gk_mk (t := 101) (n := 8) hk21 (by decide)
  refine kg_putr (a := a0) (x := some (gn z31)) rfl gfY5_47 (Or.inr ⟨rfl, rfl⟩) hk21 (Or.inl (by decide)) dX5_init_97 ?_
  refine j_aload_n (r := some a0) dX5_init_100 rfl ?_
  refine j_bipush (v := iI 8) dX5_init_101 rfl ?_
  obtain ⟨z34, hz34⟩ : ∃ z_, z_ = gpr a0 17 (some (gn z31)) (gmk 101 8 z31) := ⟨_, rfl⟩
  replace h := h z34 hz34
  replace hk21 : gk z34 a0 = 28 := by rw [hz34]; exact hk21
  rw [← hz34]
  obtain ⟨hg35, h⟩ := h
  refine jg_newarr (n0 := 8) (Or.inl ⟨rfl, rfl, rfl⟩) q198 ⟨by decide, by decide⟩ (by decide) hg35 dX5_init_103 ?_
  replace hk21 := gk_mk (t := 101) (n := 8) hk21 (by decide)
  refine kg_putr (a := a0) (x := some (gn z34)) rfl gfY5_50 (Or.inr ⟨rfl, rfl⟩) hk21 (Or.inl (by decide)) dX5_init_105 ?_
  refine j_aload_n (r := some a0) dX5_init_108 rfl ?_
  refine j_bipush (v := iI 64) dX5_init_109 rfl ?_
  obtain ⟨z37, hz37⟩ : ∃ z_, z_ = gpr a0 18 (some (gn z34)) (gmk 101 8 z34) := ⟨_, rfl⟩
  replace h := h z37 hz37
  replace hk21 : gk z37 a0 = 28 := by rw [hz37]; exact hk21
  rw [← hz37]
  obtain ⟨hg38, h⟩ := h
  refine jg_newarr (n0 := 64) (Or.inl ⟨rfl, rfl, rfl⟩) q198 ⟨by decide, by decide⟩ (by decide) hg38 dX5_init_111 ?_
  replace hk21 := gk_mk (t := 101) (n := 64) hk21 (by decide)
  refine kg_putr (a := a0) (x := some (gn z37)) rfl gfY5_52 (Or.inr ⟨rfl, rfl⟩) hk21 (Or.inl (by decide)) dX5_init_113 ?_
  refine j_aload_n (r := some a0) dX5_init_116 rfl ?_
  refine j_sipush (v := iI 1200) dX5_init_117 rfl ?_
  obtain ⟨z40, hz40⟩ : ∃ z_, z_ = gpr a0 19 (some (gn z37)) (gmk 101 64 z37) := ⟨_, rfl⟩
  replace h := h z40 hz40
  replace hk21 : gk z40 a0 = 28 := by rw [hz40]; exact hk21
  rw [← hz40]
  obtain ⟨hg41, h⟩ := h
  refine jg_newarr (n0 := 1200) (Or.inl ⟨rfl, rfl, rfl⟩) q198 ⟨by decide, by decide⟩ (by decide) hg41 dX5_init_120 ?_
  replace hk21 := gk_mk (t := 101) (n := 1200) hk21 (by decide)
  refine kg_putr (a := a0) (x := some (gn z40)) rfl gfY5_54 (Or.inr ⟨rfl, rfl⟩) hk21 (Or.inl (by decide)) dX5_init_122 ?_
  refine j_aload_n (r := some a0) dX5_init_125 rfl ?_
  refine j_bipush (v := iI 100) dX5_init_126 rfl ?_
  obtain ⟨z43, hz43⟩ : ∃ z_, z_ = gpr a0 21 (some (gn z40)) (gmk 101 1200 z40) := ⟨_, rfl⟩
  replace h := h z43 hz43
  replace hk21 : gk z43 a0 = 28 := by rw [hz43]; exact hk21
  rw [← hz43]
  obtain ⟨hg44, h⟩ := h
  refine jg_newarr (n0 := 100) (Or.inl ⟨rfl, rfl, rfl⟩) q198 ⟨by decide, by decide⟩ (by decide) hg44 dX5_init_128 ?_
  replace hk21 := gk_mk (t := 101) (n := 100) hk21 (by decide)
  refine kg_putr (a := a0) (x := some (gn z43)) rfl gfY5_57 (Or.inr ⟨rfl, rfl⟩) hk21 (Or.inl (by decide)) dX5_init_130 ?_
  refine j_aload_n (r := some a0) dX5_init_133 rfl ?_
  refine j_bipush (v := iI 100) dX5_init_134 rfl ?_
  obtain ⟨z46, hz46⟩ : ∃ z_, z_ = gpr a0 22 (some (gn z43)) (gmk 101 100 z43) := ⟨_, rfl⟩
  replace h := h z46 hz46
  replace hk21 : gk z46 a0 = 28 := by rw [hz46]; exact hk21
  rw [← hz46]
  obtain ⟨hg47, h⟩ := h
  refine jg_newarr (n0 := 100) (Or.inl ⟨rfl, rfl, rfl⟩) q198 ⟨by decide, by decide⟩ (by decide) hg47 dX5_init_136 ?_
  replace hk21 := gk_mk (t := 101) (n := 100) hk21 (by decide)
  refine kg_putr (a := a0) (x := some (gn z46)) rfl gfY5_60 (Or.inr ⟨rfl, rfl⟩) hk21 (Or.inl (by decide)) dX5_init_138 ?_
  refine j_aload_n (r := some a0) dX5_init_141 rfl ?_
  refine j_bipush (v := iI 100) dX5_init_142 rfl ?_
  obtain ⟨z49, hz49⟩ : ∃ z_, z_ = gpr a0 23 (some (gn z46)) (gmk 101 100 z46) := ⟨_, rfl⟩
  replace h := h z49 hz49
  replace hk21 : gk z49 a0 = 28 := by rw [hz49]; exact hk21
  rw [← hz49]
  obtain ⟨hg50, h⟩ := h
  refine jg_newarr (n0 := 100) (Or.inl ⟨rfl, rfl, rfl⟩) q198 ⟨by decide, by decide⟩ (by decide) hg50 dX5_init_144 ?_
  replace hk21 := gk_mk (t := 101) (n := 100) hk21 (by decide)
  refine kg_putr (a := a0) (x := some (gn z49)) rfl gfY5_63 (Or.inr ⟨rfl, rfl⟩) hk21 (Or.inl (by decide)) dX5_init_146 ?_
  refine j_aload_n (r := some a0) dX5_init_149 rfl ?_
  refine j_bipush (v := iI 100) dX5_init_150 rfl ?_
  obtain ⟨z52, hz52⟩ : ∃ z_, z_ = gpr a0 24 (some (gn z49)) (gmk 101 100 z49) := ⟨_, rfl⟩
  replace h := h z52 hz52
  replace hk21 : gk z52 a0 = 28 := by rw [hz52]; exact hk21
  rw [← hz52]
  obtain ⟨hg53, h⟩ := h
  refine jg_newarr (n0 := 100) (Or.inl ⟨rfl, rfl, rfl⟩) q198 ⟨by decide, by decide⟩ (by decide) hg53 dX5_init_152 ?_
  replace hk21 := gk_mk (t := 101) (n := 100) hk21 (by decide)
  refine kg_putr (a := a0) (x := some (gn z52)) rfl gfY5_66 (Or.inr ⟨rfl, rfl⟩) hk21 (Or.inl (by decide)) dX5_init_154 ?_
  refine j_aload_n (r := some a0) dX5_init_157 rfl ?_
  refine j_bipush (v := iI 100) dX5_init_158 rfl ?_
  obtain ⟨z55, hz55⟩ : ∃ z_, z_ = gpr a0 25 (some (gn z52)) (gmk 101 100 z52) := ⟨_, rfl⟩
  replace h := h z55 hz55
  replace hk21 : gk z55 a0 = 28 := by rw [hz55]; exact hk21
  rw [← hz55]
  obtain ⟨hg56, h⟩ := h
  refine jg_newarr (n0 := 100) (Or.inl ⟨rfl, rfl, rfl⟩) q198 ⟨by decide, by decide⟩ (by decide) hg56 dX5_init_160 ?_
  replace hk21 := gk_mk (t := 101) (n := 100) hk21 (by decide)
  refine kg_putr (a := a0) (x := some (gn z55)) rfl gfY5_69 (Or.inr ⟨rfl, rfl⟩) hk21 (Or.inl (by decide)) dX5_init_162 ?_
  refine j_aload_n (r := some a0) dX5_init_165 rfl ?_
  refine j_bipush (v := iI 20) dX5_init_166 rfl ?_
  obtain ⟨z58, hz58⟩ : ∃ z_, z_ = gpr a0 26 (some (gn z55)) (gmk 101 100 z55) := ⟨_, rfl⟩
  replace h := h z58 hz58
  replace hk21 : gk z58 a0 = 28 := by rw [hz58]; exact hk21
  rw [← hz58]
  obtain ⟨hg59, h⟩ := h
  refine jg_newarr (n0 := 20) (Or.inl ⟨rfl, rfl, rfl⟩) q198 ⟨by decide, by decide⟩ (by decide) hg59 dX5_init_168 ?_
  replace hk21 := gk_mk (t := 101) (n := 20) hk21 (by decide)
  refine kg_putr (a := a0) (x := some (gn z58)) rfl gfY5_72 (Or.inr ⟨rfl, rfl⟩) hk21 (Or.inl (by decide)) dX5_init_170 ?_
  refine j_aload_n (r := some a0) dX5_init_173 rfl ?_
  refine j_ldc (v := iI 140000) q1993 dX5_init_174 (by decide) ?_
  obtain ⟨z61, hz61⟩ : ∃ z_, z_ = gpr a0 28 (some (gn z58)) (gmk 101 20 z58) := ⟨_, rfl⟩
  replace h := h z61 hz61
  replace hk21 : gk z61 a0 = 28 := by rw [hz61]; exact hk21
  rw [← hz61]
  obtain ⟨hg62, h⟩ := h
  refine jg_newarr (n0 := 140000) (Or.inl ⟨rfl, rfl, rfl⟩) q198 ⟨by decide, by decide⟩ (by decide) hg62 dX5_init_176 ?_
  replace hk21 := gk_mk (t := 101) (n := 140000) hk21 (by decide)
  refine kg_putr (a := a0) (x := some (gn z61)) rfl gfY5_76 (Or.inr ⟨rfl, rfl⟩) hk21 (Or.inl (by decide)) dX5_init_178 ?_
  refine j_aload_n (r := some a0) dX5_init_181 rfl ?_
  refine j_ldc (v := iI 140000) q1993 dX5_init_182 (by decide) ?_
  obtain ⟨z64, hz64⟩ : ∃ z_, z_ = gpr a0 30 (some (gn z61)) (gmk 101 140000 z61) := ⟨_, rfl⟩
  replace h := h z64 hz64
  replace hk21 : gk z64 a0 = 28 := by rw [hz64]; exact hk21
  rw [← hz64]
  obtain ⟨hg65, h⟩ := h
  refine jg_newarr (n0 := 140000) (Or.inl ⟨rfl, rfl, rfl⟩) q198 ⟨by decide, by decide⟩ (by decide) hg65 dX5_init_184 ?_
  replace hk21 := gk_mk (t := 101) (n := 140000) hk21 (by decide)
  refine kg_putr (a := a0) (x := some (gn z64)) rfl gfY5_79 (Or.inr ⟨rfl, rfl⟩) hk21 (Or.inl (by decide)) dX5_init_186 ?_
  refine j_aload_n (r := some a0) dX5_init_189 rfl ?_
  refine j_ldc (v := iI 140000) q1993 dX5_init_190 (by decide) ?_
  obtain ⟨z67, hz67⟩ : ∃ z_, z_ = gpr a0 31 (some (gn z64)) (gmk 101 140000 z64) := ⟨_, rfl⟩
  replace h := h z67 hz67
  replace hk21 : gk z67 a0 = 28 := by rw [hz67]; exact hk21
  rw [← hz67]
  obtain ⟨hg68, h⟩ := h
  refine jg_newarr (n0 := 140000) (Or.inl ⟨rfl, rfl, rfl⟩) q198 ⟨by decide, by decide⟩ (by decide) hg68 dX5_init_192 ?_
  replace hk21 := gk_mk (t := 101) (n := 140000) hk21 (by decide)
  refine kg_putr (a := a0) (x := some (gn z67)) rfl gfY5_82 (Or.inr ⟨rfl, rfl⟩) hk21 (Or.inl (by decide)) dX5_init_194 ?_
  refine j_aload_n (r := some a0) dX5_init_197 rfl ?_
  refine j_ldc (v := iI 140000) q1993 dX5_init_198 (by decide) ?_
  obtain ⟨z70, hz70⟩ : ∃ z_, z_ = gpr a0 32 (some (gn z67)) (gmk 101 140000 z67) := ⟨_, rfl⟩
  replace h := h z70 hz70
  replace hk21 : gk z70 a0 = 28 := by rw [hz70]; exact hk21
  rw [← hz70]
  obtain ⟨hg71, h⟩ := h
  refine jg_newarr (n0 := 140000) (Or.inl ⟨rfl, rfl, rfl⟩) q198 ⟨by decide, by decide⟩ (by decide) hg71 dX5_init_200 ?_
  replace hk21 := gk_mk (t := 101) (n := 140000) hk21 (by decide)
  refine kg_putr (a := a0) (x := some (gn z70)) rfl gfY5_85 (Or.inr ⟨rfl, rfl⟩) hk21 (Or.inl (by decide)) dX5_init_202 ?_
  refine j_aload_n (r := some a0) dX5_init_205 rfl ?_
  refine j_ldc (v := iI 140000) q1993 dX5_init_206 (by decide) ?_
  obtain ⟨z73, hz73⟩ : ∃ z_, z_ = gpr a0 33 (some (gn z70)) (gmk 101 140000 z70) := ⟨_, rfl⟩
  replace h := h z73 hz73
  replace hk21 : gk z73 a0 = 28 := by rw [hz73]; exact hk21
  rw [← hz73]
  obtain ⟨hg74, h⟩ := h
  refine jg_newarr (n0 := 140000) (Or.inl ⟨rfl, rfl, rfl⟩) q198 ⟨by decide, by decide⟩ (by decide) hg74 dX5_init_208 ?_
  replace hk21 := gk_mk (t := 101) (n := 140000) hk21 (by decide)
  refine kg_putr (a := a0) (x := some (gn z73)) rfl gfY5_88 (Or.inr ⟨rfl, rfl⟩) hk21 (Or.inl (by decide)) dX5_init_210 ?_
  refine j_aload_n (r := some a0) dX5_init_213 rfl ?_
  refine j_ldc (v := iI 140000) q1993 dX5_init_214 (by decide) ?_
  obtain ⟨z76, hz76⟩ : ∃ z_, z_ = gpr a0 34 (some (gn z73)) (gmk 101 140000 z73) := ⟨_, rfl⟩
  replace h := h z76 hz76
  replace hk21 : gk z76 a0 = 28 := by rw [hz76]; exact hk21
  rw [← hz76]
  obtain ⟨hg77, h⟩ := h
  refine jg_newarr (n0 := 140000) (Or.inl ⟨rfl, rfl, rfl⟩) q198 ⟨by decide, by decide⟩ (by decide) hg77 dX5_init_216 ?_
  replace hk21 := gk_mk (t := 101) (n := 140000) hk21 (by decide)
  refine kg_putr (a := a0) (x := some (gn z76)) rfl gfY5_91 (Or.inr ⟨rfl, rfl⟩) hk21 (Or.inl (by decide)) dX5_init_218 ?_
  refine j_aload_n (r := some a0) dX5_init_221 rfl ?_
  refine j_ldc (v := iI 140000) q1993 dX5_init_222 (by decide) ?_
  obtain ⟨z79, hz79⟩ : ∃ z_, z_ = gpr a0 35 (some (gn z76)) (gmk 101 140000 z76) := ⟨_, rfl⟩
  replace h := h z79 hz79
  replace hk21 : gk z79 a0 = 28 := by rw [hz79]; exact hk21
  rw [← hz79]
  obtain ⟨hg80, h⟩ := h
  refine jg_newarr (n0 := 140000) (Or.inl ⟨rfl, rfl, rfl⟩) q198 ⟨by decide, by decide⟩ (by decide) hg80 dX5_init_224 ?_
  replace hk21 := gk_mk (t := 101) (n := 140000) hk21 (by decide)
  refine kg_putr (a := a0) (x := some (gn z79)) rfl gfY5_94 (Or.inr ⟨rfl, rfl⟩) hk21 (Or.inl (by decide)) dX5_init_226 ?_
  refine j_aload_n (r := some a0) dX5_init_229 rfl ?_
  refine j_ldc (v := iI 140000) q1993 dX5_init_230 (by decide) ?_
  obtain ⟨z82, hz82⟩ : ∃ z_, z_ = gpr a0 36 (some (gn z79)) (gmk 101 140000 z79) := ⟨_, rfl⟩
  replace h := h z82 hz82
  replace hk21 : gk z82 a0 = 28 := by rw [hz82]; exact hk21
  rw [← hz82]
  obtain ⟨hg83, h⟩ := h
  refine jg_newarr (n0 := 140000) (Or.inl ⟨rfl, rfl, rfl⟩) q198 ⟨by decide, by decide⟩ (by decide) hg83 dX5_init_232 ?_
  replace hk21 := gk_mk (t := 101) (n := 140000) hk21 (by decide)
  refine kg_putr (a := a0) (x := some (gn z82)) rfl gfY5_97 (Or.inr ⟨rfl, rfl⟩) hk21 (Or.inl (by decide)) dX5_init_234 ?_
  refine j_aload_n (r := some a0) dX5_init_237 rfl ?_
  refine j_ldc (v := iI 140000) q1993 dX5_init_238 (by decide) ?_
  obtain ⟨z85, hz85⟩ : ∃ z_, z_ = gpr a0 37 (some (gn z82)) (gmk 101 140000 z82) := ⟨_, rfl⟩
  replace h := h z85 hz85
  replace hk21 : gk z85 a0 = 28 := by rw [hz85]; exact hk21
  rw [← hz85]
  obtain ⟨hg86, h⟩ := h
  refine jg_newarr (n0 := 140000) (Or.inl ⟨rfl, rfl, rfl⟩) q198 ⟨by decide, by decide⟩ (by decide) hg86 dX5_init_240 ?_
  replace hk21 := gk_mk (t := 101) (n := 140000) hk21 (by decide)
  refine kg_putr (a := a0) (x := some (gn z85)) rfl gfY5_100 (Or.inr ⟨rfl, rfl⟩) hk21 (Or.inl (by decide)) dX5_init_242 ?_
  refine j_aload_n (r := some a0) dX5_init_245 rfl ?_
  refine j_ldc (v := iI 140000) q1993 dX5_init_246 (by decide) ?_
  obtain ⟨z88, hz88⟩ : ∃ z_, z_ = gpr a0 38 (some (gn z85)) (gmk 101 140000 z85) := ⟨_, rfl⟩
  replace h := h z88 hz88
  replace hk21 : gk z88 a0 = 28 := by rw [hz88]; exact hk21
  rw [← hz88]
  obtain ⟨hg89, h⟩ := h
  refine jg_newarr (n0 := 140000) (Or.inl ⟨rfl, rfl, rfl⟩) q198 ⟨by decide, by decide⟩ (by decide) hg89 dX5_init_248 ?_
  replace hk21 := gk_mk (t := 101) (n := 140000) hk21 (by decide)
  refine kg_putr (a := a0) (x := some (gn z88)) rfl gfY5_103 (Or.inr ⟨rfl, rfl⟩) hk21 (Or.inl (by decide)) dX5_init_250 ?_
  refine j_aload_n (r := some a0) dX5_init_253 rfl ?_
  refine j_ldc (v := iI 140000) q1993 dX5_init_254 (by decide) ?_
  obtain ⟨z91, hz91⟩ : ∃ z_, z_ = gpr a0 40 (some (gn z88)) (gmk 101 140000 z88) := ⟨_, rfl⟩
  replace h := h z91 hz91
  replace hk21 : gk z91 a0 = 28 := by rw [hz91]; exact hk21
  rw [← hz91]
  obtain ⟨hg92, h⟩ := h
  refine jg_newarr (n0 := 140000) (Or.inl ⟨rfl, rfl, rfl⟩) q198 ⟨by decide, by decide⟩ (by decide) hg92 dX5_init_256 ?_
  replace hk21 := gk_mk (t := 101) (n := 140000) hk21 (by decide)
  refine kg_putr (a := a0) (x := some (gn z91)) rfl gfY5_106 (Or.inr ⟨rfl, rfl⟩) hk21 (Or.inl (by decide)) dX5_init_258 ?_
  refine j_aload_n (r := some a0) dX5_init_261 rfl ?_
  refine j_bipush (v := iI 50) dX5_init_262 rfl ?_
  obtain ⟨z94, hz94⟩ : ∃ z_, z_ = gpr a0 41 (some (gn z91)) (gmk 101 140000 z91) := ⟨_, rfl⟩
  replace h := h z94 hz94
  replace hk21 : gk z94 a0 = 28 := by rw [hz94]; exact hk21
  rw [← hz94]
  obtain ⟨hg95, h⟩ := h
  refine jg_newarr (n0 := 50) (Or.inl ⟨rfl, rfl, rfl⟩) q198 ⟨by decide, by decide⟩ (by decide) hg95 dX5_init_264 ?_
  replace hk21 := gk_mk (t := 101) (n := 50) hk21 (by decide)
  refine kg_putr (a := a0) (x := some (gn z94)) rfl gfY5_109 (Or.inr ⟨rfl, rfl⟩) hk21 (Or.inl (by decide)) dX5_init_266 ?_
  refine j_aload_n (r := some a0) dX5_init_269 rfl ?_
  refine j_ldc (v := iI 80000) q1994 dX5_init_270 (by decide) ?_
  obtain ⟨z97, hz97⟩ : ∃ z_, z_ = gpr a0 42 (some (gn z94)) (gmk 101 50 z94) := ⟨_, rfl⟩
  replace h := h z97 hz97
  replace hk21 : gk z97 a0 = 28 := by rw [hz97]; exact hk21
  rw [← hz97]
  obtain ⟨hg98, h⟩ := h
  refine jg_newarr (n0 := 80000) (Or.inl ⟨rfl, rfl, rfl⟩) q198 ⟨by decide, by decide⟩ (by decide) hg98 dX5_init_272 ?_
  replace hk21 := gk_mk (t := 101) (n := 80000) hk21 (by decide)
  refine kg_putr (a := a0) (x := some (gn z97)) rfl gfY5_113 (Or.inr ⟨rfl, rfl⟩) hk21 (Or.inl (by decide)) dX5_init_274 ?_
  refine j_aload_n (r := some a0) dX5_init_277 rfl ?_
  refine j_ldc (v := iI 80000) q1994 dX5_init_278 (by decide) ?_
  obtain ⟨z100, hz100⟩ : ∃ z_, z_ = gpr a0 44 (some (gn z97)) (gmk 101 80000 z97) := ⟨_, rfl⟩
  replace h := h z100 hz100
  replace hk21 : gk z100 a0 = 28 := by rw [hz100]; exact hk21
  rw [← hz100]
  obtain ⟨hg101, h⟩ := h
  refine jg_newarr (n0 := 80000) (Or.inl ⟨rfl, rfl, rfl⟩) q198 ⟨by decide, by decide⟩ (by decide) hg101 dX5_init_280 ?_
  replace hk21 := gk_mk (t := 101) (n := 80000) hk21 (by decide)
  refine kg_putr (a := a0) (x := some (gn z100)) rfl gfY5_116 (Or.inr ⟨rfl, rfl⟩) hk21 (Or.inl (by decide)) dX5_init_282 ?_
  refine j_aload_n (r := some a0) dX5_init_285 rfl ?_
  refine j_ldc (v := iI 80000) q1994 dX5_init_286 (by decide) ?_
  obtain ⟨z103, hz103⟩ : ∃ z_, z_ = gpr a0 45 (some (gn z100)) (gmk 101 80000 z100) := ⟨_, rfl⟩
  replace h := h z103 hz103
  replace hk21 : gk z103 a0 = 28 := by rw [hz103]; exact hk21
  rw [← hz103]
  obtain ⟨hg104, h⟩ := h
  refine jg_newarr (n0 := 80000) (Or.inl ⟨rfl, rfl, rfl⟩) q198 ⟨by decide, by decide⟩ (by decide) hg104 dX5_init_288 ?_
  replace hk21 := gk_mk (t := 101) (n := 80000) hk21 (by decide)
  refine kg_putr (a := a0) (x := some (gn z103)) rfl gfY5_119 (Or.inr ⟨rfl, rfl⟩) hk21 (Or.inl (by decide)) dX5_init_290 ?_
  refine j_aload_n (r := some a0) dX5_init_293 rfl ?_
  refine j_ldc (v := iI 80000) q1994 dX5_init_294 (by decide) ?_
  obtain ⟨z106, hz106⟩ : ∃ z_, z_ = gpr a0 46 (some (gn z103)) (gmk 101 80000 z103) := ⟨_, rfl⟩
  replace h := h z106 hz106
  replace hk21 : gk z106 a0 = 28 := by rw [hz106]; exact hk21
  rw [← hz106]
  obtain ⟨hg107, h⟩ := h
  refine jg_newarr (n0 := 80000) (Or.inl ⟨rfl, rfl, rfl⟩) q198 ⟨by decide, by decide⟩ (by decide) hg107 dX5_init_296 ?_
  replace hk21 := gk_mk (t := 101) (n := 80000) hk21 (by decide)
  refine kg_putr (a := a0) (x := some (gn z106)) rfl gfY5_122 (Or.inr ⟨rfl, rfl⟩) hk21 (Or.inl (by decide)) dX5_init_298 ?_
  refine j_aload_n (r := some a0) dX5_init_301 rfl ?_
  refine j_iconst (v := iI 1) dX5_init_302 rfl ?_
  refine kg_puti (a := a0) rfl gfY5_125 (Or.inl rfl) hk21 (Or.inl (by decide)) dX5_init_303 ?_
  refine j_aload_n (r := some a0) dX5_init_306 rfl ?_
  refine j_sipush (v := iI 21000) dX5_init_307 rfl ?_
  obtain ⟨z109, hz109⟩ : ∃ z_, z_ = gpi a0 48 (iI 1) (gpr a0 47 (some (gn z106)) (gmk 101 80000 z106)) := ⟨_, rfl⟩
  replace h := h z109 hz109
  replace hk21 : gk z109 a0 = 28 := by rw [hz109]; exact hk21
  rw [← hz109]
  obtain ⟨hg110, h⟩ := h
  refine jg_newarr (n0 := 21000) (Or.inl ⟨rfl, rfl, rfl⟩) q198 ⟨by decide, by decide⟩ (by decide) hg110 dX5_init_310 ?_
  replace hk21 := gk_mk (t := 101) (n := 21000) hk21 (by decide)
  refine kg_putr (a := a0) (x := some (gn z109)) rfl gfY5_128 (Or.inr ⟨rfl, rfl⟩) hk21 (Or.inl (by decide)) dX5_init_312 ?_
  refine j_aload_n (r := some a0) dX5_init_315 rfl ?_
  refine j_sipush (v := iI 21000) dX5_init_316 rfl ?_
  obtain ⟨z112, hz112⟩ : ∃ z_, z_ = gpr a0 49 (some (gn z109)) (gmk 101 21000 z109) := ⟨_, rfl⟩
  replace h := h z112 hz112
  replace hk21 : gk z112 a0 = 28 := by rw [hz112]; exact hk21
  rw [← hz112]
  obtain ⟨hg113, h⟩ := h
  refine jg_newarr (n0 := 21000) (Or.inl ⟨rfl, rfl, rfl⟩) q198 ⟨by decide, by decide⟩ (by decide) hg113 dX5_init_319 ?_
  replace hk21 := gk_mk (t := 101) (n := 21000) hk21 (by decide)
  refine kg_putr (a := a0) (x := some (gn z112)) rfl gfY5_131 (Or.inr ⟨rfl, rfl⟩) hk21 (Or.inl (by decide)) dX5_init_321 ?_
  refine j_aload_n (r := some a0) dX5_init_324 rfl ?_
  refine j_sipush (v := iI 4000) dX5_init_325 rfl ?_
  obtain ⟨z115, hz115⟩ : ∃ z_, z_ = gpr a0 50 (some (gn z112)) (gmk 101 21000 z112) := ⟨_, rfl⟩
  replace h := h z115 hz115
  replace hk21 : gk z115 a0 = 28 := by rw [hz115]; exact hk21
  rw [← hz115]
  obtain ⟨hg116, h⟩ := h
  refine jg_newarr (n0 := 4000) (Or.inl ⟨rfl, rfl, rfl⟩) q198 ⟨by decide, by decide⟩ (by decide) hg116 dX5_init_328 ?_
  replace hk21 := gk_mk (t := 101) (n := 4000) hk21 (by decide)
  refine kg_putr (a := a0) (x := some (gn z115)) rfl gfY5_134 (Or.inr ⟨rfl, rfl⟩) hk21 (Or.inl (by decide)) dX5_init_330 ?_
  refine j_aload_n (r := some a0) dX5_init_333 rfl ?_
  refine j_sipush (v := iI 5000) dX5_init_334 rfl ?_
  refine kg_puti (a := a0) rfl gfY5_137 (Or.inl rfl) hk21 (Or.inl (by decide)) dX5_init_337 ?_
  refine j_aload_n (r := some a0) dX5_init_340 rfl ?_
  refine j_sipush (v := iI 3000) dX5_init_341 rfl ?_
  obtain ⟨z118, hz118⟩ : ∃ z_, z_ = gpi a0 63 (iI 5000) (gpr a0 58 (some (gn z115)) (gmk 101 4000 z115)) := ⟨_, rfl⟩
  replace h := h z118 hz118
  replace hk21 : gk z118 a0 = 28 := by rw [hz118]; exact hk21
  rw [← hz118]
  obtain ⟨hg119, h⟩ := h
  refine jg_newarr (n0 := 3000) (Or.inl ⟨rfl, rfl, rfl⟩) q198 ⟨by decide, by decide⟩ (by decide) hg119 dX5_init_344 ?_
  replace hk21 := gk_mk (t := 101) (n := 3000) hk21 (by decide)
  refine kg_putr (a := a0) (x := some (gn z118)) rfl gfY5_140 (Or.inr ⟨rfl, rfl⟩) hk21 (Or.inl (by decide)) dX5_init_346 ?_
  refine j_aload_n (r := some a0) dX5_init_349 rfl ?_
  refine j_bipush (v := iI 7) dX5_init_350 rfl ?_
  refine jg_callv (rest := []) (kg_lkV (As := [.int (iI 7)]) (a := a0) (c := 27) kgY5_table_27 (by decide) rfl hk21 q1995 rfl rfl dX5_init_352) cwY5_table (Nat.le_of_ble_eq_true rfl) rfl dX5_init_352 (Nat.succ_le_succ (Nat.zero_le _)) (h.mono (onV_mono (fun t121 h hlt121 => ?_) (fun _ _ h => h)))
  replace h := h hlt121
  replace hk21 := hlt121.tag hk21 (by decide)
  exact j_return rfl dX5_init_355 h
abbrev jY5_table_7 (G : GPl) (s0 : State) (l : Launch) (K : Nat → Option Nat) (T : Nat → Nat) (lev : Nat) (st0 : GSt) (Q : Outcome → GSt → Prop) (a0 : Nat) (x1 : Int32) (x2 : Int32) (σ : GSt) : Prop := JQ (wP G s0 l K T) mY5_table (lev + 1) st0 7 [some (va_rf (some a0)), some (.int x1), some (.int x2), none] [] σ Q
abbrev jY5_table_28 (G : GPl) (s0 : State) (l : Launch) (K : Nat → Option Nat) (T : Nat → Nat) (lev : Nat) (st0 : GSt) (Q : Outcome → GSt → Prop) (a0 : Nat) (x1 : Int32) (x2 : Int32) (σ : GSt) : Prop := JQ (wP G s0 l K T) mY5_table (lev + 1) st0 28 [some (va_rf (some a0)), some (.int x1), some (.int x2), none] [] σ Q
abbrev jY5_table_121 (G : GPl) (s0 : State) (l : Launch) (K : Nat → Option Nat) (T : Nat → Nat) (lev : Nat) (st0 : GSt) (Q : Outcome → GSt → Prop) (a0 : Nat) (x1 : Int32) (x2 : Int32) (x3 : Int32) (σ : GSt) : Prop := JQ (wP G s0 l K T) mY5_table (lev + 1) st0 121 [some (va_rf (some a0)), some (.int x1), some (.int x2), some (.int x3)] [] σ Q
abbrev jY5_table_139 (G : GPl) (s0 : State) (l : Launch) (K : Nat → Option Nat) (T : Nat → Nat) (lev : Nat) (st0 : GSt) (Q : Outcome → GSt → Prop) (a0 : Nat) (x1 : Int32) (x2 : Int32) (x3 : Int32) (σ : GSt) : Prop := JQ (wP G s0 l K T) mY5_table (lev + 1) st0 139 [some (va_rf (some a0)), some (.int x1), some (.int x2), some (.int x3)] [] σ Q
theorem tY5_table {G : GPl} {s0 : State} {l : Launch} {K : Nat → Option Nat} {T : Nat → Nat} {lev : Nat} {Q : Outcome → GSt → Prop} {a0 : Nat} {x1 : Int32} {σ : GSt} (h : (gk σ a0 = 28 ∧ jY5_table_7 G s0 l K T lev σ Q a0 x1 (iI 0) (gpi a0 20 (iI 0) σ))) : CQ (wP G s0 l K T) mY5_table (lev + 1) [.ref a0, .int x1] σ Q := by
  refine CQ.of3 2 (lv := [some (va_rf (some a0)), some (.int x1), none, none]) (by decide) (Nat.le_of_ble_eq_true rfl) (cat1_cons rfl (cat1_cons rfl cat1_nil)) rfl ?_
  refine j_aload_n (r := some a0) dX5_table_0 rfl ?_
  refine j_iconst (v := iI 0) dX5_table_1 rfl ?_
  obtain ⟨hk1, h⟩ := h
  refine kg_puti (a := a0) rfl gfY5_160 (Or.inl rfl) hk1 (Or.inl (by decide)) dX5_table_2 ?_
  refine j_iconst (v := iI 0) dX5_table_5 rfl ?_
  refine j_istore_n (lv' := [some (va_rf (some a0)), some (.int x1), some (.int (iI 0)), none]) dX5_table_6 (by decide) rfl ?_
  exact h
theorem tY5_table_7 {G : GPl} {s0 : State} {l : Launch} {K : Nat → Option Nat} {T : Nat → Nat} {lev : Nat} {st0 : GSt} {Q : Outcome → GSt → Prop} {a0 : Nat} {x1 : Int32} {x2 : Int32} {σ : GSt} (h : (((iI 64) ≤ x2 → jY5_table_28 G s0 l K T lev st0 Q a0 x1 (iI 0) σ) ∧ (¬ (iI 64) ≤ x2 → (gk σ a0 = 28 ∧ (∃ a2, gr σ a0 19 = some a2 ∧ (gk σ a2 = 101 ∧ (inr x2 (gl σ a2) ∧ jY5_table_7 G s0 l K T lev st0 Q a0 x1 (x2 + iI 1) (gpi a2 (ix x2) (iI (-1)) σ)))))))) : jY5_table_7 G s0 l K T lev st0 Q a0 x1 x2 σ := by
  refine j_iload_n dX5_table_7 rfl ?_
  refine j_bipush (v := iI 64) dX5_table_8 rfl ?_
  refine j_icmp_ge 26 dX5_table_10 (by decide) (fun c5 => ?_) (fun c5 => ?_)
  · replace h := h.1 c5
    refine j_iconst (v := iI 0) dX5_table_26 rfl ?_
    refine j_istore_n (lv' := [some (va_rf (some a0)), some (.int x1), some (.int (iI 0)), none]) dX5_table_27 (by decide) rfl ?_
    exact h
  · replace h := h.2 c5
    refine j_aload_n (r := some a0) dX5_table_13 rfl ?_
    obtain ⟨hk1, h⟩ := h
    refine kg_getr (a := a0) (j := 19) rfl gfY5_52 hk1 dX5_table_14 ?_
    refine j_iload_n dX5_table_17 rfl ?_
    refine j_iconst (v := iI (-1)) dX5_table_18 rfl ?_
    obtain ⟨a2, ea2, hk3, hi4, h⟩ := h
    refine kg_ast (a := a2) ea2 hk3 hi4 dX5_table_19 ?_
    refine j_iinc (lv' := [some (va_rf (some a0)), some (.int x1), some (.int (x2 + iI 1)), none]) dX5_table_20 rfl (by decide) rfl ?_
    refine j_goto 7 dX5_table_23 (by decide) ?_
    exact h
theorem tY5_table_28 {G : GPl} {s0 : State} {l : Launch} {K : Nat → Option Nat} {T : Nat → Nat} {lev : Nat} {st0 : GSt} {Q : Outcome → GSt → Prop} {a0 : Nat} {x1 : Int32} {x2 : Int32} {σ : GSt} (h : (((iI 8) ≤ x2 → (gk σ a0 = 28 ∧ ((x1 = (iI 8) → Q (.returned none) (gpi a0 39 (iI 8) (gpi a0 29 (iI 0) (gpi a0 27 (iI 0) σ)))) ∧ (¬ x1 = (iI 8) → (CQ (wP G s0 l K T) mY5_newSort lev (.ref a0 :: [va_rf (some (T 24))]) (gpi a0 39 (iI 8) (gpi a0 29 (iI 0) (gpi a0 27 (iI 0) σ))) (onI (fun r3 t2 => gle (gpi a0 39 (iI 8) (gpi a0 29 (iI 0) (gpi a0 27 (iI 0) σ))) t2 → (CQ (wP G s0 l K T) mY5_newSort lev (.ref a0 :: [va_rf (some (T 25))]) t2 (onI (fun r5 t4 => gle t2 t4 → (∃ a6, gr t4 a0 18 = some a6 ∧ (gk t4 a6 = 101 ∧ (inr r3 (gl t4 a6) ∧ (∃ a9, gr (gpi a6 (ix r3) r5 t4) a0 19 = some a9 ∧ (gk (gpi a6 (ix r3) r5 t4) a9 = 101 ∧ (inr (((iI 8) * r3) + r3) (gl (gpi a6 (ix r3) r5 t4) a9) ∧ (((x1 &&& (iI 1)) = 0 → jY5_table_121 G s0 l K T lev st0 Q a0 x1 r3 r5 (gpi a9 (ix (((iI 8) * r3) + r3)) r3 (gpi a6 (ix r3) r5 t4))) ∧ (¬ (x1 &&& (iI 1)) = 0 → (∃ a12, gr (gpi a9 (ix (((iI 8) * r3) + r3)) r3 (gpi a6 (ix r3) r5 t4)) a0 19 = some a12 ∧ (gk (gpi a9 (ix (((iI 8) * r3) + r3)) r3 (gpi a6 (ix r3) r5 t4)) a12 = 101 ∧ (inr (((iI 8) * r5) + r3) (gl (gpi a9 (ix (((iI 8) * r3) + r3)) r3 (gpi a6 (ix r3) r5 t4)) a12) ∧ jY5_table_121 G s0 l K T lev st0 Q a0 x1 r3 r5 (gpi a12 (ix (((iI 8) * r5) + r3)) r3 (gpi a9 (ix (((iI 8) * r3) + r3)) r3 (gpi a6 (ix r3) r5 t4))))))))))))))) (fun x t => gle t2 t → Q (.threw x) t)))) (fun x t => gle (gpi a0 39 (iI 8) (gpi a0 29 (iI 0) (gpi a0 27 (iI 0) σ))) t → Q (.threw x) t))))))) ∧ (¬ (iI 8) ≤ x2 → (gk σ a0 = 28 ∧ (∃ a18, gr σ a0 18 = some a18 ∧ (gk σ a18 = 101 ∧ (inr x2 (gl σ a18) ∧ jY5_table_28 G s0 l K T lev st0 Q a0 x1 (x2 + iI 1) (gpi a18 (ix x2) (iI (-1)) σ)))))))) : jY5_table_28 G s0 l K T lev st0 Q a0 x1 x2 σ := by
  refine j_iload_n dX5_table_28 rfl ?_
  refine j_bipush (v := iI 8) dX5_table_29 rfl ?_
  refine j_icmp_ge 47 dX5_table_31 (by decide) (fun c21 => ?_) (fun c21 => ?_)
  · replace h := h.1 c21
    refine j_aload_n (r := some a0) dX5_table_47 rfl ?_
    refine j_iconst (v := iI 0) dX5_table_48 rfl ?_
    obtain ⟨hk1, h⟩ := h
    refine kg_puti (a := a0) rfl gfY5_167 (Or.inl rfl) hk1 (Or.inl (by decide)) dX5_table_49 ?_
    refine j_aload_n (r := some a0) dX5_table_52 rfl ?_
    refine j_iconst (v := iI 0) dX5_table_53 rfl ?_
    refine kg_puti (a := a0) rfl gfY5_170 (Or.inl rfl) hk1 (Or.inl (by decide)) dX5_table_54 ?_
    refine j_aload_n (r := some a0) dX5_table_57 rfl ?_
    refine j_bipush (v := iI 8) dX5_table_58 rfl ?_
    refine kg_puti (a := a0) rfl gfY5_173 (Or.inl rfl) hk1 (Or.inl (by decide)) dX5_table_60 ?_
    refine j_iload_n dX5_table_63 rfl ?_
    refine j_bipush (v := iI 8) dX5_table_64 rfl ?_
    refine j_icmp_ne 70 dX5_table_66 (by decide) (fun c16 => ?_) (fun c16 => ?_)
    · replace h := h.2 c16
      refine j_aload_n (r := some a0) dX5_table_70 rfl ?_
      refine jg_ldcS (i := 24) rfl rfl dX5_table_71 ?_
      refine jg_calli (rest := []) (kg_lkV (As := [va_rf (some (T 24))]) (a := a0) (c := 27) kgY5_newSort_27 (by decide) rfl hk1 q2000 rfl rfl dX5_table_73) cwY5_newSort (Nat.le_of_ble_eq_true rfl) rfl dX5_table_73 (Nat.succ_le_succ (Nat.zero_le _)) (h.mono (onI_mono (fun r3 t2 h hlt2 => ?_) (fun _ _ h => h)))
      replace h := h hlt2
      replace hk1 := hlt2.tag hk1 (by decide)
      refine j_istore_n (lv' := [some (va_rf (some a0)), some (.int x1), some (.int r3), none]) dX5_table_76 (by decide) rfl ?_
      refine j_aload_n (r := some a0) dX5_table_77 rfl ?_
      refine jg_ldcS (i := 25) rfl rfl dX5_table_78 ?_
      refine jg_calli (rest := []) (kg_lkV (As := [va_rf (some (T 25))]) (a := a0) (c := 27) kgY5_newSort_27 (by decide) rfl hk1 q2000 rfl rfl dX5_table_80) cwY5_newSort (Nat.le_of_ble_eq_true rfl) rfl dX5_table_80 (Nat.succ_le_succ (Nat.zero_le _)) (h.mono (onI_mono (fun r5 t4 h hlt4 => ?_) (fun _ _ h => h)))
      replace h := h hlt4
      replace hk1 := hlt4.tag hk1 (by decide)
      refine j_istore_n (lv' := [some (va_rf (some a0)), some (.int x1), some (.int r3), some (.int r5)]) dX5_table_83 (by decide) rfl ?_
      refine j_aload_n (r := some a0) dX5_table_84 rfl ?_
      refine kg_getr (a := a0) (j := 18) rfl gfY5_50 hk1 dX5_table_85 ?_
      refine j_iload_n dX5_table_88 rfl ?_
      refine j_iload_n dX5_table_89 rfl ?_
      obtain ⟨a6, ea6, hk7, hi8, h⟩ := h
      refine kg_ast (a := a6) ea6 hk7 hi8 dX5_table_90 ?_
      refine j_aload_n (r := some a0) dX5_table_91 rfl ?_
      refine kg_getr (a := a0) (j := 19) rfl gfY5_52 hk1 dX5_table_92 ?_
      refine j_bipush (v := iI 8) dX5_table_95 rfl ?_
      refine j_iload_n dX5_table_97 rfl ?_
      refine j_imul dX5_table_98 ?_
      refine j_iload_n dX5_table_99 rfl ?_
      refine j_iadd dX5_table_100 ?_
      refine j_iload_n dX5_table_101 rfl ?_
      obtain ⟨a9, ea9, hk10, hi11, h⟩ := h
      refine kg_ast (a := a9) ea9 hk10 hi11 dX5_table_102 ?_
      refine j_iload_n dX5_table_103 rfl ?_
      refine j_iconst (v := iI 1) dX5_table_104 rfl ?_
      refine j_iand dX5_table_105 ?_
      refine j_if_eq 121 dX5_table_106 (by decide) (fun c15 => ?_) (fun c15 => ?_)
      · replace h := h.1 c15
        exact h
      · replace h := h.2 c15
        refine j_aload_n (r := some a0) dX5_table_109 rfl ?_
        refine kg_getr (a := a0) (j := 19) rfl gfY5_52 hk1 dX5_table_110 ?_
        refine j_bipush (v := iI 8) dX5_table_113 rfl ?_
        refine j_iload_n dX5_table_115 rfl ?_
        refine j_imul dX5_table_116 ?_
        refine j_iload_n dX5_table_117 rfl ?_
        refine j_iadd dX5_table_118 ?_
        refine j_iload_n dX5_table_119 rfl ?_
        obtain ⟨a12, ea12, hk13, hi14, h⟩ := h
        refine kg_ast (a := a12) ea12 hk13 hi14 dX5_table_120 ?_
        exact h
    · replace h := h.1 c16
      exact j_return rfl dX5_table_69 h
  · replace h := h.2 c21
    refine j_aload_n (r := some a0) dX5_table_34 rfl ?_
    obtain ⟨hk17, h⟩ := h
    refine kg_getr (a := a0) (j := 18) rfl gfY5_50 hk17 dX5_table_35 ?_
    refine j_iload_n dX5_table_38 rfl ?_
    refine j_iconst (v := iI (-1)) dX5_table_39 rfl ?_
    obtain ⟨a18, ea18, hk19, hi20, h⟩ := h
    refine kg_ast (a := a18) ea18 hk19 hi20 dX5_table_40 ?_
    refine j_iinc (lv' := [some (va_rf (some a0)), some (.int x1), some (.int (x2 + iI 1)), none]) dX5_table_41 rfl (by decide) rfl ?_
    refine j_goto 28 dX5_table_44 (by decide) ?_
    exact h
theorem tY5_table_121 {G : GPl} {s0 : State} {l : Launch} {K : Nat → Option Nat} {T : Nat → Nat} {lev : Nat} {st0 : GSt} {Q : Outcome → GSt → Prop} {a0 : Nat} {x1 : Int32} {x2 : Int32} {x3 : Int32} {σ : GSt} (h : (((x1 &&& (iI 2)) = 0 → jY5_table_139 G s0 l K T lev st0 Q a0 x1 x2 x3 σ) ∧ (¬ (x1 &&& (iI 2)) = 0 → (gk σ a0 = 28 ∧ (∃ a2, gr σ a0 19 = some a2 ∧ (gk σ a2 = 101 ∧ (inr (((iI 8) * x3) + x3) (gl σ a2) ∧ jY5_table_139 G s0 l K T lev st0 Q a0 x1 x2 x3 (gpi a2 (ix (((iI 8) * x3) + x3)) x3 σ)))))))) : jY5_table_121 G s0 l K T lev st0 Q a0 x1 x2 x3 σ := by
  refine j_iload_n dX5_table_121 rfl ?_
  refine j_iconst (v := iI 2) dX5_table_122 rfl ?_
  refine j_iand dX5_table_123 ?_
  refine j_if_eq 139 dX5_table_124 (by decide) (fun c5 => ?_) (fun c5 => ?_)
  · replace h := h.1 c5
    exact h
  · replace h := h.2 c5
    refine j_aload_n (r := some a0) dX5_table_127 rfl ?_
    obtain ⟨hk1, h⟩ := h
    refine kg_getr (a := a0) (j := 19) rfl gfY5_52 hk1 dX5_table_128 ?_
    refine j_bipush (v := iI 8) dX5_table_131 rfl ?_
    refine j_iload_n dX5_table_133 rfl ?_
    refine j_imul dX5_table_134 ?_
    refine j_iload_n dX5_table_135 rfl ?_
    refine j_iadd dX5_table_136 ?_
    refine j_iload_n dX5_table_137 rfl ?_
    obtain ⟨a2, ea2, hk3, hi4, h⟩ := h
    refine kg_ast (a := a2) ea2 hk3 hi4 dX5_table_138 ?_
    exact h
theorem tY5_table_139 {G : GPl} {s0 : State} {l : Launch} {K : Nat → Option Nat} {T : Nat → Nat} {lev : Nat} {st0 : GSt} {Q : Outcome → GSt → Prop} {a0 : Nat} {x1 : Int32} {x2 : Int32} {x3 : Int32} {σ : GSt} (h : (((x1 &&& (iI 4)) = 0 → Q (.returned none) σ) ∧ (¬ (x1 &&& (iI 4)) = 0 → (gk σ a0 = 28 ∧ (∃ a2, gr σ a0 19 = some a2 ∧ (gk σ a2 = 101 ∧ (inr (((iI 8) * x2) + x3) (gl σ a2) ∧ Q (.returned none) (gpi a2 (ix (((iI 8) * x2) + x3)) x3 σ)))))))) : jY5_table_139 G s0 l K T lev st0 Q a0 x1 x2 x3 σ := by
  refine j_iload_n dX5_table_139 rfl ?_
  refine j_iconst (v := iI 4) dX5_table_140 rfl ?_
  refine j_iand dX5_table_141 ?_
  refine j_if_eq 157 dX5_table_142 (by decide) (fun c5 => ?_) (fun c5 => ?_)
  · replace h := h.1 c5
    exact j_return rfl dX5_table_157 h
  · replace h := h.2 c5
    refine j_aload_n (r := some a0) dX5_table_145 rfl ?_
    obtain ⟨hk1, h⟩ := h
    refine kg_getr (a := a0) (j := 19) rfl gfY5_52 hk1 dX5_table_146 ?_
    refine j_bipush (v := iI 8) dX5_table_149 rfl ?_
    refine j_iload_n dX5_table_151 rfl ?_
    refine j_imul dX5_table_152 ?_
    refine j_iload_n dX5_table_153 rfl ?_
    refine j_iadd dX5_table_154 ?_
    refine j_iload_n dX5_table_155 rfl ?_
    obtain ⟨a2, ea2, hk3, hi4, h⟩ := h
    refine kg_ast (a := a2) ea2 hk3 hi4 dX5_table_156 ?_
    exact j_return rfl dX5_table_157 h
abbrev jY5_newSort_2 (G : GPl) (s0 : State) (l : Launch) (K : Nat → Option Nat) (T : Nat → Nat) (lev : Nat) (st0 : GSt) (Q : Outcome → GSt → Prop) (a0 : Nat) (x1 : Option Nat) (x2 : Int32) (σ : GSt) : Prop := JQ (wP G s0 l K T) mY5_newSort (lev + 1) st0 2 [some (va_rf (some a0)), some (va_rf x1), some (.int x2)] [] σ Q
theorem tY5_newSort {G : GPl} {s0 : State} {l : Launch} {K : Nat → Option Nat} {T : Nat → Nat} {lev : Nat} {Q : Outcome → GSt → Prop} {a0 : Nat} {x1 : Option Nat} {σ : GSt} (h : jY5_newSort_2 G s0 l K T lev σ Q a0 x1 (iI 0) σ) : CQ (wP G s0 l K T) mY5_newSort (lev + 1) [.ref a0, va_rf x1] σ Q := by
  refine CQ.of3 1 (lv := [some (va_rf (some a0)), some (va_rf x1), none]) (by decide) (Nat.le_of_ble_eq_true rfl) (cat1_cons rfl (cat1_cons (rf_cat _) cat1_nil)) rfl ?_
  refine j_iconst (v := iI 0) dX5_newSort_0 rfl ?_
  refine j_istore_n (lv' := [some (va_rf (some a0)), some (va_rf x1), some (.int (iI 0))]) dX5_newSort_1 (by decide) rfl ?_
  exact h
theorem tY5_newSort_2 {G : GPl} {s0 : State} {l : Launch} {K : Nat → Option Nat} {T : Nat → Nat} {lev : Nat} {st0 : GSt} {Q : Outcome → GSt → Prop} {a0 : Nat} {x1 : Option Nat} {x2 : Int32} {σ : GSt} (h : (∃ a1, x1 = some a1 ∧ (gk σ a1 = 23 ∧ (CQ (wP G s0 l K T) mJ3_length lev (.ref a1 :: []) σ (onI (fun r4 t3 => gle σ t3 → ((r4 ≤ x2 → (gk t3 a0 = 28 ∧ (CQ (wP G s0 l K T) mJ3_length lev (.ref a1 :: []) t3 (onI (fun r7 t6 => gle t3 t6 → (∃ a8, gr t3 a0 17 = some a8 ∧ (gk t6 a8 = 101 ∧ (inr (gi t3 a0 20) (gl t6 a8) ∧ (∃ a11, gr (gpi a8 (ix (gi t3 a0 20)) r7 t6) a0 18 = some a11 ∧ (gk (gpi a8 (ix (gi t3 a0 20)) r7 t6) a11 = 101 ∧ (inr (gi (gpi a8 (ix (gi t3 a0 20)) r7 t6) a0 20) (gl (gpi a8 (ix (gi t3 a0 20)) r7 t6) a11) ∧ (∃ a14, gr (gpi a11 (ix (gi (gpi a8 (ix (gi t3 a0 20)) r7 t6) a0 20)) (iI (-1)) (gpi a8 (ix (gi t3 a0 20)) r7 t6)) a0 30 = some a14 ∧ (gk (gpi a11 (ix (gi (gpi a8 (ix (gi t3 a0 20)) r7 t6) a0 20)) (iI (-1)) (gpi a8 (ix (gi t3 a0 20)) r7 t6)) a14 = 101 ∧ (inr (gi (gpi a11 (ix (gi (gpi a8 (ix (gi t3 a0 20)) r7 t6) a0 20)) (iI (-1)) (gpi a8 (ix (gi t3 a0 20)) r7 t6)) a0 20) (gl (gpi a11 (ix (gi (gpi a8 (ix (gi t3 a0 20)) r7 t6) a0 20)) (iI (-1)) (gpi a8 (ix (gi t3 a0 20)) r7 t6)) a14) ∧ (∃ a17, gr (gpi a14 (ix (gi (gpi a11 (ix (gi (gpi a8 (ix (gi t3 a0 20)) r7 t6) a0 20)) (iI (-1)) (gpi a8 (ix (gi t3 a0 20)) r7 t6)) a0 20)) (iI 3) (gpi a11 (ix (gi (gpi a8 (ix (gi t3 a0 20)) r7 t6) a0 20)) (iI (-1)) (gpi a8 (ix (gi t3 a0 20)) r7 t6))) a0 31 = some a17 ∧ (gk (gpi a14 (ix (gi (gpi a11 (ix (gi (gpi a8 (ix (gi t3 a0 20)) r7 t6) a0 20)) (iI (-1)) (gpi a8 (ix (gi t3 a0 20)) r7 t6)) a0 20)) (iI 3) (gpi a11 (ix (gi (gpi a8 (ix (gi t3 a0 20)) r7 t6) a0 20)) (iI (-1)) (gpi a8 (ix (gi t3 a0 20)) r7 t6))) a17 = 101 ∧ (inr (gi (gpi a14 (ix (gi (gpi a11 (ix (gi (gpi a8 (ix (gi t3 a0 20)) r7 t6) a0 20)) (iI (-1)) (gpi a8 (ix (gi t3 a0 20)) r7 t6)) a0 20)) (iI 3) (gpi a11 (ix (gi (gpi a8 (ix (gi t3 a0 20)) r7 t6) a0 20)) (iI (-1)) (gpi a8 (ix (gi t3 a0 20)) r7 t6))) a0 20) (gl (gpi a14 (ix (gi (gpi a11 (ix (gi (gpi a8 (ix (gi t3 a0 20)) r7 t6) a0 20)) (iI (-1)) (gpi a8 (ix (gi t3 a0 20)) r7 t6)) a0 20)) (iI 3) (gpi a11 (ix (gi (gpi a8 (ix (gi t3 a0 20)) r7 t6) a0 20)) (iI (-1)) (gpi a8 (ix (gi t3 a0 20)) r7 t6))) a17) ∧ Q (.returned (some (.int ((gi (gpi a0 20 ((gi (gpi a17 (ix (gi (gpi a14 (ix (gi (gpi a11 (ix (gi (gpi a8 (ix (gi t3 a0 20)) r7 t6) a0 20)) (iI (-1)) (gpi a8 (ix (gi t3 a0 20)) r7 t6)) a0 20)) (iI 3) (gpi a11 (ix (gi (gpi a8 (ix (gi t3 a0 20)) r7 t6) a0 20)) (iI (-1)) (gpi a8 (ix (gi t3 a0 20)) r7 t6))) a0 20)) (gi (gpi a14 (ix (gi (gpi a11 (ix (gi (gpi a8 (ix (gi t3 a0 20)) r7 t6) a0 20)) (iI (-1)) (gpi a8 (ix (gi t3 a0 20)) r7 t6)) a0 20)) (iI 3) (gpi a11 (ix (gi (gpi a8 (ix (gi t3 a0 20)) r7 t6) a0 20)) (iI (-1)) (gpi a8 (ix (gi t3 a0 20)) r7 t6))) a0 20) (gpi a14 (ix (gi (gpi a11 (ix (gi (gpi a8 (ix (gi t3 a0 20)) r7 t6) a0 20)) (iI (-1)) (gpi a8 (ix (gi t3 a0 20)) r7 t6)) a0 20)) (iI 3) (gpi a11 (ix (gi (gpi a8 (ix (gi t3 a0 20)) r7 t6) a0 20)) (iI (-1)) (gpi a8 (ix (gi t3 a0 20)) r7 t6)))) a0 20) + (iI 1)) (gpi a17 (ix (gi (gpi a14 (ix (gi (gpi a11 (ix (gi (gpi a8 (ix (gi t3 a0 20)) r7 t6) a0 20)) (iI (-1)) (gpi a8 (ix (gi t3 a0 20)) r7 t6)) a0 20)) (iI 3) (gpi a11 (ix (gi (gpi a8 (ix (gi t3 a0 20)) r7 t6) a0 20)) (iI (-1)) (gpi a8 (ix (gi t3 a0 20)) r7 t6))) a0 20)) (gi (gpi a14 (ix (gi (gpi a11 (ix (gi (gpi a8 (ix (gi t3 a0 20)) r7 t6) a0 20)) (iI (-1)) (gpi a8 (ix (gi t3 a0 20)) r7 t6)) a0 20)) (iI 3) (gpi a11 (ix (gi (gpi a8 (ix (gi t3 a0 20)) r7 t6) a0 20)) (iI (-1)) (gpi a8 (ix (gi t3 a0 20)) r7 t6))) a0 20) (gpi a14 (ix (gi (gpi a11 (ix (gi (gpi a8 (ix (gi t3 a0 20)) r7 t6) a0 20)) (iI (-1)) (gpi a8 (ix (gi t3 a0 20)) r7 t6)) a0 20)) (iI 3) (gpi a11 (ix (gi (gpi a8 (ix (gi t3 a0 20)) r7 t6) a0 20)) (iI (-1)) (gpi a8 (ix (gi t3 a0 20)) r7 t6))))) a0 20) - (iI 1))))) (gpi a0 20 ((gi (gpi a17 (ix (gi (gpi a14 (ix (gi (gpi a11 (ix (gi (gpi a8 (ix (gi t3 a0 20)) r7 t6) a0 20)) (iI (-1)) (gpi a8 (ix (gi t3 a0 20)) r7 t6)) a0 20)) (iI 3) (gpi a11 (ix (gi (gpi a8 (ix (gi t3 a0 20)) r7 t6) a0 20)) (iI (-1)) (gpi a8 (ix (gi t3 a0 20)) r7 t6))) a0 20)) (gi (gpi a14 (ix (gi (gpi a11 (ix (gi (gpi a8 (ix (gi t3 a0 20)) r7 t6) a0 20)) (iI (-1)) (gpi a8 (ix (gi t3 a0 20)) r7 t6)) a0 20)) (iI 3) (gpi a11 (ix (gi (gpi a8 (ix (gi t3 a0 20)) r7 t6) a0 20)) (iI (-1)) (gpi a8 (ix (gi t3 a0 20)) r7 t6))) a0 20) (gpi a14 (ix (gi (gpi a11 (ix (gi (gpi a8 (ix (gi t3 a0 20)) r7 t6) a0 20)) (iI (-1)) (gpi a8 (ix (gi t3 a0 20)) r7 t6)) a0 20)) (iI 3) (gpi a11 (ix (gi (gpi a8 (ix (gi t3 a0 20)) r7 t6) a0 20)) (iI (-1)) (gpi a8 (ix (gi t3 a0 20)) r7 t6)))) a0 20) + (iI 1)) (gpi a17 (ix (gi (gpi a14 (ix (gi (gpi a11 (ix (gi (gpi a8 (ix (gi t3 a0 20)) r7 t6) a0 20)) (iI (-1)) (gpi a8 (ix (gi t3 a0 20)) r7 t6)) a0 20)) (iI 3) (gpi a11 (ix (gi (gpi a8 (ix (gi t3 a0 20)) r7 t6) a0 20)) (iI (-1)) (gpi a8 (ix (gi t3 a0 20)) r7 t6))) a0 20)) (gi (gpi a14 (ix (gi (gpi a11 (ix (gi (gpi a8 (ix (gi t3 a0 20)) r7 t6) a0 20)) (iI (-1)) (gpi a8 (ix (gi t3 a0 20)) r7 t6)) a0 20)) (iI 3) (gpi a11 (ix (gi (gpi a8 (ix (gi t3 a0 20)) r7 t6) a0 20)) (iI (-1)) (gpi a8 (ix (gi t3 a0 20)) r7 t6))) a0 20) (gpi a14 (ix (gi (gpi a11 (ix (gi (gpi a8 (ix (gi t3 a0 20)) r7 t6) a0 20)) (iI (-1)) (gpi a8 (ix (gi t3 a0 20)) r7 t6)) a0 20)) (iI 3) (gpi a11 (ix (gi (gpi a8 (ix (gi t3 a0 20)) r7 t6) a0 20)) (iI (-1)) (gpi a8 (ix (gi t3 a0 20)) r7 t6)))))))))))))))))) (fun x t => gle t3 t → Q (.threw x) t))))) ∧ (¬ r4 ≤ x2 → (gk t3 a0 = 28 ∧ (CQ (wP G s0 l K T) mJ3_charAt lev (.ref a1 :: [.int x2]) t3 (onI (fun r22 t21 => gle t3 t21 → (∃ a23, gr t3 a0 16 = some a23 ∧ (gk t21 a23 = 101 ∧ (inr (((iI 12) * (gi t3 a0 20)) + x2) (gl t21 a23) ∧ jY5_newSort_2 G s0 l K T lev st0 Q a0 x1 (x2 + iI 1) (gpi a23 (ix (((iI 12) * (gi t3 a0 20)) + x2)) r22 t21))))) (fun x t => gle t3 t → Q (.threw x) t))))))) (fun x t => gle σ t → Q (.threw x) t)))))) : jY5_newSort_2 G s0 l K T lev st0 Q a0 x1 x2 σ := by
  refine j_iload_n dX5_newSort_2 rfl ?_
  refine j_aload_n (r := x1) dX5_newSort_3 rfl ?_
  obtain ⟨a1, ea1, hk2, h⟩ := h
  refine jg_calli (rest := [.int x2]) (kg_lkV (As := []) (a := a1) (c := 22) kgJ3_length_22 (by decide) rfl hk2 q2004 rfl (by rw [ea1]; rfl) dX5_newSort_4) cwJ3_length (Nat.le_of_ble_eq_true rfl) rfl dX5_newSort_4 (Nat.succ_le_succ (Nat.zero_le _)) (h.mono (onI_mono (fun r4 t3 h hlt3 => ?_) (fun _ _ h => h)))
  replace h := h hlt3
  replace hk2 := hlt3.tag hk2 (by decide)
  refine j_icmp_ge 35 dX5_newSort_7 (by decide) (fun c26 => ?_) (fun c26 => ?_)
  · replace h := h.1 c26
    refine j_aload_n (r := some a0) dX5_newSort_35 rfl ?_
    obtain ⟨hk5, h⟩ := h
    refine kg_getr (a := a0) (j := 17) rfl gfY5_47 hk5 dX5_newSort_36 ?_
    refine j_aload_n (r := some a0) dX5_newSort_39 rfl ?_
    refine kg_geti (a := a0) (j := 20) rfl gfY5_160 (by decide) hk5 dX5_newSort_40 ?_
    refine j_aload_n (r := x1) dX5_newSort_43 rfl ?_
    refine jg_calli (rest := [.int (gi t3 a0 20), va_rf (gr t3 a0 17)]) (kg_lkV (As := []) (a := a1) (c := 22) kgJ3_length_22 (by decide) rfl hk2 q2004 rfl (by rw [ea1]; rfl) dX5_newSort_44) cwJ3_length (rm_ok (cat1_cons rfl (cat1_cons (rf_cat _) cat1_nil)) (Nat.le_of_ble_eq_true rfl)) rfl dX5_newSort_44 (Nat.succ_le_succ (Nat.zero_le _)) (h.mono (onI_mono (fun r7 t6 h hlt6 => ?_) (fun _ _ h => h)))
    replace h := h hlt6
    replace hk2 := hlt6.tag hk2 (by decide)
    replace hk5 := hlt6.tag hk5 (by decide)
    obtain ⟨a8, ea8, hk9, hi10, h⟩ := h
    refine kg_ast (a := a8) ea8 hk9 hi10 dX5_newSort_47 ?_
    refine j_aload_n (r := some a0) dX5_newSort_48 rfl ?_
    refine kg_getr (a := a0) (j := 18) rfl gfY5_50 hk5 dX5_newSort_49 ?_
    refine j_aload_n (r := some a0) dX5_newSort_52 rfl ?_
    refine kg_geti (a := a0) (j := 20) rfl gfY5_160 (by decide) hk5 dX5_newSort_53 ?_
    refine j_iconst (v := iI (-1)) dX5_newSort_56 rfl ?_
    obtain ⟨a11, ea11, hk12, hi13, h⟩ := h
    refine kg_ast (a := a11) ea11 hk12 hi13 dX5_newSort_57 ?_
    refine j_aload_n (r := some a0) dX5_newSort_58 rfl ?_
    refine kg_getr (a := a0) (j := 30) rfl gfY5_76 hk5 dX5_newSort_59 ?_
    refine j_aload_n (r := some a0) dX5_newSort_62 rfl ?_
    refine kg_geti (a := a0) (j := 20) rfl gfY5_160 (by decide) hk5 dX5_newSort_63 ?_
    refine j_iconst (v := iI 3) dX5_newSort_66 rfl ?_
    obtain ⟨a14, ea14, hk15, hi16, h⟩ := h
    refine kg_ast (a := a14) ea14 hk15 hi16 dX5_newSort_67 ?_
    refine j_aload_n (r := some a0) dX5_newSort_68 rfl ?_
    refine kg_getr (a := a0) (j := 31) rfl gfY5_79 hk5 dX5_newSort_69 ?_
    refine j_aload_n (r := some a0) dX5_newSort_72 rfl ?_
    refine kg_geti (a := a0) (j := 20) rfl gfY5_160 (by decide) hk5 dX5_newSort_73 ?_
    refine j_aload_n (r := some a0) dX5_newSort_76 rfl ?_
    refine kg_geti (a := a0) (j := 20) rfl gfY5_160 (by decide) hk5 dX5_newSort_77 ?_
    obtain ⟨a17, ea17, hk18, hi19, h⟩ := h
    refine kg_ast (a := a17) ea17 hk18 hi19 dX5_newSort_80 ?_
    refine j_aload_n (r := some a0) dX5_newSort_81 rfl ?_
    refine j_dup dX5_newSort_82 rfl ?_
    refine kg_geti (a := a0) (j := 20) rfl gfY5_160 (by decide) hk5 dX5_newSort_83 ?_
    refine j_iconst (v := iI 1) dX5_newSort_86 rfl ?_
    refine j_iadd dX5_newSort_87 ?_
    refine kg_puti (a := a0) rfl gfY5_160 (Or.inl rfl) hk5 (Or.inl (by decide)) dX5_newSort_88 ?_
    refine j_aload_n (r := some a0) dX5_newSort_91 rfl ?_
    refine kg_geti (a := a0) (j := 20) rfl gfY5_160 (by decide) hk5 dX5_newSort_92 ?_
    refine j_iconst (v := iI 1) dX5_newSort_95 rfl ?_
    refine j_isub dX5_newSort_96 ?_
    exact j_ireturn (ty := .int) rfl rfl dX5_newSort_97 h
  · replace h := h.2 c26
    refine j_aload_n (r := some a0) dX5_newSort_10 rfl ?_
    obtain ⟨hk20, h⟩ := h
    refine kg_getr (a := a0) (j := 16) rfl gfY5_44 hk20 dX5_newSort_11 ?_
    refine j_bipush (v := iI 12) dX5_newSort_14 rfl ?_
    refine j_aload_n (r := some a0) dX5_newSort_16 rfl ?_
    refine kg_geti (a := a0) (j := 20) rfl gfY5_160 (by decide) hk20 dX5_newSort_17 ?_
    refine j_imul dX5_newSort_20 ?_
    refine j_iload_n dX5_newSort_21 rfl ?_
    refine j_iadd dX5_newSort_22 ?_
    refine j_aload_n (r := x1) dX5_newSort_23 rfl ?_
    refine j_iload_n dX5_newSort_24 rfl ?_
    refine jg_calli (rest := [.int (((iI 12) * (gi t3 a0 20)) + x2), va_rf (gr t3 a0 16)]) (kg_lkV (As := [.int x2]) (a := a1) (c := 22) kgJ3_charAt_22 (by decide) rfl hk2 q2005 rfl (by rw [ea1]; rfl) dX5_newSort_25) cwJ3_charAt (rm_ok (cat1_cons rfl (cat1_cons (rf_cat _) cat1_nil)) (Nat.le_of_ble_eq_true rfl)) rfl dX5_newSort_25 (Nat.succ_le_succ (Nat.zero_le _)) (h.mono (onI_mono (fun r22 t21 h hlt21 => ?_) (fun _ _ h => h)))
    replace h := h hlt21
    replace hk2 := hlt21.tag hk2 (by decide)
    replace hk20 := hlt21.tag hk20 (by decide)
    obtain ⟨a23, ea23, hk24, hi25, h⟩ := h
    refine kg_ast (a := a23) ea23 hk24 hi25 dX5_newSort_28 ?_
    refine j_iinc (lv' := [some (va_rf (some a0)), some (va_rf x1), some (.int (x2 + iI 1))]) dX5_newSort_29 rfl (by decide) rfl ?_
    refine j_goto 2 dX5_newSort_32 (by decide) ?_
    exact h
