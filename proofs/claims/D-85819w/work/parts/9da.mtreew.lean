/-! trees of the model's methods that look at texts (made by gen/genm.py isWord newSort table) -/
set_option maxRecDepth 100000
theorem cJ3w_length : Cw mJ3_length := kgJ3_length_22.1
theorem iJ3w_length : Cond.instanceMethod mJ3_length.y ∈ lw_all := kgJ3_length_22.2.1
theorem sJ3w_length : Cond.selects "java/lang/String" mJ3_length.y mJ3_length.y ∈ lw_all := kgJ3_length_22.2.2.1
theorem pJ3w_length : parLen mJ3_length.y 0 := kgJ3_length_22.2.2.2.1
theorem cJ3w_charAt : Cw mJ3_charAt := kgJ3_charAt_22.1
theorem iJ3w_charAt : Cond.instanceMethod mJ3_charAt.y ∈ lw_all := kgJ3_charAt_22.2.1
theorem sJ3w_charAt : Cond.selects "java/lang/String" mJ3_charAt.y mJ3_charAt.y ∈ lw_all := kgJ3_charAt_22.2.2.1
theorem pJ3w_charAt : parLen mJ3_charAt.y 1 := kgJ3_charAt_22.2.2.2.1
abbrev jX5_isWord_29 (P : MPl) (s0 : State) (l : Launch) (X : Prop) (lev : Nat) (st0 : MSt) (Q : Outcome → MSt → Prop) (x1 x2 x3 : Int32) (st : MSt) : Prop := JQ (wM P s0 l X) mX5_isWord (lev + 1) st0 29 [some (va_rf (some P.mo)), some (.int x1), some (.int x2), some (.int x3)] [] st Q
theorem tX5_isWord {P : MPl} {s0 : State} {l : Launch} {X : Prop} {lev : Nat} {Q : Outcome → MSt → Prop} {x1 : Int32} {st : MSt} (h : ((inr x1 9 ∧ WordArr P s0 X) ∧ (StrRecv P s0 l X st (P.wa x1.toNatClampNeg) ∧ CQ (wM P s0 l X) mJ3_length lev (.ref (P.wa x1.toNatClampNeg) :: []) st (onI (fun r2 t1 => ((r2 = ((fI t1 10) - (fI t1 9)) → jX5_isWord_29 P s0 l X lev st Q x1 (iI 1) (iI 0) t1) ∧ (¬ r2 = ((fI t1 10) - (fI t1 9)) → jX5_isWord_29 P s0 l X lev st Q x1 (iI 0) (iI 0) t1))) (fun x t => Q (.threw x) t))))) : CQ (wM P s0 l X) mX5_isWord (lev + 1) [.ref P.mo, .int x1] st Q := by
  refine CQ.of2 2 (lv := [some (va_rf (some P.mo)), some (.int x1), none, none]) (by decide) (Nat.le_of_ble_eq_true rfl) rfl rfl ?_
  refine j_aload_n (r := some P.mo) dX5_isWord_0 rfl ?_
  refine jm_getw fM_0 rfl dX5_isWord_1 ?_
  refine j_iload_n dX5_isWord_4 rfl ?_
  refine jm_aald h.1.1 h.1.2 dX5_isWord_5 ?_
  replace h := h.2
  refine jm_callX (C := "java/lang/String") (b := (P.wa x1.toNatClampNeg)) (As := []) (rest := []) cJ3w_length iJ3w_length sJ3w_length (by decide) pJ3w_length rfl h.1 rfl q2004 rfl rfl (Nat.le_of_ble_eq_true rfl) rfl dX5_isWord_6 (Nat.succ_le_succ (Nat.zero_le _)) (h.2.mono (onI_mono (fun r2 t1 h => ?_) (fun _ _ h => h)))
  refine j_aload_n (r := some P.mo) dX5_isWord_9 rfl ?_
  refine jm_get (v := fI t1 10) fM_10 rfl rfl dX5_isWord_10 ?_
  refine j_aload_n (r := some P.mo) dX5_isWord_13 rfl ?_
  refine jm_get (v := fI t1 9) fM_9 rfl rfl dX5_isWord_14 ?_
  refine j_isub dX5_isWord_17 ?_
  refine j_icmp_ne 25 dX5_isWord_18 (by decide) (fun c3 => ?_) (fun c3 => ?_)
  · replace h := h.2 c3
    refine j_iconst (v := iI 0) dX5_isWord_25 rfl ?_
    refine j_istore_n (lv' := [some (va_rf (some P.mo)), some (.int x1), some (.int (iI 0)), none]) dX5_isWord_26 (by decide) rfl ?_
    refine j_iconst (v := iI 0) dX5_isWord_27 rfl ?_
    refine j_istore_n (lv' := [some (va_rf (some P.mo)), some (.int x1), some (.int (iI 0)), some (.int (iI 0))]) dX5_isWord_28 (by decide) rfl ?_
    exact h
  · replace h := h.1 c3
    refine j_iconst (v := iI 1) dX5_isWord_21 rfl ?_
    refine j_goto 26 dX5_isWord_22 (by decide) ?_
    refine j_istore_n (lv' := [some (va_rf (some P.mo)), some (.int x1), some (.int (iI 1)), none]) dX5_isWord_26 (by decide) rfl ?_
    refine j_iconst (v := iI 0) dX5_isWord_27 rfl ?_
    refine j_istore_n (lv' := [some (va_rf (some P.mo)), some (.int x1), some (.int (iI 1)), some (.int (iI 0))]) dX5_isWord_28 (by decide) rfl ?_
    exact h
theorem tX5_isWord_29 {P : MPl} {s0 : State} {l : Launch} {X : Prop} {lev : Nat} {st0 : MSt} {Q : Outcome → MSt → Prop} {x1 x2 x3 : Int32} {st : MSt} (h : ((x2 = 0 → (isZ x2 ∧ Q (.returned (some (.int x2))) st)) ∧ (¬ x2 = 0 → ((((fI st 10) - (fI st 9)) ≤ x3 → (isZ x2 ∧ Q (.returned (some (.int x2))) st)) ∧ (¬ ((fI st 10) - (fI st 9)) ≤ x3 → ((inr x1 9 ∧ WordArr P s0 X) ∧ (StrRecv P s0 l X st (P.wa x1.toNatClampNeg) ∧ CQ (wM P s0 l X) mJ3_charAt lev (.ref (P.wa x1.toNatClampNeg) :: [.int x3]) st (onI (fun r2 t1 => (inr ((fI t1 9) + x3) 4000 ∧ ((r2 = (aI t1 4 ((fI t1 9) + x3)) → jX5_isWord_29 P s0 l X lev st0 Q x1 (iI 1) (x3 + iI 1) t1) ∧ (¬ r2 = (aI t1 4 ((fI t1 9) + x3)) → jX5_isWord_29 P s0 l X lev st0 Q x1 (iI 0) (x3 + iI 1) t1)))) (fun x t => Q (.threw x) t))))))))) : jX5_isWord_29 P s0 l X lev st0 Q x1 x2 x3 st := by
  refine j_iload_n dX5_isWord_29 rfl ?_
  refine j_if_eq 82 dX5_isWord_30 (by decide) (fun c5 => ?_) (fun c5 => ?_)
  · replace h := h.1 c5
    refine j_iload_n dX5_isWord_82 rfl ?_
    have hz := h.1
    replace h := h.2
    exact j_ireturn (ty := .boolean) rfl (nz hz) dX5_isWord_83 h
  · replace h := h.2 c5
    refine j_iload_n dX5_isWord_33 rfl ?_
    refine j_aload_n (r := some P.mo) dX5_isWord_34 rfl ?_
    refine jm_get (v := fI st 10) fM_10 rfl rfl dX5_isWord_35 ?_
    refine j_aload_n (r := some P.mo) dX5_isWord_38 rfl ?_
    refine jm_get (v := fI st 9) fM_9 rfl rfl dX5_isWord_39 ?_
    refine j_isub dX5_isWord_42 ?_
    refine j_icmp_ge 82 dX5_isWord_43 (by decide) (fun c4 => ?_) (fun c4 => ?_)
    · replace h := h.1 c4
      refine j_iload_n dX5_isWord_82 rfl ?_
      have hz := h.1
      replace h := h.2
      exact j_ireturn (ty := .boolean) rfl (nz hz) dX5_isWord_83 h
    · replace h := h.2 c4
      refine j_aload_n (r := some P.mo) dX5_isWord_46 rfl ?_
      refine jm_getw fM_0 rfl dX5_isWord_47 ?_
      refine j_iload_n dX5_isWord_50 rfl ?_
      refine jm_aald h.1.1 h.1.2 dX5_isWord_51 ?_
      replace h := h.2
      refine j_iload_n dX5_isWord_52 rfl ?_
      refine jm_callX (C := "java/lang/String") (b := (P.wa x1.toNatClampNeg)) (As := [.int x3]) (rest := []) cJ3w_charAt iJ3w_charAt sJ3w_charAt (by decide) pJ3w_charAt rfl h.1 rfl q2005 rfl rfl (Nat.le_of_ble_eq_true rfl) rfl dX5_isWord_53 (Nat.succ_le_succ (Nat.zero_le _)) (h.2.mono (onI_mono (fun r2 t1 h => ?_) (fun _ _ h => h)))
      refine j_aload_n (r := some P.mo) dX5_isWord_56 rfl ?_
      refine jm_geta fM_4 rfl dX5_isWord_57 ?_
      refine j_aload_n (r := some P.mo) dX5_isWord_60 rfl ?_
      refine jm_get (v := fI t1 9) fM_9 rfl rfl dX5_isWord_61 ?_
      refine j_iload_n dX5_isWord_64 rfl ?_
      refine j_iadd dX5_isWord_65 ?_
      refine jm_ald (v := aI t1 4 ((fI t1 9) + x3)) rfl h.1 rfl rfl dX5_isWord_66 ?_
      replace h := h.2
      refine j_icmp_ne 74 dX5_isWord_67 (by decide) (fun c3 => ?_) (fun c3 => ?_)
      · replace h := h.2 c3
        refine j_iconst (v := iI 0) dX5_isWord_74 rfl ?_
        refine j_istore_n (lv' := [some (va_rf (some P.mo)), some (.int x1), some (.int (iI 0)), some (.int x3)]) dX5_isWord_75 (by decide) rfl ?_
        refine j_iinc (lv' := [some (va_rf (some P.mo)), some (.int x1), some (.int (iI 0)), some (.int (x3 + iI 1))]) dX5_isWord_76 rfl (by decide) rfl ?_
        refine j_goto 29 dX5_isWord_79 (by decide) ?_
        exact h
      · replace h := h.1 c3
        refine j_iconst (v := iI 1) dX5_isWord_70 rfl ?_
        refine j_goto 75 dX5_isWord_71 (by decide) ?_
        refine j_istore_n (lv' := [some (va_rf (some P.mo)), some (.int x1), some (.int (iI 1)), some (.int x3)]) dX5_isWord_75 (by decide) rfl ?_
        refine j_iinc (lv' := [some (va_rf (some P.mo)), some (.int x1), some (.int (iI 1)), some (.int (x3 + iI 1))]) dX5_isWord_76 rfl (by decide) rfl ?_
        refine j_goto 29 dX5_isWord_79 (by decide) ?_
        exact h
abbrev jX5_newSort_2 (P : MPl) (s0 : State) (l : Launch) (X : Prop) (lev : Nat) (st0 : MSt) (Q : Outcome → MSt → Prop) (b1 : Nat) (x2 : Int32) (st : MSt) : Prop := JQ (wM P s0 l X) mX5_newSort (lev + 1) st0 2 [some (va_rf (some P.mo)), some (va_rf (some b1)), some (.int x2)] [] st Q
theorem tX5_newSort {P : MPl} {s0 : State} {l : Launch} {X : Prop} {lev : Nat} {Q : Outcome → MSt → Prop} {b1 : Nat} {st : MSt} (h : jX5_newSort_2 P s0 l X lev st Q b1 (iI 0) st) : CQ (wM P s0 l X) mX5_newSort (lev + 1) [.ref P.mo, .ref b1] st Q := by
  refine CQ.of2 1 (lv := [some (va_rf (some P.mo)), some (va_rf (some b1)), none]) (by decide) (Nat.le_of_ble_eq_true rfl) rfl rfl ?_
  refine j_iconst (v := iI 0) dX5_newSort_0 rfl ?_
  refine j_istore_n (lv' := [some (va_rf (some P.mo)), some (va_rf (some b1)), some (.int (iI 0))]) dX5_newSort_1 (by decide) rfl ?_
  exact h
theorem tX5_newSort_2 {P : MPl} {s0 : State} {l : Launch} {X : Prop} {lev : Nat} {st0 : MSt} {Q : Outcome → MSt → Prop} {b1 : Nat} {x2 : Int32} {st : MSt} (h : (StrRecv P s0 l X st b1 ∧ CQ (wM P s0 l X) mJ3_length lev (.ref b1 :: []) st (onI (fun r2 t1 => ((r2 ≤ x2 → (StrRecv P s0 l X t1 b1 ∧ CQ (wM P s0 l X) mJ3_length lev (.ref b1 :: []) t1 (onI (fun r4 t3 => (inr (fI t1 20) 8 ∧ (inr (fI t3 20) 8 ∧ (inr (fI t3 20) 140000 ∧ (inr (fI t3 20) 140000 ∧ Q (.returned (some (.int (((fI t3 20) + (iI 1)) - (iI 1))))) (mput 20 ((fI t3 20) + (iI 1)) (mst 31 (fI t3 20) (fI t3 20) (mst 30 (fI t3 20) (iI 3) (mst 18 (fI t3 20) (iI (-1)) (mst 17 (fI t1 20) r4 t3)))))))))) (fun x t => Q (.threw x) t)))) ∧ (¬ r2 ≤ x2 → (StrRecv P s0 l X t1 b1 ∧ CQ (wM P s0 l X) mJ3_charAt lev (.ref b1 :: [.int x2]) t1 (onI (fun r6 t5 => (inr (((iI 12) * (fI t1 20)) + x2) 96 ∧ jX5_newSort_2 P s0 l X lev st0 Q b1 (x2 + iI 1) (mst 16 (((iI 12) * (fI t1 20)) + x2) r6 t5))) (fun x t => Q (.threw x) t)))))) (fun x t => Q (.threw x) t)))) : jX5_newSort_2 P s0 l X lev st0 Q b1 x2 st := by
  refine j_iload_n dX5_newSort_2 rfl ?_
  refine j_aload_n (r := some b1) dX5_newSort_3 rfl ?_
  refine jm_callX (C := "java/lang/String") (b := b1) (As := []) (rest := [.int x2]) cJ3w_length iJ3w_length sJ3w_length (by decide) pJ3w_length rfl h.1 rfl q2004 rfl rfl (Nat.le_of_ble_eq_true rfl) rfl dX5_newSort_4 (Nat.succ_le_succ (Nat.zero_le _)) (h.2.mono (onI_mono (fun r2 t1 h => ?_) (fun _ _ h => h)))
  refine j_icmp_ge 35 dX5_newSort_7 (by decide) (fun c7 => ?_) (fun c7 => ?_)
  · replace h := h.1 c7
    refine j_aload_n (r := some P.mo) dX5_newSort_35 rfl ?_
    refine jm_geta fM_17 rfl dX5_newSort_36 ?_
    refine j_aload_n (r := some P.mo) dX5_newSort_39 rfl ?_
    refine jm_get (v := fI t1 20) fM_20 rfl rfl dX5_newSort_40 ?_
    refine j_aload_n (r := some b1) dX5_newSort_43 rfl ?_
    refine jm_callX (C := "java/lang/String") (b := b1) (As := []) (rest := [.int (fI t1 20), va_rf (some (P.ad 17))]) cJ3w_length iJ3w_length sJ3w_length (by decide) pJ3w_length rfl h.1 rfl q2004 rfl rfl (Nat.le_of_ble_eq_true rfl) rfl dX5_newSort_44 (Nat.succ_le_succ (Nat.zero_le _)) (h.2.mono (onI_mono (fun r4 t3 h => ?_) (fun _ _ h => h)))
    refine jm_ast rfl h.1 rfl dX5_newSort_47 ?_
    replace h := h.2
    refine j_aload_n (r := some P.mo) dX5_newSort_48 rfl ?_
    refine jm_geta fM_18 rfl dX5_newSort_49 ?_
    refine j_aload_n (r := some P.mo) dX5_newSort_52 rfl ?_
    refine jm_get (v := fI t3 20) fM_20 rfl rfl dX5_newSort_53 ?_
    refine j_iconst (v := iI (-1)) dX5_newSort_56 rfl ?_
    refine jm_ast rfl h.1 rfl dX5_newSort_57 ?_
    replace h := h.2
    refine j_aload_n (r := some P.mo) dX5_newSort_58 rfl ?_
    refine jm_geta fM_30 rfl dX5_newSort_59 ?_
    refine j_aload_n (r := some P.mo) dX5_newSort_62 rfl ?_
    refine jm_get (v := fI t3 20) fM_20 rfl rfl dX5_newSort_63 ?_
    refine j_iconst (v := iI 3) dX5_newSort_66 rfl ?_
    refine jm_ast rfl h.1 rfl dX5_newSort_67 ?_
    replace h := h.2
    refine j_aload_n (r := some P.mo) dX5_newSort_68 rfl ?_
    refine jm_geta fM_31 rfl dX5_newSort_69 ?_
    refine j_aload_n (r := some P.mo) dX5_newSort_72 rfl ?_
    refine jm_get (v := fI t3 20) fM_20 rfl rfl dX5_newSort_73 ?_
    refine j_aload_n (r := some P.mo) dX5_newSort_76 rfl ?_
    refine jm_get (v := fI t3 20) fM_20 rfl rfl dX5_newSort_77 ?_
    refine jm_ast rfl h.1 rfl dX5_newSort_80 ?_
    replace h := h.2
    refine j_aload_n (r := some P.mo) dX5_newSort_81 rfl ?_
    refine j_dup dX5_newSort_82 rfl ?_
    refine jm_get (v := fI t3 20) fM_20 rfl rfl dX5_newSort_83 ?_
    refine j_iconst (v := iI 1) dX5_newSort_86 rfl ?_
    refine j_iadd dX5_newSort_87 ?_
    refine jm_put fM_20 rfl dX5_newSort_88 ?_
    refine j_aload_n (r := some P.mo) dX5_newSort_91 rfl ?_
    refine jm_get (v := (fI t3 20) + (iI 1)) fM_20 rfl rfl dX5_newSort_92 ?_
    refine j_iconst (v := iI 1) dX5_newSort_95 rfl ?_
    refine j_isub dX5_newSort_96 ?_
    exact j_ireturn (ty := .int) rfl rfl dX5_newSort_97 h
  · replace h := h.2 c7
    refine j_aload_n (r := some P.mo) dX5_newSort_10 rfl ?_
    refine jm_geta fM_16 rfl dX5_newSort_11 ?_
    refine j_bipush (v := iI 12) dX5_newSort_14 rfl ?_
    refine j_aload_n (r := some P.mo) dX5_newSort_16 rfl ?_
    refine jm_get (v := fI t1 20) fM_20 rfl rfl dX5_newSort_17 ?_
    refine j_imul dX5_newSort_20 ?_
    refine j_iload_n dX5_newSort_21 rfl ?_
    refine j_iadd dX5_newSort_22 ?_
    refine j_aload_n (r := some b1) dX5_newSort_23 rfl ?_
    refine j_iload_n dX5_newSort_24 rfl ?_
    refine jm_callX (C := "java/lang/String") (b := b1) (As := [.int x2]) (rest := [.int (((iI 12) * (fI t1 20)) + x2), va_rf (some (P.ad 16))]) cJ3w_charAt iJ3w_charAt sJ3w_charAt (by decide) pJ3w_charAt rfl h.1 rfl q2005 rfl rfl (Nat.le_of_ble_eq_true rfl) rfl dX5_newSort_25 (Nat.succ_le_succ (Nat.zero_le _)) (h.2.mono (onI_mono (fun r6 t5 h => ?_) (fun _ _ h => h)))
    refine jm_ast rfl h.1 rfl dX5_newSort_28 ?_
    replace h := h.2
    refine j_iinc (lv' := [some (va_rf (some P.mo)), some (va_rf (some b1)), some (.int (x2 + iI 1))]) dX5_newSort_29 rfl (by decide) rfl ?_
    refine j_goto 2 dX5_newSort_32 (by decide) ?_
    exact h
abbrev jX5_table_7 (P : MPl) (s0 : State) (l : Launch) (X : Prop) (lev : Nat) (st0 : MSt) (Q : Outcome → MSt → Prop) (x1 x2 : Int32) (st : MSt) : Prop := JQ (wM P s0 l X) mX5_table (lev + 1) st0 7 [some (va_rf (some P.mo)), some (.int x1), some (.int x2), none] [] st Q
abbrev jX5_table_28 (P : MPl) (s0 : State) (l : Launch) (X : Prop) (lev : Nat) (st0 : MSt) (Q : Outcome → MSt → Prop) (x1 x2 : Int32) (st : MSt) : Prop := JQ (wM P s0 l X) mX5_table (lev + 1) st0 28 [some (va_rf (some P.mo)), some (.int x1), some (.int x2), none] [] st Q
abbrev jX5_table_121 (P : MPl) (s0 : State) (l : Launch) (X : Prop) (lev : Nat) (st0 : MSt) (Q : Outcome → MSt → Prop) (x1 x2 x3 : Int32) (st : MSt) : Prop := JQ (wM P s0 l X) mX5_table (lev + 1) st0 121 [some (va_rf (some P.mo)), some (.int x1), some (.int x2), some (.int x3)] [] st Q
abbrev jX5_table_139 (P : MPl) (s0 : State) (l : Launch) (X : Prop) (lev : Nat) (st0 : MSt) (Q : Outcome → MSt → Prop) (x1 x2 x3 : Int32) (st : MSt) : Prop := JQ (wM P s0 l X) mX5_table (lev + 1) st0 139 [some (va_rf (some P.mo)), some (.int x1), some (.int x2), some (.int x3)] [] st Q
theorem tX5_table {P : MPl} {s0 : State} {l : Launch} {X : Prop} {lev : Nat} {Q : Outcome → MSt → Prop} {x1 : Int32} {st : MSt} (h : jX5_table_7 P s0 l X lev st Q x1 (iI 0) (mput 20 (iI 0) st)) : CQ (wM P s0 l X) mX5_table (lev + 1) [.ref P.mo, .int x1] st Q := by
  refine CQ.of2 2 (lv := [some (va_rf (some P.mo)), some (.int x1), none, none]) (by decide) (Nat.le_of_ble_eq_true rfl) rfl rfl ?_
  refine j_aload_n (r := some P.mo) dX5_table_0 rfl ?_
  refine j_iconst (v := iI 0) dX5_table_1 rfl ?_
  refine jm_put fM_20 rfl dX5_table_2 ?_
  refine j_iconst (v := iI 0) dX5_table_5 rfl ?_
  refine j_istore_n (lv' := [some (va_rf (some P.mo)), some (.int x1), some (.int (iI 0)), none]) dX5_table_6 (by decide) rfl ?_
  exact h
theorem tX5_table_7 {P : MPl} {s0 : State} {l : Launch} {X : Prop} {lev : Nat} {st0 : MSt} {Q : Outcome → MSt → Prop} {x1 x2 : Int32} {st : MSt} (h : (((iI 64) ≤ x2 → jX5_table_28 P s0 l X lev st0 Q x1 (iI 0) st) ∧ (¬ (iI 64) ≤ x2 → (inr x2 64 ∧ jX5_table_7 P s0 l X lev st0 Q x1 (x2 + iI 1) (mst 19 x2 (iI (-1)) st))))) : jX5_table_7 P s0 l X lev st0 Q x1 x2 st := by
  refine j_iload_n dX5_table_7 rfl ?_
  refine j_bipush (v := iI 64) dX5_table_8 rfl ?_
  refine j_icmp_ge 26 dX5_table_10 (by decide) (fun c1 => ?_) (fun c1 => ?_)
  · replace h := h.1 c1
    refine j_iconst (v := iI 0) dX5_table_26 rfl ?_
    refine j_istore_n (lv' := [some (va_rf (some P.mo)), some (.int x1), some (.int (iI 0)), none]) dX5_table_27 (by decide) rfl ?_
    exact h
  · replace h := h.2 c1
    refine j_aload_n (r := some P.mo) dX5_table_13 rfl ?_
    refine jm_geta fM_19 rfl dX5_table_14 ?_
    refine j_iload_n dX5_table_17 rfl ?_
    refine j_iconst (v := iI (-1)) dX5_table_18 rfl ?_
    refine jm_ast rfl h.1 rfl dX5_table_19 ?_
    replace h := h.2
    refine j_iinc (lv' := [some (va_rf (some P.mo)), some (.int x1), some (.int (x2 + iI 1)), none]) dX5_table_20 rfl (by decide) rfl ?_
    refine j_goto 7 dX5_table_23 (by decide) ?_
    exact h
theorem tX5_table_28 {P : MPl} {s0 : State} {l : Launch} {X : Prop} {lev : Nat} {st0 : MSt} {Q : Outcome → MSt → Prop} {x1 x2 : Int32} {st : MSt} (h : (((iI 8) ≤ x2 → ((x1 = (iI 8) → Q (.returned none) (mput 39 (iI 8) (mput 29 (iI 0) (mput 27 (iI 0) st)))) ∧ (¬ x1 = (iI 8) → (∃ b1, LdcS s0 X 176 "type" b1 ∧ (CQ (wM P s0 l X) mX5_newSort lev (.ref P.mo :: [va_rf (some b1)]) (mput 39 (iI 8) (mput 29 (iI 0) (mput 27 (iI 0) st))) (onI (fun r3 t2 => (∃ b4, LdcS s0 X 182 "kind" b4 ∧ (CQ (wM P s0 l X) mX5_newSort lev (.ref P.mo :: [va_rf (some b4)]) t2 (onI (fun r6 t5 => (inr r3 8 ∧ (inr (((iI 8) * r3) + r3) 64 ∧ (((x1 &&& (iI 1)) = 0 → jX5_table_121 P s0 l X lev st0 Q x1 r3 r6 (mst 19 (((iI 8) * r3) + r3) r3 (mst 18 r3 r6 t5))) ∧ (¬ (x1 &&& (iI 1)) = 0 → (inr (((iI 8) * r6) + r3) 64 ∧ jX5_table_121 P s0 l X lev st0 Q x1 r3 r6 (mst 19 (((iI 8) * r6) + r3) r3 (mst 19 (((iI 8) * r3) + r3) r3 (mst 18 r3 r6 t5))))))))) (fun x t => Q (.threw x) t))))) (fun x t => Q (.threw x) t))))))) ∧ (¬ (iI 8) ≤ x2 → (inr x2 8 ∧ jX5_table_28 P s0 l X lev st0 Q x1 (x2 + iI 1) (mst 18 x2 (iI (-1)) st))))) : jX5_table_28 P s0 l X lev st0 Q x1 x2 st := by
  refine j_iload_n dX5_table_28 rfl ?_
  refine j_bipush (v := iI 8) dX5_table_29 rfl ?_
  refine j_icmp_ge 47 dX5_table_31 (by decide) (fun c9 => ?_) (fun c9 => ?_)
  · replace h := h.1 c9
    refine j_aload_n (r := some P.mo) dX5_table_47 rfl ?_
    refine j_iconst (v := iI 0) dX5_table_48 rfl ?_
    refine jm_put fM_27 rfl dX5_table_49 ?_
    refine j_aload_n (r := some P.mo) dX5_table_52 rfl ?_
    refine j_iconst (v := iI 0) dX5_table_53 rfl ?_
    refine jm_put fM_29 rfl dX5_table_54 ?_
    refine j_aload_n (r := some P.mo) dX5_table_57 rfl ?_
    refine j_bipush (v := iI 8) dX5_table_58 rfl ?_
    refine jm_put fM_39 rfl dX5_table_60 ?_
    refine j_iload_n dX5_table_63 rfl ?_
    refine j_bipush (v := iI 8) dX5_table_64 rfl ?_
    refine j_icmp_ne 70 dX5_table_66 (by decide) (fun c8 => ?_) (fun c8 => ?_)
    · replace h := h.2 c8
      refine j_aload_n (r := some P.mo) dX5_table_70 rfl ?_
      obtain ⟨b1, hx_, h⟩ := h
      refine jm_ldcS hx_ rfl dX5_table_71 ?_
      refine jm_calli (As := [va_rf (some b1)]) (rest := []) kX5_newSort rfl q2000 rfl rfl (Nat.le_of_ble_eq_true rfl) rfl dX5_table_73 (Nat.succ_le_succ (Nat.zero_le _)) (h.mono (onI_mono (fun r3 t2 h => ?_) (fun _ _ h => h)))
      refine j_istore_n (lv' := [some (va_rf (some P.mo)), some (.int x1), some (.int r3), none]) dX5_table_76 (by decide) rfl ?_
      refine j_aload_n (r := some P.mo) dX5_table_77 rfl ?_
      obtain ⟨b4, hx_, h⟩ := h
      refine jm_ldcS hx_ rfl dX5_table_78 ?_
      refine jm_calli (As := [va_rf (some b4)]) (rest := []) kX5_newSort rfl q2000 rfl rfl (Nat.le_of_ble_eq_true rfl) rfl dX5_table_80 (Nat.succ_le_succ (Nat.zero_le _)) (h.mono (onI_mono (fun r6 t5 h => ?_) (fun _ _ h => h)))
      refine j_istore_n (lv' := [some (va_rf (some P.mo)), some (.int x1), some (.int r3), some (.int r6)]) dX5_table_83 (by decide) rfl ?_
      refine j_aload_n (r := some P.mo) dX5_table_84 rfl ?_
      refine jm_geta fM_18 rfl dX5_table_85 ?_
      refine j_iload_n dX5_table_88 rfl ?_
      refine j_iload_n dX5_table_89 rfl ?_
      refine jm_ast rfl h.1 rfl dX5_table_90 ?_
      replace h := h.2
      refine j_aload_n (r := some P.mo) dX5_table_91 rfl ?_
      refine jm_geta fM_19 rfl dX5_table_92 ?_
      refine j_bipush (v := iI 8) dX5_table_95 rfl ?_
      refine j_iload_n dX5_table_97 rfl ?_
      refine j_imul dX5_table_98 ?_
      refine j_iload_n dX5_table_99 rfl ?_
      refine j_iadd dX5_table_100 ?_
      refine j_iload_n dX5_table_101 rfl ?_
      refine jm_ast rfl h.1 rfl dX5_table_102 ?_
      replace h := h.2
      refine j_iload_n dX5_table_103 rfl ?_
      refine j_iconst (v := iI 1) dX5_table_104 rfl ?_
      refine j_iand dX5_table_105 ?_
      refine j_if_eq 121 dX5_table_106 (by decide) (fun c7 => ?_) (fun c7 => ?_)
      · replace h := h.1 c7
        exact h
      · replace h := h.2 c7
        refine j_aload_n (r := some P.mo) dX5_table_109 rfl ?_
        refine jm_geta fM_19 rfl dX5_table_110 ?_
        refine j_bipush (v := iI 8) dX5_table_113 rfl ?_
        refine j_iload_n dX5_table_115 rfl ?_
        refine j_imul dX5_table_116 ?_
        refine j_iload_n dX5_table_117 rfl ?_
        refine j_iadd dX5_table_118 ?_
        refine j_iload_n dX5_table_119 rfl ?_
        refine jm_ast rfl h.1 rfl dX5_table_120 ?_
        replace h := h.2
        exact h
    · replace h := h.1 c8
      exact j_return rfl dX5_table_69 h
  · replace h := h.2 c9
    refine j_aload_n (r := some P.mo) dX5_table_34 rfl ?_
    refine jm_geta fM_18 rfl dX5_table_35 ?_
    refine j_iload_n dX5_table_38 rfl ?_
    refine j_iconst (v := iI (-1)) dX5_table_39 rfl ?_
    refine jm_ast rfl h.1 rfl dX5_table_40 ?_
    replace h := h.2
    refine j_iinc (lv' := [some (va_rf (some P.mo)), some (.int x1), some (.int (x2 + iI 1)), none]) dX5_table_41 rfl (by decide) rfl ?_
    refine j_goto 28 dX5_table_44 (by decide) ?_
    exact h
theorem tX5_table_121 {P : MPl} {s0 : State} {l : Launch} {X : Prop} {lev : Nat} {st0 : MSt} {Q : Outcome → MSt → Prop} {x1 x2 x3 : Int32} {st : MSt} (h : (((x1 &&& (iI 2)) = 0 → jX5_table_139 P s0 l X lev st0 Q x1 x2 x3 st) ∧ (¬ (x1 &&& (iI 2)) = 0 → (inr (((iI 8) * x3) + x3) 64 ∧ jX5_table_139 P s0 l X lev st0 Q x1 x2 x3 (mst 19 (((iI 8) * x3) + x3) x3 st))))) : jX5_table_121 P s0 l X lev st0 Q x1 x2 x3 st := by
  refine j_iload_n dX5_table_121 rfl ?_
  refine j_iconst (v := iI 2) dX5_table_122 rfl ?_
  refine j_iand dX5_table_123 ?_
  refine j_if_eq 139 dX5_table_124 (by decide) (fun c1 => ?_) (fun c1 => ?_)
  · replace h := h.1 c1
    exact h
  · replace h := h.2 c1
    refine j_aload_n (r := some P.mo) dX5_table_127 rfl ?_
    refine jm_geta fM_19 rfl dX5_table_128 ?_
    refine j_bipush (v := iI 8) dX5_table_131 rfl ?_
    refine j_iload_n dX5_table_133 rfl ?_
    refine j_imul dX5_table_134 ?_
    refine j_iload_n dX5_table_135 rfl ?_
    refine j_iadd dX5_table_136 ?_
    refine j_iload_n dX5_table_137 rfl ?_
    refine jm_ast rfl h.1 rfl dX5_table_138 ?_
    replace h := h.2
    exact h
theorem tX5_table_139 {P : MPl} {s0 : State} {l : Launch} {X : Prop} {lev : Nat} {st0 : MSt} {Q : Outcome → MSt → Prop} {x1 x2 x3 : Int32} {st : MSt} (h : (((x1 &&& (iI 4)) = 0 → Q (.returned none) st) ∧ (¬ (x1 &&& (iI 4)) = 0 → (inr (((iI 8) * x2) + x3) 64 ∧ Q (.returned none) (mst 19 (((iI 8) * x2) + x3) x3 st))))) : jX5_table_139 P s0 l X lev st0 Q x1 x2 x3 st := by
  refine j_iload_n dX5_table_139 rfl ?_
  refine j_iconst (v := iI 4) dX5_table_140 rfl ?_
  refine j_iand dX5_table_141 ?_
  refine j_if_eq 157 dX5_table_142 (by decide) (fun c1 => ?_) (fun c1 => ?_)
  · replace h := h.1 c1
    exact j_return rfl dX5_table_157 h
  · replace h := h.2 c1
    refine j_aload_n (r := some P.mo) dX5_table_145 rfl ?_
    refine jm_geta fM_19 rfl dX5_table_146 ?_
    refine j_bipush (v := iI 8) dX5_table_149 rfl ?_
    refine j_iload_n dX5_table_151 rfl ?_
    refine j_imul dX5_table_152 ?_
    refine j_iload_n dX5_table_153 rfl ?_
    refine j_iadd dX5_table_154 ?_
    refine j_iload_n dX5_table_155 rfl ?_
    refine jm_ast rfl h.1 rfl dX5_table_156 ?_
    replace h := h.2
    exact j_return rfl dX5_table_157 h
