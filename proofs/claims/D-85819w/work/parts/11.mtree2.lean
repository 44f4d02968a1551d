/-! trees (made by gen/genm.py) -/
set_option maxRecDepth 100000
theorem tX5_begin {P : MPl} {s0 : State} {l : Launch} {X : Prop} {lev : Nat} {Q : Outcome → MSt → Prop} {st : MSt} (h : Q (.returned none) (mput 48 (iI 1) (mput 62 (fI st 39) (mput 57 (iI 0) (mput 59 (iI 0) (mput 43 (iI 0) (mput 51 (iI 0) (mput 71 (iI 0) (mput 70 (iI 0) (mput 69 (iI 0) (mput 68 (iI 0) (mput 67 (iI 0) (mput 66 (iI 0) (mput 64 (iI 0) st)))))))))))))) : CQ (wM P s0 l X) mX5_begin (lev + 1) [.ref P.mo] st Q := by
  refine CQ.of2 0 (lv := [some (va_rf (some P.mo))]) (by decide) (Nat.le_of_ble_eq_true rfl) rfl rfl ?_
  refine j_aload_n (r := some P.mo) dX5_begin_0 rfl ?_
  refine j_iconst (v := iI 0) dX5_begin_1 rfl ?_
  refine jm_put fM_64 rfl dX5_begin_2 ?_
  refine j_aload_n (r := some P.mo) dX5_begin_5 rfl ?_
  refine j_iconst (v := iI 0) dX5_begin_6 rfl ?_
  refine jm_put fM_66 rfl dX5_begin_7 ?_
  refine j_aload_n (r := some P.mo) dX5_begin_10 rfl ?_
  refine j_iconst (v := iI 0) dX5_begin_11 rfl ?_
  refine jm_put fM_67 rfl dX5_begin_12 ?_
  refine j_aload_n (r := some P.mo) dX5_begin_15 rfl ?_
  refine j_iconst (v := iI 0) dX5_begin_16 rfl ?_
  refine jm_put fM_68 rfl dX5_begin_17 ?_
  refine j_aload_n (r := some P.mo) dX5_begin_20 rfl ?_
  refine j_iconst (v := iI 0) dX5_begin_21 rfl ?_
  refine jm_put fM_69 rfl dX5_begin_22 ?_
  refine j_aload_n (r := some P.mo) dX5_begin_25 rfl ?_
  refine j_iconst (v := iI 0) dX5_begin_26 rfl ?_
  refine jm_put fM_70 rfl dX5_begin_27 ?_
  refine j_aload_n (r := some P.mo) dX5_begin_30 rfl ?_
  refine j_iconst (v := iI 0) dX5_begin_31 rfl ?_
  refine jm_put fM_71 rfl dX5_begin_32 ?_
  refine j_aload_n (r := some P.mo) dX5_begin_35 rfl ?_
  refine j_iconst (v := iI 0) dX5_begin_36 rfl ?_
  refine jm_put fM_51 rfl dX5_begin_37 ?_
  refine j_aload_n (r := some P.mo) dX5_begin_40 rfl ?_
  refine j_iconst (v := iI 0) dX5_begin_41 rfl ?_
  refine jm_put fM_43 rfl dX5_begin_42 ?_
  refine j_aload_n (r := some P.mo) dX5_begin_45 rfl ?_
  refine j_iconst (v := iI 0) dX5_begin_46 rfl ?_
  refine jm_put fM_59 rfl dX5_begin_47 ?_
  refine j_aload_n (r := some P.mo) dX5_begin_50 rfl ?_
  refine j_iconst (v := iI 0) dX5_begin_51 rfl ?_
  refine jm_put fM_57 rfl dX5_begin_52 ?_
  refine j_aload_n (r := some P.mo) dX5_begin_55 rfl ?_
  refine j_aload_n (r := some P.mo) dX5_begin_56 rfl ?_
  refine jm_get (v := fI st 39) fM_39 rfl rfl dX5_begin_57 ?_
  refine jm_put fM_62 rfl dX5_begin_60 ?_
  refine j_aload_n (r := some P.mo) dX5_begin_63 rfl ?_
  refine j_iconst (v := iI 1) dX5_begin_64 rfl ?_
  refine jm_put fM_48 rfl dX5_begin_65 ?_
  exact j_return rfl dX5_begin_68 h
abbrev jX5_doStatement_20 (P : MPl) (s0 : State) (l : Launch) (X : Prop) (lev : Nat) (st0 : MSt) (Q : Outcome → MSt → Prop) (st : MSt) : Prop := JQ (wM P s0 l X) mX5_doStatement (lev + 1) st0 20 [some (va_rf (some P.mo)), none] [] st Q
abbrev jX5_doStatement_141 (P : MPl) (s0 : State) (l : Launch) (X : Prop) (lev : Nat) (st0 : MSt) (Q : Outcome → MSt → Prop) (x1 : Int32) (st : MSt) : Prop := JQ (wM P s0 l X) mX5_doStatement (lev + 1) st0 141 [some (va_rf (some P.mo)), some (.int x1)] [] st Q
abbrev jX5_doStatement_153 (P : MPl) (s0 : State) (l : Launch) (X : Prop) (lev : Nat) (st0 : MSt) (Q : Outcome → MSt → Prop) (x1 : Int32) (st : MSt) : Prop := JQ (wM P s0 l X) mX5_doStatement (lev + 1) st0 153 [some (va_rf (some P.mo)), some (.int x1)] [] st Q
abbrev jX5_doStatement_265 (P : MPl) (s0 : State) (l : Launch) (X : Prop) (lev : Nat) (st0 : MSt) (Q : Outcome → MSt → Prop) (x1 : Int32) (st : MSt) : Prop := JQ (wM P s0 l X) mX5_doStatement (lev + 1) st0 265 [some (va_rf (some P.mo)), some (.int x1)] [] st Q
theorem tX5_doStatement {P : MPl} {s0 : State} {l : Launch} {X : Prop} {lev : Nat} {Q : Outcome → MSt → Prop} {st : MSt} (h : (((fI st 76) < 0 → jX5_doStatement_20 P s0 l X lev st Q st) ∧ (¬ (fI st 76) < 0 → (((iI 2) < (fI st 76) → jX5_doStatement_20 P s0 l X lev st Q st) ∧ (¬ (iI 2) < (fI st 76) → (CQ (wM P s0 l X) mX5_tables lev (.ref P.mo :: []) st (onV (fun t1 => Q (.returned none) t1) (fun x t => Q (.threw x) t)))))))) : CQ (wM P s0 l X) mX5_doStatement (lev + 1) [.ref P.mo] st Q := by
  refine CQ.of2 1 (lv := [some (va_rf (some P.mo)), none]) (by decide) (Nat.le_of_ble_eq_true rfl) rfl rfl ?_
  refine j_aload_n (r := some P.mo) dX5_doStatement_0 rfl ?_
  refine jm_get (v := fI st 76) fM_76 rfl rfl dX5_doStatement_1 ?_
  refine j_if_lt 20 dX5_doStatement_4 (by decide) (fun c4 => ?_) (fun c4 => ?_)
  · replace h := h.1 c4
    exact h
  · replace h := h.2 c4
    refine j_aload_n (r := some P.mo) dX5_doStatement_7 rfl ?_
    refine jm_get (v := fI st 76) fM_76 rfl rfl dX5_doStatement_8 ?_
    refine j_iconst (v := iI 2) dX5_doStatement_11 rfl ?_
    refine j_icmp_gt 20 dX5_doStatement_12 (by decide) (fun c3 => ?_) (fun c3 => ?_)
    · replace h := h.1 c3
      exact h
    · replace h := h.2 c3
      refine j_aload_n (r := some P.mo) dX5_doStatement_15 rfl ?_
      refine jm_callv (As := []) (rest := []) kX5_tables rfl q2367 rfl rfl (Nat.le_of_ble_eq_true rfl) rfl dX5_doStatement_16 (Nat.succ_le_succ (Nat.zero_le _)) (h.mono (onV_mono (fun t1 h => ?_) (fun _ _ h => h)))
      exact j_return rfl dX5_doStatement_19 h
theorem tX5_doStatement_20 {P : MPl} {s0 : State} {l : Launch} {X : Prop} {lev : Nat} {st0 : MSt} {Q : Outcome → MSt → Prop} {st : MSt} (h : ((fI st 76 = iI 3 → (((fI st 79) < 0 → (CQ (wM P s0 l X) mX5_judge lev (.ref P.mo :: [.int (fI st 78), .int (iI 0)]) st (onV (fun t1 => (CQ (wM P s0 l X) mX5_tellLine lev (.ref P.mo :: [.int (fI t1 60)]) t1 (onV (fun t3 => Q (.returned none) t3) (fun x t => Q (.threw x) t)))) (fun x t => Q (.threw x) t)))) ∧ (¬ (fI st 79) < 0 → (CQ (wM P s0 l X) mX5_judgeSort lev (.ref P.mo :: [.int (fI st 79), .int (iI 0)]) st (onI (fun r6 t5 => (((fI t5 72) = 0 → (CQ (wM P s0 l X) mX5_normal lev (.ref P.mo :: [.int (fI t5 79), .int (iI 0), .int (iI 0)]) t5 (onI (fun r16 t15 => (CQ (wM P s0 l X) mX5_judge lev (.ref P.mo :: [.int (fI t15 78), .int (iI 0)]) t15 (onV (fun t17 => (((fI t17 72) = 0 → (CQ (wM P s0 l X) mX5_compare lev (.ref P.mo :: [.int r16, .int (iI 0), .int (fI t17 60), .int (iI 0), .int (iI 0)]) t17 (onI (fun r20 t19 => ((r20 = 0 → (inr (fI t19 78) 140000 ∧ (CQ (wM P s0 l X) mX5_wrong lev (.ref P.mo :: [.int (iI 11), .int (aI t19 34 (fI t19 78))]) t19 (onV (fun t21 => jX5_doStatement_141 P s0 l X lev st0 Q r16 t21) (fun x t => Q (.threw x) t))))) ∧ (¬ r20 = 0 → jX5_doStatement_141 P s0 l X lev st0 Q r16 t19))) (fun x t => Q (.threw x) t)))) ∧ (¬ (fI t17 72) = 0 → jX5_doStatement_141 P s0 l X lev st0 Q r16 t17))) (fun x t => Q (.threw x) t)))) (fun x t => Q (.threw x) t)))) ∧ (¬ (fI t5 72) = 0 → (CQ (wM P s0 l X) mX5_judge lev (.ref P.mo :: [.int (fI t5 78), .int (iI 0)]) t5 (onV (fun t7 => (((fI t7 72) = 0 → (CQ (wM P s0 l X) mX5_compare lev (.ref P.mo :: [.int (iI 0), .int (iI 0), .int (fI t7 60), .int (iI 0), .int (iI 0)]) t7 (onI (fun r10 t9 => ((r10 = 0 → (inr (fI t9 78) 140000 ∧ (CQ (wM P s0 l X) mX5_wrong lev (.ref P.mo :: [.int (iI 11), .int (aI t9 34 (fI t9 78))]) t9 (onV (fun t11 => jX5_doStatement_141 P s0 l X lev st0 Q (iI 0) t11) (fun x t => Q (.threw x) t))))) ∧ (¬ r10 = 0 → jX5_doStatement_141 P s0 l X lev st0 Q (iI 0) t9))) (fun x t => Q (.threw x) t)))) ∧ (¬ (fI t7 72) = 0 → jX5_doStatement_141 P s0 l X lev st0 Q (iI 0) t7))) (fun x t => Q (.threw x) t)))))) (fun x t => Q (.threw x) t)))))) ∧ (fI st 76 = iI 4 → (CQ (wM P s0 l X) mX5_judge lev (.ref P.mo :: [.int (fI st 78), .int (iI 0)]) st (onV (fun t27 => (CQ (wM P s0 l X) mX5_tellLine lev (.ref P.mo :: [.int (fI t27 78)]) t27 (onV (fun t29 => Q (.returned none) t29) (fun x t => Q (.threw x) t)))) (fun x t => Q (.threw x) t)))) ∧ (fI st 76 = iI 5 → (CQ (wM P s0 l X) mX5_judge lev (.ref P.mo :: [.int (fI st 78), .int (iI 0)]) st (onV (fun t31 => (CQ (wM P s0 l X) mX5_judge lev (.ref P.mo :: [.int (fI t31 79), .int (iI 0)]) t31 (onV (fun t33 => (((fI t33 72) = 0 → (CQ (wM P s0 l X) mX5_compare lev (.ref P.mo :: [.int (fI t33 78), .int (iI 0), .int (fI t33 79), .int (iI 0), .int (iI 0)]) t33 (onI (fun r36 t35 => (((fI t35 72) = 0 → (CQ (wM P s0 l X) mX5_yes lev (.ref P.mo :: [.int r36]) t35 (onV (fun t37 => jX5_doStatement_265 P s0 l X lev st0 Q r36 t37) (fun x t => Q (.threw x) t)))) ∧ (¬ (fI t35 72) = 0 → jX5_doStatement_265 P s0 l X lev st0 Q r36 t35))) (fun x t => Q (.threw x) t)))) ∧ (¬ (fI t33 72) = 0 → Q (.returned none) t33))) (fun x t => Q (.threw x) t)))) (fun x t => Q (.threw x) t)))) ∧ (fI st 76 = iI 6 → (CQ (wM P s0 l X) mX5_judge lev (.ref P.mo :: [.int (fI st 78), .int (iI 0)]) st (onV (fun t41 => (CQ (wM P s0 l X) mX5_tellHead lev (.ref P.mo :: []) t41 (onV (fun t43 => Q (.returned none) t43) (fun x t => Q (.threw x) t)))) (fun x t => Q (.threw x) t)))) ∧ (tout (fI st 76) 3 6 → (CQ (wM P s0 l X) mX5_told lev (.ref P.mo :: []) st (onV (fun t45 => Q (.returned none) t45) (fun x t => Q (.threw x) t)))))) : jX5_doStatement_20 P s0 l X lev st0 Q st := by
  refine j_aload_n (r := some P.mo) dX5_doStatement_20 rfl ?_
  refine jm_get (v := fI st 76) fM_76 rfl rfl dX5_doStatement_21 ?_
  rcases tb_case 4 3 (fI st 76) with ⟨c47, hc47, ec47⟩ | ec47
  · match c47, hc47, ec47 with
    | 0, _, ec47 =>
      have ec47 : fI st 76 = iI 3 := ec47
      replace h := h.1 ec47
      refine j_tableIn 56 dX5_doStatement_24 (by rw [ec47]; decide) (by rw [ec47]; decide) (by rw [ec47]; rfl) (by decide) ?_
      refine j_aload_n (r := some P.mo) dX5_doStatement_56 rfl ?_
      refine jm_get (v := fI st 79) fM_79 rfl rfl dX5_doStatement_57 ?_
      refine j_if_lt 156 dX5_doStatement_60 (by decide) (fun c26 => ?_) (fun c26 => ?_)
      · replace h := h.1 c26
        refine j_aload_n (r := some P.mo) dX5_doStatement_156 rfl ?_
        refine j_aload_n (r := some P.mo) dX5_doStatement_157 rfl ?_
        refine jm_get (v := fI st 78) fM_78 rfl rfl dX5_doStatement_158 ?_
        refine j_iconst (v := iI 0) dX5_doStatement_161 rfl ?_
        refine jm_callv (As := [.int (fI st 78), .int (iI 0)]) (rest := []) kX5_judge rfl q2383 rfl rfl (Nat.le_of_ble_eq_true rfl) rfl dX5_doStatement_162 (Nat.succ_le_succ (Nat.zero_le _)) (h.mono (onV_mono (fun t1 h => ?_) (fun _ _ h => h)))
        refine j_aload_n (r := some P.mo) dX5_doStatement_165 rfl ?_
        refine j_aload_n (r := some P.mo) dX5_doStatement_166 rfl ?_
        refine jm_get (v := fI t1 60) fM_60 rfl rfl dX5_doStatement_167 ?_
        refine jm_callv (As := [.int (fI t1 60)]) (rest := []) kX5_tellLine rfl q2469 rfl rfl (Nat.le_of_ble_eq_true rfl) rfl dX5_doStatement_170 (Nat.succ_le_succ (Nat.zero_le _)) (h.mono (onV_mono (fun t3 h => ?_) (fun _ _ h => h)))
        refine j_goto 272 dX5_doStatement_173 (by decide) ?_
        exact j_return rfl dX5_doStatement_272 h
      · replace h := h.2 c26
        refine j_aload_n (r := some P.mo) dX5_doStatement_63 rfl ?_
        refine j_aload_n (r := some P.mo) dX5_doStatement_64 rfl ?_
        refine jm_get (v := fI st 79) fM_79 rfl rfl dX5_doStatement_65 ?_
        refine j_iconst (v := iI 0) dX5_doStatement_68 rfl ?_
        refine jm_calli (As := [.int (fI st 79), .int (iI 0)]) (rest := []) kX5_judgeSort rfl q2379 rfl rfl (Nat.le_of_ble_eq_true rfl) rfl dX5_doStatement_69 (Nat.succ_le_succ (Nat.zero_le _)) (h.mono (onI_mono (fun r6 t5 h => ?_) (fun _ _ h => h)))
        refine j_pop dX5_doStatement_72 rfl ?_
        refine j_aload_n (r := some P.mo) dX5_doStatement_73 rfl ?_
        refine jm_get (v := fI t5 72) fM_72 rfl rfl dX5_doStatement_74 ?_
        refine j_if_ne 93 dX5_doStatement_77 (by decide) (fun c25 => ?_) (fun c25 => ?_)
        · replace h := h.2 c25
          refine j_iconst (v := iI 0) dX5_doStatement_93 rfl ?_
          refine j_istore_n (lv' := [some (va_rf (some P.mo)), some (.int (iI 0))]) dX5_doStatement_94 (by decide) rfl ?_
          refine j_aload_n (r := some P.mo) dX5_doStatement_95 rfl ?_
          refine j_aload_n (r := some P.mo) dX5_doStatement_96 rfl ?_
          refine jm_get (v := fI t5 78) fM_78 rfl rfl dX5_doStatement_97 ?_
          refine j_iconst (v := iI 0) dX5_doStatement_100 rfl ?_
          refine jm_callv (As := [.int (fI t5 78), .int (iI 0)]) (rest := []) kX5_judge rfl q2383 rfl rfl (Nat.le_of_ble_eq_true rfl) rfl dX5_doStatement_101 (Nat.succ_le_succ (Nat.zero_le _)) (h.mono (onV_mono (fun t7 h => ?_) (fun _ _ h => h)))
          refine j_aload_n (r := some P.mo) dX5_doStatement_104 rfl ?_
          refine jm_get (v := fI t7 72) fM_72 rfl rfl dX5_doStatement_105 ?_
          refine j_if_ne 141 dX5_doStatement_108 (by decide) (fun c14 => ?_) (fun c14 => ?_)
          · replace h := h.2 c14
            exact h
          · replace h := h.1 c14
            refine j_aload_n (r := some P.mo) dX5_doStatement_111 rfl ?_
            refine j_iload_n dX5_doStatement_112 rfl ?_
            refine j_iconst (v := iI 0) dX5_doStatement_113 rfl ?_
            refine j_aload_n (r := some P.mo) dX5_doStatement_114 rfl ?_
            refine jm_get (v := fI t7 60) fM_60 rfl rfl dX5_doStatement_115 ?_
            refine j_iconst (v := iI 0) dX5_doStatement_118 rfl ?_
            refine j_iconst (v := iI 0) dX5_doStatement_119 rfl ?_
            refine jm_calli (As := [.int (iI 0), .int (iI 0), .int (fI t7 60), .int (iI 0), .int (iI 0)]) (rest := []) kX5_compare rfl q2444 rfl rfl (Nat.le_of_ble_eq_true rfl) rfl dX5_doStatement_120 (Nat.succ_le_succ (Nat.zero_le _)) (h.mono (onI_mono (fun r10 t9 h => ?_) (fun _ _ h => h)))
            refine j_if_ne 141 dX5_doStatement_123 (by decide) (fun c13 => ?_) (fun c13 => ?_)
            · replace h := h.2 c13
              exact h
            · replace h := h.1 c13
              refine j_aload_n (r := some P.mo) dX5_doStatement_126 rfl ?_
              refine j_bipush (v := iI 11) dX5_doStatement_127 rfl ?_
              refine j_aload_n (r := some P.mo) dX5_doStatement_129 rfl ?_
              refine jm_geta fM_34 rfl dX5_doStatement_130 ?_
              refine j_aload_n (r := some P.mo) dX5_doStatement_133 rfl ?_
              refine jm_get (v := fI t9 78) fM_78 rfl rfl dX5_doStatement_134 ?_
              refine jm_ald (v := aI t9 34 (fI t9 78)) rfl h.1 rfl rfl dX5_doStatement_137 ?_
              replace h := h.2
              refine jm_callv (As := [.int (iI 11), .int (aI t9 34 (fI t9 78))]) (rest := []) kX5_wrong rfl q2295 rfl rfl (Nat.le_of_ble_eq_true rfl) rfl dX5_doStatement_138 (Nat.succ_le_succ (Nat.zero_le _)) (h.mono (onV_mono (fun t11 h => ?_) (fun _ _ h => h)))
              exact h
        · replace h := h.1 c25
          refine j_aload_n (r := some P.mo) dX5_doStatement_80 rfl ?_
          refine j_aload_n (r := some P.mo) dX5_doStatement_81 rfl ?_
          refine jm_get (v := fI t5 79) fM_79 rfl rfl dX5_doStatement_82 ?_
          refine j_iconst (v := iI 0) dX5_doStatement_85 rfl ?_
          refine j_iconst (v := iI 0) dX5_doStatement_86 rfl ?_
          refine jm_calli (As := [.int (fI t5 79), .int (iI 0), .int (iI 0)]) (rest := []) kX5_normal rfl q2391 rfl rfl (Nat.le_of_ble_eq_true rfl) rfl dX5_doStatement_87 (Nat.succ_le_succ (Nat.zero_le _)) (h.mono (onI_mono (fun r16 t15 h => ?_) (fun _ _ h => h)))
          refine j_goto 94 dX5_doStatement_90 (by decide) ?_
          refine j_istore_n (lv' := [some (va_rf (some P.mo)), some (.int r16)]) dX5_doStatement_94 (by decide) rfl ?_
          refine j_aload_n (r := some P.mo) dX5_doStatement_95 rfl ?_
          refine j_aload_n (r := some P.mo) dX5_doStatement_96 rfl ?_
          refine jm_get (v := fI t15 78) fM_78 rfl rfl dX5_doStatement_97 ?_
          refine j_iconst (v := iI 0) dX5_doStatement_100 rfl ?_
          refine jm_callv (As := [.int (fI t15 78), .int (iI 0)]) (rest := []) kX5_judge rfl q2383 rfl rfl (Nat.le_of_ble_eq_true rfl) rfl dX5_doStatement_101 (Nat.succ_le_succ (Nat.zero_le _)) (h.mono (onV_mono (fun t17 h => ?_) (fun _ _ h => h)))
          refine j_aload_n (r := some P.mo) dX5_doStatement_104 rfl ?_
          refine jm_get (v := fI t17 72) fM_72 rfl rfl dX5_doStatement_105 ?_
          refine j_if_ne 141 dX5_doStatement_108 (by decide) (fun c24 => ?_) (fun c24 => ?_)
          · replace h := h.2 c24
            exact h
          · replace h := h.1 c24
            refine j_aload_n (r := some P.mo) dX5_doStatement_111 rfl ?_
            refine j_iload_n dX5_doStatement_112 rfl ?_
            refine j_iconst (v := iI 0) dX5_doStatement_113 rfl ?_
            refine j_aload_n (r := some P.mo) dX5_doStatement_114 rfl ?_
            refine jm_get (v := fI t17 60) fM_60 rfl rfl dX5_doStatement_115 ?_
            refine j_iconst (v := iI 0) dX5_doStatement_118 rfl ?_
            refine j_iconst (v := iI 0) dX5_doStatement_119 rfl ?_
            refine jm_calli (As := [.int r16, .int (iI 0), .int (fI t17 60), .int (iI 0), .int (iI 0)]) (rest := []) kX5_compare rfl q2444 rfl rfl (Nat.le_of_ble_eq_true rfl) rfl dX5_doStatement_120 (Nat.succ_le_succ (Nat.zero_le _)) (h.mono (onI_mono (fun r20 t19 h => ?_) (fun _ _ h => h)))
            refine j_if_ne 141 dX5_doStatement_123 (by decide) (fun c23 => ?_) (fun c23 => ?_)
            · replace h := h.2 c23
              exact h
            · replace h := h.1 c23
              refine j_aload_n (r := some P.mo) dX5_doStatement_126 rfl ?_
              refine j_bipush (v := iI 11) dX5_doStatement_127 rfl ?_
              refine j_aload_n (r := some P.mo) dX5_doStatement_129 rfl ?_
              refine jm_geta fM_34 rfl dX5_doStatement_130 ?_
              refine j_aload_n (r := some P.mo) dX5_doStatement_133 rfl ?_
              refine jm_get (v := fI t19 78) fM_78 rfl rfl dX5_doStatement_134 ?_
              refine jm_ald (v := aI t19 34 (fI t19 78)) rfl h.1 rfl rfl dX5_doStatement_137 ?_
              replace h := h.2
              refine jm_callv (As := [.int (iI 11), .int (aI t19 34 (fI t19 78))]) (rest := []) kX5_wrong rfl q2295 rfl rfl (Nat.le_of_ble_eq_true rfl) rfl dX5_doStatement_138 (Nat.succ_le_succ (Nat.zero_le _)) (h.mono (onV_mono (fun t21 h => ?_) (fun _ _ h => h)))
              exact h
    | 1, _, ec47 =>
      have ec47 : fI st 76 = iI 4 := ec47
      replace h := h.2.1 ec47
      refine j_tableIn 176 dX5_doStatement_24 (by rw [ec47]; decide) (by rw [ec47]; decide) (by rw [ec47]; rfl) (by decide) ?_
      refine j_aload_n (r := some P.mo) dX5_doStatement_176 rfl ?_
      refine j_aload_n (r := some P.mo) dX5_doStatement_177 rfl ?_
      refine jm_get (v := fI st 78) fM_78 rfl rfl dX5_doStatement_178 ?_
      refine j_iconst (v := iI 0) dX5_doStatement_181 rfl ?_
      refine jm_callv (As := [.int (fI st 78), .int (iI 0)]) (rest := []) kX5_judge rfl q2383 rfl rfl (Nat.le_of_ble_eq_true rfl) rfl dX5_doStatement_182 (Nat.succ_le_succ (Nat.zero_le _)) (h.mono (onV_mono (fun t27 h => ?_) (fun _ _ h => h)))
      refine j_aload_n (r := some P.mo) dX5_doStatement_185 rfl ?_
      refine j_aload_n (r := some P.mo) dX5_doStatement_186 rfl ?_
      refine jm_get (v := fI t27 78) fM_78 rfl rfl dX5_doStatement_187 ?_
      refine jm_callv (As := [.int (fI t27 78)]) (rest := []) kX5_tellLine rfl q2469 rfl rfl (Nat.le_of_ble_eq_true rfl) rfl dX5_doStatement_190 (Nat.succ_le_succ (Nat.zero_le _)) (h.mono (onV_mono (fun t29 h => ?_) (fun _ _ h => h)))
      refine j_goto 272 dX5_doStatement_193 (by decide) ?_
      exact j_return rfl dX5_doStatement_272 h
    | 2, _, ec47 =>
      have ec47 : fI st 76 = iI 5 := ec47
      replace h := h.2.2.1 ec47
      refine j_tableIn 212 dX5_doStatement_24 (by rw [ec47]; decide) (by rw [ec47]; decide) (by rw [ec47]; rfl) (by decide) ?_
      refine j_aload_n (r := some P.mo) dX5_doStatement_212 rfl ?_
      refine j_aload_n (r := some P.mo) dX5_doStatement_213 rfl ?_
      refine jm_get (v := fI st 78) fM_78 rfl rfl dX5_doStatement_214 ?_
      refine j_iconst (v := iI 0) dX5_doStatement_217 rfl ?_
      refine jm_callv (As := [.int (fI st 78), .int (iI 0)]) (rest := []) kX5_judge rfl q2383 rfl rfl (Nat.le_of_ble_eq_true rfl) rfl dX5_doStatement_218 (Nat.succ_le_succ (Nat.zero_le _)) (h.mono (onV_mono (fun t31 h => ?_) (fun _ _ h => h)))
      refine j_aload_n (r := some P.mo) dX5_doStatement_221 rfl ?_
      refine j_aload_n (r := some P.mo) dX5_doStatement_222 rfl ?_
      refine jm_get (v := fI t31 79) fM_79 rfl rfl dX5_doStatement_223 ?_
      refine j_iconst (v := iI 0) dX5_doStatement_226 rfl ?_
      refine jm_callv (As := [.int (fI t31 79), .int (iI 0)]) (rest := []) kX5_judge rfl q2383 rfl rfl (Nat.le_of_ble_eq_true rfl) rfl dX5_doStatement_227 (Nat.succ_le_succ (Nat.zero_le _)) (h.mono (onV_mono (fun t33 h => ?_) (fun _ _ h => h)))
      refine j_aload_n (r := some P.mo) dX5_doStatement_230 rfl ?_
      refine jm_get (v := fI t33 72) fM_72 rfl rfl dX5_doStatement_231 ?_
      refine j_if_ne 272 dX5_doStatement_234 (by decide) (fun c40 => ?_) (fun c40 => ?_)
      · replace h := h.2 c40
        exact j_return rfl dX5_doStatement_272 h
      · replace h := h.1 c40
        refine j_aload_n (r := some P.mo) dX5_doStatement_237 rfl ?_
        refine j_aload_n (r := some P.mo) dX5_doStatement_238 rfl ?_
        refine jm_get (v := fI t33 78) fM_78 rfl rfl dX5_doStatement_239 ?_
        refine j_iconst (v := iI 0) dX5_doStatement_242 rfl ?_
        refine j_aload_n (r := some P.mo) dX5_doStatement_243 rfl ?_
        refine jm_get (v := fI t33 79) fM_79 rfl rfl dX5_doStatement_244 ?_
        refine j_iconst (v := iI 0) dX5_doStatement_247 rfl ?_
        refine j_iconst (v := iI 0) dX5_doStatement_248 rfl ?_
        refine jm_calli (As := [.int (fI t33 78), .int (iI 0), .int (fI t33 79), .int (iI 0), .int (iI 0)]) (rest := []) kX5_compare rfl q2444 rfl rfl (Nat.le_of_ble_eq_true rfl) rfl dX5_doStatement_249 (Nat.succ_le_succ (Nat.zero_le _)) (h.mono (onI_mono (fun r36 t35 h => ?_) (fun _ _ h => h)))
        refine j_istore_n (lv' := [some (va_rf (some P.mo)), some (.int r36)]) dX5_doStatement_252 (by decide) rfl ?_
        refine j_aload_n (r := some P.mo) dX5_doStatement_253 rfl ?_
        refine jm_get (v := fI t35 72) fM_72 rfl rfl dX5_doStatement_254 ?_
        refine j_if_ne 265 dX5_doStatement_257 (by decide) (fun c39 => ?_) (fun c39 => ?_)
        · replace h := h.2 c39
          exact h
        · replace h := h.1 c39
          refine j_aload_n (r := some P.mo) dX5_doStatement_260 rfl ?_
          refine j_iload_n dX5_doStatement_261 rfl ?_
          refine jm_callv (As := [.int r36]) (rest := []) kX5_yes rfl q2461 rfl rfl (Nat.le_of_ble_eq_true rfl) rfl dX5_doStatement_262 (Nat.succ_le_succ (Nat.zero_le _)) (h.mono (onV_mono (fun t37 h => ?_) (fun _ _ h => h)))
          exact h
    | 3, _, ec47 =>
      have ec47 : fI st 76 = iI 6 := ec47
      replace h := h.2.2.2.1 ec47
      refine j_tableIn 196 dX5_doStatement_24 (by rw [ec47]; decide) (by rw [ec47]; decide) (by rw [ec47]; rfl) (by decide) ?_
      refine j_aload_n (r := some P.mo) dX5_doStatement_196 rfl ?_
      refine j_aload_n (r := some P.mo) dX5_doStatement_197 rfl ?_
      refine jm_get (v := fI st 78) fM_78 rfl rfl dX5_doStatement_198 ?_
      refine j_iconst (v := iI 0) dX5_doStatement_201 rfl ?_
      refine jm_callv (As := [.int (fI st 78), .int (iI 0)]) (rest := []) kX5_judge rfl q2383 rfl rfl (Nat.le_of_ble_eq_true rfl) rfl dX5_doStatement_202 (Nat.succ_le_succ (Nat.zero_le _)) (h.mono (onV_mono (fun t41 h => ?_) (fun _ _ h => h)))
      refine j_aload_n (r := some P.mo) dX5_doStatement_205 rfl ?_
      refine jm_callv (As := []) (rest := []) kX5_tellHead rfl q2486 rfl rfl (Nat.le_of_ble_eq_true rfl) rfl dX5_doStatement_206 (Nat.succ_le_succ (Nat.zero_le _)) (h.mono (onV_mono (fun t43 h => ?_) (fun _ _ h => h)))
      refine j_goto 272 dX5_doStatement_209 (by decide) ?_
      exact j_return rfl dX5_doStatement_272 h
    | q_ + 4, hq_, _ => exact absurd hq_ (by omega)
  · replace h := h.2.2.2.2 ec47
    refine j_tableOut 268 dX5_doStatement_24 ec47 (by decide) ?_
    refine j_aload_n (r := some P.mo) dX5_doStatement_268 rfl ?_
    refine jm_callv (As := []) (rest := []) kX5_told rfl q2490 rfl rfl (Nat.le_of_ble_eq_true rfl) rfl dX5_doStatement_269 (Nat.succ_le_succ (Nat.zero_le _)) (h.mono (onV_mono (fun t45 h => ?_) (fun _ _ h => h)))
    exact j_return rfl dX5_doStatement_272 h
theorem tX5_doStatement_141 {P : MPl} {s0 : State} {l : Launch} {X : Prop} {lev : Nat} {st0 : MSt} {Q : Outcome → MSt → Prop} {x1 : Int32} {st : MSt} (h : (((fI st 72) = 0 → (CQ (wM P s0 l X) mX5_yes lev (.ref P.mo :: [.int (iI 1)]) st (onV (fun t1 => jX5_doStatement_153 P s0 l X lev st0 Q x1 t1) (fun x t => Q (.threw x) t)))) ∧ (¬ (fI st 72) = 0 → jX5_doStatement_153 P s0 l X lev st0 Q x1 st))) : jX5_doStatement_141 P s0 l X lev st0 Q x1 st := by
  refine j_aload_n (r := some P.mo) dX5_doStatement_141 rfl ?_
  refine jm_get (v := fI st 72) fM_72 rfl rfl dX5_doStatement_142 ?_
  refine j_if_ne 153 dX5_doStatement_145 (by decide) (fun c3 => ?_) (fun c3 => ?_)
  · replace h := h.2 c3
    exact h
  · replace h := h.1 c3
    refine j_aload_n (r := some P.mo) dX5_doStatement_148 rfl ?_
    refine j_iconst (v := iI 1) dX5_doStatement_149 rfl ?_
    refine jm_callv (As := [.int (iI 1)]) (rest := []) kX5_yes rfl q2461 rfl rfl (Nat.le_of_ble_eq_true rfl) rfl dX5_doStatement_150 (Nat.succ_le_succ (Nat.zero_le _)) (h.mono (onV_mono (fun t1 h => ?_) (fun _ _ h => h)))
    exact h
theorem tX5_doStatement_153 {P : MPl} {s0 : State} {l : Launch} {X : Prop} {lev : Nat} {st0 : MSt} {Q : Outcome → MSt → Prop} {x1 : Int32} {st : MSt} (h : Q (.returned none) st) : jX5_doStatement_153 P s0 l X lev st0 Q x1 st := by
  refine j_goto 272 dX5_doStatement_153 (by decide) ?_
  exact j_return rfl dX5_doStatement_272 h
theorem tX5_doStatement_265 {P : MPl} {s0 : State} {l : Launch} {X : Prop} {lev : Nat} {st0 : MSt} {Q : Outcome → MSt → Prop} {x1 : Int32} {st : MSt} (h : Q (.returned none) st) : jX5_doStatement_265 P s0 l X lev st0 Q x1 st := by
  refine j_goto 272 dX5_doStatement_265 (by decide) ?_
  exact j_return rfl dX5_doStatement_272 h
abbrev jX5_tables_78 (P : MPl) (s0 : State) (l : Launch) (X : Prop) (lev : Nat) (st0 : MSt) (Q : Outcome → MSt → Prop) (x1 : Int32) (st : MSt) : Prop := JQ (wM P s0 l X) mX5_tables (lev + 1) st0 78 [some (va_rf (some P.mo)), some (.int x1), none, none] [] st Q
abbrev jX5_tables_88 (P : MPl) (s0 : State) (l : Launch) (X : Prop) (lev : Nat) (st0 : MSt) (Q : Outcome → MSt → Prop) (x1 x2 : Int32) (st : MSt) : Prop := JQ (wM P s0 l X) mX5_tables (lev + 1) st0 88 [some (va_rf (some P.mo)), some (.int x1), some (.int x2), none] [] st Q
abbrev jX5_tables_217 (P : MPl) (s0 : State) (l : Launch) (X : Prop) (lev : Nat) (st0 : MSt) (Q : Outcome → MSt → Prop) (x1 : Int32) (st : MSt) : Prop := JQ (wM P s0 l X) mX5_tables (lev + 1) st0 217 [some (va_rf (some P.mo)), some (.int x1), none, none] [] st Q
abbrev jX5_tables_244 (P : MPl) (s0 : State) (l : Launch) (X : Prop) (lev : Nat) (st0 : MSt) (Q : Outcome → MSt → Prop) (x1 x2 : Int32) (st : MSt) : Prop := JQ (wM P s0 l X) mX5_tables (lev + 1) st0 244 [some (va_rf (some P.mo)), some (.int x1), some (.int x2), none] [] st Q
abbrev jX5_tables_282 (P : MPl) (s0 : State) (l : Launch) (X : Prop) (lev : Nat) (st0 : MSt) (Q : Outcome → MSt → Prop) (x1 x2 : Int32) (st : MSt) : Prop := JQ (wM P s0 l X) mX5_tables (lev + 1) st0 282 [some (va_rf (some P.mo)), some (.int x1), some (.int x2), none] [] st Q
abbrev jX5_tables_324 (P : MPl) (s0 : State) (l : Launch) (X : Prop) (lev : Nat) (st0 : MSt) (Q : Outcome → MSt → Prop) (x1 x2 x3 : Int32) (st : MSt) : Prop := JQ (wM P s0 l X) mX5_tables (lev + 1) st0 324 [some (va_rf (some P.mo)), some (.int x1), some (.int x2), some (.int x3)] [] st Q
abbrev jX5_tables_359 (P : MPl) (s0 : State) (l : Launch) (X : Prop) (lev : Nat) (st0 : MSt) (Q : Outcome → MSt → Prop) (x1 x2 x3 : Int32) (st : MSt) : Prop := JQ (wM P s0 l X) mX5_tables (lev + 1) st0 359 [some (va_rf (some P.mo)), some (.int x1), some (.int x2), some (.int x3)] [] st Q
theorem tX5_tables {P : MPl} {s0 : State} {l : Launch} {X : Prop} {lev : Nat} {Q : Outcome → MSt → Prop} {st : MSt} (h : (((fI st 27) ≤ 0 → (CQ (wM P s0 l X) mX5_sortOf lev (.ref P.mo :: [.int (fI st 80)]) st (onI (fun r2 t1 => (((fI t1 76) = 0 → ((r2 < 0 → (((fI t1 20) = (iI 8) → (inr (fI t1 80) 140000 ∧ (CQ (wM P s0 l X) mX5_wrong lev (.ref P.mo :: [.int (iI 5), .int (aI t1 31 (fI t1 80))]) t1 (onV (fun t6 => jX5_tables_78 P s0 l X lev st Q r2 t6) (fun x t => Q (.threw x) t))))) ∧ (¬ (fI t1 20) = (iI 8) → jX5_tables_78 P s0 l X lev st Q r2 t1))) ∧ (¬ r2 < 0 → (inr (fI t1 80) 140000 ∧ (CQ (wM P s0 l X) mX5_wrong lev (.ref P.mo :: [.int (iI 4), .int (aI t1 31 (fI t1 80))]) t1 (onV (fun t9 => jX5_tables_78 P s0 l X lev st Q r2 t9) (fun x t => Q (.threw x) t))))))) ∧ (¬ (fI t1 76) = 0 → ((0 ≤ r2 → jX5_tables_217 P s0 l X lev st Q r2 t1) ∧ (¬ 0 ≤ r2 → (inr (fI t1 80) 140000 ∧ (CQ (wM P s0 l X) mX5_wrong lev (.ref P.mo :: [.int (iI 3), .int (aI t1 31 (fI t1 80))]) t1 (onV (fun t3 => jX5_tables_217 P s0 l X lev st Q r2 t3) (fun x t => Q (.threw x) t))))))))) (fun x t => Q (.threw x) t)))) ∧ (¬ (fI st 27) ≤ 0 → (CQ (wM P s0 l X) mX5_wrong lev (.ref P.mo :: [.int (iI 6), .int (fI st 77)]) st (onV (fun t13 => Q (.returned none) t13) (fun x t => Q (.threw x) t)))))) : CQ (wM P s0 l X) mX5_tables (lev + 1) [.ref P.mo] st Q := by
  refine CQ.of2 3 (lv := [some (va_rf (some P.mo)), none, none, none]) (by decide) (Nat.le_of_ble_eq_true rfl) rfl rfl ?_
  refine j_aload_n (r := some P.mo) dX5_tables_0 rfl ?_
  refine jm_get (v := fI st 27) fM_27 rfl rfl dX5_tables_1 ?_
  refine j_if_le 18 dX5_tables_4 (by decide) (fun c15 => ?_) (fun c15 => ?_)
  · replace h := h.1 c15
    refine j_aload_n (r := some P.mo) dX5_tables_18 rfl ?_
    refine j_aload_n (r := some P.mo) dX5_tables_19 rfl ?_
    refine jm_get (v := fI st 80) fM_80 rfl rfl dX5_tables_20 ?_
    refine jm_calli (As := [.int (fI st 80)]) (rest := []) kX5_sortOf rfl q2371 rfl rfl (Nat.le_of_ble_eq_true rfl) rfl dX5_tables_23 (Nat.succ_le_succ (Nat.zero_le _)) (h.mono (onI_mono (fun r2 t1 h => ?_) (fun _ _ h => h)))
    refine j_istore_n (lv' := [some (va_rf (some P.mo)), some (.int r2), none, none]) dX5_tables_26 (by decide) rfl ?_
    refine j_aload_n (r := some P.mo) dX5_tables_27 rfl ?_
    refine jm_get (v := fI t1 76) fM_76 rfl rfl dX5_tables_28 ?_
    refine j_if_ne 199 dX5_tables_31 (by decide) (fun c12 => ?_) (fun c12 => ?_)
    · replace h := h.2 c12
      refine j_iload_n dX5_tables_199 rfl ?_
      refine j_if_ge 217 dX5_tables_200 (by decide) (fun c5 => ?_) (fun c5 => ?_)
      · replace h := h.1 c5
        exact h
      · replace h := h.2 c5
        refine j_aload_n (r := some P.mo) dX5_tables_203 rfl ?_
        refine j_iconst (v := iI 3) dX5_tables_204 rfl ?_
        refine j_aload_n (r := some P.mo) dX5_tables_205 rfl ?_
        refine jm_geta fM_31 rfl dX5_tables_206 ?_
        refine j_aload_n (r := some P.mo) dX5_tables_209 rfl ?_
        refine jm_get (v := fI t1 80) fM_80 rfl rfl dX5_tables_210 ?_
        refine jm_ald (v := aI t1 31 (fI t1 80)) rfl h.1 rfl rfl dX5_tables_213 ?_
        replace h := h.2
        refine jm_callv (As := [.int (iI 3), .int (aI t1 31 (fI t1 80))]) (rest := []) kX5_wrong rfl q2295 rfl rfl (Nat.le_of_ble_eq_true rfl) rfl dX5_tables_214 (Nat.succ_le_succ (Nat.zero_le _)) (h.mono (onV_mono (fun t3 h => ?_) (fun _ _ h => h)))
        exact h
    · replace h := h.1 c12
      refine j_iload_n dX5_tables_34 rfl ?_
      refine j_if_lt 55 dX5_tables_35 (by decide) (fun c11 => ?_) (fun c11 => ?_)
      · replace h := h.1 c11
        refine j_aload_n (r := some P.mo) dX5_tables_55 rfl ?_
        refine jm_get (v := fI t1 20) fM_20 rfl rfl dX5_tables_56 ?_
        refine j_bipush (v := iI 8) dX5_tables_59 rfl ?_
        refine j_icmp_ne 78 dX5_tables_61 (by decide) (fun c8 => ?_) (fun c8 => ?_)
        · replace h := h.2 c8
          exact h
        · replace h := h.1 c8
          refine j_aload_n (r := some P.mo) dX5_tables_64 rfl ?_
          refine j_iconst (v := iI 5) dX5_tables_65 rfl ?_
          refine j_aload_n (r := some P.mo) dX5_tables_66 rfl ?_
          refine jm_geta fM_31 rfl dX5_tables_67 ?_
          refine j_aload_n (r := some P.mo) dX5_tables_70 rfl ?_
          refine jm_get (v := fI t1 80) fM_80 rfl rfl dX5_tables_71 ?_
          refine jm_ald (v := aI t1 31 (fI t1 80)) rfl h.1 rfl rfl dX5_tables_74 ?_
          replace h := h.2
          refine jm_callv (As := [.int (iI 5), .int (aI t1 31 (fI t1 80))]) (rest := []) kX5_wrong rfl q2295 rfl rfl (Nat.le_of_ble_eq_true rfl) rfl dX5_tables_75 (Nat.succ_le_succ (Nat.zero_le _)) (h.mono (onV_mono (fun t6 h => ?_) (fun _ _ h => h)))
          exact h
      · replace h := h.2 c11
        refine j_aload_n (r := some P.mo) dX5_tables_38 rfl ?_
        refine j_iconst (v := iI 4) dX5_tables_39 rfl ?_
        refine j_aload_n (r := some P.mo) dX5_tables_40 rfl ?_
        refine jm_geta fM_31 rfl dX5_tables_41 ?_
        refine j_aload_n (r := some P.mo) dX5_tables_44 rfl ?_
        refine jm_get (v := fI t1 80) fM_80 rfl rfl dX5_tables_45 ?_
        refine jm_ald (v := aI t1 31 (fI t1 80)) rfl h.1 rfl rfl dX5_tables_48 ?_
        replace h := h.2
        refine jm_callv (As := [.int (iI 4), .int (aI t1 31 (fI t1 80))]) (rest := []) kX5_wrong rfl q2295 rfl rfl (Nat.le_of_ble_eq_true rfl) rfl dX5_tables_49 (Nat.succ_le_succ (Nat.zero_le _)) (h.mono (onV_mono (fun t9 h => ?_) (fun _ _ h => h)))
        refine j_goto 78 dX5_tables_52 (by decide) ?_
        exact h
  · replace h := h.2 c15
    refine j_aload_n (r := some P.mo) dX5_tables_7 rfl ?_
    refine j_bipush (v := iI 6) dX5_tables_8 rfl ?_
    refine j_aload_n (r := some P.mo) dX5_tables_10 rfl ?_
    refine jm_get (v := fI st 77) fM_77 rfl rfl dX5_tables_11 ?_
    refine jm_callv (As := [.int (iI 6), .int (fI st 77)]) (rest := []) kX5_wrong rfl q2295 rfl rfl (Nat.le_of_ble_eq_true rfl) rfl dX5_tables_14 (Nat.succ_le_succ (Nat.zero_le _)) (h.mono (onV_mono (fun t13 h => ?_) (fun _ _ h => h)))
    exact j_return rfl dX5_tables_17 h
theorem tX5_tables_78 {P : MPl} {s0 : State} {l : Launch} {X : Prop} {lev : Nat} {st0 : MSt} {Q : Outcome → MSt → Prop} {x1 : Int32} {st : MSt} (h : (((fI st 72) = 0 → jX5_tables_88 P s0 l X lev st0 Q x1 (iI 0) st) ∧ (¬ (fI st 72) = 0 → Q (.returned none) st))) : jX5_tables_78 P s0 l X lev st0 Q x1 st := by
  refine j_aload_n (r := some P.mo) dX5_tables_78 rfl ?_
  refine jm_get (v := fI st 72) fM_72 rfl rfl dX5_tables_79 ?_
  refine j_if_eq 86 dX5_tables_82 (by decide) (fun c1 => ?_) (fun c1 => ?_)
  · replace h := h.1 c1
    refine j_iconst (v := iI 0) dX5_tables_86 rfl ?_
    refine j_istore_n (lv' := [some (va_rf (some P.mo)), some (.int x1), some (.int (iI 0)), none]) dX5_tables_87 (by decide) rfl ?_
    exact h
  · replace h := h.2 c1
    exact j_return rfl dX5_tables_85 h
theorem tX5_tables_88 {P : MPl} {s0 : State} {l : Launch} {X : Prop} {lev : Nat} {st0 : MSt} {Q : Outcome → MSt → Prop} {x1 x2 : Int32} {st : MSt} (h : (inr (fI st 80) 140000 ∧ (((aI st 32 (fI st 80)) ≤ x2 → (inr (fI st 80) 140000 ∧ (inr (fI st 20) 8 ∧ (inr (fI st 20) 8 ∧ (inr (fI st 20) 140000 ∧ (inr (fI st 20) 140000 ∧ Q (.returned none) (mput 20 ((fI st 20) + (iI 1)) (mst 31 (fI st 20) (fI st 20) (mst 30 (fI st 20) (iI 3) (mst 18 (fI st 20) (iI (-1)) (mst 17 (fI st 20) (aI st 32 (fI st 80)) st))))))))))) ∧ (¬ (aI st 32 (fI st 80)) ≤ x2 → (inr (fI st 80) 140000 ∧ (inr ((aI st 31 (fI st 80)) + x2) 4000 ∧ (inr (((iI 12) * (fI st 20)) + x2) 96 ∧ jX5_tables_88 P s0 l X lev st0 Q x1 (x2 + iI 1) (mst 16 (((iI 12) * (fI st 20)) + x2) (aI st 4 ((aI st 31 (fI st 80)) + x2)) st)))))))) : jX5_tables_88 P s0 l X lev st0 Q x1 x2 st := by
  refine j_iload_n dX5_tables_88 rfl ?_
  refine j_aload_n (r := some P.mo) dX5_tables_89 rfl ?_
  refine jm_geta fM_32 rfl dX5_tables_90 ?_
  refine j_aload_n (r := some P.mo) dX5_tables_93 rfl ?_
  refine jm_get (v := fI st 80) fM_80 rfl rfl dX5_tables_94 ?_
  refine jm_ald (v := aI st 32 (fI st 80)) rfl h.1 rfl rfl dX5_tables_97 ?_
  replace h := h.2
  refine j_icmp_ge 137 dX5_tables_98 (by decide) (fun c1 => ?_) (fun c1 => ?_)
  · replace h := h.1 c1
    refine j_aload_n (r := some P.mo) dX5_tables_137 rfl ?_
    refine jm_geta fM_17 rfl dX5_tables_138 ?_
    refine j_aload_n (r := some P.mo) dX5_tables_141 rfl ?_
    refine jm_get (v := fI st 20) fM_20 rfl rfl dX5_tables_142 ?_
    refine j_aload_n (r := some P.mo) dX5_tables_145 rfl ?_
    refine jm_geta fM_32 rfl dX5_tables_146 ?_
    refine j_aload_n (r := some P.mo) dX5_tables_149 rfl ?_
    refine jm_get (v := fI st 80) fM_80 rfl rfl dX5_tables_150 ?_
    refine jm_ald (v := aI st 32 (fI st 80)) rfl h.1 rfl rfl dX5_tables_153 ?_
    replace h := h.2
    refine jm_ast rfl h.1 rfl dX5_tables_154 ?_
    replace h := h.2
    refine j_aload_n (r := some P.mo) dX5_tables_155 rfl ?_
    refine jm_geta fM_18 rfl dX5_tables_156 ?_
    refine j_aload_n (r := some P.mo) dX5_tables_159 rfl ?_
    refine jm_get (v := fI st 20) fM_20 rfl rfl dX5_tables_160 ?_
    refine j_iconst (v := iI (-1)) dX5_tables_163 rfl ?_
    refine jm_ast rfl h.1 rfl dX5_tables_164 ?_
    replace h := h.2
    refine j_aload_n (r := some P.mo) dX5_tables_165 rfl ?_
    refine jm_geta fM_30 rfl dX5_tables_166 ?_
    refine j_aload_n (r := some P.mo) dX5_tables_169 rfl ?_
    refine jm_get (v := fI st 20) fM_20 rfl rfl dX5_tables_170 ?_
    refine j_iconst (v := iI 3) dX5_tables_173 rfl ?_
    refine jm_ast rfl h.1 rfl dX5_tables_174 ?_
    replace h := h.2
    refine j_aload_n (r := some P.mo) dX5_tables_175 rfl ?_
    refine jm_geta fM_31 rfl dX5_tables_176 ?_
    refine j_aload_n (r := some P.mo) dX5_tables_179 rfl ?_
    refine jm_get (v := fI st 20) fM_20 rfl rfl dX5_tables_180 ?_
    refine j_aload_n (r := some P.mo) dX5_tables_183 rfl ?_
    refine jm_get (v := fI st 20) fM_20 rfl rfl dX5_tables_184 ?_
    refine jm_ast rfl h.1 rfl dX5_tables_187 ?_
    replace h := h.2
    refine j_aload_n (r := some P.mo) dX5_tables_188 rfl ?_
    refine j_dup dX5_tables_189 rfl ?_
    refine jm_get (v := fI st 20) fM_20 rfl rfl dX5_tables_190 ?_
    refine j_iconst (v := iI 1) dX5_tables_193 rfl ?_
    refine j_iadd dX5_tables_194 ?_
    refine jm_put fM_20 rfl dX5_tables_195 ?_
    exact j_return rfl dX5_tables_198 h
  · replace h := h.2 c1
    refine j_aload_n (r := some P.mo) dX5_tables_101 rfl ?_
    refine jm_geta fM_16 rfl dX5_tables_102 ?_
    refine j_bipush (v := iI 12) dX5_tables_105 rfl ?_
    refine j_aload_n (r := some P.mo) dX5_tables_107 rfl ?_
    refine jm_get (v := fI st 20) fM_20 rfl rfl dX5_tables_108 ?_
    refine j_imul dX5_tables_111 ?_
    refine j_iload_n dX5_tables_112 rfl ?_
    refine j_iadd dX5_tables_113 ?_
    refine j_aload_n (r := some P.mo) dX5_tables_114 rfl ?_
    refine jm_geta fM_4 rfl dX5_tables_115 ?_
    refine j_aload_n (r := some P.mo) dX5_tables_118 rfl ?_
    refine jm_geta fM_31 rfl dX5_tables_119 ?_
    refine j_aload_n (r := some P.mo) dX5_tables_122 rfl ?_
    refine jm_get (v := fI st 80) fM_80 rfl rfl dX5_tables_123 ?_
    refine jm_ald (v := aI st 31 (fI st 80)) rfl h.1 rfl rfl dX5_tables_126 ?_
    replace h := h.2
    refine j_iload_n dX5_tables_127 rfl ?_
    refine j_iadd dX5_tables_128 ?_
    refine jm_ald (v := aI st 4 ((aI st 31 (fI st 80)) + x2)) rfl h.1 rfl rfl dX5_tables_129 ?_
    replace h := h.2
    refine jm_ast rfl h.1 rfl dX5_tables_130 ?_
    replace h := h.2
    refine j_iinc (lv' := [some (va_rf (some P.mo)), some (.int x1), some (.int (x2 + iI 1)), none]) dX5_tables_131 rfl (by decide) rfl ?_
    refine j_goto 88 dX5_tables_134 (by decide) ?_
    exact h
theorem tX5_tables_217 {P : MPl} {s0 : State} {l : Launch} {X : Prop} {lev : Nat} {st0 : MSt} {Q : Outcome → MSt → Prop} {x1 : Int32} {st : MSt} (h : (CQ (wM P s0 l X) mX5_sortOf lev (.ref P.mo :: [.int (fI st 81)]) st (onI (fun r2 t1 => ((0 ≤ r2 → jX5_tables_244 P s0 l X lev st0 Q x1 r2 t1) ∧ (¬ 0 ≤ r2 → (inr (fI t1 81) 140000 ∧ (CQ (wM P s0 l X) mX5_wrong lev (.ref P.mo :: [.int (iI 3), .int (aI t1 31 (fI t1 81))]) t1 (onV (fun t3 => jX5_tables_244 P s0 l X lev st0 Q x1 r2 t3) (fun x t => Q (.threw x) t))))))) (fun x t => Q (.threw x) t)))) : jX5_tables_217 P s0 l X lev st0 Q x1 st := by
  refine j_aload_n (r := some P.mo) dX5_tables_217 rfl ?_
  refine j_aload_n (r := some P.mo) dX5_tables_218 rfl ?_
  refine jm_get (v := fI st 81) fM_81 rfl rfl dX5_tables_219 ?_
  refine jm_calli (As := [.int (fI st 81)]) (rest := []) kX5_sortOf rfl q2371 rfl rfl (Nat.le_of_ble_eq_true rfl) rfl dX5_tables_222 (Nat.succ_le_succ (Nat.zero_le _)) (h.mono (onI_mono (fun r2 t1 h => ?_) (fun _ _ h => h)))
  refine j_istore_n (lv' := [some (va_rf (some P.mo)), some (.int x1), some (.int r2), none]) dX5_tables_225 (by decide) rfl ?_
  refine j_iload_n dX5_tables_226 rfl ?_
  refine j_if_ge 244 dX5_tables_227 (by decide) (fun c5 => ?_) (fun c5 => ?_)
  · replace h := h.1 c5
    exact h
  · replace h := h.2 c5
    refine j_aload_n (r := some P.mo) dX5_tables_230 rfl ?_
    refine j_iconst (v := iI 3) dX5_tables_231 rfl ?_
    refine j_aload_n (r := some P.mo) dX5_tables_232 rfl ?_
    refine jm_geta fM_31 rfl dX5_tables_233 ?_
    refine j_aload_n (r := some P.mo) dX5_tables_236 rfl ?_
    refine jm_get (v := fI t1 81) fM_81 rfl rfl dX5_tables_237 ?_
    refine jm_ald (v := aI t1 31 (fI t1 81)) rfl h.1 rfl rfl dX5_tables_240 ?_
    replace h := h.2
    refine jm_callv (As := [.int (iI 3), .int (aI t1 31 (fI t1 81))]) (rest := []) kX5_wrong rfl q2295 rfl rfl (Nat.le_of_ble_eq_true rfl) rfl dX5_tables_241 (Nat.succ_le_succ (Nat.zero_le _)) (h.mono (onV_mono (fun t3 h => ?_) (fun _ _ h => h)))
    exact h
theorem tX5_tables_244 {P : MPl} {s0 : State} {l : Launch} {X : Prop} {lev : Nat} {st0 : MSt} {Q : Outcome → MSt → Prop} {x1 x2 : Int32} {st : MSt} (h : (((fI st 76) = (iI 1) → (((fI st 72) = 0 → (inr x1 8 ∧ (((aI st 18 x1) < 0 → jX5_tables_282 P s0 l X lev st0 Q x1 x2 st) ∧ (¬ (aI st 18 x1) < 0 → (inr (fI st 80) 140000 ∧ (CQ (wM P s0 l X) mX5_wrong lev (.ref P.mo :: [.int (iI 4), .int (aI st 31 (fI st 80))]) st (onV (fun t6 => jX5_tables_282 P s0 l X lev st0 Q x1 x2 t6) (fun x t => Q (.threw x) t)))))))) ∧ (¬ (fI st 72) = 0 → jX5_tables_282 P s0 l X lev st0 Q x1 x2 st))) ∧ (¬ (fI st 76) = (iI 1) → (CQ (wM P s0 l X) mX5_sortOf lev (.ref P.mo :: [.int (fI st 82)]) st (onI (fun r2 t1 => ((0 ≤ r2 → jX5_tables_324 P s0 l X lev st0 Q x1 x2 r2 t1) ∧ (¬ 0 ≤ r2 → (inr (fI t1 82) 140000 ∧ (CQ (wM P s0 l X) mX5_wrong lev (.ref P.mo :: [.int (iI 3), .int (aI t1 31 (fI t1 82))]) t1 (onV (fun t3 => jX5_tables_324 P s0 l X lev st0 Q x1 x2 r2 t3) (fun x t => Q (.threw x) t))))))) (fun x t => Q (.threw x) t)))))) : jX5_tables_244 P s0 l X lev st0 Q x1 x2 st := by
  refine j_aload_n (r := some P.mo) dX5_tables_244 rfl ?_
  refine jm_get (v := fI st 76) fM_76 rfl rfl dX5_tables_245 ?_
  refine j_iconst (v := iI 1) dX5_tables_248 rfl ?_
  refine j_icmp_ne 297 dX5_tables_249 (by decide) (fun c10 => ?_) (fun c10 => ?_)
  · replace h := h.2 c10
    refine j_aload_n (r := some P.mo) dX5_tables_297 rfl ?_
    refine j_aload_n (r := some P.mo) dX5_tables_298 rfl ?_
    refine jm_get (v := fI st 82) fM_82 rfl rfl dX5_tables_299 ?_
    refine jm_calli (As := [.int (fI st 82)]) (rest := []) kX5_sortOf rfl q2371 rfl rfl (Nat.le_of_ble_eq_true rfl) rfl dX5_tables_302 (Nat.succ_le_succ (Nat.zero_le _)) (h.mono (onI_mono (fun r2 t1 h => ?_) (fun _ _ h => h)))
    refine j_istore_n (lv' := [some (va_rf (some P.mo)), some (.int x1), some (.int x2), some (.int r2)]) dX5_tables_305 (by decide) rfl ?_
    refine j_iload_n dX5_tables_306 rfl ?_
    refine j_if_ge 324 dX5_tables_307 (by decide) (fun c5 => ?_) (fun c5 => ?_)
    · replace h := h.1 c5
      exact h
    · replace h := h.2 c5
      refine j_aload_n (r := some P.mo) dX5_tables_310 rfl ?_
      refine j_iconst (v := iI 3) dX5_tables_311 rfl ?_
      refine j_aload_n (r := some P.mo) dX5_tables_312 rfl ?_
      refine jm_geta fM_31 rfl dX5_tables_313 ?_
      refine j_aload_n (r := some P.mo) dX5_tables_316 rfl ?_
      refine jm_get (v := fI t1 82) fM_82 rfl rfl dX5_tables_317 ?_
      refine jm_ald (v := aI t1 31 (fI t1 82)) rfl h.1 rfl rfl dX5_tables_320 ?_
      replace h := h.2
      refine jm_callv (As := [.int (iI 3), .int (aI t1 31 (fI t1 82))]) (rest := []) kX5_wrong rfl q2295 rfl rfl (Nat.le_of_ble_eq_true rfl) rfl dX5_tables_321 (Nat.succ_le_succ (Nat.zero_le _)) (h.mono (onV_mono (fun t3 h => ?_) (fun _ _ h => h)))
      exact h
  · replace h := h.1 c10
    refine j_aload_n (r := some P.mo) dX5_tables_252 rfl ?_
    refine jm_get (v := fI st 72) fM_72 rfl rfl dX5_tables_253 ?_
    refine j_if_ne 282 dX5_tables_256 (by decide) (fun c9 => ?_) (fun c9 => ?_)
    · replace h := h.2 c9
      exact h
    · replace h := h.1 c9
      refine j_aload_n (r := some P.mo) dX5_tables_259 rfl ?_
      refine jm_geta fM_18 rfl dX5_tables_260 ?_
      refine j_iload_n dX5_tables_263 rfl ?_
      refine jm_ald (v := aI st 18 x1) rfl h.1 rfl rfl dX5_tables_264 ?_
      replace h := h.2
      refine j_if_lt 282 dX5_tables_265 (by decide) (fun c8 => ?_) (fun c8 => ?_)
      · replace h := h.1 c8
        exact h
      · replace h := h.2 c8
        refine j_aload_n (r := some P.mo) dX5_tables_268 rfl ?_
        refine j_iconst (v := iI 4) dX5_tables_269 rfl ?_
        refine j_aload_n (r := some P.mo) dX5_tables_270 rfl ?_
        refine jm_geta fM_31 rfl dX5_tables_271 ?_
        refine j_aload_n (r := some P.mo) dX5_tables_274 rfl ?_
        refine jm_get (v := fI st 80) fM_80 rfl rfl dX5_tables_275 ?_
        refine jm_ald (v := aI st 31 (fI st 80)) rfl h.1 rfl rfl dX5_tables_278 ?_
        replace h := h.2
        refine jm_callv (As := [.int (iI 4), .int (aI st 31 (fI st 80))]) (rest := []) kX5_wrong rfl q2295 rfl rfl (Nat.le_of_ble_eq_true rfl) rfl dX5_tables_279 (Nat.succ_le_succ (Nat.zero_le _)) (h.mono (onV_mono (fun t6 h => ?_) (fun _ _ h => h)))
        exact h
theorem tX5_tables_282 {P : MPl} {s0 : State} {l : Launch} {X : Prop} {lev : Nat} {st0 : MSt} {Q : Outcome → MSt → Prop} {x1 x2 : Int32} {st : MSt} (h : (((fI st 72) = 0 → (inr x1 8 ∧ Q (.returned none) (mst 18 x1 x2 st))) ∧ (¬ (fI st 72) = 0 → Q (.returned none) st))) : jX5_tables_282 P s0 l X lev st0 Q x1 x2 st := by
  refine j_aload_n (r := some P.mo) dX5_tables_282 rfl ?_
  refine jm_get (v := fI st 72) fM_72 rfl rfl dX5_tables_283 ?_
  refine j_if_ne 296 dX5_tables_286 (by decide) (fun c1 => ?_) (fun c1 => ?_)
  · replace h := h.2 c1
    exact j_return rfl dX5_tables_296 h
  · replace h := h.1 c1
    refine j_aload_n (r := some P.mo) dX5_tables_289 rfl ?_
    refine jm_geta fM_18 rfl dX5_tables_290 ?_
    refine j_iload_n dX5_tables_293 rfl ?_
    refine j_iload_n dX5_tables_294 rfl ?_
    refine jm_ast rfl h.1 rfl dX5_tables_295 ?_
    replace h := h.2
    exact j_return rfl dX5_tables_296 h
theorem tX5_tables_324 {P : MPl} {s0 : State} {l : Launch} {X : Prop} {lev : Nat} {st0 : MSt} {Q : Outcome → MSt → Prop} {x1 x2 x3 : Int32} {st : MSt} (h : (((fI st 72) = 0 → (inr (((iI 8) * x1) + x2) 64 ∧ (((aI st 19 (((iI 8) * x1) + x2)) < 0 → jX5_tables_359 P s0 l X lev st0 Q x1 x2 x3 st) ∧ (¬ (aI st 19 (((iI 8) * x1) + x2)) < 0 → (inr (fI st 80) 140000 ∧ (CQ (wM P s0 l X) mX5_wrong lev (.ref P.mo :: [.int (iI 4), .int (aI st 31 (fI st 80))]) st (onV (fun t1 => jX5_tables_359 P s0 l X lev st0 Q x1 x2 x3 t1) (fun x t => Q (.threw x) t)))))))) ∧ (¬ (fI st 72) = 0 → jX5_tables_359 P s0 l X lev st0 Q x1 x2 x3 st))) : jX5_tables_324 P s0 l X lev st0 Q x1 x2 x3 st := by
  refine j_aload_n (r := some P.mo) dX5_tables_324 rfl ?_
  refine jm_get (v := fI st 72) fM_72 rfl rfl dX5_tables_325 ?_
  refine j_if_ne 359 dX5_tables_328 (by decide) (fun c4 => ?_) (fun c4 => ?_)
  · replace h := h.2 c4
    exact h
  · replace h := h.1 c4
    refine j_aload_n (r := some P.mo) dX5_tables_331 rfl ?_
    refine jm_geta fM_19 rfl dX5_tables_332 ?_
    refine j_bipush (v := iI 8) dX5_tables_335 rfl ?_
    refine j_iload_n dX5_tables_337 rfl ?_
    refine j_imul dX5_tables_338 ?_
    refine j_iload_n dX5_tables_339 rfl ?_
    refine j_iadd dX5_tables_340 ?_
    refine jm_ald (v := aI st 19 (((iI 8) * x1) + x2)) rfl h.1 rfl rfl dX5_tables_341 ?_
    replace h := h.2
    refine j_if_lt 359 dX5_tables_342 (by decide) (fun c3 => ?_) (fun c3 => ?_)
    · replace h := h.1 c3
      exact h
    · replace h := h.2 c3
      refine j_aload_n (r := some P.mo) dX5_tables_345 rfl ?_
      refine j_iconst (v := iI 4) dX5_tables_346 rfl ?_
      refine j_aload_n (r := some P.mo) dX5_tables_347 rfl ?_
      refine jm_geta fM_31 rfl dX5_tables_348 ?_
      refine j_aload_n (r := some P.mo) dX5_tables_351 rfl ?_
      refine jm_get (v := fI st 80) fM_80 rfl rfl dX5_tables_352 ?_
      refine jm_ald (v := aI st 31 (fI st 80)) rfl h.1 rfl rfl dX5_tables_355 ?_
      replace h := h.2
      refine jm_callv (As := [.int (iI 4), .int (aI st 31 (fI st 80))]) (rest := []) kX5_wrong rfl q2295 rfl rfl (Nat.le_of_ble_eq_true rfl) rfl dX5_tables_356 (Nat.succ_le_succ (Nat.zero_le _)) (h.mono (onV_mono (fun t1 h => ?_) (fun _ _ h => h)))
      exact h
theorem tX5_tables_359 {P : MPl} {s0 : State} {l : Launch} {X : Prop} {lev : Nat} {st0 : MSt} {Q : Outcome → MSt → Prop} {x1 x2 x3 : Int32} {st : MSt} (h : (((fI st 72) = 0 → (inr (((iI 8) * x1) + x2) 64 ∧ Q (.returned none) (mst 19 (((iI 8) * x1) + x2) x3 st))) ∧ (¬ (fI st 72) = 0 → Q (.returned none) st))) : jX5_tables_359 P s0 l X lev st0 Q x1 x2 x3 st := by
  refine j_aload_n (r := some P.mo) dX5_tables_359 rfl ?_
  refine jm_get (v := fI st 72) fM_72 rfl rfl dX5_tables_360 ?_
  refine j_if_ne 378 dX5_tables_363 (by decide) (fun c1 => ?_) (fun c1 => ?_)
  · replace h := h.2 c1
    exact j_return rfl dX5_tables_378 h
  · replace h := h.1 c1
    refine j_aload_n (r := some P.mo) dX5_tables_366 rfl ?_
    refine jm_geta fM_19 rfl dX5_tables_367 ?_
    refine j_bipush (v := iI 8) dX5_tables_370 rfl ?_
    refine j_iload_n dX5_tables_372 rfl ?_
    refine j_imul dX5_tables_373 ?_
    refine j_iload_n dX5_tables_374 rfl ?_
    refine j_iadd dX5_tables_375 ?_
    refine j_iload_n dX5_tables_376 rfl ?_
    refine jm_ast rfl h.1 rfl dX5_tables_377 ?_
    replace h := h.2
    exact j_return rfl dX5_tables_378 h
abbrev jX5_sortOf_4 (P : MPl) (s0 : State) (l : Launch) (X : Prop) (lev : Nat) (st0 : MSt) (Q : Outcome → MSt → Prop) (x1 x2 x3 : Int32) (st : MSt) : Prop := JQ (wM P s0 l X) mX5_sortOf (lev + 1) st0 4 [some (va_rf (some P.mo)), some (.int x1), some (.int x2), some (.int x3)] [] st Q
abbrev jX5_sortOf_47 (P : MPl) (s0 : State) (l : Launch) (X : Prop) (lev : Nat) (st0 : MSt) (Q : Outcome → MSt → Prop) (x1 x2 x3 : Int32) (st : MSt) : Prop := JQ (wM P s0 l X) mX5_sortOf (lev + 1) st0 47 [some (va_rf (some P.mo)), some (.int x1), some (.int x2), some (.int x3)] [] st Q
theorem tX5_sortOf {P : MPl} {s0 : State} {l : Launch} {X : Prop} {lev : Nat} {Q : Outcome → MSt → Prop} {x1 : Int32} {st : MSt} (h : jX5_sortOf_4 P s0 l X lev st Q x1 (iI (-1)) (iI 0) st) : CQ (wM P s0 l X) mX5_sortOf (lev + 1) [.ref P.mo, .int x1] st Q := by
  refine CQ.of2 2 (lv := [some (va_rf (some P.mo)), some (.int x1), none, none]) (by decide) (Nat.le_of_ble_eq_true rfl) rfl rfl ?_
  refine j_iconst (v := iI (-1)) dX5_sortOf_0 rfl ?_
  refine j_istore_n (lv' := [some (va_rf (some P.mo)), some (.int x1), some (.int (iI (-1))), none]) dX5_sortOf_1 (by decide) rfl ?_
  refine j_iconst (v := iI 0) dX5_sortOf_2 rfl ?_
  refine j_istore_n (lv' := [some (va_rf (some P.mo)), some (.int x1), some (.int (iI (-1))), some (.int (iI 0))]) dX5_sortOf_3 (by decide) rfl ?_
  exact h
theorem tX5_sortOf_4 {P : MPl} {s0 : State} {l : Launch} {X : Prop} {lev : Nat} {st0 : MSt} {Q : Outcome → MSt → Prop} {x1 x2 x3 : Int32} {st : MSt} (h : (((fI st 20) ≤ x3 → Q (.returned (some (.int x2))) st) ∧ (¬ (fI st 20) ≤ x3 → (inr x1 140000 ∧ (inr x1 140000 ∧ (inr x3 8 ∧ (CQ (wM P s0 l X) mX5_sameName lev (.ref P.mo :: [.int (aI st 31 x1), .int (aI st 32 x1), va_rf (some (P.ad 16)), .int ((iI 12) * x3), .int (aI st 17 x3)]) st (onI (fun r2 t1 => ((r2 = 0 → jX5_sortOf_47 P s0 l X lev st0 Q x1 x2 x3 t1) ∧ (¬ r2 = 0 → jX5_sortOf_47 P s0 l X lev st0 Q x1 x3 x3 t1))) (fun x t => Q (.threw x) t))))))))) : jX5_sortOf_4 P s0 l X lev st0 Q x1 x2 x3 st := by
  refine j_iload_n dX5_sortOf_4 rfl ?_
  refine j_aload_n (r := some P.mo) dX5_sortOf_5 rfl ?_
  refine jm_get (v := fI st 20) fM_20 rfl rfl dX5_sortOf_6 ?_
  refine j_icmp_ge 53 dX5_sortOf_9 (by decide) (fun c4 => ?_) (fun c4 => ?_)
  · replace h := h.1 c4
    refine j_iload_n dX5_sortOf_53 rfl ?_
    exact j_ireturn (ty := .int) rfl rfl dX5_sortOf_54 h
  · replace h := h.2 c4
    refine j_aload_n (r := some P.mo) dX5_sortOf_12 rfl ?_
    refine j_aload_n (r := some P.mo) dX5_sortOf_13 rfl ?_
    refine jm_geta fM_31 rfl dX5_sortOf_14 ?_
    refine j_iload_n dX5_sortOf_17 rfl ?_
    refine jm_ald (v := aI st 31 x1) rfl h.1 rfl rfl dX5_sortOf_18 ?_
    replace h := h.2
    refine j_aload_n (r := some P.mo) dX5_sortOf_19 rfl ?_
    refine jm_geta fM_32 rfl dX5_sortOf_20 ?_
    refine j_iload_n dX5_sortOf_23 rfl ?_
    refine jm_ald (v := aI st 32 x1) rfl h.1 rfl rfl dX5_sortOf_24 ?_
    replace h := h.2
    refine j_aload_n (r := some P.mo) dX5_sortOf_25 rfl ?_
    refine jm_geta fM_16 rfl dX5_sortOf_26 ?_
    refine j_bipush (v := iI 12) dX5_sortOf_29 rfl ?_
    refine j_iload_n dX5_sortOf_31 rfl ?_
    refine j_imul dX5_sortOf_32 ?_
    refine j_aload_n (r := some P.mo) dX5_sortOf_33 rfl ?_
    refine jm_geta fM_17 rfl dX5_sortOf_34 ?_
    refine j_iload_n dX5_sortOf_37 rfl ?_
    refine jm_ald (v := aI st 17 x3) rfl h.1 rfl rfl dX5_sortOf_38 ?_
    replace h := h.2
    refine jm_calli (As := [.int (aI st 31 x1), .int (aI st 32 x1), va_rf (some (P.ad 16)), .int ((iI 12) * x3), .int (aI st 17 x3)]) (rest := []) kX5_sameName rfl q2375 rfl rfl (Nat.le_of_ble_eq_true rfl) rfl dX5_sortOf_39 (Nat.succ_le_succ (Nat.zero_le _)) (h.mono (onI_mono (fun r2 t1 h => ?_) (fun _ _ h => h)))
    refine j_if_eq 47 dX5_sortOf_42 (by decide) (fun c3 => ?_) (fun c3 => ?_)
    · replace h := h.1 c3
      exact h
    · replace h := h.2 c3
      refine j_iload_n dX5_sortOf_45 rfl ?_
      refine j_istore_n (lv' := [some (va_rf (some P.mo)), some (.int x1), some (.int x3), some (.int x3)]) dX5_sortOf_46 (by decide) rfl ?_
      exact h
theorem tX5_sortOf_47 {P : MPl} {s0 : State} {l : Launch} {X : Prop} {lev : Nat} {st0 : MSt} {Q : Outcome → MSt → Prop} {x1 x2 x3 : Int32} {st : MSt} (h : jX5_sortOf_4 P s0 l X lev st0 Q x1 x2 (x3 + iI 1) st) : jX5_sortOf_47 P s0 l X lev st0 Q x1 x2 x3 st := by
  refine j_iinc (lv' := [some (va_rf (some P.mo)), some (.int x1), some (.int x2), some (.int (x3 + iI 1))]) dX5_sortOf_47 rfl (by decide) rfl ?_
  refine j_goto 4 dX5_sortOf_50 (by decide) ?_
  exact h
abbrev jX5_sameName_16 (P : MPl) (s0 : State) (l : Launch) (X : Prop) (lev : Nat) (st0 : MSt) (Q : Outcome → MSt → Prop) (k3 : Nat) (x1 x2 x4 x5 x6 x7 : Int32) (st : MSt) : Prop := JQ (wM P s0 l X) mX5_sameName (lev + 1) st0 16 [some (va_rf (some P.mo)), some (.int x1), some (.int x2), some (va_rf (some (P.ad k3))), some (.int x4), some (.int x5), some (.int x6), some (.int x7)] [] st Q
theorem tX5_sameName {P : MPl} {s0 : State} {l : Launch} {X : Prop} {lev : Nat} {Q : Outcome → MSt → Prop} {k3 : Nat} {x1 x2 x4 x5 : Int32} {st : MSt} (hk3 : mK k3 = 1) (h : ((x2 = x5 → jX5_sameName_16 P s0 l X lev st Q k3 x1 x2 x4 x5 (iI 1) (iI 0) st) ∧ (¬ x2 = x5 → jX5_sameName_16 P s0 l X lev st Q k3 x1 x2 x4 x5 (iI 0) (iI 0) st))) : CQ (wM P s0 l X) mX5_sameName (lev + 1) [.ref P.mo, .int x1, .int x2, .ref (P.ad k3), .int x4, .int x5] st Q := by
  refine CQ.of2 2 (lv := [some (va_rf (some P.mo)), some (.int x1), some (.int x2), some (va_rf (some (P.ad k3))), some (.int x4), some (.int x5), none, none]) (by decide) (Nat.le_of_ble_eq_true rfl) rfl rfl ?_
  refine j_iload_n dX5_sameName_0 rfl ?_
  refine j_iload dX5_sameName_1 rfl ?_
  refine j_icmp_ne 10 dX5_sameName_3 (by decide) (fun c1 => ?_) (fun c1 => ?_)
  · replace h := h.2 c1
    refine j_iconst (v := iI 0) dX5_sameName_10 rfl ?_
    refine j_istore (lv' := [some (va_rf (some P.mo)), some (.int x1), some (.int x2), some (va_rf (some (P.ad k3))), some (.int x4), some (.int x5), some (.int (iI 0)), none]) dX5_sameName_11 (by decide) rfl ?_
    refine j_iconst (v := iI 0) dX5_sameName_13 rfl ?_
    refine j_istore (lv' := [some (va_rf (some P.mo)), some (.int x1), some (.int x2), some (va_rf (some (P.ad k3))), some (.int x4), some (.int x5), some (.int (iI 0)), some (.int (iI 0))]) dX5_sameName_14 (by decide) rfl ?_
    exact h
  · replace h := h.1 c1
    refine j_iconst (v := iI 1) dX5_sameName_6 rfl ?_
    refine j_goto 11 dX5_sameName_7 (by decide) ?_
    refine j_istore (lv' := [some (va_rf (some P.mo)), some (.int x1), some (.int x2), some (va_rf (some (P.ad k3))), some (.int x4), some (.int x5), some (.int (iI 1)), none]) dX5_sameName_11 (by decide) rfl ?_
    refine j_iconst (v := iI 0) dX5_sameName_13 rfl ?_
    refine j_istore (lv' := [some (va_rf (some P.mo)), some (.int x1), some (.int x2), some (va_rf (some (P.ad k3))), some (.int x4), some (.int x5), some (.int (iI 1)), some (.int (iI 0))]) dX5_sameName_14 (by decide) rfl ?_
    exact h
theorem tX5_sameName_16 {P : MPl} {s0 : State} {l : Launch} {X : Prop} {lev : Nat} {st0 : MSt} {Q : Outcome → MSt → Prop} {k3 : Nat} {x1 x2 x4 x5 x6 x7 : Int32} {st : MSt} (hk3 : mK k3 = 1) (h : ((x6 = 0 → (isZ x6 ∧ Q (.returned (some (.int x6))) st)) ∧ (¬ x6 = 0 → ((x2 ≤ x7 → (isZ x6 ∧ Q (.returned (some (.int x6))) st)) ∧ (¬ x2 ≤ x7 → (inr (x1 + x7) 4000 ∧ (inr (x4 + x7) (mL k3) ∧ (((aI st 4 (x1 + x7)) = (aI st k3 (x4 + x7)) → jX5_sameName_16 P s0 l X lev st0 Q k3 x1 x2 x4 x5 (iI 1) (x7 + iI 1) st) ∧ (¬ (aI st 4 (x1 + x7)) = (aI st k3 (x4 + x7)) → jX5_sameName_16 P s0 l X lev st0 Q k3 x1 x2 x4 x5 (iI 0) (x7 + iI 1) st))))))))) : jX5_sameName_16 P s0 l X lev st0 Q k3 x1 x2 x4 x5 x6 x7 st := by
  refine j_iload dX5_sameName_16 rfl ?_
  refine j_if_eq 59 dX5_sameName_18 (by decide) (fun c3 => ?_) (fun c3 => ?_)
  · replace h := h.1 c3
    refine j_iload dX5_sameName_59 rfl ?_
    have hz := h.1
    replace h := h.2
    exact j_ireturn (ty := .boolean) rfl (nz hz) dX5_sameName_61 h
  · replace h := h.2 c3
    refine j_iload dX5_sameName_21 rfl ?_
    refine j_iload_n dX5_sameName_23 rfl ?_
    refine j_icmp_ge 59 dX5_sameName_24 (by decide) (fun c2 => ?_) (fun c2 => ?_)
    · replace h := h.1 c2
      refine j_iload dX5_sameName_59 rfl ?_
      have hz := h.1
      replace h := h.2
      exact j_ireturn (ty := .boolean) rfl (nz hz) dX5_sameName_61 h
    · replace h := h.2 c2
      refine j_aload_n (r := some P.mo) dX5_sameName_27 rfl ?_
      refine jm_geta fM_4 rfl dX5_sameName_28 ?_
      refine j_iload_n dX5_sameName_31 rfl ?_
      refine j_iload dX5_sameName_32 rfl ?_
      refine j_iadd dX5_sameName_34 ?_
      refine jm_ald (v := aI st 4 (x1 + x7)) rfl h.1 rfl rfl dX5_sameName_35 ?_
      replace h := h.2
      refine j_aload_n (r := some (P.ad k3)) dX5_sameName_36 rfl ?_
      refine j_iload dX5_sameName_37 rfl ?_
      refine j_iload dX5_sameName_39 rfl ?_
      refine j_iadd dX5_sameName_41 ?_
      refine jm_ald (v := aI st k3 (x4 + x7)) hk3 h.1 rfl rfl dX5_sameName_42 ?_
      replace h := h.2
      refine j_icmp_ne 50 dX5_sameName_43 (by decide) (fun c1 => ?_) (fun c1 => ?_)
      · replace h := h.2 c1
        refine j_iconst (v := iI 0) dX5_sameName_50 rfl ?_
        refine j_istore (lv' := [some (va_rf (some P.mo)), some (.int x1), some (.int x2), some (va_rf (some (P.ad k3))), some (.int x4), some (.int x5), some (.int (iI 0)), some (.int x7)]) dX5_sameName_51 (by decide) rfl ?_
        refine j_iinc (lv' := [some (va_rf (some P.mo)), some (.int x1), some (.int x2), some (va_rf (some (P.ad k3))), some (.int x4), some (.int x5), some (.int (iI 0)), some (.int (x7 + iI 1))]) dX5_sameName_53 rfl (by decide) rfl ?_
        refine j_goto 16 dX5_sameName_56 (by decide) ?_
        exact h
      · replace h := h.1 c1
        refine j_iconst (v := iI 1) dX5_sameName_46 rfl ?_
        refine j_goto 51 dX5_sameName_47 (by decide) ?_
        refine j_istore (lv' := [some (va_rf (some P.mo)), some (.int x1), some (.int x2), some (va_rf (some (P.ad k3))), some (.int x4), some (.int x5), some (.int (iI 1)), some (.int x7)]) dX5_sameName_51 (by decide) rfl ?_
        refine j_iinc (lv' := [some (va_rf (some P.mo)), some (.int x1), some (.int x2), some (va_rf (some (P.ad k3))), some (.int x4), some (.int x5), some (.int (iI 1)), some (.int (x7 + iI 1))]) dX5_sameName_53 rfl (by decide) rfl ?_
        refine j_goto 16 dX5_sameName_56 (by decide) ?_
        exact h
abbrev jX5_judgeSort_30 (P : MPl) (s0 : State) (l : Launch) (X : Prop) (lev : Nat) (st0 : MSt) (Q : Outcome → MSt → Prop) (x1 x2 : Int32) (st : MSt) : Prop := JQ (wM P s0 l X) mX5_judgeSort (lev + 1) st0 30 [some (va_rf (some P.mo)), some (.int x1), some (.int x2), none] [] st Q
abbrev jX5_judgeSort_48 (P : MPl) (s0 : State) (l : Launch) (X : Prop) (lev : Nat) (st0 : MSt) (Q : Outcome → MSt → Prop) (x1 x2 x3 : Int32) (st : MSt) : Prop := JQ (wM P s0 l X) mX5_judgeSort (lev + 1) st0 48 [some (va_rf (some P.mo)), some (.int x1), some (.int x2), some (.int x3)] [] st Q
theorem tX5_judgeSort {P : MPl} {s0 : State} {l : Launch} {X : Prop} {lev : Nat} {Q : Outcome → MSt → Prop} {x1 x2 : Int32} {st : MSt} (h : (CQ (wM P s0 l X) mX5_judge lev (.ref P.mo :: [.int x1, .int x2]) st (onV (fun t1 => (((fI t1 72) = 0 → (inr (fI t1 60) 140000 ∧ (((aI t1 30 (fI t1 60)) = (iI 3) → jX5_judgeSort_48 P s0 l X lev st Q x1 x2 (iI 1) t1) ∧ (¬ (aI t1 30 (fI t1 60)) = (iI 3) → jX5_judgeSort_30 P s0 l X lev st Q x1 x2 t1)))) ∧ (¬ (fI t1 72) = 0 → jX5_judgeSort_30 P s0 l X lev st Q x1 x2 t1))) (fun x t => Q (.threw x) t)))) : CQ (wM P s0 l X) mX5_judgeSort (lev + 1) [.ref P.mo, .int x1, .int x2] st Q := by
  refine CQ.of2 1 (lv := [some (va_rf (some P.mo)), some (.int x1), some (.int x2), none]) (by decide) (Nat.le_of_ble_eq_true rfl) rfl rfl ?_
  refine j_aload_n (r := some P.mo) dX5_judgeSort_0 rfl ?_
  refine j_iload_n dX5_judgeSort_1 rfl ?_
  refine j_iload_n dX5_judgeSort_2 rfl ?_
  refine jm_callv (As := [.int x1, .int x2]) (rest := []) kX5_judge rfl q2383 rfl rfl (Nat.le_of_ble_eq_true rfl) rfl dX5_judgeSort_3 (Nat.succ_le_succ (Nat.zero_le _)) (h.mono (onV_mono (fun t1 h => ?_) (fun _ _ h => h)))
  refine j_aload_n (r := some P.mo) dX5_judgeSort_6 rfl ?_
  refine jm_get (v := fI t1 72) fM_72 rfl rfl dX5_judgeSort_7 ?_
  refine j_if_ne 30 dX5_judgeSort_10 (by decide) (fun c4 => ?_) (fun c4 => ?_)
  · replace h := h.2 c4
    exact h
  · replace h := h.1 c4
    refine j_aload_n (r := some P.mo) dX5_judgeSort_13 rfl ?_
    refine jm_geta fM_30 rfl dX5_judgeSort_14 ?_
    refine j_aload_n (r := some P.mo) dX5_judgeSort_17 rfl ?_
    refine jm_get (v := fI t1 60) fM_60 rfl rfl dX5_judgeSort_18 ?_
    refine jm_ald (v := aI t1 30 (fI t1 60)) rfl h.1 rfl rfl dX5_judgeSort_21 ?_
    replace h := h.2
    refine j_iconst (v := iI 3) dX5_judgeSort_22 rfl ?_
    refine j_icmp_ne 30 dX5_judgeSort_23 (by decide) (fun c3 => ?_) (fun c3 => ?_)
    · replace h := h.2 c3
      exact h
    · replace h := h.1 c3
      refine j_iconst (v := iI 1) dX5_judgeSort_26 rfl ?_
      refine j_goto 31 dX5_judgeSort_27 (by decide) ?_
      refine j_istore_n (lv' := [some (va_rf (some P.mo)), some (.int x1), some (.int x2), some (.int (iI 1))]) dX5_judgeSort_31 (by decide) rfl ?_
      refine j_iload_n dX5_judgeSort_32 rfl ?_
      refine j_if_ne 48 dX5_judgeSort_33 (by decide) (fun _ => ?_) (fun q_ => absurd q_ (by decide))
      exact h
theorem tX5_judgeSort_30 {P : MPl} {s0 : State} {l : Launch} {X : Prop} {lev : Nat} {st0 : MSt} {Q : Outcome → MSt → Prop} {x1 x2 : Int32} {st : MSt} (h : (inr x1 140000 ∧ (CQ (wM P s0 l X) mX5_wrong lev (.ref P.mo :: [.int (iI 8), .int (aI st 34 x1)]) st (onV (fun t1 => jX5_judgeSort_48 P s0 l X lev st0 Q x1 x2 (iI 0) t1) (fun x t => Q (.threw x) t))))) : jX5_judgeSort_30 P s0 l X lev st0 Q x1 x2 st := by
  refine j_iconst (v := iI 0) dX5_judgeSort_30 rfl ?_
  refine j_istore_n (lv' := [some (va_rf (some P.mo)), some (.int x1), some (.int x2), some (.int (iI 0))]) dX5_judgeSort_31 (by decide) rfl ?_
  refine j_iload_n dX5_judgeSort_32 rfl ?_
  refine j_if_ne 48 dX5_judgeSort_33 (by decide) (fun q_ => absurd (by decide) q_) (fun _ => ?_)
  refine j_aload_n (r := some P.mo) dX5_judgeSort_36 rfl ?_
  refine j_bipush (v := iI 8) dX5_judgeSort_37 rfl ?_
  refine j_aload_n (r := some P.mo) dX5_judgeSort_39 rfl ?_
  refine jm_geta fM_34 rfl dX5_judgeSort_40 ?_
  refine j_iload_n dX5_judgeSort_43 rfl ?_
  refine jm_ald (v := aI st 34 x1) rfl h.1 rfl rfl dX5_judgeSort_44 ?_
  replace h := h.2
  refine jm_callv (As := [.int (iI 8), .int (aI st 34 x1)]) (rest := []) kX5_wrong rfl q2295 rfl rfl (Nat.le_of_ble_eq_true rfl) rfl dX5_judgeSort_45 (Nat.succ_le_succ (Nat.zero_le _)) (h.mono (onV_mono (fun t1 h => ?_) (fun _ _ h => h)))
  exact h
theorem tX5_judgeSort_48 {P : MPl} {s0 : State} {l : Launch} {X : Prop} {lev : Nat} {st0 : MSt} {Q : Outcome → MSt → Prop} {x1 x2 x3 : Int32} {st : MSt} (h : ((x3 = 0 → Q (.returned (some (.int (iI 0)))) st) ∧ (¬ x3 = 0 → (inr (fI st 60) 140000 ∧ Q (.returned (some (.int (aI st 31 (fI st 60))))) st)))) : jX5_judgeSort_48 P s0 l X lev st0 Q x1 x2 x3 st := by
  refine j_iload_n dX5_judgeSort_48 rfl ?_
  refine j_if_eq 64 dX5_judgeSort_49 (by decide) (fun c1 => ?_) (fun c1 => ?_)
  · replace h := h.1 c1
    refine j_iconst (v := iI 0) dX5_judgeSort_64 rfl ?_
    exact j_ireturn (ty := .int) rfl rfl dX5_judgeSort_65 h
  · replace h := h.2 c1
    refine j_aload_n (r := some P.mo) dX5_judgeSort_52 rfl ?_
    refine jm_geta fM_31 rfl dX5_judgeSort_53 ?_
    refine j_aload_n (r := some P.mo) dX5_judgeSort_56 rfl ?_
    refine jm_get (v := fI st 60) fM_60 rfl rfl dX5_judgeSort_57 ?_
    refine jm_ald (v := aI st 31 (fI st 60)) rfl h.1 rfl rfl dX5_judgeSort_60 ?_
    replace h := h.2
    refine j_goto 65 dX5_judgeSort_61 (by decide) ?_
    exact j_ireturn (ty := .int) rfl rfl dX5_judgeSort_65 h
theorem tX5_judge {P : MPl} {s0 : State} {l : Launch} {X : Prop} {lev : Nat} {Q : Outcome → MSt → Prop} {x1 x2 : Int32} {st : MSt} (h : (((fI st 72) = 0 → (inr x1 140000 ∧ ((aI st 30 x1 = iI 4 → (CQ (wM P s0 l X) mX5_judgeLambda lev (.ref P.mo :: [.int x1, .int x2]) st (onV (fun t1 => Q (.returned none) t1) (fun x t => Q (.threw x) t)))) ∧ (aI st 30 x1 = iI 5 → (CQ (wM P s0 l X) mX5_judgeProduct lev (.ref P.mo :: [.int x1, .int x2]) st (onV (fun t3 => Q (.returned none) t3) (fun x t => Q (.threw x) t)))) ∧ (aI st 30 x1 = iI 6 → (inr x1 140000 ∧ (CQ (wM P s0 l X) mX5_judge lev (.ref P.mo :: [.int (aI st 32 x1), .int x2]) st (onV (fun t5 => (((fI t5 72) = 0 → (CQ (wM P s0 l X) mX5_bind lev (.ref P.mo :: [.int x1, .int (fI t5 60), .int (fI t5 61)]) t5 (onV (fun t7 => (inr x1 140000 ∧ (inr x1 140000 ∧ (CQ (wM P s0 l X) mX5_cell lev (.ref P.mo :: [.int x2, .int x1, .int (aI t7 32 x1), .int x2]) t7 (onI (fun r10 t9 => (CQ (wM P s0 l X) mX5_judge lev (.ref P.mo :: [.int (aI t7 33 x1), .int r10]) t9 (onV (fun t11 => Q (.returned none) (mput 43 ((fI t11 43) - (iI 1)) t11)) (fun x t => Q (.threw x) t)))) (fun x t => Q (.threw x) t)))))) (fun x t => Q (.threw x) t)))) ∧ (¬ (fI t5 72) = 0 → Q (.returned none) t5))) (fun x t => Q (.threw x) t))))) ∧ (aI st 30 x1 = iI 7 → (CQ (wM P s0 l X) mX5_judgeUse lev (.ref P.mo :: [.int x1, .int x2]) st (onV (fun t14 => Q (.returned none) t14) (fun x t => Q (.threw x) t)))) ∧ (tout (aI st 30 x1) 4 7 → (CQ (wM P s0 l X) mX5_judgeName lev (.ref P.mo :: [.int x1]) st (onV (fun t16 => Q (.returned none) t16) (fun x t => Q (.threw x) t))))))) ∧ (¬ (fI st 72) = 0 → Q (.returned none) st))) : CQ (wM P s0 l X) mX5_judge (lev + 1) [.ref P.mo, .int x1, .int x2] st Q := by
  refine CQ.of2 0 (lv := [some (va_rf (some P.mo)), some (.int x1), some (.int x2)]) (by decide) (Nat.le_of_ble_eq_true rfl) rfl rfl ?_
  refine j_aload_n (r := some P.mo) dX5_judge_0 rfl ?_
  refine jm_get (v := fI st 72) fM_72 rfl rfl dX5_judge_1 ?_
  refine j_if_eq 8 dX5_judge_4 (by decide) (fun c19 => ?_) (fun c19 => ?_)
  · replace h := h.1 c19
    refine j_aload_n (r := some P.mo) dX5_judge_8 rfl ?_
    refine jm_geta fM_30 rfl dX5_judge_9 ?_
    refine j_iload_n dX5_judge_12 rfl ?_
    refine jm_ald (v := aI st 30 x1) rfl h.1 rfl rfl dX5_judge_13 ?_
    replace h := h.2
    rcases tb_case 4 4 (aI st 30 x1) with ⟨c18, hc18, ec18⟩ | ec18
    · match c18, hc18, ec18 with
      | 0, _, ec18 =>
        have ec18 : aI st 30 x1 = iI 4 := ec18
        replace h := h.1 ec18
        refine j_tableIn 44 dX5_judge_14 (by rw [ec18]; decide) (by rw [ec18]; decide) (by rw [ec18]; rfl) (by decide) ?_
        refine j_aload_n (r := some P.mo) dX5_judge_44 rfl ?_
        refine j_iload_n dX5_judge_45 rfl ?_
        refine j_iload_n dX5_judge_46 rfl ?_
        refine jm_callv (As := [.int x1, .int x2]) (rest := []) kX5_judgeLambda rfl q2387 rfl rfl (Nat.le_of_ble_eq_true rfl) rfl dX5_judge_47 (Nat.succ_le_succ (Nat.zero_le _)) (h.mono (onV_mono (fun t1 h => ?_) (fun _ _ h => h)))
        refine j_goto 144 dX5_judge_50 (by decide) ?_
        exact j_return rfl dX5_judge_144 h
      | 1, _, ec18 =>
        have ec18 : aI st 30 x1 = iI 5 := ec18
        replace h := h.2.1 ec18
        refine j_tableIn 53 dX5_judge_14 (by rw [ec18]; decide) (by rw [ec18]; decide) (by rw [ec18]; rfl) (by decide) ?_
        refine j_aload_n (r := some P.mo) dX5_judge_53 rfl ?_
        refine j_iload_n dX5_judge_54 rfl ?_
        refine j_iload_n dX5_judge_55 rfl ?_
        refine jm_callv (As := [.int x1, .int x2]) (rest := []) kX5_judgeProduct rfl q2432 rfl rfl (Nat.le_of_ble_eq_true rfl) rfl dX5_judge_56 (Nat.succ_le_succ (Nat.zero_le _)) (h.mono (onV_mono (fun t3 h => ?_) (fun _ _ h => h)))
        refine j_goto 144 dX5_judge_59 (by decide) ?_
        exact j_return rfl dX5_judge_144 h
      | 2, _, ec18 =>
        have ec18 : aI st 30 x1 = iI 6 := ec18
        replace h := h.2.2.1 ec18
        refine j_tableIn 62 dX5_judge_14 (by rw [ec18]; decide) (by rw [ec18]; decide) (by rw [ec18]; rfl) (by decide) ?_
        refine j_aload_n (r := some P.mo) dX5_judge_62 rfl ?_
        refine j_aload_n (r := some P.mo) dX5_judge_63 rfl ?_
        refine jm_geta fM_32 rfl dX5_judge_64 ?_
        refine j_iload_n dX5_judge_67 rfl ?_
        refine jm_ald (v := aI st 32 x1) rfl h.1 rfl rfl dX5_judge_68 ?_
        replace h := h.2
        refine j_iload_n dX5_judge_69 rfl ?_
        refine jm_callv (As := [.int (aI st 32 x1), .int x2]) (rest := []) kX5_judge rfl q2383 rfl rfl (Nat.le_of_ble_eq_true rfl) rfl dX5_judge_70 (Nat.succ_le_succ (Nat.zero_le _)) (h.mono (onV_mono (fun t5 h => ?_) (fun _ _ h => h)))
        refine j_aload_n (r := some P.mo) dX5_judge_73 rfl ?_
        refine jm_get (v := fI t5 72) fM_72 rfl rfl dX5_judge_74 ?_
        refine j_if_eq 81 dX5_judge_77 (by decide) (fun c13 => ?_) (fun c13 => ?_)
        · replace h := h.1 c13
          refine j_aload_n (r := some P.mo) dX5_judge_81 rfl ?_
          refine j_iload_n dX5_judge_82 rfl ?_
          refine j_aload_n (r := some P.mo) dX5_judge_83 rfl ?_
          refine jm_get (v := fI t5 60) fM_60 rfl rfl dX5_judge_84 ?_
          refine j_aload_n (r := some P.mo) dX5_judge_87 rfl ?_
          refine jm_get (v := fI t5 61) fM_61 rfl rfl dX5_judge_88 ?_
          refine jm_callv (As := [.int x1, .int (fI t5 60), .int (fI t5 61)]) (rest := []) kX5_bind rfl q2424 rfl rfl (Nat.le_of_ble_eq_true rfl) rfl dX5_judge_91 (Nat.succ_le_succ (Nat.zero_le _)) (h.mono (onV_mono (fun t7 h => ?_) (fun _ _ h => h)))
          refine j_aload_n (r := some P.mo) dX5_judge_94 rfl ?_
          refine j_aload_n (r := some P.mo) dX5_judge_95 rfl ?_
          refine jm_geta fM_33 rfl dX5_judge_96 ?_
          refine j_iload_n dX5_judge_99 rfl ?_
          refine jm_ald (v := aI t7 33 x1) rfl h.1 rfl rfl dX5_judge_100 ?_
          replace h := h.2
          refine j_aload_n (r := some P.mo) dX5_judge_101 rfl ?_
          refine j_iload_n dX5_judge_102 rfl ?_
          refine j_iload_n dX5_judge_103 rfl ?_
          refine j_aload_n (r := some P.mo) dX5_judge_104 rfl ?_
          refine jm_geta fM_32 rfl dX5_judge_105 ?_
          refine j_iload_n dX5_judge_108 rfl ?_
          refine jm_ald (v := aI t7 32 x1) rfl h.1 rfl rfl dX5_judge_109 ?_
          replace h := h.2
          refine j_iload_n dX5_judge_110 rfl ?_
          refine jm_calli (As := [.int x2, .int x1, .int (aI t7 32 x1), .int x2]) (rest := [.int (aI t7 33 x1), va_rf (some P.mo)]) kX5_cell rfl q2412 rfl rfl (Nat.le_of_ble_eq_true rfl) rfl dX5_judge_111 (Nat.succ_le_succ (Nat.zero_le _)) (h.mono (onI_mono (fun r10 t9 h => ?_) (fun _ _ h => h)))
          refine jm_callv (As := [.int (aI t7 33 x1), .int r10]) (rest := []) kX5_judge rfl q2383 rfl rfl (Nat.le_of_ble_eq_true rfl) rfl dX5_judge_114 (Nat.succ_le_succ (Nat.zero_le _)) (h.mono (onV_mono (fun t11 h => ?_) (fun _ _ h => h)))
          refine j_aload_n (r := some P.mo) dX5_judge_117 rfl ?_
          refine j_dup dX5_judge_118 rfl ?_
          refine jm_get (v := fI t11 43) fM_43 rfl rfl dX5_judge_119 ?_
          refine j_iconst (v := iI 1) dX5_judge_122 rfl ?_
          refine j_isub dX5_judge_123 ?_
          refine jm_put fM_43 rfl dX5_judge_124 ?_
          refine j_goto 144 dX5_judge_127 (by decide) ?_
          exact j_return rfl dX5_judge_144 h
        · replace h := h.2 c13
          exact j_return rfl dX5_judge_80 h
      | 3, _, ec18 =>
        have ec18 : aI st 30 x1 = iI 7 := ec18
        replace h := h.2.2.2.1 ec18
        refine j_tableIn 130 dX5_judge_14 (by rw [ec18]; decide) (by rw [ec18]; decide) (by rw [ec18]; rfl) (by decide) ?_
        refine j_aload_n (r := some P.mo) dX5_judge_130 rfl ?_
        refine j_iload_n dX5_judge_131 rfl ?_
        refine j_iload_n dX5_judge_132 rfl ?_
        refine jm_callv (As := [.int x1, .int x2]) (rest := []) kX5_judgeUse rfl q2436 rfl rfl (Nat.le_of_ble_eq_true rfl) rfl dX5_judge_133 (Nat.succ_le_succ (Nat.zero_le _)) (h.mono (onV_mono (fun t14 h => ?_) (fun _ _ h => h)))
        refine j_goto 144 dX5_judge_136 (by decide) ?_
        exact j_return rfl dX5_judge_144 h
      | q_ + 4, hq_, _ => exact absurd hq_ (by omega)
    · replace h := h.2.2.2.2 ec18
      refine j_tableOut 139 dX5_judge_14 ec18 (by decide) ?_
      refine j_aload_n (r := some P.mo) dX5_judge_139 rfl ?_
      refine j_iload_n dX5_judge_140 rfl ?_
      refine jm_callv (As := [.int x1]) (rest := []) kX5_judgeName rfl q2453 rfl rfl (Nat.le_of_ble_eq_true rfl) rfl dX5_judge_141 (Nat.succ_le_succ (Nat.zero_le _)) (h.mono (onV_mono (fun t16 h => ?_) (fun _ _ h => h)))
      exact j_return rfl dX5_judge_144 h
  · replace h := h.2 c19
    exact j_return rfl dX5_judge_7 h
theorem tX5_judgeLambda {P : MPl} {s0 : State} {l : Launch} {X : Prop} {lev : Nat} {Q : Outcome → MSt → Prop} {x1 x2 : Int32} {st : MSt} (h : (inr x1 140000 ∧ (CQ (wM P s0 l X) mX5_judgeSort lev (.ref P.mo :: [.int (aI st 32 x1), .int x2]) st (onI (fun r2 t1 => (((fI t1 72) = 0 → (inr x1 140000 ∧ (CQ (wM P s0 l X) mX5_normal lev (.ref P.mo :: [.int (aI t1 32 x1), .int x2, .int (iI 0)]) t1 (onI (fun r26 t25 => (((fI t25 72) = 0 → (CQ (wM P s0 l X) mX5_bind lev (.ref P.mo :: [.int x1, .int r26, .int r2]) t25 (onV (fun t27 => (inr x1 140000 ∧ (CQ (wM P s0 l X) mX5_judge lev (.ref P.mo :: [.int (aI t27 33 x1), .int x2]) t27 (onV (fun t29 => (((fI t29 72) = 0 → ((0 ≤ (fI t29 61) → (inr (((iI 8) * r2) + (fI t29 61)) 64 ∧ ((0 ≤ (aI t29 19 (((iI 8) * r2) + (fI t29 61))) → (CQ (wM P s0 l X) mX5_node lev (.ref P.mo :: [.int (iI 5), .int (iI (-1)), .int r26, .int (fI t29 60), .int (iI 0)]) (mput 43 ((fI t29 43) - (iI 1)) t29) (onI (fun r32 t31 => (inr r32 140000 ∧ (inr r32 140000 ∧ (inr r32 140000 ∧ (CQ (wM P s0 l X) mX5_becomes lev (.ref P.mo :: [.int r32, .int (aI t29 19 (((iI 8) * r2) + (fI t29 61)))]) (mst 37 r32 (fI t29 61) (mst 36 r32 r2 (mst 38 r32 x1 t31))) (onV (fun t33 => Q (.returned none) t33) (fun x t => Q (.threw x) t))))))) (fun x t => Q (.threw x) t)))) ∧ (¬ 0 ≤ (aI t29 19 (((iI 8) * r2) + (fI t29 61))) → ((0 ≤ (fI t29 61) → (inr x1 140000 ∧ (CQ (wM P s0 l X) mX5_wrong lev (.ref P.mo :: [.int (iI 9), .int (aI t29 35 x1)]) (mput 43 ((fI t29 43) - (iI 1)) t29) (onV (fun t35 => Q (.returned none) t35) (fun x t => Q (.threw x) t))))) ∧ (¬ 0 ≤ (fI t29 61) → (inr x1 140000 ∧ (CQ (wM P s0 l X) mX5_wrong lev (.ref P.mo :: [.int (iI 7), .int (aI t29 35 x1)]) (mput 43 ((fI t29 43) - (iI 1)) t29) (onV (fun t37 => Q (.returned none) t37) (fun x t => Q (.threw x) t)))))))))) ∧ (¬ 0 ≤ (fI t29 61) → ((0 ≤ (fI t29 61) → (inr x1 140000 ∧ (CQ (wM P s0 l X) mX5_wrong lev (.ref P.mo :: [.int (iI 9), .int (aI t29 35 x1)]) (mput 43 ((fI t29 43) - (iI 1)) t29) (onV (fun t41 => Q (.returned none) t41) (fun x t => Q (.threw x) t))))) ∧ (¬ 0 ≤ (fI t29 61) → (inr x1 140000 ∧ (CQ (wM P s0 l X) mX5_wrong lev (.ref P.mo :: [.int (iI 7), .int (aI t29 35 x1)]) (mput 43 ((fI t29 43) - (iI 1)) t29) (onV (fun t43 => Q (.returned none) t43) (fun x t => Q (.threw x) t))))))))) ∧ (¬ (fI t29 72) = 0 → Q (.returned none) (mput 43 ((fI t29 43) - (iI 1)) t29)))) (fun x t => Q (.threw x) t))))) (fun x t => Q (.threw x) t)))) ∧ (¬ (fI t25 72) = 0 → Q (.returned none) t25))) (fun x t => Q (.threw x) t))))) ∧ (¬ (fI t1 72) = 0 → (((fI t1 72) = 0 → (CQ (wM P s0 l X) mX5_bind lev (.ref P.mo :: [.int x1, .int (iI 0), .int r2]) t1 (onV (fun t3 => (inr x1 140000 ∧ (CQ (wM P s0 l X) mX5_judge lev (.ref P.mo :: [.int (aI t3 33 x1), .int x2]) t3 (onV (fun t5 => (((fI t5 72) = 0 → ((0 ≤ (fI t5 61) → (inr (((iI 8) * r2) + (fI t5 61)) 64 ∧ ((0 ≤ (aI t5 19 (((iI 8) * r2) + (fI t5 61))) → (CQ (wM P s0 l X) mX5_node lev (.ref P.mo :: [.int (iI 5), .int (iI (-1)), .int (iI 0), .int (fI t5 60), .int (iI 0)]) (mput 43 ((fI t5 43) - (iI 1)) t5) (onI (fun r8 t7 => (inr r8 140000 ∧ (inr r8 140000 ∧ (inr r8 140000 ∧ (CQ (wM P s0 l X) mX5_becomes lev (.ref P.mo :: [.int r8, .int (aI t5 19 (((iI 8) * r2) + (fI t5 61)))]) (mst 37 r8 (fI t5 61) (mst 36 r8 r2 (mst 38 r8 x1 t7))) (onV (fun t9 => Q (.returned none) t9) (fun x t => Q (.threw x) t))))))) (fun x t => Q (.threw x) t)))) ∧ (¬ 0 ≤ (aI t5 19 (((iI 8) * r2) + (fI t5 61))) → ((0 ≤ (fI t5 61) → (inr x1 140000 ∧ (CQ (wM P s0 l X) mX5_wrong lev (.ref P.mo :: [.int (iI 9), .int (aI t5 35 x1)]) (mput 43 ((fI t5 43) - (iI 1)) t5) (onV (fun t11 => Q (.returned none) t11) (fun x t => Q (.threw x) t))))) ∧ (¬ 0 ≤ (fI t5 61) → (inr x1 140000 ∧ (CQ (wM P s0 l X) mX5_wrong lev (.ref P.mo :: [.int (iI 7), .int (aI t5 35 x1)]) (mput 43 ((fI t5 43) - (iI 1)) t5) (onV (fun t13 => Q (.returned none) t13) (fun x t => Q (.threw x) t)))))))))) ∧ (¬ 0 ≤ (fI t5 61) → ((0 ≤ (fI t5 61) → (inr x1 140000 ∧ (CQ (wM P s0 l X) mX5_wrong lev (.ref P.mo :: [.int (iI 9), .int (aI t5 35 x1)]) (mput 43 ((fI t5 43) - (iI 1)) t5) (onV (fun t17 => Q (.returned none) t17) (fun x t => Q (.threw x) t))))) ∧ (¬ 0 ≤ (fI t5 61) → (inr x1 140000 ∧ (CQ (wM P s0 l X) mX5_wrong lev (.ref P.mo :: [.int (iI 7), .int (aI t5 35 x1)]) (mput 43 ((fI t5 43) - (iI 1)) t5) (onV (fun t19 => Q (.returned none) t19) (fun x t => Q (.threw x) t))))))))) ∧ (¬ (fI t5 72) = 0 → Q (.returned none) (mput 43 ((fI t5 43) - (iI 1)) t5)))) (fun x t => Q (.threw x) t))))) (fun x t => Q (.threw x) t)))) ∧ (¬ (fI t1 72) = 0 → Q (.returned none) t1))))) (fun x t => Q (.threw x) t))))) : CQ (wM P s0 l X) mX5_judgeLambda (lev + 1) [.ref P.mo, .int x1, .int x2] st Q := by
  refine CQ.of2 5 (lv := [some (va_rf (some P.mo)), some (.int x1), some (.int x2), none, none, none, none, none]) (by decide) (Nat.le_of_ble_eq_true rfl) rfl rfl ?_
  refine j_aload_n (r := some P.mo) dX5_judgeLambda_0 rfl ?_
  refine j_aload_n (r := some P.mo) dX5_judgeLambda_1 rfl ?_
  refine jm_geta fM_32 rfl dX5_judgeLambda_2 ?_
  refine j_iload_n dX5_judgeLambda_5 rfl ?_
  refine jm_ald (v := aI st 32 x1) rfl h.1 rfl rfl dX5_judgeLambda_6 ?_
  replace h := h.2
  refine j_iload_n dX5_judgeLambda_7 rfl ?_
  refine jm_calli (As := [.int (aI st 32 x1), .int x2]) (rest := []) kX5_judgeSort rfl q2379 rfl rfl (Nat.le_of_ble_eq_true rfl) rfl dX5_judgeLambda_8 (Nat.succ_le_succ (Nat.zero_le _)) (h.mono (onI_mono (fun r2 t1 h => ?_) (fun _ _ h => h)))
  refine j_istore_n (lv' := [some (va_rf (some P.mo)), some (.int x1), some (.int x2), some (.int r2), none, none, none, none]) dX5_judgeLambda_11 (by decide) rfl ?_
  refine j_aload_n (r := some P.mo) dX5_judgeLambda_12 rfl ?_
  refine jm_get (v := fI t1 72) fM_72 rfl rfl dX5_judgeLambda_13 ?_
  refine j_if_ne 34 dX5_judgeLambda_16 (by decide) (fun c49 => ?_) (fun c49 => ?_)
  · replace h := h.2 c49
    refine j_iconst (v := iI 0) dX5_judgeLambda_34 rfl ?_
    refine j_istore (lv' := [some (va_rf (some P.mo)), some (.int x1), some (.int x2), some (.int r2), some (.int (iI 0)), none, none, none]) dX5_judgeLambda_35 (by decide) rfl ?_
    refine j_aload_n (r := some P.mo) dX5_judgeLambda_37 rfl ?_
    refine jm_get (v := fI t1 72) fM_72 rfl rfl dX5_judgeLambda_38 ?_
    refine j_if_eq 45 dX5_judgeLambda_41 (by decide) (fun c24 => ?_) (fun c24 => ?_)
    · replace h := h.1 c24
      refine j_aload_n (r := some P.mo) dX5_judgeLambda_45 rfl ?_
      refine j_iload_n dX5_judgeLambda_46 rfl ?_
      refine j_iload dX5_judgeLambda_47 rfl ?_
      refine j_iload_n dX5_judgeLambda_49 rfl ?_
      refine jm_callv (As := [.int x1, .int (iI 0), .int r2]) (rest := []) kX5_bind rfl q2424 rfl rfl (Nat.le_of_ble_eq_true rfl) rfl dX5_judgeLambda_50 (Nat.succ_le_succ (Nat.zero_le _)) (h.mono (onV_mono (fun t3 h => ?_) (fun _ _ h => h)))
      refine j_aload_n (r := some P.mo) dX5_judgeLambda_53 rfl ?_
      refine j_aload_n (r := some P.mo) dX5_judgeLambda_54 rfl ?_
      refine jm_geta fM_33 rfl dX5_judgeLambda_55 ?_
      refine j_iload_n dX5_judgeLambda_58 rfl ?_
      refine jm_ald (v := aI t3 33 x1) rfl h.1 rfl rfl dX5_judgeLambda_59 ?_
      replace h := h.2
      refine j_iload_n dX5_judgeLambda_60 rfl ?_
      refine jm_callv (As := [.int (aI t3 33 x1), .int x2]) (rest := []) kX5_judge rfl q2383 rfl rfl (Nat.le_of_ble_eq_true rfl) rfl dX5_judgeLambda_61 (Nat.succ_le_succ (Nat.zero_le _)) (h.mono (onV_mono (fun t5 h => ?_) (fun _ _ h => h)))
      refine j_aload_n (r := some P.mo) dX5_judgeLambda_64 rfl ?_
      refine j_dup dX5_judgeLambda_65 rfl ?_
      refine jm_get (v := fI t5 43) fM_43 rfl rfl dX5_judgeLambda_66 ?_
      refine j_iconst (v := iI 1) dX5_judgeLambda_69 rfl ?_
      refine j_isub dX5_judgeLambda_70 ?_
      refine jm_put fM_43 rfl dX5_judgeLambda_71 ?_
      refine j_aload_n (r := some P.mo) dX5_judgeLambda_74 rfl ?_
      refine jm_get (v := fI t5 72) fM_72 rfl rfl dX5_judgeLambda_75 ?_
      refine j_if_eq 82 dX5_judgeLambda_78 (by decide) (fun c23 => ?_) (fun c23 => ?_)
      · replace h := h.1 c23
        refine j_aload_n (r := some P.mo) dX5_judgeLambda_82 rfl ?_
        refine jm_get (v := fI t5 61) fM_61 rfl rfl dX5_judgeLambda_83 ?_
        refine j_istore (lv' := [some (va_rf (some P.mo)), some (.int x1), some (.int x2), some (.int r2), some (.int (iI 0)), some (.int (fI t5 61)), none, none]) dX5_judgeLambda_86 (by decide) rfl ?_
        refine j_iload dX5_judgeLambda_88 rfl ?_
        refine j_if_ge 97 dX5_judgeLambda_90 (by decide) (fun c22 => ?_) (fun c22 => ?_)
        · replace h := h.1 c22
          refine j_aload_n (r := some P.mo) dX5_judgeLambda_97 rfl ?_
          refine jm_geta fM_19 rfl dX5_judgeLambda_98 ?_
          refine j_bipush (v := iI 8) dX5_judgeLambda_101 rfl ?_
          refine j_iload_n dX5_judgeLambda_103 rfl ?_
          refine j_imul dX5_judgeLambda_104 ?_
          refine j_iload dX5_judgeLambda_105 rfl ?_
          refine j_iadd dX5_judgeLambda_107 ?_
          refine jm_ald (v := aI t5 19 (((iI 8) * r2) + (fI t5 61))) rfl h.1 rfl rfl dX5_judgeLambda_108 ?_
          replace h := h.2
          refine j_istore (lv' := [some (va_rf (some P.mo)), some (.int x1), some (.int x2), some (.int r2), some (.int (iI 0)), some (.int (fI t5 61)), some (.int (aI t5 19 (((iI 8) * r2) + (fI t5 61)))), none]) dX5_judgeLambda_109 (by decide) rfl ?_
          refine j_iload dX5_judgeLambda_111 rfl ?_
          refine j_if_ge 139 dX5_judgeLambda_113 (by decide) (fun c16 => ?_) (fun c16 => ?_)
          · replace h := h.1 c16
            refine j_aload_n (r := some P.mo) dX5_judgeLambda_139 rfl ?_
            refine j_iconst (v := iI 5) dX5_judgeLambda_140 rfl ?_
            refine j_iconst (v := iI (-1)) dX5_judgeLambda_141 rfl ?_
            refine j_iload dX5_judgeLambda_142 rfl ?_
            refine j_aload_n (r := some P.mo) dX5_judgeLambda_144 rfl ?_
            refine jm_get (v := fI t5 60) fM_60 rfl rfl dX5_judgeLambda_145 ?_
            refine j_iconst (v := iI 0) dX5_judgeLambda_148 rfl ?_
            refine jm_calli (As := [.int (iI 5), .int (iI (-1)), .int (iI 0), .int (fI t5 60), .int (iI 0)]) (rest := []) kX5_node rfl q2315 rfl rfl (Nat.le_of_ble_eq_true rfl) rfl dX5_judgeLambda_149 (Nat.succ_le_succ (Nat.zero_le _)) (h.mono (onI_mono (fun r8 t7 h => ?_) (fun _ _ h => h)))
            refine j_istore (lv' := [some (va_rf (some P.mo)), some (.int x1), some (.int x2), some (.int r2), some (.int (iI 0)), some (.int (fI t5 61)), some (.int (aI t5 19 (((iI 8) * r2) + (fI t5 61)))), some (.int r8)]) dX5_judgeLambda_152 (by decide) rfl ?_
            refine j_aload_n (r := some P.mo) dX5_judgeLambda_154 rfl ?_
            refine jm_geta fM_38 rfl dX5_judgeLambda_155 ?_
            refine j_iload dX5_judgeLambda_158 rfl ?_
            refine j_iload_n dX5_judgeLambda_160 rfl ?_
            refine jm_ast rfl h.1 rfl dX5_judgeLambda_161 ?_
            replace h := h.2
            refine j_aload_n (r := some P.mo) dX5_judgeLambda_162 rfl ?_
            refine jm_geta fM_36 rfl dX5_judgeLambda_163 ?_
            refine j_iload dX5_judgeLambda_166 rfl ?_
            refine j_iload_n dX5_judgeLambda_168 rfl ?_
            refine jm_ast rfl h.1 rfl dX5_judgeLambda_169 ?_
            replace h := h.2
            refine j_aload_n (r := some P.mo) dX5_judgeLambda_170 rfl ?_
            refine jm_geta fM_37 rfl dX5_judgeLambda_171 ?_
            refine j_iload dX5_judgeLambda_174 rfl ?_
            refine j_iload dX5_judgeLambda_176 rfl ?_
            refine jm_ast rfl h.1 rfl dX5_judgeLambda_178 ?_
            replace h := h.2
            refine j_aload_n (r := some P.mo) dX5_judgeLambda_179 rfl ?_
            refine j_iload dX5_judgeLambda_180 rfl ?_
            refine j_iload dX5_judgeLambda_182 rfl ?_
            refine jm_callv (As := [.int r8, .int (aI t5 19 (((iI 8) * r2) + (fI t5 61)))]) (rest := []) kX5_becomes rfl q2428 rfl rfl (Nat.le_of_ble_eq_true rfl) rfl dX5_judgeLambda_184 (Nat.succ_le_succ (Nat.zero_le _)) (h.mono (onV_mono (fun t9 h => ?_) (fun _ _ h => h)))
            exact j_return rfl dX5_judgeLambda_187 h
          · replace h := h.2 c16
            refine j_aload_n (r := some P.mo) dX5_judgeLambda_116 rfl ?_
            refine j_iload dX5_judgeLambda_117 rfl ?_
            refine j_if_ge 127 dX5_judgeLambda_119 (by decide) (fun c15 => ?_) (fun c15 => ?_)
            · replace h := h.1 c15
              refine j_bipush (v := iI 9) dX5_judgeLambda_127 rfl ?_
              refine j_aload_n (r := some P.mo) dX5_judgeLambda_129 rfl ?_
              refine jm_geta fM_35 rfl dX5_judgeLambda_130 ?_
              refine j_iload_n dX5_judgeLambda_133 rfl ?_
              refine jm_ald (v := aI t5 35 x1) rfl h.1 rfl rfl dX5_judgeLambda_134 ?_
              replace h := h.2
              refine jm_callv (As := [.int (iI 9), .int (aI t5 35 x1)]) (rest := []) kX5_wrong rfl q2295 rfl rfl (Nat.le_of_ble_eq_true rfl) rfl dX5_judgeLambda_135 (Nat.succ_le_succ (Nat.zero_le _)) (h.mono (onV_mono (fun t11 h => ?_) (fun _ _ h => h)))
              exact j_return rfl dX5_judgeLambda_138 h
            · replace h := h.2 c15
              refine j_bipush (v := iI 7) dX5_judgeLambda_122 rfl ?_
              refine j_goto 129 dX5_judgeLambda_124 (by decide) ?_
              refine j_aload_n (r := some P.mo) dX5_judgeLambda_129 rfl ?_
              refine jm_geta fM_35 rfl dX5_judgeLambda_130 ?_
              refine j_iload_n dX5_judgeLambda_133 rfl ?_
              refine jm_ald (v := aI t5 35 x1) rfl h.1 rfl rfl dX5_judgeLambda_134 ?_
              replace h := h.2
              refine jm_callv (As := [.int (iI 7), .int (aI t5 35 x1)]) (rest := []) kX5_wrong rfl q2295 rfl rfl (Nat.le_of_ble_eq_true rfl) rfl dX5_judgeLambda_135 (Nat.succ_le_succ (Nat.zero_le _)) (h.mono (onV_mono (fun t13 h => ?_) (fun _ _ h => h)))
              exact j_return rfl dX5_judgeLambda_138 h
        · replace h := h.2 c22
          refine j_iconst (v := iI (-1)) dX5_judgeLambda_93 rfl ?_
          refine j_goto 109 dX5_judgeLambda_94 (by decide) ?_
          refine j_istore (lv' := [some (va_rf (some P.mo)), some (.int x1), some (.int x2), some (.int r2), some (.int (iI 0)), some (.int (fI t5 61)), some (.int (iI (-1))), none]) dX5_judgeLambda_109 (by decide) rfl ?_
          refine j_iload dX5_judgeLambda_111 rfl ?_
          refine j_if_ge 139 dX5_judgeLambda_113 (by decide) (fun q_ => absurd q_ (by decide)) (fun _ => ?_)
          refine j_aload_n (r := some P.mo) dX5_judgeLambda_116 rfl ?_
          refine j_iload dX5_judgeLambda_117 rfl ?_
          refine j_if_ge 127 dX5_judgeLambda_119 (by decide) (fun c21 => ?_) (fun c21 => ?_)
          · replace h := h.1 c21
            refine j_bipush (v := iI 9) dX5_judgeLambda_127 rfl ?_
            refine j_aload_n (r := some P.mo) dX5_judgeLambda_129 rfl ?_
            refine jm_geta fM_35 rfl dX5_judgeLambda_130 ?_
            refine j_iload_n dX5_judgeLambda_133 rfl ?_
            refine jm_ald (v := aI t5 35 x1) rfl h.1 rfl rfl dX5_judgeLambda_134 ?_
            replace h := h.2
            refine jm_callv (As := [.int (iI 9), .int (aI t5 35 x1)]) (rest := []) kX5_wrong rfl q2295 rfl rfl (Nat.le_of_ble_eq_true rfl) rfl dX5_judgeLambda_135 (Nat.succ_le_succ (Nat.zero_le _)) (h.mono (onV_mono (fun t17 h => ?_) (fun _ _ h => h)))
            exact j_return rfl dX5_judgeLambda_138 h
          · replace h := h.2 c21
            refine j_bipush (v := iI 7) dX5_judgeLambda_122 rfl ?_
            refine j_goto 129 dX5_judgeLambda_124 (by decide) ?_
            refine j_aload_n (r := some P.mo) dX5_judgeLambda_129 rfl ?_
            refine jm_geta fM_35 rfl dX5_judgeLambda_130 ?_
            refine j_iload_n dX5_judgeLambda_133 rfl ?_
            refine jm_ald (v := aI t5 35 x1) rfl h.1 rfl rfl dX5_judgeLambda_134 ?_
            replace h := h.2
            refine jm_callv (As := [.int (iI 7), .int (aI t5 35 x1)]) (rest := []) kX5_wrong rfl q2295 rfl rfl (Nat.le_of_ble_eq_true rfl) rfl dX5_judgeLambda_135 (Nat.succ_le_succ (Nat.zero_le _)) (h.mono (onV_mono (fun t19 h => ?_) (fun _ _ h => h)))
            exact j_return rfl dX5_judgeLambda_138 h
      · replace h := h.2 c23
        exact j_return rfl dX5_judgeLambda_81 h
    · replace h := h.2 c24
      exact j_return rfl dX5_judgeLambda_44 h
  · replace h := h.1 c49
    refine j_aload_n (r := some P.mo) dX5_judgeLambda_19 rfl ?_
    refine j_aload_n (r := some P.mo) dX5_judgeLambda_20 rfl ?_
    refine jm_geta fM_32 rfl dX5_judgeLambda_21 ?_
    refine j_iload_n dX5_judgeLambda_24 rfl ?_
    refine jm_ald (v := aI t1 32 x1) rfl h.1 rfl rfl dX5_judgeLambda_25 ?_
    replace h := h.2
    refine j_iload_n dX5_judgeLambda_26 rfl ?_
    refine j_iconst (v := iI 0) dX5_judgeLambda_27 rfl ?_
    refine jm_calli (As := [.int (aI t1 32 x1), .int x2, .int (iI 0)]) (rest := []) kX5_normal rfl q2391 rfl rfl (Nat.le_of_ble_eq_true rfl) rfl dX5_judgeLambda_28 (Nat.succ_le_succ (Nat.zero_le _)) (h.mono (onI_mono (fun r26 t25 h => ?_) (fun _ _ h => h)))
    refine j_goto 35 dX5_judgeLambda_31 (by decide) ?_
    refine j_istore (lv' := [some (va_rf (some P.mo)), some (.int x1), some (.int x2), some (.int r2), some (.int r26), none, none, none]) dX5_judgeLambda_35 (by decide) rfl ?_
    refine j_aload_n (r := some P.mo) dX5_judgeLambda_37 rfl ?_
    refine jm_get (v := fI t25 72) fM_72 rfl rfl dX5_judgeLambda_38 ?_
    refine j_if_eq 45 dX5_judgeLambda_41 (by decide) (fun c48 => ?_) (fun c48 => ?_)
    · replace h := h.1 c48
      refine j_aload_n (r := some P.mo) dX5_judgeLambda_45 rfl ?_
      refine j_iload_n dX5_judgeLambda_46 rfl ?_
      refine j_iload dX5_judgeLambda_47 rfl ?_
      refine j_iload_n dX5_judgeLambda_49 rfl ?_
      refine jm_callv (As := [.int x1, .int r26, .int r2]) (rest := []) kX5_bind rfl q2424 rfl rfl (Nat.le_of_ble_eq_true rfl) rfl dX5_judgeLambda_50 (Nat.succ_le_succ (Nat.zero_le _)) (h.mono (onV_mono (fun t27 h => ?_) (fun _ _ h => h)))
      refine j_aload_n (r := some P.mo) dX5_judgeLambda_53 rfl ?_
      refine j_aload_n (r := some P.mo) dX5_judgeLambda_54 rfl ?_
      refine jm_geta fM_33 rfl dX5_judgeLambda_55 ?_
      refine j_iload_n dX5_judgeLambda_58 rfl ?_
      refine jm_ald (v := aI t27 33 x1) rfl h.1 rfl rfl dX5_judgeLambda_59 ?_
      replace h := h.2
      refine j_iload_n dX5_judgeLambda_60 rfl ?_
      refine jm_callv (As := [.int (aI t27 33 x1), .int x2]) (rest := []) kX5_judge rfl q2383 rfl rfl (Nat.le_of_ble_eq_true rfl) rfl dX5_judgeLambda_61 (Nat.succ_le_succ (Nat.zero_le _)) (h.mono (onV_mono (fun t29 h => ?_) (fun _ _ h => h)))
      refine j_aload_n (r := some P.mo) dX5_judgeLambda_64 rfl ?_
      refine j_dup dX5_judgeLambda_65 rfl ?_
      refine jm_get (v := fI t29 43) fM_43 rfl rfl dX5_judgeLambda_66 ?_
      refine j_iconst (v := iI 1) dX5_judgeLambda_69 rfl ?_
      refine j_isub dX5_judgeLambda_70 ?_
      refine jm_put fM_43 rfl dX5_judgeLambda_71 ?_
      refine j_aload_n (r := some P.mo) dX5_judgeLambda_74 rfl ?_
      refine jm_get (v := fI t29 72) fM_72 rfl rfl dX5_judgeLambda_75 ?_
      refine j_if_eq 82 dX5_judgeLambda_78 (by decide) (fun c47 => ?_) (fun c47 => ?_)
      · replace h := h.1 c47
        refine j_aload_n (r := some P.mo) dX5_judgeLambda_82 rfl ?_
        refine jm_get (v := fI t29 61) fM_61 rfl rfl dX5_judgeLambda_83 ?_
        refine j_istore (lv' := [some (va_rf (some P.mo)), some (.int x1), some (.int x2), some (.int r2), some (.int r26), some (.int (fI t29 61)), none, none]) dX5_judgeLambda_86 (by decide) rfl ?_
        refine j_iload dX5_judgeLambda_88 rfl ?_
        refine j_if_ge 97 dX5_judgeLambda_90 (by decide) (fun c46 => ?_) (fun c46 => ?_)
        · replace h := h.1 c46
          refine j_aload_n (r := some P.mo) dX5_judgeLambda_97 rfl ?_
          refine jm_geta fM_19 rfl dX5_judgeLambda_98 ?_
          refine j_bipush (v := iI 8) dX5_judgeLambda_101 rfl ?_
          refine j_iload_n dX5_judgeLambda_103 rfl ?_
          refine j_imul dX5_judgeLambda_104 ?_
          refine j_iload dX5_judgeLambda_105 rfl ?_
          refine j_iadd dX5_judgeLambda_107 ?_
          refine jm_ald (v := aI t29 19 (((iI 8) * r2) + (fI t29 61))) rfl h.1 rfl rfl dX5_judgeLambda_108 ?_
          replace h := h.2
          refine j_istore (lv' := [some (va_rf (some P.mo)), some (.int x1), some (.int x2), some (.int r2), some (.int r26), some (.int (fI t29 61)), some (.int (aI t29 19 (((iI 8) * r2) + (fI t29 61)))), none]) dX5_judgeLambda_109 (by decide) rfl ?_
          refine j_iload dX5_judgeLambda_111 rfl ?_
          refine j_if_ge 139 dX5_judgeLambda_113 (by decide) (fun c40 => ?_) (fun c40 => ?_)
          · replace h := h.1 c40
            refine j_aload_n (r := some P.mo) dX5_judgeLambda_139 rfl ?_
            refine j_iconst (v := iI 5) dX5_judgeLambda_140 rfl ?_
            refine j_iconst (v := iI (-1)) dX5_judgeLambda_141 rfl ?_
            refine j_iload dX5_judgeLambda_142 rfl ?_
            refine j_aload_n (r := some P.mo) dX5_judgeLambda_144 rfl ?_
            refine jm_get (v := fI t29 60) fM_60 rfl rfl dX5_judgeLambda_145 ?_
            refine j_iconst (v := iI 0) dX5_judgeLambda_148 rfl ?_
            refine jm_calli (As := [.int (iI 5), .int (iI (-1)), .int r26, .int (fI t29 60), .int (iI 0)]) (rest := []) kX5_node rfl q2315 rfl rfl (Nat.le_of_ble_eq_true rfl) rfl dX5_judgeLambda_149 (Nat.succ_le_succ (Nat.zero_le _)) (h.mono (onI_mono (fun r32 t31 h => ?_) (fun _ _ h => h)))
            refine j_istore (lv' := [some (va_rf (some P.mo)), some (.int x1), some (.int x2), some (.int r2), some (.int r26), some (.int (fI t29 61)), some (.int (aI t29 19 (((iI 8) * r2) + (fI t29 61)))), some (.int r32)]) dX5_judgeLambda_152 (by decide) rfl ?_
            refine j_aload_n (r := some P.mo) dX5_judgeLambda_154 rfl ?_
            refine jm_geta fM_38 rfl dX5_judgeLambda_155 ?_
            refine j_iload dX5_judgeLambda_158 rfl ?_
            refine j_iload_n dX5_judgeLambda_160 rfl ?_
            refine jm_ast rfl h.1 rfl dX5_judgeLambda_161 ?_
            replace h := h.2
            refine j_aload_n (r := some P.mo) dX5_judgeLambda_162 rfl ?_
            refine jm_geta fM_36 rfl dX5_judgeLambda_163 ?_
            refine j_iload dX5_judgeLambda_166 rfl ?_
            refine j_iload_n dX5_judgeLambda_168 rfl ?_
            refine jm_ast rfl h.1 rfl dX5_judgeLambda_169 ?_
            replace h := h.2
            refine j_aload_n (r := some P.mo) dX5_judgeLambda_170 rfl ?_
            refine jm_geta fM_37 rfl dX5_judgeLambda_171 ?_
            refine j_iload dX5_judgeLambda_174 rfl ?_
            refine j_iload dX5_judgeLambda_176 rfl ?_
            refine jm_ast rfl h.1 rfl dX5_judgeLambda_178 ?_
            replace h := h.2
            refine j_aload_n (r := some P.mo) dX5_judgeLambda_179 rfl ?_
            refine j_iload dX5_judgeLambda_180 rfl ?_
            refine j_iload dX5_judgeLambda_182 rfl ?_
            refine jm_callv (As := [.int r32, .int (aI t29 19 (((iI 8) * r2) + (fI t29 61)))]) (rest := []) kX5_becomes rfl q2428 rfl rfl (Nat.le_of_ble_eq_true rfl) rfl dX5_judgeLambda_184 (Nat.succ_le_succ (Nat.zero_le _)) (h.mono (onV_mono (fun t33 h => ?_) (fun _ _ h => h)))
            exact j_return rfl dX5_judgeLambda_187 h
          · replace h := h.2 c40
            refine j_aload_n (r := some P.mo) dX5_judgeLambda_116 rfl ?_
            refine j_iload dX5_judgeLambda_117 rfl ?_
            refine j_if_ge 127 dX5_judgeLambda_119 (by decide) (fun c39 => ?_) (fun c39 => ?_)
            · replace h := h.1 c39
              refine j_bipush (v := iI 9) dX5_judgeLambda_127 rfl ?_
              refine j_aload_n (r := some P.mo) dX5_judgeLambda_129 rfl ?_
              refine jm_geta fM_35 rfl dX5_judgeLambda_130 ?_
              refine j_iload_n dX5_judgeLambda_133 rfl ?_
              refine jm_ald (v := aI t29 35 x1) rfl h.1 rfl rfl dX5_judgeLambda_134 ?_
              replace h := h.2
              refine jm_callv (As := [.int (iI 9), .int (aI t29 35 x1)]) (rest := []) kX5_wrong rfl q2295 rfl rfl (Nat.le_of_ble_eq_true rfl) rfl dX5_judgeLambda_135 (Nat.succ_le_succ (Nat.zero_le _)) (h.mono (onV_mono (fun t35 h => ?_) (fun _ _ h => h)))
              exact j_return rfl dX5_judgeLambda_138 h
            · replace h := h.2 c39
              refine j_bipush (v := iI 7) dX5_judgeLambda_122 rfl ?_
              refine j_goto 129 dX5_judgeLambda_124 (by decide) ?_
              refine j_aload_n (r := some P.mo) dX5_judgeLambda_129 rfl ?_
              refine jm_geta fM_35 rfl dX5_judgeLambda_130 ?_
              refine j_iload_n dX5_judgeLambda_133 rfl ?_
              refine jm_ald (v := aI t29 35 x1) rfl h.1 rfl rfl dX5_judgeLambda_134 ?_
              replace h := h.2
              refine jm_callv (As := [.int (iI 7), .int (aI t29 35 x1)]) (rest := []) kX5_wrong rfl q2295 rfl rfl (Nat.le_of_ble_eq_true rfl) rfl dX5_judgeLambda_135 (Nat.succ_le_succ (Nat.zero_le _)) (h.mono (onV_mono (fun t37 h => ?_) (fun _ _ h => h)))
              exact j_return rfl dX5_judgeLambda_138 h
        · replace h := h.2 c46
          refine j_iconst (v := iI (-1)) dX5_judgeLambda_93 rfl ?_
          refine j_goto 109 dX5_judgeLambda_94 (by decide) ?_
          refine j_istore (lv' := [some (va_rf (some P.mo)), some (.int x1), some (.int x2), some (.int r2), some (.int r26), some (.int (fI t29 61)), some (.int (iI (-1))), none]) dX5_judgeLambda_109 (by decide) rfl ?_
          refine j_iload dX5_judgeLambda_111 rfl ?_
          refine j_if_ge 139 dX5_judgeLambda_113 (by decide) (fun q_ => absurd q_ (by decide)) (fun _ => ?_)
          refine j_aload_n (r := some P.mo) dX5_judgeLambda_116 rfl ?_
          refine j_iload dX5_judgeLambda_117 rfl ?_
          refine j_if_ge 127 dX5_judgeLambda_119 (by decide) (fun c45 => ?_) (fun c45 => ?_)
          · replace h := h.1 c45
            refine j_bipush (v := iI 9) dX5_judgeLambda_127 rfl ?_
            refine j_aload_n (r := some P.mo) dX5_judgeLambda_129 rfl ?_
            refine jm_geta fM_35 rfl dX5_judgeLambda_130 ?_
            refine j_iload_n dX5_judgeLambda_133 rfl ?_
            refine jm_ald (v := aI t29 35 x1) rfl h.1 rfl rfl dX5_judgeLambda_134 ?_
            replace h := h.2
            refine jm_callv (As := [.int (iI 9), .int (aI t29 35 x1)]) (rest := []) kX5_wrong rfl q2295 rfl rfl (Nat.le_of_ble_eq_true rfl) rfl dX5_judgeLambda_135 (Nat.succ_le_succ (Nat.zero_le _)) (h.mono (onV_mono (fun t41 h => ?_) (fun _ _ h => h)))
            exact j_return rfl dX5_judgeLambda_138 h
          · replace h := h.2 c45
            refine j_bipush (v := iI 7) dX5_judgeLambda_122 rfl ?_
            refine j_goto 129 dX5_judgeLambda_124 (by decide) ?_
            refine j_aload_n (r := some P.mo) dX5_judgeLambda_129 rfl ?_
            refine jm_geta fM_35 rfl dX5_judgeLambda_130 ?_
            refine j_iload_n dX5_judgeLambda_133 rfl ?_
            refine jm_ald (v := aI t29 35 x1) rfl h.1 rfl rfl dX5_judgeLambda_134 ?_
            replace h := h.2
            refine jm_callv (As := [.int (iI 7), .int (aI t29 35 x1)]) (rest := []) kX5_wrong rfl q2295 rfl rfl (Nat.le_of_ble_eq_true rfl) rfl dX5_judgeLambda_135 (Nat.succ_le_succ (Nat.zero_le _)) (h.mono (onV_mono (fun t43 h => ?_) (fun _ _ h => h)))
            exact j_return rfl dX5_judgeLambda_138 h
      · replace h := h.2 c47
        exact j_return rfl dX5_judgeLambda_81 h
    · replace h := h.2 c48
      exact j_return rfl dX5_judgeLambda_44 h
abbrev jX5_normal_63 (P : MPl) (s0 : State) (l : Launch) (X : Prop) (lev : Nat) (st0 : MSt) (Q : Outcome → MSt → Prop) (x1 x2 x3 x4 x5 x6 x7 : Int32) (st : MSt) : Prop := JQ (wM P s0 l X) mX5_normal (lev + 1) st0 63 [some (va_rf (some P.mo)), some (.int x1), some (.int x2), some (.int x3), some (.int x4), some (.int x5), some (.int x6), some (.int x7), none, none, none, none] [] st Q
abbrev jX5_normal_229 (P : MPl) (s0 : State) (l : Launch) (X : Prop) (lev : Nat) (st0 : MSt) (Q : Outcome → MSt → Prop) (x1 x2 x3 x4 x5 x6 x7 x8 x9 x10 : Int32) (st : MSt) : Prop := JQ (wM P s0 l X) mX5_normal (lev + 1) st0 229 [some (va_rf (some P.mo)), some (.int x1), some (.int x2), some (.int x3), some (.int x4), some (.int x5), some (.int x6), some (.int x7), some (.int x8), some (.int x9), some (.int x10), none] [] st Q
theorem tX5_normal {P : MPl} {s0 : State} {l : Launch} {X : Prop} {lev : Nat} {Q : Outcome → MSt → Prop} {x1 x2 x3 : Int32} {st : MSt} (h : (CQ (wM P s0 l X) mX5_look lev (.ref P.mo :: [.int x3]) st (onI (fun r2 t1 => ((r2 = 0 → Q (.returned (some (.int (iI 0)))) t1) ∧ (¬ r2 = 0 → (CQ (wM P s0 l X) mX5_head lev (.ref P.mo :: [.int x1, .int x2]) t1 (onV (fun t3 => (((fI t3 72) = 0 → (CQ (wM P s0 l X) mX5_kindOf lev (.ref P.mo :: [.int (fI t3 52)]) t3 (onI (fun r6 t5 => ((r6 = (iI 4) → jX5_normal_63 P s0 l X lev st Q x1 x2 x3 (fI t1 51) (fI t3 52) (fI t3 53) r6 t5) ∧ (¬ r6 = (iI 4) → ((r6 = (iI 5) → jX5_normal_63 P s0 l X lev st Q x1 x2 x3 (fI t1 51) (fI t3 52) (fI t3 53) r6 t5) ∧ (¬ r6 = (iI 5) → ((r6 = (iI 3) → (inr (fI t3 52) 140000 ∧ jX5_normal_229 P s0 l X lev st Q x1 x2 x3 (fI t1 51) (fI t3 52) (fI t3 53) r6 (aI t5 31 (fI t3 52)) (fI t5 51) (iI 1) t5)) ∧ (¬ r6 = (iI 3) → ((r6 = (iI 2) → ((r6 = (iI (-1)) → (CQ (wM P s0 l X) mX5_node lev (.ref P.mo :: [.int (iI 2), .int ((iI (-2)) - (fI t3 52)), .int (iI 0), .int (iI 0), .int (iI 0)]) t5 (onI (fun r15 t14 => jX5_normal_229 P s0 l X lev st Q x1 x2 x3 (fI t1 51) (fI t3 52) (fI t3 53) r6 r15 (fI t14 51) (iI 1) t14) (fun x t => Q (.threw x) t)))) ∧ (¬ r6 = (iI (-1)) → (inr (fI t3 52) 140000 ∧ (CQ (wM P s0 l X) mX5_node lev (.ref P.mo :: [.int (iI 2), .int (aI t5 31 (fI t3 52)), .int (iI 0), .int (iI 0), .int (iI 0)]) t5 (onI (fun r13 t12 => jX5_normal_229 P s0 l X lev st Q x1 x2 x3 (fI t1 51) (fI t3 52) (fI t3 53) r6 r13 (fI t12 51) (iI 1) t12) (fun x t => Q (.threw x) t))))))) ∧ (¬ r6 = (iI 2) → ((r6 = (iI (-1)) → (CQ (wM P s0 l X) mX5_node lev (.ref P.mo :: [.int (iI 1), .int ((iI (-2)) - (fI t3 52)), .int (iI 0), .int (iI 0), .int (iI 0)]) t5 (onI (fun r10 t9 => jX5_normal_229 P s0 l X lev st Q x1 x2 x3 (fI t1 51) (fI t3 52) (fI t3 53) r6 r10 (fI t9 51) (iI 1) t9) (fun x t => Q (.threw x) t)))) ∧ (¬ r6 = (iI (-1)) → (inr (fI t3 52) 140000 ∧ (CQ (wM P s0 l X) mX5_node lev (.ref P.mo :: [.int (iI 1), .int (aI t5 31 (fI t3 52)), .int (iI 0), .int (iI 0), .int (iI 0)]) t5 (onI (fun r8 t7 => jX5_normal_229 P s0 l X lev st Q x1 x2 x3 (fI t1 51) (fI t3 52) (fI t3 53) r6 r8 (fI t7 51) (iI 1) t7) (fun x t => Q (.threw x) t))))))))))))))) (fun x t => Q (.threw x) t)))) ∧ (¬ (fI t3 72) = 0 → Q (.returned (some (.int (iI 0)))) t3))) (fun x t => Q (.threw x) t)))))) (fun x t => Q (.threw x) t)))) : CQ (wM P s0 l X) mX5_normal (lev + 1) [.ref P.mo, .int x1, .int x2, .int x3] st Q := by
  refine CQ.of2 8 (lv := [some (va_rf (some P.mo)), some (.int x1), some (.int x2), some (.int x3), none, none, none, none, none, none, none, none]) (by decide) (Nat.le_of_ble_eq_true rfl) rfl rfl ?_
  refine j_aload_n (r := some P.mo) dX5_normal_0 rfl ?_
  refine j_iload_n dX5_normal_1 rfl ?_
  refine jm_calli (As := [.int x3]) (rest := []) kX5_look rfl q2395 rfl rfl (Nat.le_of_ble_eq_true rfl) rfl dX5_normal_2 (Nat.succ_le_succ (Nat.zero_le _)) (h.mono (onI_mono (fun r2 t1 h => ?_) (fun _ _ h => h)))
  refine j_if_ne 10 dX5_normal_5 (by decide) (fun c22 => ?_) (fun c22 => ?_)
  · replace h := h.2 c22
    refine j_aload_n (r := some P.mo) dX5_normal_10 rfl ?_
    refine jm_get (v := fI t1 51) fM_51 rfl rfl dX5_normal_11 ?_
    refine j_istore (lv' := [some (va_rf (some P.mo)), some (.int x1), some (.int x2), some (.int x3), some (.int (fI t1 51)), none, none, none, none, none, none, none]) dX5_normal_14 (by decide) rfl ?_
    refine j_aload_n (r := some P.mo) dX5_normal_16 rfl ?_
    refine j_iload_n dX5_normal_17 rfl ?_
    refine j_iload_n dX5_normal_18 rfl ?_
    refine jm_callv (As := [.int x1, .int x2]) (rest := []) kX5_head rfl q2404 rfl rfl (Nat.le_of_ble_eq_true rfl) rfl dX5_normal_19 (Nat.succ_le_succ (Nat.zero_le _)) (h.mono (onV_mono (fun t3 h => ?_) (fun _ _ h => h)))
    refine j_aload_n (r := some P.mo) dX5_normal_22 rfl ?_
    refine jm_get (v := fI t3 72) fM_72 rfl rfl dX5_normal_23 ?_
    refine j_if_eq 31 dX5_normal_26 (by decide) (fun c21 => ?_) (fun c21 => ?_)
    · replace h := h.1 c21
      refine j_aload_n (r := some P.mo) dX5_normal_31 rfl ?_
      refine jm_get (v := fI t3 52) fM_52 rfl rfl dX5_normal_32 ?_
      refine j_istore (lv' := [some (va_rf (some P.mo)), some (.int x1), some (.int x2), some (.int x3), some (.int (fI t1 51)), some (.int (fI t3 52)), none, none, none, none, none, none]) dX5_normal_35 (by decide) rfl ?_
      refine j_aload_n (r := some P.mo) dX5_normal_37 rfl ?_
      refine jm_get (v := fI t3 53) fM_53 rfl rfl dX5_normal_38 ?_
      refine j_istore (lv' := [some (va_rf (some P.mo)), some (.int x1), some (.int x2), some (.int x3), some (.int (fI t1 51)), some (.int (fI t3 52)), some (.int (fI t3 53)), none, none, none, none, none]) dX5_normal_41 (by decide) rfl ?_
      refine j_aload_n (r := some P.mo) dX5_normal_43 rfl ?_
      refine j_iload dX5_normal_44 rfl ?_
      refine jm_calli (As := [.int (fI t3 52)]) (rest := []) kX5_kindOf rfl q2416 rfl rfl (Nat.le_of_ble_eq_true rfl) rfl dX5_normal_46 (Nat.succ_le_succ (Nat.zero_le _)) (h.mono (onI_mono (fun r6 t5 h => ?_) (fun _ _ h => h)))
      refine j_istore (lv' := [some (va_rf (some P.mo)), some (.int x1), some (.int x2), some (.int x3), some (.int (fI t1 51)), some (.int (fI t3 52)), some (.int (fI t3 53)), some (.int r6), none, none, none, none]) dX5_normal_49 (by decide) rfl ?_
      refine j_iload dX5_normal_51 rfl ?_
      refine j_iconst (v := iI 4) dX5_normal_53 rfl ?_
      refine j_icmp_eq 63 dX5_normal_54 (by decide) (fun c20 => ?_) (fun c20 => ?_)
      · replace h := h.1 c20
        exact h
      · replace h := h.2 c20
        refine j_iload dX5_normal_57 rfl ?_
        refine j_iconst (v := iI 5) dX5_normal_59 rfl ?_
        refine j_icmp_ne 163 dX5_normal_60 (by decide) (fun c19 => ?_) (fun c19 => ?_)
        · replace h := h.2 c19
          refine j_iload dX5_normal_163 rfl ?_
          refine j_iconst (v := iI 3) dX5_normal_165 rfl ?_
          refine j_icmp_ne 179 dX5_normal_166 (by decide) (fun c18 => ?_) (fun c18 => ?_)
          · replace h := h.2 c18
            refine j_aload_n (r := some P.mo) dX5_normal_179 rfl ?_
            refine j_iload dX5_normal_180 rfl ?_
            refine j_iconst (v := iI 2) dX5_normal_182 rfl ?_
            refine j_icmp_ne 190 dX5_normal_183 (by decide) (fun c17 => ?_) (fun c17 => ?_)
            · replace h := h.2 c17
              refine j_iconst (v := iI 1) dX5_normal_190 rfl ?_
              refine j_iload dX5_normal_191 rfl ?_
              refine j_iconst (v := iI (-1)) dX5_normal_193 rfl ?_
              refine j_icmp_ne 205 dX5_normal_194 (by decide) (fun c11 => ?_) (fun c11 => ?_)
              · replace h := h.2 c11
                refine j_aload_n (r := some P.mo) dX5_normal_205 rfl ?_
                refine jm_geta fM_31 rfl dX5_normal_206 ?_
                refine j_iload dX5_normal_209 rfl ?_
                refine jm_ald (v := aI t5 31 (fI t3 52)) rfl h.1 rfl rfl dX5_normal_211 ?_
                replace h := h.2
                refine j_iconst (v := iI 0) dX5_normal_212 rfl ?_
                refine j_iconst (v := iI 0) dX5_normal_213 rfl ?_
                refine j_iconst (v := iI 0) dX5_normal_214 rfl ?_
                refine jm_calli (As := [.int (iI 1), .int (aI t5 31 (fI t3 52)), .int (iI 0), .int (iI 0), .int (iI 0)]) (rest := []) kX5_node rfl q2315 rfl rfl (Nat.le_of_ble_eq_true rfl) rfl dX5_normal_215 (Nat.succ_le_succ (Nat.zero_le _)) (h.mono (onI_mono (fun r8 t7 h => ?_) (fun _ _ h => h)))
                refine j_istore (lv' := [some (va_rf (some P.mo)), some (.int x1), some (.int x2), some (.int x3), some (.int (fI t1 51)), some (.int (fI t3 52)), some (.int (fI t3 53)), some (.int r6), some (.int r8), none, none, none]) dX5_normal_218 (by decide) rfl ?_
                refine j_aload_n (r := some P.mo) dX5_normal_220 rfl ?_
                refine jm_get (v := fI t7 51) fM_51 rfl rfl dX5_normal_221 ?_
                refine j_istore (lv' := [some (va_rf (some P.mo)), some (.int x1), some (.int x2), some (.int x3), some (.int (fI t1 51)), some (.int (fI t3 52)), some (.int (fI t3 53)), some (.int r6), some (.int r8), some (.int (fI t7 51)), none, none]) dX5_normal_224 (by decide) rfl ?_
                refine j_iconst (v := iI 1) dX5_normal_226 rfl ?_
                refine j_istore (lv' := [some (va_rf (some P.mo)), some (.int x1), some (.int x2), some (.int x3), some (.int (fI t1 51)), some (.int (fI t3 52)), some (.int (fI t3 53)), some (.int r6), some (.int r8), some (.int (fI t7 51)), some (.int (iI 1)), none]) dX5_normal_227 (by decide) rfl ?_
                exact h
              · replace h := h.1 c11
                refine j_bipush (v := iI (-2)) dX5_normal_197 rfl ?_
                refine j_iload dX5_normal_199 rfl ?_
                refine j_isub dX5_normal_201 ?_
                refine j_goto 212 dX5_normal_202 (by decide) ?_
                refine j_iconst (v := iI 0) dX5_normal_212 rfl ?_
                refine j_iconst (v := iI 0) dX5_normal_213 rfl ?_
                refine j_iconst (v := iI 0) dX5_normal_214 rfl ?_
                refine jm_calli (As := [.int (iI 1), .int ((iI (-2)) - (fI t3 52)), .int (iI 0), .int (iI 0), .int (iI 0)]) (rest := []) kX5_node rfl q2315 rfl rfl (Nat.le_of_ble_eq_true rfl) rfl dX5_normal_215 (Nat.succ_le_succ (Nat.zero_le _)) (h.mono (onI_mono (fun r10 t9 h => ?_) (fun _ _ h => h)))
                refine j_istore (lv' := [some (va_rf (some P.mo)), some (.int x1), some (.int x2), some (.int x3), some (.int (fI t1 51)), some (.int (fI t3 52)), some (.int (fI t3 53)), some (.int r6), some (.int r10), none, none, none]) dX5_normal_218 (by decide) rfl ?_
                refine j_aload_n (r := some P.mo) dX5_normal_220 rfl ?_
                refine jm_get (v := fI t9 51) fM_51 rfl rfl dX5_normal_221 ?_
                refine j_istore (lv' := [some (va_rf (some P.mo)), some (.int x1), some (.int x2), some (.int x3), some (.int (fI t1 51)), some (.int (fI t3 52)), some (.int (fI t3 53)), some (.int r6), some (.int r10), some (.int (fI t9 51)), none, none]) dX5_normal_224 (by decide) rfl ?_
                refine j_iconst (v := iI 1) dX5_normal_226 rfl ?_
                refine j_istore (lv' := [some (va_rf (some P.mo)), some (.int x1), some (.int x2), some (.int x3), some (.int (fI t1 51)), some (.int (fI t3 52)), some (.int (fI t3 53)), some (.int r6), some (.int r10), some (.int (fI t9 51)), some (.int (iI 1)), none]) dX5_normal_227 (by decide) rfl ?_
                exact h
            · replace h := h.1 c17
              refine j_iconst (v := iI 2) dX5_normal_186 rfl ?_
              refine j_goto 191 dX5_normal_187 (by decide) ?_
              refine j_iload dX5_normal_191 rfl ?_
              refine j_iconst (v := iI (-1)) dX5_normal_193 rfl ?_
              refine j_icmp_ne 205 dX5_normal_194 (by decide) (fun c16 => ?_) (fun c16 => ?_)
              · replace h := h.2 c16
                refine j_aload_n (r := some P.mo) dX5_normal_205 rfl ?_
                refine jm_geta fM_31 rfl dX5_normal_206 ?_
                refine j_iload dX5_normal_209 rfl ?_
                refine jm_ald (v := aI t5 31 (fI t3 52)) rfl h.1 rfl rfl dX5_normal_211 ?_
                replace h := h.2
                refine j_iconst (v := iI 0) dX5_normal_212 rfl ?_
                refine j_iconst (v := iI 0) dX5_normal_213 rfl ?_
                refine j_iconst (v := iI 0) dX5_normal_214 rfl ?_
                refine jm_calli (As := [.int (iI 2), .int (aI t5 31 (fI t3 52)), .int (iI 0), .int (iI 0), .int (iI 0)]) (rest := []) kX5_node rfl q2315 rfl rfl (Nat.le_of_ble_eq_true rfl) rfl dX5_normal_215 (Nat.succ_le_succ (Nat.zero_le _)) (h.mono (onI_mono (fun r13 t12 h => ?_) (fun _ _ h => h)))
                refine j_istore (lv' := [some (va_rf (some P.mo)), some (.int x1), some (.int x2), some (.int x3), some (.int (fI t1 51)), some (.int (fI t3 52)), some (.int (fI t3 53)), some (.int r6), some (.int r13), none, none, none]) dX5_normal_218 (by decide) rfl ?_
                refine j_aload_n (r := some P.mo) dX5_normal_220 rfl ?_
                refine jm_get (v := fI t12 51) fM_51 rfl rfl dX5_normal_221 ?_
                refine j_istore (lv' := [some (va_rf (some P.mo)), some (.int x1), some (.int x2), some (.int x3), some (.int (fI t1 51)), some (.int (fI t3 52)), some (.int (fI t3 53)), some (.int r6), some (.int r13), some (.int (fI t12 51)), none, none]) dX5_normal_224 (by decide) rfl ?_
                refine j_iconst (v := iI 1) dX5_normal_226 rfl ?_
                refine j_istore (lv' := [some (va_rf (some P.mo)), some (.int x1), some (.int x2), some (.int x3), some (.int (fI t1 51)), some (.int (fI t3 52)), some (.int (fI t3 53)), some (.int r6), some (.int r13), some (.int (fI t12 51)), some (.int (iI 1)), none]) dX5_normal_227 (by decide) rfl ?_
                exact h
              · replace h := h.1 c16
                refine j_bipush (v := iI (-2)) dX5_normal_197 rfl ?_
                refine j_iload dX5_normal_199 rfl ?_
                refine j_isub dX5_normal_201 ?_
                refine j_goto 212 dX5_normal_202 (by decide) ?_
                refine j_iconst (v := iI 0) dX5_normal_212 rfl ?_
                refine j_iconst (v := iI 0) dX5_normal_213 rfl ?_
                refine j_iconst (v := iI 0) dX5_normal_214 rfl ?_
                refine jm_calli (As := [.int (iI 2), .int ((iI (-2)) - (fI t3 52)), .int (iI 0), .int (iI 0), .int (iI 0)]) (rest := []) kX5_node rfl q2315 rfl rfl (Nat.le_of_ble_eq_true rfl) rfl dX5_normal_215 (Nat.succ_le_succ (Nat.zero_le _)) (h.mono (onI_mono (fun r15 t14 h => ?_) (fun _ _ h => h)))
                refine j_istore (lv' := [some (va_rf (some P.mo)), some (.int x1), some (.int x2), some (.int x3), some (.int (fI t1 51)), some (.int (fI t3 52)), some (.int (fI t3 53)), some (.int r6), some (.int r15), none, none, none]) dX5_normal_218 (by decide) rfl ?_
                refine j_aload_n (r := some P.mo) dX5_normal_220 rfl ?_
                refine jm_get (v := fI t14 51) fM_51 rfl rfl dX5_normal_221 ?_
                refine j_istore (lv' := [some (va_rf (some P.mo)), some (.int x1), some (.int x2), some (.int x3), some (.int (fI t1 51)), some (.int (fI t3 52)), some (.int (fI t3 53)), some (.int r6), some (.int r15), some (.int (fI t14 51)), none, none]) dX5_normal_224 (by decide) rfl ?_
                refine j_iconst (v := iI 1) dX5_normal_226 rfl ?_
                refine j_istore (lv' := [some (va_rf (some P.mo)), some (.int x1), some (.int x2), some (.int x3), some (.int (fI t1 51)), some (.int (fI t3 52)), some (.int (fI t3 53)), some (.int r6), some (.int r15), some (.int (fI t14 51)), some (.int (iI 1)), none]) dX5_normal_227 (by decide) rfl ?_
                exact h
          · replace h := h.1 c18
            refine j_aload_n (r := some P.mo) dX5_normal_169 rfl ?_
            refine jm_geta fM_31 rfl dX5_normal_170 ?_
            refine j_iload dX5_normal_173 rfl ?_
            refine jm_ald (v := aI t5 31 (fI t3 52)) rfl h.1 rfl rfl dX5_normal_175 ?_
            replace h := h.2
            refine j_goto 218 dX5_normal_176 (by decide) ?_
            refine j_istore (lv' := [some (va_rf (some P.mo)), some (.int x1), some (.int x2), some (.int x3), some (.int (fI t1 51)), some (.int (fI t3 52)), some (.int (fI t3 53)), some (.int r6), some (.int (aI t5 31 (fI t3 52))), none, none, none]) dX5_normal_218 (by decide) rfl ?_
            refine j_aload_n (r := some P.mo) dX5_normal_220 rfl ?_
            refine jm_get (v := fI t5 51) fM_51 rfl rfl dX5_normal_221 ?_
            refine j_istore (lv' := [some (va_rf (some P.mo)), some (.int x1), some (.int x2), some (.int x3), some (.int (fI t1 51)), some (.int (fI t3 52)), some (.int (fI t3 53)), some (.int r6), some (.int (aI t5 31 (fI t3 52))), some (.int (fI t5 51)), none, none]) dX5_normal_224 (by decide) rfl ?_
            refine j_iconst (v := iI 1) dX5_normal_226 rfl ?_
            refine j_istore (lv' := [some (va_rf (some P.mo)), some (.int x1), some (.int x2), some (.int x3), some (.int (fI t1 51)), some (.int (fI t3 52)), some (.int (fI t3 53)), some (.int r6), some (.int (aI t5 31 (fI t3 52))), some (.int (fI t5 51)), some (.int (iI 1)), none]) dX5_normal_227 (by decide) rfl ?_
            exact h
        · replace h := h.1 c19
          exact h
    · replace h := h.2 c21
      refine j_iconst (v := iI 0) dX5_normal_29 rfl ?_
      exact j_ireturn (ty := .int) rfl rfl dX5_normal_30 h
  · replace h := h.1 c22
    refine j_iconst (v := iI 0) dX5_normal_8 rfl ?_
    exact j_ireturn (ty := .int) rfl rfl dX5_normal_9 h
theorem tX5_normal_63 {P : MPl} {s0 : State} {l : Launch} {X : Prop} {lev : Nat} {st0 : MSt} {Q : Outcome → MSt → Prop} {x1 x2 x3 x4 x5 x6 x7 : Int32} {st : MSt} (h : (CQ (wM P s0 l X) mX5_node lev (.ref P.mo :: [.int x7, .int (iI (-1)), .int (iI 0), .int (iI 0), .int (iI 0)]) st (onI (fun r2 t1 => (inr x5 140000 ∧ (inr r2 140000 ∧ (inr x5 140000 ∧ (inr r2 140000 ∧ (inr x5 140000 ∧ (CQ (wM P s0 l X) mX5_normal lev (.ref P.mo :: [.int (aI t1 32 x5), .int x6, .int (x3 + (iI 1))]) (mst 37 r2 (aI t1 37 x5) (mst 36 r2 (aI t1 36 x5) t1)) (onI (fun r4 t3 => (inr r2 140000 ∧ (inr x5 140000 ∧ (CQ (wM P s0 l X) mX5_inside lev (.ref P.mo :: [.int x5, .int x6, .int ((iI (-2)) - r2)]) (mst 32 r2 r4 t3) (onI (fun r6 t5 => (CQ (wM P s0 l X) mX5_normal lev (.ref P.mo :: [.int (aI t3 33 x5), .int r6, .int (x3 + (iI 1))]) t5 (onI (fun r8 t7 => (inr r2 140000 ∧ Q (.returned (some (.int r2))) (mput 51 x4 (mst 33 r2 r8 t7)))) (fun x t => Q (.threw x) t)))) (fun x t => Q (.threw x) t)))))) (fun x t => Q (.threw x) t))))))))) (fun x t => Q (.threw x) t)))) : jX5_normal_63 P s0 l X lev st0 Q x1 x2 x3 x4 x5 x6 x7 st := by
  refine j_aload_n (r := some P.mo) dX5_normal_63 rfl ?_
  refine j_iload dX5_normal_64 rfl ?_
  refine j_iconst (v := iI (-1)) dX5_normal_66 rfl ?_
  refine j_iconst (v := iI 0) dX5_normal_67 rfl ?_
  refine j_iconst (v := iI 0) dX5_normal_68 rfl ?_
  refine j_iconst (v := iI 0) dX5_normal_69 rfl ?_
  refine jm_calli (As := [.int x7, .int (iI (-1)), .int (iI 0), .int (iI 0), .int (iI 0)]) (rest := []) kX5_node rfl q2315 rfl rfl (Nat.le_of_ble_eq_true rfl) rfl dX5_normal_70 (Nat.succ_le_succ (Nat.zero_le _)) (h.mono (onI_mono (fun r2 t1 h => ?_) (fun _ _ h => h)))
  refine j_istore (lv' := [some (va_rf (some P.mo)), some (.int x1), some (.int x2), some (.int x3), some (.int x4), some (.int x5), some (.int x6), some (.int x7), some (.int r2), none, none, none]) dX5_normal_73 (by decide) rfl ?_
  refine j_aload_n (r := some P.mo) dX5_normal_75 rfl ?_
  refine jm_geta fM_36 rfl dX5_normal_76 ?_
  refine j_iload dX5_normal_79 rfl ?_
  refine j_aload_n (r := some P.mo) dX5_normal_81 rfl ?_
  refine jm_geta fM_36 rfl dX5_normal_82 ?_
  refine j_iload dX5_normal_85 rfl ?_
  refine jm_ald (v := aI t1 36 x5) rfl h.1 rfl rfl dX5_normal_87 ?_
  replace h := h.2
  refine jm_ast rfl h.1 rfl dX5_normal_88 ?_
  replace h := h.2
  refine j_aload_n (r := some P.mo) dX5_normal_89 rfl ?_
  refine jm_geta fM_37 rfl dX5_normal_90 ?_
  refine j_iload dX5_normal_93 rfl ?_
  refine j_aload_n (r := some P.mo) dX5_normal_95 rfl ?_
  refine jm_geta fM_37 rfl dX5_normal_96 ?_
  refine j_iload dX5_normal_99 rfl ?_
  refine jm_ald (v := aI t1 37 x5) rfl h.1 rfl rfl dX5_normal_101 ?_
  replace h := h.2
  refine jm_ast rfl h.1 rfl dX5_normal_102 ?_
  replace h := h.2
  refine j_aload_n (r := some P.mo) dX5_normal_103 rfl ?_
  refine jm_geta fM_32 rfl dX5_normal_104 ?_
  refine j_iload dX5_normal_107 rfl ?_
  refine j_aload_n (r := some P.mo) dX5_normal_109 rfl ?_
  refine j_aload_n (r := some P.mo) dX5_normal_110 rfl ?_
  refine jm_geta fM_32 rfl dX5_normal_111 ?_
  refine j_iload dX5_normal_114 rfl ?_
  refine jm_ald (v := aI t1 32 x5) rfl h.1 rfl rfl dX5_normal_116 ?_
  replace h := h.2
  refine j_iload dX5_normal_117 rfl ?_
  refine j_iload_n dX5_normal_119 rfl ?_
  refine j_iconst (v := iI 1) dX5_normal_120 rfl ?_
  refine j_iadd dX5_normal_121 ?_
  refine jm_calli (As := [.int (aI t1 32 x5), .int x6, .int (x3 + (iI 1))]) (rest := [.int r2, va_rf (some (P.ad 32))]) kX5_normal rfl q2391 rfl rfl (Nat.le_of_ble_eq_true rfl) rfl dX5_normal_122 (Nat.succ_le_succ (Nat.zero_le _)) (h.mono (onI_mono (fun r4 t3 h => ?_) (fun _ _ h => h)))
  refine jm_ast rfl h.1 rfl dX5_normal_125 ?_
  replace h := h.2
  refine j_aload_n (r := some P.mo) dX5_normal_126 rfl ?_
  refine jm_geta fM_33 rfl dX5_normal_127 ?_
  refine j_iload dX5_normal_130 rfl ?_
  refine j_aload_n (r := some P.mo) dX5_normal_132 rfl ?_
  refine j_aload_n (r := some P.mo) dX5_normal_133 rfl ?_
  refine jm_geta fM_33 rfl dX5_normal_134 ?_
  refine j_iload dX5_normal_137 rfl ?_
  refine jm_ald (v := aI t3 33 x5) rfl h.1 rfl rfl dX5_normal_139 ?_
  replace h := h.2
  refine j_aload_n (r := some P.mo) dX5_normal_140 rfl ?_
  refine j_iload dX5_normal_141 rfl ?_
  refine j_iload dX5_normal_143 rfl ?_
  refine j_bipush (v := iI (-2)) dX5_normal_145 rfl ?_
  refine j_iload dX5_normal_147 rfl ?_
  refine j_isub dX5_normal_149 ?_
  refine jm_calli (As := [.int x5, .int x6, .int ((iI (-2)) - r2)]) (rest := [.int (aI t3 33 x5), va_rf (some P.mo), .int r2, va_rf (some (P.ad 33))]) kX5_inside rfl q2420 rfl rfl (Nat.le_of_ble_eq_true rfl) rfl dX5_normal_150 (Nat.succ_le_succ (Nat.zero_le _)) (h.mono (onI_mono (fun r6 t5 h => ?_) (fun _ _ h => h)))
  refine j_iload_n dX5_normal_153 rfl ?_
  refine j_iconst (v := iI 1) dX5_normal_154 rfl ?_
  refine j_iadd dX5_normal_155 ?_
  refine jm_calli (As := [.int (aI t3 33 x5), .int r6, .int (x3 + (iI 1))]) (rest := [.int r2, va_rf (some (P.ad 33))]) kX5_normal rfl q2391 rfl rfl (Nat.le_of_ble_eq_true rfl) rfl dX5_normal_156 (Nat.succ_le_succ (Nat.zero_le _)) (h.mono (onI_mono (fun r8 t7 h => ?_) (fun _ _ h => h)))
  refine jm_ast rfl h.1 rfl dX5_normal_159 ?_
  replace h := h.2
  refine j_goto 295 dX5_normal_160 (by decide) ?_
  refine j_aload_n (r := some P.mo) dX5_normal_295 rfl ?_
  refine j_iload dX5_normal_296 rfl ?_
  refine jm_put fM_51 rfl dX5_normal_298 ?_
  refine j_iload dX5_normal_301 rfl ?_
  exact j_ireturn (ty := .int) rfl rfl dX5_normal_303 h
theorem tX5_normal_229 {P : MPl} {s0 : State} {l : Launch} {X : Prop} {lev : Nat} {st0 : MSt} {Q : Outcome → MSt → Prop} {x1 x2 x3 x4 x5 x6 x7 x8 x9 x10 : Int32} {st : MSt} (h : (((fI st 72) = 0 → (((x9 - x4) < x10 → Q (.returned (some (.int x8))) (mput 51 x4 st)) ∧ (¬ (x9 - x4) < x10 → (inr (x9 - x10) 21000 ∧ (inr (x9 - x10) 21000 ∧ (CQ (wM P s0 l X) mX5_normal lev (.ref P.mo :: [.int (aI st 49 (x9 - x10)), .int (aI st 50 (x9 - x10)), .int (x3 + (iI 1))]) st (onI (fun r2 t1 => (CQ (wM P s0 l X) mX5_node lev (.ref P.mo :: [.int (iI 7), .int (iI 0), .int x8, .int r2, .int (iI 0)]) t1 (onI (fun r4 t3 => jX5_normal_229 P s0 l X lev st0 Q x1 x2 x3 x4 x5 x6 x7 r4 x9 (x10 + iI 1) t3) (fun x t => Q (.threw x) t)))) (fun x t => Q (.threw x) t)))))))) ∧ (¬ (fI st 72) = 0 → Q (.returned (some (.int x8))) (mput 51 x4 st)))) : jX5_normal_229 P s0 l X lev st0 Q x1 x2 x3 x4 x5 x6 x7 x8 x9 x10 st := by
  refine j_aload_n (r := some P.mo) dX5_normal_229 rfl ?_
  refine jm_get (v := fI st 72) fM_72 rfl rfl dX5_normal_230 ?_
  refine j_if_ne 295 dX5_normal_233 (by decide) (fun c6 => ?_) (fun c6 => ?_)
  · replace h := h.2 c6
    refine j_aload_n (r := some P.mo) dX5_normal_295 rfl ?_
    refine j_iload dX5_normal_296 rfl ?_
    refine jm_put fM_51 rfl dX5_normal_298 ?_
    refine j_iload dX5_normal_301 rfl ?_
    exact j_ireturn (ty := .int) rfl rfl dX5_normal_303 h
  · replace h := h.1 c6
    refine j_iload dX5_normal_236 rfl ?_
    refine j_iload dX5_normal_238 rfl ?_
    refine j_iload dX5_normal_240 rfl ?_
    refine j_isub dX5_normal_242 ?_
    refine j_icmp_gt 295 dX5_normal_243 (by decide) (fun c5 => ?_) (fun c5 => ?_)
    · replace h := h.1 c5
      refine j_aload_n (r := some P.mo) dX5_normal_295 rfl ?_
      refine j_iload dX5_normal_296 rfl ?_
      refine jm_put fM_51 rfl dX5_normal_298 ?_
      refine j_iload dX5_normal_301 rfl ?_
      exact j_ireturn (ty := .int) rfl rfl dX5_normal_303 h
    · replace h := h.2 c5
      refine j_aload_n (r := some P.mo) dX5_normal_246 rfl ?_
      refine j_aload_n (r := some P.mo) dX5_normal_247 rfl ?_
      refine jm_geta fM_49 rfl dX5_normal_248 ?_
      refine j_iload dX5_normal_251 rfl ?_
      refine j_iload dX5_normal_253 rfl ?_
      refine j_isub dX5_normal_255 ?_
      refine jm_ald (v := aI st 49 (x9 - x10)) rfl h.1 rfl rfl dX5_normal_256 ?_
      replace h := h.2
      refine j_aload_n (r := some P.mo) dX5_normal_257 rfl ?_
      refine jm_geta fM_50 rfl dX5_normal_258 ?_
      refine j_iload dX5_normal_261 rfl ?_
      refine j_iload dX5_normal_263 rfl ?_
      refine j_isub dX5_normal_265 ?_
      refine jm_ald (v := aI st 50 (x9 - x10)) rfl h.1 rfl rfl dX5_normal_266 ?_
      replace h := h.2
      refine j_iload_n dX5_normal_267 rfl ?_
      refine j_iconst (v := iI 1) dX5_normal_268 rfl ?_
      refine j_iadd dX5_normal_269 ?_
      refine jm_calli (As := [.int (aI st 49 (x9 - x10)), .int (aI st 50 (x9 - x10)), .int (x3 + (iI 1))]) (rest := []) kX5_normal rfl q2391 rfl rfl (Nat.le_of_ble_eq_true rfl) rfl dX5_normal_270 (Nat.succ_le_succ (Nat.zero_le _)) (h.mono (onI_mono (fun r2 t1 h => ?_) (fun _ _ h => h)))
      refine j_istore (lv' := [some (va_rf (some P.mo)), some (.int x1), some (.int x2), some (.int x3), some (.int x4), some (.int x5), some (.int x6), some (.int x7), some (.int x8), some (.int x9), some (.int x10), some (.int r2)]) dX5_normal_273 (by decide) rfl ?_
      refine j_aload_n (r := some P.mo) dX5_normal_275 rfl ?_
      refine j_bipush (v := iI 7) dX5_normal_276 rfl ?_
      refine j_iconst (v := iI 0) dX5_normal_278 rfl ?_
      refine j_iload dX5_normal_279 rfl ?_
      refine j_iload dX5_normal_281 rfl ?_
      refine j_iconst (v := iI 0) dX5_normal_283 rfl ?_
      refine jm_calli (As := [.int (iI 7), .int (iI 0), .int x8, .int r2, .int (iI 0)]) (rest := []) kX5_node rfl q2315 rfl rfl (Nat.le_of_ble_eq_true rfl) rfl dX5_normal_284 (Nat.succ_le_succ (Nat.zero_le _)) (h.mono (onI_mono (fun r4 t3 h => ?_) (fun _ _ h => h)))
      refine j_istore (lv' := [some (va_rf (some P.mo)), some (.int x1), some (.int x2), some (.int x3), some (.int x4), some (.int x5), some (.int x6), some (.int x7), some (.int r4), some (.int x9), some (.int x10), some (.int r2)]) dX5_normal_287 (by decide) rfl ?_
      refine j_iinc (lv' := [some (va_rf (some P.mo)), some (.int x1), some (.int x2), some (.int x3), some (.int x4), some (.int x5), some (.int x6), some (.int x7), some (.int r4), some (.int x9), some (.int (x10 + iI 1)), some (.int r2)]) dX5_normal_289 rfl (by decide) rfl ?_
      refine j_goto 229 dX5_normal_292 (by decide) ?_
      exact j_mask [true, true, true, true, true, true, true, true, true, true, true, false] rfl h
abbrev jX5_look_23 (P : MPl) (s0 : State) (l : Launch) (X : Prop) (lev : Nat) (st0 : MSt) (Q : Outcome → MSt → Prop) (x1 : Int32) (st : MSt) : Prop := JQ (wM P s0 l X) mX5_look (lev + 1) st0 23 [some (va_rf (some P.mo)), some (.int x1)] [] st Q
theorem tX5_look {P : MPl} {s0 : State} {l : Launch} {X : Prop} {lev : Nat} {Q : Outcome → MSt → Prop} {x1 : Int32} {st : MSt} (h : (((fI st 72) = 0 → ((x1 < (iI 100) → jX5_look_23 P s0 l X lev st Q x1 st) ∧ (¬ x1 < (iI 100) → (CQ (wM P s0 l X) mX5_wrong lev (.ref P.mo :: [.int (iI 13), .int (fI st 77)]) st (onV (fun t1 => jX5_look_23 P s0 l X lev st Q x1 t1) (fun x t => Q (.threw x) t)))))) ∧ (¬ (fI st 72) = 0 → jX5_look_23 P s0 l X lev st Q x1 st))) : CQ (wM P s0 l X) mX5_look (lev + 1) [.ref P.mo, .int x1] st Q := by
  refine CQ.of2 0 (lv := [some (va_rf (some P.mo)), some (.int x1)]) (by decide) (Nat.le_of_ble_eq_true rfl) rfl rfl ?_
  refine j_aload_n (r := some P.mo) dX5_look_0 rfl ?_
  refine jm_get (v := fI st 72) fM_72 rfl rfl dX5_look_1 ?_
  refine j_if_ne 23 dX5_look_4 (by decide) (fun c4 => ?_) (fun c4 => ?_)
  · replace h := h.2 c4
    exact h
  · replace h := h.1 c4
    refine j_iload_n dX5_look_7 rfl ?_
    refine j_bipush (v := iI 100) dX5_look_8 rfl ?_
    refine j_icmp_lt 23 dX5_look_10 (by decide) (fun c3 => ?_) (fun c3 => ?_)
    · replace h := h.1 c3
      exact h
    · replace h := h.2 c3
      refine j_aload_n (r := some P.mo) dX5_look_13 rfl ?_
      refine j_bipush (v := iI 13) dX5_look_14 rfl ?_
      refine j_aload_n (r := some P.mo) dX5_look_16 rfl ?_
      refine jm_get (v := fI st 77) fM_77 rfl rfl dX5_look_17 ?_
      refine jm_callv (As := [.int (iI 13), .int (fI st 77)]) (rest := []) kX5_wrong rfl q2295 rfl rfl (Nat.le_of_ble_eq_true rfl) rfl dX5_look_20 (Nat.succ_le_succ (Nat.zero_le _)) (h.mono (onV_mono (fun t1 h => ?_) (fun _ _ h => h)))
      exact h
theorem tX5_look_23 {P : MPl} {s0 : State} {l : Launch} {X : Prop} {lev : Nat} {st0 : MSt} {Q : Outcome → MSt → Prop} {x1 : Int32} {st : MSt} (h : (CQ (wM P s0 l X) mX5_may lev (.ref P.mo :: []) st (onI (fun r2 t1 => ((r2 = 0 → Q (.returned (some (.int (iI 0)))) t1) ∧ (¬ r2 = 0 → Q (.returned (some (.int (iI 1)))) (mput 71 ((fI t1 71) + (iI 1)) t1)))) (fun x t => Q (.threw x) t)))) : jX5_look_23 P s0 l X lev st0 Q x1 st := by
  refine j_aload_n (r := some P.mo) dX5_look_23 rfl ?_
  refine jm_calli (As := []) (rest := []) kX5_may rfl q2399 rfl rfl (Nat.le_of_ble_eq_true rfl) rfl dX5_look_24 (Nat.succ_le_succ (Nat.zero_le _)) (h.mono (onI_mono (fun r2 t1 h => ?_) (fun _ _ h => h)))
  refine j_if_ne 32 dX5_look_27 (by decide) (fun c3 => ?_) (fun c3 => ?_)
  · replace h := h.2 c3
    refine j_aload_n (r := some P.mo) dX5_look_32 rfl ?_
    refine j_dup dX5_look_33 rfl ?_
    refine jm_get (v := fI t1 71) fM_71 rfl rfl dX5_look_34 ?_
    refine j_iconst (v := iI 1) dX5_look_37 rfl ?_
    refine j_iadd dX5_look_38 ?_
    refine jm_put fM_71 rfl dX5_look_39 ?_
    refine j_iconst (v := iI 1) dX5_look_42 rfl ?_
    exact j_ireturn (ty := .boolean) rfl rfl dX5_look_43 h
  · replace h := h.1 c3
    refine j_iconst (v := iI 0) dX5_look_30 rfl ?_
    exact j_ireturn (ty := .boolean) rfl rfl dX5_look_31 h
abbrev jX5_may_53 (P : MPl) (s0 : State) (l : Launch) (X : Prop) (lev : Nat) (st0 : MSt) (Q : Outcome → MSt → Prop) (st : MSt) : Prop := JQ (wM P s0 l X) mX5_may (lev + 1) st0 53 [some (va_rf (some P.mo))] [] st Q
theorem tX5_may {P : MPl} {s0 : State} {l : Launch} {X : Prop} {lev : Nat} {Q : Outcome → MSt → Prop} {st : MSt} (h : (((fI st 72) = 0 → (((fI st 64) = (fI st 63) → (CQ (wM P s0 l X) mX5_wrong lev (.ref P.mo :: [.int (iI 12), .int (fI st 77)]) st (onV (fun t4 => jX5_may_53 P s0 l X lev st Q t4) (fun x t => Q (.threw x) t)))) ∧ (¬ (fI st 64) = (fI st 63) → (((fI st 65) = (iI 60000) → (CQ (wM P s0 l X) mX5_wrong lev (.ref P.mo :: [.int (iI 14), .int (fI st 77)]) st (onV (fun t1 => jX5_may_53 P s0 l X lev st Q t1) (fun x t => Q (.threw x) t)))) ∧ (¬ (fI st 65) = (iI 60000) → jX5_may_53 P s0 l X lev st Q st))))) ∧ (¬ (fI st 72) = 0 → Q (.returned (some (.int (iI 0)))) st))) : CQ (wM P s0 l X) mX5_may (lev + 1) [.ref P.mo] st Q := by
  refine CQ.of2 0 (lv := [some (va_rf (some P.mo))]) (by decide) (Nat.le_of_ble_eq_true rfl) rfl rfl ?_
  refine j_aload_n (r := some P.mo) dX5_may_0 rfl ?_
  refine jm_get (v := fI st 72) fM_72 rfl rfl dX5_may_1 ?_
  refine j_if_eq 9 dX5_may_4 (by decide) (fun c7 => ?_) (fun c7 => ?_)
  · replace h := h.1 c7
    refine j_aload_n (r := some P.mo) dX5_may_9 rfl ?_
    refine jm_get (v := fI st 64) fM_64 rfl rfl dX5_may_10 ?_
    refine j_aload_n (r := some P.mo) dX5_may_13 rfl ?_
    refine jm_get (v := fI st 63) fM_63 rfl rfl dX5_may_14 ?_
    refine j_icmp_ne 33 dX5_may_17 (by decide) (fun c6 => ?_) (fun c6 => ?_)
    · replace h := h.2 c6
      refine j_aload_n (r := some P.mo) dX5_may_33 rfl ?_
      refine jm_get (v := fI st 65) fM_65 rfl rfl dX5_may_34 ?_
      refine j_ldcw (v := iI 60000) q2403 dX5_may_37 (by decide) ?_
      refine j_icmp_ne 53 dX5_may_40 (by decide) (fun c3 => ?_) (fun c3 => ?_)
      · replace h := h.2 c3
        exact h
      · replace h := h.1 c3
        refine j_aload_n (r := some P.mo) dX5_may_43 rfl ?_
        refine j_bipush (v := iI 14) dX5_may_44 rfl ?_
        refine j_aload_n (r := some P.mo) dX5_may_46 rfl ?_
        refine jm_get (v := fI st 77) fM_77 rfl rfl dX5_may_47 ?_
        refine jm_callv (As := [.int (iI 14), .int (fI st 77)]) (rest := []) kX5_wrong rfl q2295 rfl rfl (Nat.le_of_ble_eq_true rfl) rfl dX5_may_50 (Nat.succ_le_succ (Nat.zero_le _)) (h.mono (onV_mono (fun t1 h => ?_) (fun _ _ h => h)))
        exact h
    · replace h := h.1 c6
      refine j_aload_n (r := some P.mo) dX5_may_20 rfl ?_
      refine j_bipush (v := iI 12) dX5_may_21 rfl ?_
      refine j_aload_n (r := some P.mo) dX5_may_23 rfl ?_
      refine jm_get (v := fI st 77) fM_77 rfl rfl dX5_may_24 ?_
      refine jm_callv (As := [.int (iI 12), .int (fI st 77)]) (rest := []) kX5_wrong rfl q2295 rfl rfl (Nat.le_of_ble_eq_true rfl) rfl dX5_may_27 (Nat.succ_le_succ (Nat.zero_le _)) (h.mono (onV_mono (fun t4 h => ?_) (fun _ _ h => h)))
      refine j_goto 53 dX5_may_30 (by decide) ?_
      exact h
  · replace h := h.2 c7
    refine j_iconst (v := iI 0) dX5_may_7 rfl ?_
    exact j_ireturn (ty := .boolean) rfl rfl dX5_may_8 h
theorem tX5_may_53 {P : MPl} {s0 : State} {l : Launch} {X : Prop} {lev : Nat} {st0 : MSt} {Q : Outcome → MSt → Prop} {st : MSt} (h : (((fI st 72) = 0 → Q (.returned (some (.int (iI 1)))) (mput 65 ((fI st 65) + (iI 1)) (mput 64 ((fI st 64) + (iI 1)) st))) ∧ (¬ (fI st 72) = 0 → Q (.returned (some (.int (iI 0)))) st))) : jX5_may_53 P s0 l X lev st0 Q st := by
  refine j_aload_n (r := some P.mo) dX5_may_53 rfl ?_
  refine jm_get (v := fI st 72) fM_72 rfl rfl dX5_may_54 ?_
  refine j_if_eq 62 dX5_may_57 (by decide) (fun c1 => ?_) (fun c1 => ?_)
  · replace h := h.1 c1
    refine j_aload_n (r := some P.mo) dX5_may_62 rfl ?_
    refine j_dup dX5_may_63 rfl ?_
    refine jm_get (v := fI st 64) fM_64 rfl rfl dX5_may_64 ?_
    refine j_iconst (v := iI 1) dX5_may_67 rfl ?_
    refine j_iadd dX5_may_68 ?_
    refine jm_put fM_64 rfl dX5_may_69 ?_
    refine j_aload_n (r := some P.mo) dX5_may_72 rfl ?_
    refine j_dup dX5_may_73 rfl ?_
    refine jm_get (v := fI st 65) fM_65 rfl rfl dX5_may_74 ?_
    refine j_iconst (v := iI 1) dX5_may_77 rfl ?_
    refine j_iadd dX5_may_78 ?_
    refine jm_put fM_65 rfl dX5_may_79 ?_
    refine j_iconst (v := iI 1) dX5_may_82 rfl ?_
    exact j_ireturn (ty := .boolean) rfl rfl dX5_may_83 h
  · replace h := h.2 c1
    refine j_iconst (v := iI 0) dX5_may_60 rfl ?_
    exact j_ireturn (ty := .boolean) rfl rfl dX5_may_61 h
abbrev jX5_head_25 (P : MPl) (s0 : State) (l : Launch) (X : Prop) (lev : Nat) (st0 : MSt) (Q : Outcome → MSt → Prop) (x1 x2 x3 x4 x5 x6 : Int32) (st : MSt) : Prop := JQ (wM P s0 l X) mX5_head (lev + 1) st0 25 [some (va_rf (some P.mo)), some (.int x1), some (.int x2), some (.int x3), some (.int x4), some (.int x5), some (.int x6), none] [] st Q
abbrev jX5_head_173 (P : MPl) (s0 : State) (l : Launch) (X : Prop) (lev : Nat) (st0 : MSt) (Q : Outcome → MSt → Prop) (x1 x2 x3 x4 x5 x6 x7 : Int32) (st : MSt) : Prop := JQ (wM P s0 l X) mX5_head (lev + 1) st0 173 [some (va_rf (some P.mo)), some (.int x1), some (.int x2), some (.int x3), some (.int x4), some (.int x5), some (.int x6), some (.int x7)] [] st Q
abbrev jX5_head_277 (P : MPl) (s0 : State) (l : Launch) (X : Prop) (lev : Nat) (st0 : MSt) (Q : Outcome → MSt → Prop) (x1 x2 x3 x4 x5 x6 x7 : Int32) (st : MSt) : Prop := JQ (wM P s0 l X) mX5_head (lev + 1) st0 277 [some (va_rf (some P.mo)), some (.int x1), some (.int x2), some (.int x3), some (.int x4), some (.int x5), some (.int x6), some (.int x7)] [] st Q
abbrev jX5_head_367 (P : MPl) (s0 : State) (l : Launch) (X : Prop) (lev : Nat) (st0 : MSt) (Q : Outcome → MSt → Prop) (x1 x2 x3 x4 x5 x6 x7 : Int32) (st : MSt) : Prop := JQ (wM P s0 l X) mX5_head (lev + 1) st0 367 [some (va_rf (some P.mo)), some (.int x1), some (.int x2), some (.int x3), some (.int x4), some (.int x5), some (.int x6), some (.int x7)] [] st Q
abbrev jX5_head_428 (P : MPl) (s0 : State) (l : Launch) (X : Prop) (lev : Nat) (st0 : MSt) (Q : Outcome → MSt → Prop) (x1 x2 x3 x4 x5 x6 x7 : Int32) (st : MSt) : Prop := JQ (wM P s0 l X) mX5_head (lev + 1) st0 428 [some (va_rf (some P.mo)), some (.int x1), some (.int x2), some (.int x3), some (.int x4), some (.int x5), some (.int x6), some (.int x7)] [] st Q
theorem tX5_head {P : MPl} {s0 : State} {l : Launch} {X : Prop} {lev : Nat} {Q : Outcome → MSt → Prop} {x1 x2 : Int32} {st : MSt} (h : (((fI st 72) = 0 → jX5_head_25 P s0 l X lev st Q x1 x2 (fI st 51) x1 x2 (iI 1) st) ∧ (¬ (fI st 72) = 0 → jX5_head_25 P s0 l X lev st Q x1 x2 (fI st 51) x1 x2 (iI 0) st))) : CQ (wM P s0 l X) mX5_head (lev + 1) [.ref P.mo, .int x1, .int x2] st Q := by
  refine CQ.of2 5 (lv := [some (va_rf (some P.mo)), some (.int x1), some (.int x2), none, none, none, none, none]) (by decide) (Nat.le_of_ble_eq_true rfl) rfl rfl ?_
  refine j_aload_n (r := some P.mo) dX5_head_0 rfl ?_
  refine jm_get (v := fI st 51) fM_51 rfl rfl dX5_head_1 ?_
  refine j_istore_n (lv' := [some (va_rf (some P.mo)), some (.int x1), some (.int x2), some (.int (fI st 51)), none, none, none, none]) dX5_head_4 (by decide) rfl ?_
  refine j_iload_n dX5_head_5 rfl ?_
  refine j_istore (lv' := [some (va_rf (some P.mo)), some (.int x1), some (.int x2), some (.int (fI st 51)), some (.int x1), none, none, none]) dX5_head_6 (by decide) rfl ?_
  refine j_iload_n dX5_head_8 rfl ?_
  refine j_istore (lv' := [some (va_rf (some P.mo)), some (.int x1), some (.int x2), some (.int (fI st 51)), some (.int x1), some (.int x2), none, none]) dX5_head_9 (by decide) rfl ?_
  refine j_aload_n (r := some P.mo) dX5_head_11 rfl ?_
  refine jm_get (v := fI st 72) fM_72 rfl rfl dX5_head_12 ?_
  refine j_if_ne 22 dX5_head_15 (by decide) (fun c1 => ?_) (fun c1 => ?_)
  · replace h := h.2 c1
    refine j_iconst (v := iI 0) dX5_head_22 rfl ?_
    refine j_istore (lv' := [some (va_rf (some P.mo)), some (.int x1), some (.int x2), some (.int (fI st 51)), some (.int x1), some (.int x2), some (.int (iI 0)), none]) dX5_head_23 (by decide) rfl ?_
    exact h
  · replace h := h.1 c1
    refine j_iconst (v := iI 1) dX5_head_18 rfl ?_
    refine j_goto 23 dX5_head_19 (by decide) ?_
    refine j_istore (lv' := [some (va_rf (some P.mo)), some (.int x1), some (.int x2), some (.int (fI st 51)), some (.int x1), some (.int x2), some (.int (iI 1)), none]) dX5_head_23 (by decide) rfl ?_
    exact h
theorem tX5_head_25 {P : MPl} {s0 : State} {l : Launch} {X : Prop} {lev : Nat} {st0 : MSt} {Q : Outcome → MSt → Prop} {x1 x2 x3 x4 x5 x6 : Int32} {st : MSt} (h : ((x6 = 0 → Q (.returned none) (mput 53 x5 (mput 52 x4 st))) ∧ (¬ x6 = 0 → ((0 ≤ x4 → (inr x4 140000 ∧ (((aI st 30 x4) = (iI 7) → (CQ (wM P s0 l X) mX5_may lev (.ref P.mo :: []) st (onI (fun r12 t11 => ((r12 = 0 → jX5_head_428 P s0 l X lev st0 Q x1 x2 x3 x4 x5 r12 (aI st 30 x4) t11) ∧ (¬ r12 = 0 → (inr x4 140000 ∧ (inr (fI t11 51) 21000 ∧ (inr (fI t11 51) 21000 ∧ (inr x4 140000 ∧ jX5_head_428 P s0 l X lev st0 Q x1 x2 x3 (aI t11 32 x4) x5 r12 (aI st 30 x4) (mput 51 ((fI t11 51) + (iI 1)) (mst 50 (fI t11 51) x5 (mst 49 (fI t11 51) (aI t11 33 x4) (mput 69 ((fI t11 69) + (iI 1)) t11))))))))))) (fun x t => Q (.threw x) t)))) ∧ (¬ (aI st 30 x4) = (iI 7) → (((aI st 30 x4) = (iI 1) → (inr x4 140000 ∧ (CQ (wM P s0 l X) mX5_find lev (.ref P.mo :: [.int (aI st 31 x4), .int x5]) st (onV (fun t6 => (((fI t6 56) = 0 → jX5_head_173 P s0 l X lev st0 Q x1 x2 x3 x4 x5 (iI 0) (aI st 30 x4) t6) ∧ (¬ (fI t6 56) = 0 → ((0 ≤ (fI t6 54) → jX5_head_173 P s0 l X lev st0 Q x1 x2 x3 x4 x5 (iI 0) (aI st 30 x4) t6) ∧ (¬ 0 ≤ (fI t6 54) → jX5_head_428 P s0 l X lev st0 Q x1 x2 x3 (fI t6 54) (iI 0) (iI 0) (aI st 30 x4) t6))))) (fun x t => Q (.threw x) t))))) ∧ (¬ (aI st 30 x4) = (iI 1) → (((aI st 30 x4) = (iI 2) → (inr x4 140000 ∧ (inr (aI st 31 x4) 100 ∧ (((aI st 25 (aI st 31 x4)) < 0 → jX5_head_277 P s0 l X lev st0 Q x1 x2 x3 x4 x5 (iI 0) (aI st 30 x4) st) ∧ (¬ (aI st 25 (aI st 31 x4)) < 0 → (CQ (wM P s0 l X) mX5_may lev (.ref P.mo :: []) st (onI (fun r2 t1 => ((r2 = 0 → jX5_head_428 P s0 l X lev st0 Q x1 x2 x3 x4 x5 r2 (aI st 30 x4) t1) ∧ (¬ r2 = 0 → (inr x4 140000 ∧ (inr (aI t1 31 x4) 100 ∧ jX5_head_428 P s0 l X lev st0 Q x1 x2 x3 (aI t1 25 (aI t1 31 x4)) (iI 0) r2 (aI st 30 x4) (mput 67 ((fI t1 67) + (iI 1)) t1)))))) (fun x t => Q (.threw x) t)))))))) ∧ (¬ (aI st 30 x4) = (iI 2) → jX5_head_277 P s0 l X lev st0 Q x1 x2 x3 x4 x5 (iI 0) (aI st 30 x4) st)))))))) ∧ (¬ 0 ≤ x4 → jX5_head_277 P s0 l X lev st0 Q x1 x2 x3 x4 x5 (iI 0) (iI (-1)) st))))) : jX5_head_25 P s0 l X lev st0 Q x1 x2 x3 x4 x5 x6 st := by
  refine j_iload dX5_head_25 rfl ?_
  refine j_if_eq 431 dX5_head_27 (by decide) (fun c16 => ?_) (fun c16 => ?_)
  · replace h := h.1 c16
    refine j_aload_n (r := some P.mo) dX5_head_431 rfl ?_
    refine j_iload dX5_head_432 rfl ?_
    refine jm_put fM_52 rfl dX5_head_434 ?_
    refine j_aload_n (r := some P.mo) dX5_head_437 rfl ?_
    refine j_iload dX5_head_438 rfl ?_
    refine jm_put fM_53 rfl dX5_head_440 ?_
    exact j_return rfl dX5_head_443 h
  · replace h := h.2 c16
    refine j_iload dX5_head_30 rfl ?_
    refine j_if_ge 39 dX5_head_32 (by decide) (fun c15 => ?_) (fun c15 => ?_)
    · replace h := h.1 c15
      refine j_aload_n (r := some P.mo) dX5_head_39 rfl ?_
      refine jm_geta fM_30 rfl dX5_head_40 ?_
      refine j_iload dX5_head_43 rfl ?_
      refine jm_ald (v := aI st 30 x4) rfl h.1 rfl rfl dX5_head_45 ?_
      replace h := h.2
      refine j_istore (lv' := [some (va_rf (some P.mo)), some (.int x1), some (.int x2), some (.int x3), some (.int x4), some (.int x5), some (.int x6), some (.int (aI st 30 x4))]) dX5_head_46 (by decide) rfl ?_
      refine j_iconst (v := iI 0) dX5_head_48 rfl ?_
      refine j_istore (lv' := [some (va_rf (some P.mo)), some (.int x1), some (.int x2), some (.int x3), some (.int x4), some (.int x5), some (.int (iI 0)), some (.int (aI st 30 x4))]) dX5_head_49 (by decide) rfl ?_
      refine j_iload dX5_head_51 rfl ?_
      refine j_bipush (v := iI 7) dX5_head_53 rfl ?_
      refine j_icmp_ne 128 dX5_head_55 (by decide) (fun c14 => ?_) (fun c14 => ?_)
      · replace h := h.2 c14
        refine j_iload dX5_head_128 rfl ?_
        refine j_iconst (v := iI 1) dX5_head_130 rfl ?_
        refine j_icmp_ne 215 dX5_head_131 (by decide) (fun c10 => ?_) (fun c10 => ?_)
        · replace h := h.2 c10
          refine j_iload dX5_head_215 rfl ?_
          refine j_iconst (v := iI 2) dX5_head_217 rfl ?_
          refine j_icmp_ne 277 dX5_head_218 (by decide) (fun c5 => ?_) (fun c5 => ?_)
          · replace h := h.2 c5
            exact h
          · replace h := h.1 c5
            refine j_aload_n (r := some P.mo) dX5_head_221 rfl ?_
            refine jm_geta fM_25 rfl dX5_head_222 ?_
            refine j_aload_n (r := some P.mo) dX5_head_225 rfl ?_
            refine jm_geta fM_31 rfl dX5_head_226 ?_
            refine j_iload dX5_head_229 rfl ?_
            refine jm_ald (v := aI st 31 x4) rfl h.1 rfl rfl dX5_head_231 ?_
            replace h := h.2
            refine jm_ald (v := aI st 25 (aI st 31 x4)) rfl h.1 rfl rfl dX5_head_232 ?_
            replace h := h.2
            refine j_if_lt 277 dX5_head_233 (by decide) (fun c4 => ?_) (fun c4 => ?_)
            · replace h := h.1 c4
              exact h
            · replace h := h.2 c4
              refine j_aload_n (r := some P.mo) dX5_head_236 rfl ?_
              refine jm_calli (As := []) (rest := []) kX5_may rfl q2399 rfl rfl (Nat.le_of_ble_eq_true rfl) rfl dX5_head_237 (Nat.succ_le_succ (Nat.zero_le _)) (h.mono (onI_mono (fun r2 t1 h => ?_) (fun _ _ h => h)))
              refine j_istore (lv' := [some (va_rf (some P.mo)), some (.int x1), some (.int x2), some (.int x3), some (.int x4), some (.int x5), some (.int r2), some (.int (aI st 30 x4))]) dX5_head_240 (by decide) rfl ?_
              refine j_iload dX5_head_242 rfl ?_
              refine j_if_eq 428 dX5_head_244 (by decide) (fun c3 => ?_) (fun c3 => ?_)
              · replace h := h.1 c3
                exact h
              · replace h := h.2 c3
                refine j_aload_n (r := some P.mo) dX5_head_247 rfl ?_
                refine j_dup dX5_head_248 rfl ?_
                refine jm_get (v := fI t1 67) fM_67 rfl rfl dX5_head_249 ?_
                refine j_iconst (v := iI 1) dX5_head_252 rfl ?_
                refine j_iadd dX5_head_253 ?_
                refine jm_put fM_67 rfl dX5_head_254 ?_
                refine j_aload_n (r := some P.mo) dX5_head_257 rfl ?_
                refine jm_geta fM_25 rfl dX5_head_258 ?_
                refine j_aload_n (r := some P.mo) dX5_head_261 rfl ?_
                refine jm_geta fM_31 rfl dX5_head_262 ?_
                refine j_iload dX5_head_265 rfl ?_
                refine jm_ald (v := aI t1 31 x4) rfl h.1 rfl rfl dX5_head_267 ?_
                replace h := h.2
                refine jm_ald (v := aI t1 25 (aI t1 31 x4)) rfl h.1 rfl rfl dX5_head_268 ?_
                replace h := h.2
                refine j_istore (lv' := [some (va_rf (some P.mo)), some (.int x1), some (.int x2), some (.int x3), some (.int (aI t1 25 (aI t1 31 x4))), some (.int x5), some (.int r2), some (.int (aI st 30 x4))]) dX5_head_269 (by decide) rfl ?_
                refine j_iconst (v := iI 0) dX5_head_271 rfl ?_
                refine j_istore (lv' := [some (va_rf (some P.mo)), some (.int x1), some (.int x2), some (.int x3), some (.int (aI t1 25 (aI t1 31 x4))), some (.int (iI 0)), some (.int r2), some (.int (aI st 30 x4))]) dX5_head_272 (by decide) rfl ?_
                refine j_goto 428 dX5_head_274 (by decide) ?_
                exact h
        · replace h := h.1 c10
          refine j_aload_n (r := some P.mo) dX5_head_134 rfl ?_
          refine j_aload_n (r := some P.mo) dX5_head_135 rfl ?_
          refine jm_geta fM_31 rfl dX5_head_136 ?_
          refine j_iload dX5_head_139 rfl ?_
          refine jm_ald (v := aI st 31 x4) rfl h.1 rfl rfl dX5_head_141 ?_
          replace h := h.2
          refine j_iload dX5_head_142 rfl ?_
          refine jm_callv (As := [.int (aI st 31 x4), .int x5]) (rest := []) kX5_find rfl q2408 rfl rfl (Nat.le_of_ble_eq_true rfl) rfl dX5_head_144 (Nat.succ_le_succ (Nat.zero_le _)) (h.mono (onV_mono (fun t6 h => ?_) (fun _ _ h => h)))
          refine j_aload_n (r := some P.mo) dX5_head_147 rfl ?_
          refine jm_getz (v := fI t6 56) fM_56 rfl rfl dX5_head_148 ?_
          refine j_if_eq 173 dX5_head_151 (by decide) (fun c9 => ?_) (fun c9 => ?_)
          · replace h := h.1 c9
            exact h
          · replace h := h.2 c9
            refine j_aload_n (r := some P.mo) dX5_head_154 rfl ?_
            refine jm_get (v := fI t6 54) fM_54 rfl rfl dX5_head_155 ?_
            refine j_if_ge 173 dX5_head_158 (by decide) (fun c8 => ?_) (fun c8 => ?_)
            · replace h := h.1 c8
              exact h
            · replace h := h.2 c8
              refine j_aload_n (r := some P.mo) dX5_head_161 rfl ?_
              refine jm_get (v := fI t6 54) fM_54 rfl rfl dX5_head_162 ?_
              refine j_istore (lv' := [some (va_rf (some P.mo)), some (.int x1), some (.int x2), some (.int x3), some (.int (fI t6 54)), some (.int x5), some (.int (iI 0)), some (.int (aI st 30 x4))]) dX5_head_165 (by decide) rfl ?_
              refine j_iconst (v := iI 0) dX5_head_167 rfl ?_
              refine j_istore (lv' := [some (va_rf (some P.mo)), some (.int x1), some (.int x2), some (.int x3), some (.int (fI t6 54)), some (.int (iI 0)), some (.int (iI 0)), some (.int (aI st 30 x4))]) dX5_head_168 (by decide) rfl ?_
              refine j_goto 428 dX5_head_170 (by decide) ?_
              exact h
      · replace h := h.1 c14
        refine j_aload_n (r := some P.mo) dX5_head_58 rfl ?_
        refine jm_calli (As := []) (rest := []) kX5_may rfl q2399 rfl rfl (Nat.le_of_ble_eq_true rfl) rfl dX5_head_59 (Nat.succ_le_succ (Nat.zero_le _)) (h.mono (onI_mono (fun r12 t11 h => ?_) (fun _ _ h => h)))
        refine j_istore (lv' := [some (va_rf (some P.mo)), some (.int x1), some (.int x2), some (.int x3), some (.int x4), some (.int x5), some (.int r12), some (.int (aI st 30 x4))]) dX5_head_62 (by decide) rfl ?_
        refine j_iload dX5_head_64 rfl ?_
        refine j_if_eq 428 dX5_head_66 (by decide) (fun c13 => ?_) (fun c13 => ?_)
        · replace h := h.1 c13
          exact h
        · replace h := h.2 c13
          refine j_aload_n (r := some P.mo) dX5_head_69 rfl ?_
          refine j_dup dX5_head_70 rfl ?_
          refine jm_get (v := fI t11 69) fM_69 rfl rfl dX5_head_71 ?_
          refine j_iconst (v := iI 1) dX5_head_74 rfl ?_
          refine j_iadd dX5_head_75 ?_
          refine jm_put fM_69 rfl dX5_head_76 ?_
          refine j_aload_n (r := some P.mo) dX5_head_79 rfl ?_
          refine jm_geta fM_49 rfl dX5_head_80 ?_
          refine j_aload_n (r := some P.mo) dX5_head_83 rfl ?_
          refine jm_get (v := fI t11 51) fM_51 rfl rfl dX5_head_84 ?_
          refine j_aload_n (r := some P.mo) dX5_head_87 rfl ?_
          refine jm_geta fM_33 rfl dX5_head_88 ?_
          refine j_iload dX5_head_91 rfl ?_
          refine jm_ald (v := aI t11 33 x4) rfl h.1 rfl rfl dX5_head_93 ?_
          replace h := h.2
          refine jm_ast rfl h.1 rfl dX5_head_94 ?_
          replace h := h.2
          refine j_aload_n (r := some P.mo) dX5_head_95 rfl ?_
          refine jm_geta fM_50 rfl dX5_head_96 ?_
          refine j_aload_n (r := some P.mo) dX5_head_99 rfl ?_
          refine jm_get (v := fI t11 51) fM_51 rfl rfl dX5_head_100 ?_
          refine j_iload dX5_head_103 rfl ?_
          refine jm_ast rfl h.1 rfl dX5_head_105 ?_
          replace h := h.2
          refine j_aload_n (r := some P.mo) dX5_head_106 rfl ?_
          refine j_dup dX5_head_107 rfl ?_
          refine jm_get (v := fI t11 51) fM_51 rfl rfl dX5_head_108 ?_
          refine j_iconst (v := iI 1) dX5_head_111 rfl ?_
          refine j_iadd dX5_head_112 ?_
          refine jm_put fM_51 rfl dX5_head_113 ?_
          refine j_aload_n (r := some P.mo) dX5_head_116 rfl ?_
          refine jm_geta fM_32 rfl dX5_head_117 ?_
          refine j_iload dX5_head_120 rfl ?_
          refine jm_ald (v := aI t11 32 x4) rfl h.1 rfl rfl dX5_head_122 ?_
          replace h := h.2
          refine j_istore (lv' := [some (va_rf (some P.mo)), some (.int x1), some (.int x2), some (.int x3), some (.int (aI t11 32 x4)), some (.int x5), some (.int r12), some (.int (aI st 30 x4))]) dX5_head_123 (by decide) rfl ?_
          refine j_goto 428 dX5_head_125 (by decide) ?_
          exact h
    · replace h := h.2 c15
      refine j_iconst (v := iI (-1)) dX5_head_35 rfl ?_
      refine j_goto 46 dX5_head_36 (by decide) ?_
      refine j_istore (lv' := [some (va_rf (some P.mo)), some (.int x1), some (.int x2), some (.int x3), some (.int x4), some (.int x5), some (.int x6), some (.int (iI (-1)))]) dX5_head_46 (by decide) rfl ?_
      refine j_iconst (v := iI 0) dX5_head_48 rfl ?_
      refine j_istore (lv' := [some (va_rf (some P.mo)), some (.int x1), some (.int x2), some (.int x3), some (.int x4), some (.int x5), some (.int (iI 0)), some (.int (iI (-1)))]) dX5_head_49 (by decide) rfl ?_
      refine j_iload dX5_head_51 rfl ?_
      refine j_bipush (v := iI 7) dX5_head_53 rfl ?_
      refine j_icmp_ne 128 dX5_head_55 (by decide) (fun _ => ?_) (fun q_ => absurd q_ (by decide))
      refine j_iload dX5_head_128 rfl ?_
      refine j_iconst (v := iI 1) dX5_head_130 rfl ?_
      refine j_icmp_ne 215 dX5_head_131 (by decide) (fun _ => ?_) (fun q_ => absurd q_ (by decide))
      refine j_iload dX5_head_215 rfl ?_
      refine j_iconst (v := iI 2) dX5_head_217 rfl ?_
      refine j_icmp_ne 277 dX5_head_218 (by decide) (fun _ => ?_) (fun q_ => absurd q_ (by decide))
      exact h
theorem tX5_head_173 {P : MPl} {s0 : State} {l : Launch} {X : Prop} {lev : Nat} {st0 : MSt} {Q : Outcome → MSt → Prop} {x1 x2 x3 x4 x5 x6 x7 : Int32} {st : MSt} (h : (((fI st 56) = 0 → jX5_head_428 P s0 l X lev st0 Q x1 x2 x3 x4 x5 x6 x7 st) ∧ (¬ (fI st 56) = 0 → (CQ (wM P s0 l X) mX5_may lev (.ref P.mo :: []) st (onI (fun r2 t1 => ((r2 = 0 → jX5_head_428 P s0 l X lev st0 Q x1 x2 x3 x4 x5 x6 x7 t1) ∧ (¬ r2 = 0 → jX5_head_428 P s0 l X lev st0 Q x1 x2 x3 (fI t1 54) (fI t1 55) (iI 1) x7 (mput 70 ((fI t1 70) + (iI 1)) t1)))) (fun x t => Q (.threw x) t)))))) : jX5_head_173 P s0 l X lev st0 Q x1 x2 x3 x4 x5 x6 x7 st := by
  refine j_aload_n (r := some P.mo) dX5_head_173 rfl ?_
  refine jm_getz (v := fI st 56) fM_56 rfl rfl dX5_head_174 ?_
  refine j_if_eq 428 dX5_head_177 (by decide) (fun c4 => ?_) (fun c4 => ?_)
  · replace h := h.1 c4
    exact h
  · replace h := h.2 c4
    refine j_aload_n (r := some P.mo) dX5_head_180 rfl ?_
    refine jm_calli (As := []) (rest := []) kX5_may rfl q2399 rfl rfl (Nat.le_of_ble_eq_true rfl) rfl dX5_head_181 (Nat.succ_le_succ (Nat.zero_le _)) (h.mono (onI_mono (fun r2 t1 h => ?_) (fun _ _ h => h)))
    refine j_if_eq 428 dX5_head_184 (by decide) (fun c3 => ?_) (fun c3 => ?_)
    · replace h := h.1 c3
      exact h
    · replace h := h.2 c3
      refine j_aload_n (r := some P.mo) dX5_head_187 rfl ?_
      refine j_dup dX5_head_188 rfl ?_
      refine jm_get (v := fI t1 70) fM_70 rfl rfl dX5_head_189 ?_
      refine j_iconst (v := iI 1) dX5_head_192 rfl ?_
      refine j_iadd dX5_head_193 ?_
      refine jm_put fM_70 rfl dX5_head_194 ?_
      refine j_aload_n (r := some P.mo) dX5_head_197 rfl ?_
      refine jm_get (v := fI t1 54) fM_54 rfl rfl dX5_head_198 ?_
      refine j_istore (lv' := [some (va_rf (some P.mo)), some (.int x1), some (.int x2), some (.int x3), some (.int (fI t1 54)), some (.int x5), some (.int x6), some (.int x7)]) dX5_head_201 (by decide) rfl ?_
      refine j_aload_n (r := some P.mo) dX5_head_203 rfl ?_
      refine jm_get (v := fI t1 55) fM_55 rfl rfl dX5_head_204 ?_
      refine j_istore (lv' := [some (va_rf (some P.mo)), some (.int x1), some (.int x2), some (.int x3), some (.int (fI t1 54)), some (.int (fI t1 55)), some (.int x6), some (.int x7)]) dX5_head_207 (by decide) rfl ?_
      refine j_iconst (v := iI 1) dX5_head_209 rfl ?_
      refine j_istore (lv' := [some (va_rf (some P.mo)), some (.int x1), some (.int x2), some (.int x3), some (.int (fI t1 54)), some (.int (fI t1 55)), some (.int (iI 1)), some (.int x7)]) dX5_head_210 (by decide) rfl ?_
      refine j_goto 428 dX5_head_212 (by decide) ?_
      exact h
theorem tX5_head_277 {P : MPl} {s0 : State} {l : Launch} {X : Prop} {lev : Nat} {st0 : MSt} {Q : Outcome → MSt → Prop} {x1 x2 x3 x4 x5 x6 x7 : Int32} {st : MSt} (h : ((x7 = (iI 4) → (((fI st 51) ≤ x3 → jX5_head_367 P s0 l X lev st0 Q x1 x2 x3 x4 x5 x6 x7 st) ∧ (¬ (fI st 51) ≤ x3 → (CQ (wM P s0 l X) mX5_may lev (.ref P.mo :: []) st (onI (fun r2 t1 => ((r2 = 0 → jX5_head_428 P s0 l X lev st0 Q x1 x2 x3 x4 x5 r2 x7 t1) ∧ (¬ r2 = 0 → (inr x4 140000 ∧ (inr ((fI t1 51) - (iI 1)) 21000 ∧ (inr ((fI t1 51) - (iI 1)) 21000 ∧ (CQ (wM P s0 l X) mX5_cell lev (.ref P.mo :: [.int x5, .int (aI t1 38 x4), .int (aI t1 49 ((fI t1 51) - (iI 1))), .int (aI t1 50 ((fI t1 51) - (iI 1)))]) (mput 51 ((fI t1 51) - (iI 1)) (mput 66 ((fI t1 66) + (iI 1)) t1)) (onI (fun r4 t3 => (inr x4 140000 ∧ jX5_head_428 P s0 l X lev st0 Q x1 x2 x3 (aI t3 33 x4) r4 r2 x7 t3)) (fun x t => Q (.threw x) t))))))))) (fun x t => Q (.threw x) t)))))) ∧ (¬ x7 = (iI 4) → jX5_head_367 P s0 l X lev st0 Q x1 x2 x3 x4 x5 x6 x7 st))) : jX5_head_277 P s0 l X lev st0 Q x1 x2 x3 x4 x5 x6 x7 st := by
  refine j_iload dX5_head_277 rfl ?_
  refine j_iconst (v := iI 4) dX5_head_279 rfl ?_
  refine j_icmp_ne 367 dX5_head_280 (by decide) (fun c7 => ?_) (fun c7 => ?_)
  · replace h := h.2 c7
    exact h
  · replace h := h.1 c7
    refine j_aload_n (r := some P.mo) dX5_head_283 rfl ?_
    refine jm_get (v := fI st 51) fM_51 rfl rfl dX5_head_284 ?_
    refine j_iload_n dX5_head_287 rfl ?_
    refine j_icmp_le 367 dX5_head_288 (by decide) (fun c6 => ?_) (fun c6 => ?_)
    · replace h := h.1 c6
      exact h
    · replace h := h.2 c6
      refine j_aload_n (r := some P.mo) dX5_head_291 rfl ?_
      refine jm_calli (As := []) (rest := []) kX5_may rfl q2399 rfl rfl (Nat.le_of_ble_eq_true rfl) rfl dX5_head_292 (Nat.succ_le_succ (Nat.zero_le _)) (h.mono (onI_mono (fun r2 t1 h => ?_) (fun _ _ h => h)))
      refine j_istore (lv' := [some (va_rf (some P.mo)), some (.int x1), some (.int x2), some (.int x3), some (.int x4), some (.int x5), some (.int r2), some (.int x7)]) dX5_head_295 (by decide) rfl ?_
      refine j_iload dX5_head_297 rfl ?_
      refine j_if_eq 428 dX5_head_299 (by decide) (fun c5 => ?_) (fun c5 => ?_)
      · replace h := h.1 c5
        exact h
      · replace h := h.2 c5
        refine j_aload_n (r := some P.mo) dX5_head_302 rfl ?_
        refine j_dup dX5_head_303 rfl ?_
        refine jm_get (v := fI t1 66) fM_66 rfl rfl dX5_head_304 ?_
        refine j_iconst (v := iI 1) dX5_head_307 rfl ?_
        refine j_iadd dX5_head_308 ?_
        refine jm_put fM_66 rfl dX5_head_309 ?_
        refine j_aload_n (r := some P.mo) dX5_head_312 rfl ?_
        refine j_dup dX5_head_313 rfl ?_
        refine jm_get (v := fI t1 51) fM_51 rfl rfl dX5_head_314 ?_
        refine j_iconst (v := iI 1) dX5_head_317 rfl ?_
        refine j_isub dX5_head_318 ?_
        refine jm_put fM_51 rfl dX5_head_319 ?_
        refine j_aload_n (r := some P.mo) dX5_head_322 rfl ?_
        refine j_iload dX5_head_323 rfl ?_
        refine j_aload_n (r := some P.mo) dX5_head_325 rfl ?_
        refine jm_geta fM_38 rfl dX5_head_326 ?_
        refine j_iload dX5_head_329 rfl ?_
        refine jm_ald (v := aI t1 38 x4) rfl h.1 rfl rfl dX5_head_331 ?_
        replace h := h.2
        refine j_aload_n (r := some P.mo) dX5_head_332 rfl ?_
        refine jm_geta fM_49 rfl dX5_head_333 ?_
        refine j_aload_n (r := some P.mo) dX5_head_336 rfl ?_
        refine jm_get (v := (fI t1 51) - (iI 1)) fM_51 rfl rfl dX5_head_337 ?_
        refine jm_ald (v := aI t1 49 ((fI t1 51) - (iI 1))) rfl h.1 rfl rfl dX5_head_340 ?_
        replace h := h.2
        refine j_aload_n (r := some P.mo) dX5_head_341 rfl ?_
        refine jm_geta fM_50 rfl dX5_head_342 ?_
        refine j_aload_n (r := some P.mo) dX5_head_345 rfl ?_
        refine jm_get (v := (fI t1 51) - (iI 1)) fM_51 rfl rfl dX5_head_346 ?_
        refine jm_ald (v := aI t1 50 ((fI t1 51) - (iI 1))) rfl h.1 rfl rfl dX5_head_349 ?_
        replace h := h.2
        refine jm_calli (As := [.int x5, .int (aI t1 38 x4), .int (aI t1 49 ((fI t1 51) - (iI 1))), .int (aI t1 50 ((fI t1 51) - (iI 1)))]) (rest := []) kX5_cell rfl q2412 rfl rfl (Nat.le_of_ble_eq_true rfl) rfl dX5_head_350 (Nat.succ_le_succ (Nat.zero_le _)) (h.mono (onI_mono (fun r4 t3 h => ?_) (fun _ _ h => h)))
        refine j_istore (lv' := [some (va_rf (some P.mo)), some (.int x1), some (.int x2), some (.int x3), some (.int x4), some (.int r4), some (.int r2), some (.int x7)]) dX5_head_353 (by decide) rfl ?_
        refine j_aload_n (r := some P.mo) dX5_head_355 rfl ?_
        refine jm_geta fM_33 rfl dX5_head_356 ?_
        refine j_iload dX5_head_359 rfl ?_
        refine jm_ald (v := aI t3 33 x4) rfl h.1 rfl rfl dX5_head_361 ?_
        replace h := h.2
        refine j_istore (lv' := [some (va_rf (some P.mo)), some (.int x1), some (.int x2), some (.int x3), some (.int (aI t3 33 x4)), some (.int r4), some (.int r2), some (.int x7)]) dX5_head_362 (by decide) rfl ?_
        refine j_goto 428 dX5_head_364 (by decide) ?_
        exact h
theorem tX5_head_367 {P : MPl} {s0 : State} {l : Launch} {X : Prop} {lev : Nat} {st0 : MSt} {Q : Outcome → MSt → Prop} {x1 x2 x3 x4 x5 x6 x7 : Int32} {st : MSt} (h : ((x7 = (iI 6) → (CQ (wM P s0 l X) mX5_may lev (.ref P.mo :: []) st (onI (fun r2 t1 => ((r2 = 0 → jX5_head_428 P s0 l X lev st0 Q x1 x2 x3 x4 x5 r2 x7 t1) ∧ (¬ r2 = 0 → (inr x4 140000 ∧ (inr x4 140000 ∧ (CQ (wM P s0 l X) mX5_cell lev (.ref P.mo :: [.int x5, .int (aI t1 38 x4), .int (aI t1 32 x4), .int x5]) (mput 68 ((fI t1 68) + (iI 1)) t1) (onI (fun r4 t3 => (inr x4 140000 ∧ jX5_head_428 P s0 l X lev st0 Q x1 x2 x3 (aI t3 33 x4) r4 r2 x7 t3)) (fun x t => Q (.threw x) t)))))))) (fun x t => Q (.threw x) t)))) ∧ (¬ x7 = (iI 6) → jX5_head_428 P s0 l X lev st0 Q x1 x2 x3 x4 x5 x6 x7 st))) : jX5_head_367 P s0 l X lev st0 Q x1 x2 x3 x4 x5 x6 x7 st := by
  refine j_iload dX5_head_367 rfl ?_
  refine j_bipush (v := iI 6) dX5_head_369 rfl ?_
  refine j_icmp_ne 428 dX5_head_371 (by decide) (fun c6 => ?_) (fun c6 => ?_)
  · replace h := h.2 c6
    exact h
  · replace h := h.1 c6
    refine j_aload_n (r := some P.mo) dX5_head_374 rfl ?_
    refine jm_calli (As := []) (rest := []) kX5_may rfl q2399 rfl rfl (Nat.le_of_ble_eq_true rfl) rfl dX5_head_375 (Nat.succ_le_succ (Nat.zero_le _)) (h.mono (onI_mono (fun r2 t1 h => ?_) (fun _ _ h => h)))
    refine j_istore (lv' := [some (va_rf (some P.mo)), some (.int x1), some (.int x2), some (.int x3), some (.int x4), some (.int x5), some (.int r2), some (.int x7)]) dX5_head_378 (by decide) rfl ?_
    refine j_iload dX5_head_380 rfl ?_
    refine j_if_eq 428 dX5_head_382 (by decide) (fun c5 => ?_) (fun c5 => ?_)
    · replace h := h.1 c5
      exact h
    · replace h := h.2 c5
      refine j_aload_n (r := some P.mo) dX5_head_385 rfl ?_
      refine j_dup dX5_head_386 rfl ?_
      refine jm_get (v := fI t1 68) fM_68 rfl rfl dX5_head_387 ?_
      refine j_iconst (v := iI 1) dX5_head_390 rfl ?_
      refine j_iadd dX5_head_391 ?_
      refine jm_put fM_68 rfl dX5_head_392 ?_
      refine j_aload_n (r := some P.mo) dX5_head_395 rfl ?_
      refine j_iload dX5_head_396 rfl ?_
      refine j_aload_n (r := some P.mo) dX5_head_398 rfl ?_
      refine jm_geta fM_38 rfl dX5_head_399 ?_
      refine j_iload dX5_head_402 rfl ?_
      refine jm_ald (v := aI t1 38 x4) rfl h.1 rfl rfl dX5_head_404 ?_
      replace h := h.2
      refine j_aload_n (r := some P.mo) dX5_head_405 rfl ?_
      refine jm_geta fM_32 rfl dX5_head_406 ?_
      refine j_iload dX5_head_409 rfl ?_
      refine jm_ald (v := aI t1 32 x4) rfl h.1 rfl rfl dX5_head_411 ?_
      replace h := h.2
      refine j_iload dX5_head_412 rfl ?_
      refine jm_calli (As := [.int x5, .int (aI t1 38 x4), .int (aI t1 32 x4), .int x5]) (rest := []) kX5_cell rfl q2412 rfl rfl (Nat.le_of_ble_eq_true rfl) rfl dX5_head_414 (Nat.succ_le_succ (Nat.zero_le _)) (h.mono (onI_mono (fun r4 t3 h => ?_) (fun _ _ h => h)))
      refine j_istore (lv' := [some (va_rf (some P.mo)), some (.int x1), some (.int x2), some (.int x3), some (.int x4), some (.int r4), some (.int r2), some (.int x7)]) dX5_head_417 (by decide) rfl ?_
      refine j_aload_n (r := some P.mo) dX5_head_419 rfl ?_
      refine jm_geta fM_33 rfl dX5_head_420 ?_
      refine j_iload dX5_head_423 rfl ?_
      refine jm_ald (v := aI t3 33 x4) rfl h.1 rfl rfl dX5_head_425 ?_
      replace h := h.2
      refine j_istore (lv' := [some (va_rf (some P.mo)), some (.int x1), some (.int x2), some (.int x3), some (.int (aI t3 33 x4)), some (.int r4), some (.int r2), some (.int x7)]) dX5_head_426 (by decide) rfl ?_
      exact h
theorem tX5_head_428 {P : MPl} {s0 : State} {l : Launch} {X : Prop} {lev : Nat} {st0 : MSt} {Q : Outcome → MSt → Prop} {x1 x2 x3 x4 x5 x6 x7 : Int32} {st : MSt} (h : jX5_head_25 P s0 l X lev st0 Q x1 x2 x3 x4 x5 x6 st) : jX5_head_428 P s0 l X lev st0 Q x1 x2 x3 x4 x5 x6 x7 st := by
  refine j_goto 25 dX5_head_428 (by decide) ?_
  exact j_mask [true, true, true, true, true, true, true, false] rfl h
abbrev jX5_find_2 (P : MPl) (s0 : State) (l : Launch) (X : Prop) (lev : Nat) (st0 : MSt) (Q : Outcome → MSt → Prop) (x1 x2 x3 : Int32) (st : MSt) : Prop := JQ (wM P s0 l X) mX5_find (lev + 1) st0 2 [some (va_rf (some P.mo)), some (.int x1), some (.int x2), some (.int x3)] [] st Q
abbrev jX5_find_26 (P : MPl) (s0 : State) (l : Launch) (X : Prop) (lev : Nat) (st0 : MSt) (Q : Outcome → MSt → Prop) (x1 x2 x3 : Int32) (st : MSt) : Prop := JQ (wM P s0 l X) mX5_find (lev + 1) st0 26 [some (va_rf (some P.mo)), some (.int x1), some (.int x2), some (.int x3)] [] st Q
theorem tX5_find {P : MPl} {s0 : State} {l : Launch} {X : Prop} {lev : Nat} {Q : Outcome → MSt → Prop} {x1 x2 : Int32} {st : MSt} (h : jX5_find_2 P s0 l X lev st Q x1 x2 x2 st) : CQ (wM P s0 l X) mX5_find (lev + 1) [.ref P.mo, .int x1, .int x2] st Q := by
  refine CQ.of2 1 (lv := [some (va_rf (some P.mo)), some (.int x1), some (.int x2), none]) (by decide) (Nat.le_of_ble_eq_true rfl) rfl rfl ?_
  refine j_iload_n dX5_find_0 rfl ?_
  refine j_istore_n (lv' := [some (va_rf (some P.mo)), some (.int x1), some (.int x2), some (.int x2)]) dX5_find_1 (by decide) rfl ?_
  exact h
theorem tX5_find_2 {P : MPl} {s0 : State} {l : Launch} {X : Prop} {lev : Nat} {st0 : MSt} {Q : Outcome → MSt → Prop} {x1 x2 x3 : Int32} {st : MSt} (h : ((x3 = 0 → jX5_find_26 P s0 l X lev st0 Q x1 x2 x3 st) ∧ (¬ x3 = 0 → (inr x3 80000 ∧ (((aI st 45 x3) = x1 → jX5_find_26 P s0 l X lev st0 Q x1 x2 x3 st) ∧ (¬ (aI st 45 x3) = x1 → (inr x3 80000 ∧ jX5_find_2 P s0 l X lev st0 Q x1 x2 (aI st 44 x3) st))))))) : jX5_find_2 P s0 l X lev st0 Q x1 x2 x3 st := by
  refine j_iload_n dX5_find_2 rfl ?_
  refine j_if_eq 26 dX5_find_3 (by decide) (fun c2 => ?_) (fun c2 => ?_)
  · replace h := h.1 c2
    exact h
  · replace h := h.2 c2
    refine j_aload_n (r := some P.mo) dX5_find_6 rfl ?_
    refine jm_geta fM_45 rfl dX5_find_7 ?_
    refine j_iload_n dX5_find_10 rfl ?_
    refine jm_ald (v := aI st 45 x3) rfl h.1 rfl rfl dX5_find_11 ?_
    replace h := h.2
    refine j_iload_n dX5_find_12 rfl ?_
    refine j_icmp_eq 26 dX5_find_13 (by decide) (fun c1 => ?_) (fun c1 => ?_)
    · replace h := h.1 c1
      exact h
    · replace h := h.2 c1
      refine j_aload_n (r := some P.mo) dX5_find_16 rfl ?_
      refine jm_geta fM_44 rfl dX5_find_17 ?_
      refine j_iload_n dX5_find_20 rfl ?_
      refine jm_ald (v := aI st 44 x3) rfl h.1 rfl rfl dX5_find_21 ?_
      replace h := h.2
      refine j_istore_n (lv' := [some (va_rf (some P.mo)), some (.int x1), some (.int x2), some (.int (aI st 44 x3))]) dX5_find_22 (by decide) rfl ?_
      refine j_goto 2 dX5_find_23 (by decide) ?_
      exact h
theorem tX5_find_26 {P : MPl} {s0 : State} {l : Launch} {X : Prop} {lev : Nat} {st0 : MSt} {Q : Outcome → MSt → Prop} {x1 x2 x3 : Int32} {st : MSt} (h : ((x3 = 0 → Q (.returned none) (mput 56 (iI 0) st)) ∧ (¬ x3 = 0 → (inr x3 80000 ∧ (inr x3 80000 ∧ Q (.returned none) (mput 55 (aI st 47 x3) (mput 54 (aI st 46 x3) (mput 56 (iI 1) st)))))))) : jX5_find_26 P s0 l X lev st0 Q x1 x2 x3 st := by
  refine j_aload_n (r := some P.mo) dX5_find_26 rfl ?_
  refine j_iload_n dX5_find_27 rfl ?_
  refine j_if_eq 35 dX5_find_28 (by decide) (fun c1 => ?_) (fun c1 => ?_)
  · replace h := h.1 c1
    refine j_iconst (v := iI 0) dX5_find_35 rfl ?_
    refine jm_putz fM_56 isZ0 rfl dX5_find_36 ?_
    refine j_aload_n (r := some P.mo) dX5_find_39 rfl ?_
    refine jm_getz (v := iI 0) fM_56 rfl rfl dX5_find_40 ?_
    refine j_if_eq 66 dX5_find_43 (by decide) (fun _ => ?_) (fun q_ => absurd (by decide) q_)
    exact j_return rfl dX5_find_66 h
  · replace h := h.2 c1
    refine j_iconst (v := iI 1) dX5_find_31 rfl ?_
    refine j_goto 36 dX5_find_32 (by decide) ?_
    refine jm_putz fM_56 isZ1 rfl dX5_find_36 ?_
    refine j_aload_n (r := some P.mo) dX5_find_39 rfl ?_
    refine jm_getz (v := iI 1) fM_56 rfl rfl dX5_find_40 ?_
    refine j_if_eq 66 dX5_find_43 (by decide) (fun q_ => absurd q_ (by decide)) (fun _ => ?_)
    refine j_aload_n (r := some P.mo) dX5_find_46 rfl ?_
    refine j_aload_n (r := some P.mo) dX5_find_47 rfl ?_
    refine jm_geta fM_46 rfl dX5_find_48 ?_
    refine j_iload_n dX5_find_51 rfl ?_
    refine jm_ald (v := aI st 46 x3) rfl h.1 rfl rfl dX5_find_52 ?_
    replace h := h.2
    refine jm_put fM_54 rfl dX5_find_53 ?_
    refine j_aload_n (r := some P.mo) dX5_find_56 rfl ?_
    refine j_aload_n (r := some P.mo) dX5_find_57 rfl ?_
    refine jm_geta fM_47 rfl dX5_find_58 ?_
    refine j_iload_n dX5_find_61 rfl ?_
    refine jm_ald (v := aI st 47 x3) rfl h.1 rfl rfl dX5_find_62 ?_
    replace h := h.2
    refine jm_put fM_55 rfl dX5_find_63 ?_
    exact j_return rfl dX5_find_66 h
theorem tX5_cell {P : MPl} {s0 : State} {l : Launch} {X : Prop} {lev : Nat} {Q : Outcome → MSt → Prop} {x1 x2 x3 x4 : Int32} {st : MSt} (h : (inr (fI st 48) 80000 ∧ (inr (fI st 48) 80000 ∧ (inr (fI st 48) 80000 ∧ (inr (fI st 48) 80000 ∧ Q (.returned (some (.int (((fI st 48) + (iI 1)) - (iI 1))))) (mput 48 ((fI st 48) + (iI 1)) (mst 47 (fI st 48) x4 (mst 46 (fI st 48) x3 (mst 45 (fI st 48) x2 (mst 44 (fI st 48) x1 st)))))))))) : CQ (wM P s0 l X) mX5_cell (lev + 1) [.ref P.mo, .int x1, .int x2, .int x3, .int x4] st Q := by
  refine CQ.of2 0 (lv := [some (va_rf (some P.mo)), some (.int x1), some (.int x2), some (.int x3), some (.int x4)]) (by decide) (Nat.le_of_ble_eq_true rfl) rfl rfl ?_
  refine j_aload_n (r := some P.mo) dX5_cell_0 rfl ?_
  refine jm_geta fM_44 rfl dX5_cell_1 ?_
  refine j_aload_n (r := some P.mo) dX5_cell_4 rfl ?_
  refine jm_get (v := fI st 48) fM_48 rfl rfl dX5_cell_5 ?_
  refine j_iload_n dX5_cell_8 rfl ?_
  refine jm_ast rfl h.1 rfl dX5_cell_9 ?_
  replace h := h.2
  refine j_aload_n (r := some P.mo) dX5_cell_10 rfl ?_
  refine jm_geta fM_45 rfl dX5_cell_11 ?_
  refine j_aload_n (r := some P.mo) dX5_cell_14 rfl ?_
  refine jm_get (v := fI st 48) fM_48 rfl rfl dX5_cell_15 ?_
  refine j_iload_n dX5_cell_18 rfl ?_
  refine jm_ast rfl h.1 rfl dX5_cell_19 ?_
  replace h := h.2
  refine j_aload_n (r := some P.mo) dX5_cell_20 rfl ?_
  refine jm_geta fM_46 rfl dX5_cell_21 ?_
  refine j_aload_n (r := some P.mo) dX5_cell_24 rfl ?_
  refine jm_get (v := fI st 48) fM_48 rfl rfl dX5_cell_25 ?_
  refine j_iload_n dX5_cell_28 rfl ?_
  refine jm_ast rfl h.1 rfl dX5_cell_29 ?_
  replace h := h.2
  refine j_aload_n (r := some P.mo) dX5_cell_30 rfl ?_
  refine jm_geta fM_47 rfl dX5_cell_31 ?_
  refine j_aload_n (r := some P.mo) dX5_cell_34 rfl ?_
  refine jm_get (v := fI st 48) fM_48 rfl rfl dX5_cell_35 ?_
  refine j_iload dX5_cell_38 rfl ?_
  refine jm_ast rfl h.1 rfl dX5_cell_40 ?_
  replace h := h.2
  refine j_aload_n (r := some P.mo) dX5_cell_41 rfl ?_
  refine j_dup dX5_cell_42 rfl ?_
  refine jm_get (v := fI st 48) fM_48 rfl rfl dX5_cell_43 ?_
  refine j_iconst (v := iI 1) dX5_cell_46 rfl ?_
  refine j_iadd dX5_cell_47 ?_
  refine jm_put fM_48 rfl dX5_cell_48 ?_
  refine j_aload_n (r := some P.mo) dX5_cell_51 rfl ?_
  refine jm_get (v := (fI st 48) + (iI 1)) fM_48 rfl rfl dX5_cell_52 ?_
  refine j_iconst (v := iI 1) dX5_cell_55 rfl ?_
  refine j_isub dX5_cell_56 ?_
  exact j_ireturn (ty := .int) rfl rfl dX5_cell_57 h
theorem tX5_kindOf {P : MPl} {s0 : State} {l : Launch} {X : Prop} {lev : Nat} {Q : Outcome → MSt → Prop} {x1 : Int32} {st : MSt} (h : ((0 ≤ x1 → (inr x1 140000 ∧ Q (.returned (some (.int (aI st 30 x1)))) st)) ∧ (¬ 0 ≤ x1 → Q (.returned (some (.int (iI (-1))))) st))) : CQ (wM P s0 l X) mX5_kindOf (lev + 1) [.ref P.mo, .int x1] st Q := by
  refine CQ.of2 0 (lv := [some (va_rf (some P.mo)), some (.int x1)]) (by decide) (Nat.le_of_ble_eq_true rfl) rfl rfl ?_
  refine j_iload_n dX5_kindOf_0 rfl ?_
  refine j_if_ge 8 dX5_kindOf_1 (by decide) (fun c1 => ?_) (fun c1 => ?_)
  · replace h := h.1 c1
    refine j_aload_n (r := some P.mo) dX5_kindOf_8 rfl ?_
    refine jm_geta fM_30 rfl dX5_kindOf_9 ?_
    refine j_iload_n dX5_kindOf_12 rfl ?_
    refine jm_ald (v := aI st 30 x1) rfl h.1 rfl rfl dX5_kindOf_13 ?_
    replace h := h.2
    exact j_ireturn (ty := .int) rfl rfl dX5_kindOf_14 h
  · replace h := h.2 c1
    refine j_iconst (v := iI (-1)) dX5_kindOf_4 rfl ?_
    refine j_goto 14 dX5_kindOf_5 (by decide) ?_
    exact j_ireturn (ty := .int) rfl rfl dX5_kindOf_14 h
theorem tX5_inside {P : MPl} {s0 : State} {l : Launch} {X : Prop} {lev : Nat} {Q : Outcome → MSt → Prop} {x1 x2 x3 : Int32} {st : MSt} (h : (inr x1 140000 ∧ (CQ (wM P s0 l X) mX5_cell lev (.ref P.mo :: [.int x2, .int (aI st 38 x1), .int x3, .int (iI 0)]) st (onI (fun r2 t1 => Q (.returned (some (.int r2))) t1) (fun x t => Q (.threw x) t))))) : CQ (wM P s0 l X) mX5_inside (lev + 1) [.ref P.mo, .int x1, .int x2, .int x3] st Q := by
  refine CQ.of2 0 (lv := [some (va_rf (some P.mo)), some (.int x1), some (.int x2), some (.int x3)]) (by decide) (Nat.le_of_ble_eq_true rfl) rfl rfl ?_
  refine j_aload_n (r := some P.mo) dX5_inside_0 rfl ?_
  refine j_iload_n dX5_inside_1 rfl ?_
  refine j_aload_n (r := some P.mo) dX5_inside_2 rfl ?_
  refine jm_geta fM_38 rfl dX5_inside_3 ?_
  refine j_iload_n dX5_inside_6 rfl ?_
  refine jm_ald (v := aI st 38 x1) rfl h.1 rfl rfl dX5_inside_7 ?_
  replace h := h.2
  refine j_iload_n dX5_inside_8 rfl ?_
  refine j_iconst (v := iI 0) dX5_inside_9 rfl ?_
  refine jm_calli (As := [.int x2, .int (aI st 38 x1), .int x3, .int (iI 0)]) (rest := []) kX5_cell rfl q2412 rfl rfl (Nat.le_of_ble_eq_true rfl) rfl dX5_inside_10 (Nat.succ_le_succ (Nat.zero_le _)) (h.mono (onI_mono (fun r2 t1 h => ?_) (fun _ _ h => h)))
  exact j_ireturn (ty := .int) rfl rfl dX5_inside_13 h
theorem tX5_bind {P : MPl} {s0 : State} {l : Launch} {X : Prop} {lev : Nat} {Q : Outcome → MSt → Prop} {x1 x2 x3 : Int32} {st : MSt} (h : (inr x1 140000 ∧ (inr x1 140000 ∧ (inr (fI st 43) 50 ∧ Q (.returned none) (mput 43 ((fI st 43) + (iI 1)) (mst 42 (fI st 43) x1 (mst 41 x1 x3 (mst 40 x1 x2 st)))))))) : CQ (wM P s0 l X) mX5_bind (lev + 1) [.ref P.mo, .int x1, .int x2, .int x3] st Q := by
  refine CQ.of2 0 (lv := [some (va_rf (some P.mo)), some (.int x1), some (.int x2), some (.int x3)]) (by decide) (Nat.le_of_ble_eq_true rfl) rfl rfl ?_
  refine j_aload_n (r := some P.mo) dX5_bind_0 rfl ?_
  refine jm_geta fM_40 rfl dX5_bind_1 ?_
  refine j_iload_n dX5_bind_4 rfl ?_
  refine j_iload_n dX5_bind_5 rfl ?_
  refine jm_ast rfl h.1 rfl dX5_bind_6 ?_
  replace h := h.2
  refine j_aload_n (r := some P.mo) dX5_bind_7 rfl ?_
  refine jm_geta fM_41 rfl dX5_bind_8 ?_
  refine j_iload_n dX5_bind_11 rfl ?_
  refine j_iload_n dX5_bind_12 rfl ?_
  refine jm_ast rfl h.1 rfl dX5_bind_13 ?_
  replace h := h.2
  refine j_aload_n (r := some P.mo) dX5_bind_14 rfl ?_
  refine jm_geta fM_42 rfl dX5_bind_15 ?_
  refine j_aload_n (r := some P.mo) dX5_bind_18 rfl ?_
  refine jm_get (v := fI st 43) fM_43 rfl rfl dX5_bind_19 ?_
  refine j_iload_n dX5_bind_22 rfl ?_
  refine jm_ast rfl h.1 rfl dX5_bind_23 ?_
  replace h := h.2
  refine j_aload_n (r := some P.mo) dX5_bind_24 rfl ?_
  refine j_dup dX5_bind_25 rfl ?_
  refine jm_get (v := fI st 43) fM_43 rfl rfl dX5_bind_26 ?_
  refine j_iconst (v := iI 1) dX5_bind_29 rfl ?_
  refine j_iadd dX5_bind_30 ?_
  refine jm_put fM_43 rfl dX5_bind_31 ?_
  exact j_return rfl dX5_bind_34 h
theorem tX5_becomes {P : MPl} {s0 : State} {l : Launch} {X : Prop} {lev : Nat} {Q : Outcome → MSt → Prop} {x1 x2 : Int32} {st : MSt} (h : Q (.returned none) (mput 61 x2 (mput 60 x1 st))) : CQ (wM P s0 l X) mX5_becomes (lev + 1) [.ref P.mo, .int x1, .int x2] st Q := by
  refine CQ.of2 0 (lv := [some (va_rf (some P.mo)), some (.int x1), some (.int x2)]) (by decide) (Nat.le_of_ble_eq_true rfl) rfl rfl ?_
  refine j_aload_n (r := some P.mo) dX5_becomes_0 rfl ?_
  refine j_iload_n dX5_becomes_1 rfl ?_
  refine jm_put fM_60 rfl dX5_becomes_2 ?_
  refine j_aload_n (r := some P.mo) dX5_becomes_5 rfl ?_
  refine j_iload_n dX5_becomes_6 rfl ?_
  refine jm_put fM_61 rfl dX5_becomes_7 ?_
  exact j_return rfl dX5_becomes_10 h
abbrev jX5_judgeProduct_74 (P : MPl) (s0 : State) (l : Launch) (X : Prop) (lev : Nat) (st0 : MSt) (Q : Outcome → MSt → Prop) (x1 x2 x3 x4 x5 : Int32) (st : MSt) : Prop := JQ (wM P s0 l X) mX5_judgeProduct (lev + 1) st0 74 [some (va_rf (some P.mo)), some (.int x1), some (.int x2), some (.int x3), some (.int x4), some (.int x5), none, none] [] st Q
abbrev jX5_judgeProduct_102 (P : MPl) (s0 : State) (l : Launch) (X : Prop) (lev : Nat) (st0 : MSt) (Q : Outcome → MSt → Prop) (x1 x2 x3 x4 x5 x6 : Int32) (st : MSt) : Prop := JQ (wM P s0 l X) mX5_judgeProduct (lev + 1) st0 102 [some (va_rf (some P.mo)), some (.int x1), some (.int x2), some (.int x3), some (.int x4), some (.int x5), some (.int x6), none] [] st Q
theorem tX5_judgeProduct {P : MPl} {s0 : State} {l : Launch} {X : Prop} {lev : Nat} {Q : Outcome → MSt → Prop} {x1 x2 : Int32} {st : MSt} (h : (inr x1 140000 ∧ (CQ (wM P s0 l X) mX5_judgeSort lev (.ref P.mo :: [.int (aI st 32 x1), .int x2]) st (onI (fun r2 t1 => (((fI t1 72) = 0 → (inr x1 140000 ∧ (CQ (wM P s0 l X) mX5_normal lev (.ref P.mo :: [.int (aI t1 32 x1), .int x2, .int (iI 0)]) t1 (onI (fun r8 t7 => (((fI t7 72) = 0 → (inr x1 140000 ∧ (((aI t7 31 x1) < 0 → jX5_judgeProduct_74 P s0 l X lev st Q x1 x2 r2 r8 (iI 0) t7) ∧ (¬ (aI t7 31 x1) < 0 → (CQ (wM P s0 l X) mX5_bind lev (.ref P.mo :: [.int x1, .int r8, .int r2]) t7 (onV (fun t9 => jX5_judgeProduct_74 P s0 l X lev st Q x1 x2 r2 r8 (iI 1) t9) (fun x t => Q (.threw x) t))))))) ∧ (¬ (fI t7 72) = 0 → Q (.returned none) t7))) (fun x t => Q (.threw x) t))))) ∧ (¬ (fI t1 72) = 0 → (((fI t1 72) = 0 → (inr x1 140000 ∧ (((aI t1 31 x1) < 0 → jX5_judgeProduct_74 P s0 l X lev st Q x1 x2 r2 (iI 0) (iI 0) t1) ∧ (¬ (aI t1 31 x1) < 0 → (CQ (wM P s0 l X) mX5_bind lev (.ref P.mo :: [.int x1, .int (iI 0), .int r2]) t1 (onV (fun t3 => jX5_judgeProduct_74 P s0 l X lev st Q x1 x2 r2 (iI 0) (iI 1) t3) (fun x t => Q (.threw x) t))))))) ∧ (¬ (fI t1 72) = 0 → Q (.returned none) t1))))) (fun x t => Q (.threw x) t))))) : CQ (wM P s0 l X) mX5_judgeProduct (lev + 1) [.ref P.mo, .int x1, .int x2] st Q := by
  refine CQ.of2 5 (lv := [some (va_rf (some P.mo)), some (.int x1), some (.int x2), none, none, none, none, none]) (by decide) (Nat.le_of_ble_eq_true rfl) rfl rfl ?_
  refine j_aload_n (r := some P.mo) dX5_judgeProduct_0 rfl ?_
  refine j_aload_n (r := some P.mo) dX5_judgeProduct_1 rfl ?_
  refine jm_geta fM_32 rfl dX5_judgeProduct_2 ?_
  refine j_iload_n dX5_judgeProduct_5 rfl ?_
  refine jm_ald (v := aI st 32 x1) rfl h.1 rfl rfl dX5_judgeProduct_6 ?_
  replace h := h.2
  refine j_iload_n dX5_judgeProduct_7 rfl ?_
  refine jm_calli (As := [.int (aI st 32 x1), .int x2]) (rest := []) kX5_judgeSort rfl q2379 rfl rfl (Nat.le_of_ble_eq_true rfl) rfl dX5_judgeProduct_8 (Nat.succ_le_succ (Nat.zero_le _)) (h.mono (onI_mono (fun r2 t1 h => ?_) (fun _ _ h => h)))
  refine j_istore_n (lv' := [some (va_rf (some P.mo)), some (.int x1), some (.int x2), some (.int r2), none, none, none, none]) dX5_judgeProduct_11 (by decide) rfl ?_
  refine j_aload_n (r := some P.mo) dX5_judgeProduct_12 rfl ?_
  refine jm_get (v := fI t1 72) fM_72 rfl rfl dX5_judgeProduct_13 ?_
  refine j_if_ne 34 dX5_judgeProduct_16 (by decide) (fun c13 => ?_) (fun c13 => ?_)
  · replace h := h.2 c13
    refine j_iconst (v := iI 0) dX5_judgeProduct_34 rfl ?_
    refine j_istore (lv' := [some (va_rf (some P.mo)), some (.int x1), some (.int x2), some (.int r2), some (.int (iI 0)), none, none, none]) dX5_judgeProduct_35 (by decide) rfl ?_
    refine j_aload_n (r := some P.mo) dX5_judgeProduct_37 rfl ?_
    refine jm_get (v := fI t1 72) fM_72 rfl rfl dX5_judgeProduct_38 ?_
    refine j_if_eq 45 dX5_judgeProduct_41 (by decide) (fun c6 => ?_) (fun c6 => ?_)
    · replace h := h.1 c6
      refine j_aload_n (r := some P.mo) dX5_judgeProduct_45 rfl ?_
      refine jm_geta fM_31 rfl dX5_judgeProduct_46 ?_
      refine j_iload_n dX5_judgeProduct_49 rfl ?_
      refine jm_ald (v := aI t1 31 x1) rfl h.1 rfl rfl dX5_judgeProduct_50 ?_
      replace h := h.2
      refine j_if_lt 58 dX5_judgeProduct_51 (by decide) (fun c5 => ?_) (fun c5 => ?_)
      · replace h := h.1 c5
        refine j_iconst (v := iI 0) dX5_judgeProduct_58 rfl ?_
        refine j_istore (lv' := [some (va_rf (some P.mo)), some (.int x1), some (.int x2), some (.int r2), some (.int (iI 0)), some (.int (iI 0)), none, none]) dX5_judgeProduct_59 (by decide) rfl ?_
        refine j_iload dX5_judgeProduct_61 rfl ?_
        refine j_if_eq 74 dX5_judgeProduct_63 (by decide) (fun _ => ?_) (fun q_ => absurd (by decide) q_)
        exact h
      · replace h := h.2 c5
        refine j_iconst (v := iI 1) dX5_judgeProduct_54 rfl ?_
        refine j_goto 59 dX5_judgeProduct_55 (by decide) ?_
        refine j_istore (lv' := [some (va_rf (some P.mo)), some (.int x1), some (.int x2), some (.int r2), some (.int (iI 0)), some (.int (iI 1)), none, none]) dX5_judgeProduct_59 (by decide) rfl ?_
        refine j_iload dX5_judgeProduct_61 rfl ?_
        refine j_if_eq 74 dX5_judgeProduct_63 (by decide) (fun q_ => absurd q_ (by decide)) (fun _ => ?_)
        refine j_aload_n (r := some P.mo) dX5_judgeProduct_66 rfl ?_
        refine j_iload_n dX5_judgeProduct_67 rfl ?_
        refine j_iload dX5_judgeProduct_68 rfl ?_
        refine j_iload_n dX5_judgeProduct_70 rfl ?_
        refine jm_callv (As := [.int x1, .int (iI 0), .int r2]) (rest := []) kX5_bind rfl q2424 rfl rfl (Nat.le_of_ble_eq_true rfl) rfl dX5_judgeProduct_71 (Nat.succ_le_succ (Nat.zero_le _)) (h.mono (onV_mono (fun t3 h => ?_) (fun _ _ h => h)))
        exact h
    · replace h := h.2 c6
      exact j_return rfl dX5_judgeProduct_44 h
  · replace h := h.1 c13
    refine j_aload_n (r := some P.mo) dX5_judgeProduct_19 rfl ?_
    refine j_aload_n (r := some P.mo) dX5_judgeProduct_20 rfl ?_
    refine jm_geta fM_32 rfl dX5_judgeProduct_21 ?_
    refine j_iload_n dX5_judgeProduct_24 rfl ?_
    refine jm_ald (v := aI t1 32 x1) rfl h.1 rfl rfl dX5_judgeProduct_25 ?_
    replace h := h.2
    refine j_iload_n dX5_judgeProduct_26 rfl ?_
    refine j_iconst (v := iI 0) dX5_judgeProduct_27 rfl ?_
    refine jm_calli (As := [.int (aI t1 32 x1), .int x2, .int (iI 0)]) (rest := []) kX5_normal rfl q2391 rfl rfl (Nat.le_of_ble_eq_true rfl) rfl dX5_judgeProduct_28 (Nat.succ_le_succ (Nat.zero_le _)) (h.mono (onI_mono (fun r8 t7 h => ?_) (fun _ _ h => h)))
    refine j_goto 35 dX5_judgeProduct_31 (by decide) ?_
    refine j_istore (lv' := [some (va_rf (some P.mo)), some (.int x1), some (.int x2), some (.int r2), some (.int r8), none, none, none]) dX5_judgeProduct_35 (by decide) rfl ?_
    refine j_aload_n (r := some P.mo) dX5_judgeProduct_37 rfl ?_
    refine jm_get (v := fI t7 72) fM_72 rfl rfl dX5_judgeProduct_38 ?_
    refine j_if_eq 45 dX5_judgeProduct_41 (by decide) (fun c12 => ?_) (fun c12 => ?_)
    · replace h := h.1 c12
      refine j_aload_n (r := some P.mo) dX5_judgeProduct_45 rfl ?_
      refine jm_geta fM_31 rfl dX5_judgeProduct_46 ?_
      refine j_iload_n dX5_judgeProduct_49 rfl ?_
      refine jm_ald (v := aI t7 31 x1) rfl h.1 rfl rfl dX5_judgeProduct_50 ?_
      replace h := h.2
      refine j_if_lt 58 dX5_judgeProduct_51 (by decide) (fun c11 => ?_) (fun c11 => ?_)
      · replace h := h.1 c11
        refine j_iconst (v := iI 0) dX5_judgeProduct_58 rfl ?_
        refine j_istore (lv' := [some (va_rf (some P.mo)), some (.int x1), some (.int x2), some (.int r2), some (.int r8), some (.int (iI 0)), none, none]) dX5_judgeProduct_59 (by decide) rfl ?_
        refine j_iload dX5_judgeProduct_61 rfl ?_
        refine j_if_eq 74 dX5_judgeProduct_63 (by decide) (fun _ => ?_) (fun q_ => absurd (by decide) q_)
        exact h
      · replace h := h.2 c11
        refine j_iconst (v := iI 1) dX5_judgeProduct_54 rfl ?_
        refine j_goto 59 dX5_judgeProduct_55 (by decide) ?_
        refine j_istore (lv' := [some (va_rf (some P.mo)), some (.int x1), some (.int x2), some (.int r2), some (.int r8), some (.int (iI 1)), none, none]) dX5_judgeProduct_59 (by decide) rfl ?_
        refine j_iload dX5_judgeProduct_61 rfl ?_
        refine j_if_eq 74 dX5_judgeProduct_63 (by decide) (fun q_ => absurd q_ (by decide)) (fun _ => ?_)
        refine j_aload_n (r := some P.mo) dX5_judgeProduct_66 rfl ?_
        refine j_iload_n dX5_judgeProduct_67 rfl ?_
        refine j_iload dX5_judgeProduct_68 rfl ?_
        refine j_iload_n dX5_judgeProduct_70 rfl ?_
        refine jm_callv (As := [.int x1, .int r8, .int r2]) (rest := []) kX5_bind rfl q2424 rfl rfl (Nat.le_of_ble_eq_true rfl) rfl dX5_judgeProduct_71 (Nat.succ_le_succ (Nat.zero_le _)) (h.mono (onV_mono (fun t9 h => ?_) (fun _ _ h => h)))
        exact h
    · replace h := h.2 c12
      exact j_return rfl dX5_judgeProduct_44 h
theorem tX5_judgeProduct_74 {P : MPl} {s0 : State} {l : Launch} {X : Prop} {lev : Nat} {st0 : MSt} {Q : Outcome → MSt → Prop} {x1 x2 x3 x4 x5 : Int32} {st : MSt} (h : (inr x1 140000 ∧ (CQ (wM P s0 l X) mX5_judgeSort lev (.ref P.mo :: [.int (aI st 33 x1), .int x2]) st (onI (fun r2 t1 => ((x5 = 0 → jX5_judgeProduct_102 P s0 l X lev st0 Q x1 x2 x3 x4 x5 r2 t1) ∧ (¬ x5 = 0 → jX5_judgeProduct_102 P s0 l X lev st0 Q x1 x2 x3 x4 x5 r2 (mput 43 ((fI t1 43) - (iI 1)) t1)))) (fun x t => Q (.threw x) t))))) : jX5_judgeProduct_74 P s0 l X lev st0 Q x1 x2 x3 x4 x5 st := by
  refine j_aload_n (r := some P.mo) dX5_judgeProduct_74 rfl ?_
  refine j_aload_n (r := some P.mo) dX5_judgeProduct_75 rfl ?_
  refine jm_geta fM_33 rfl dX5_judgeProduct_76 ?_
  refine j_iload_n dX5_judgeProduct_79 rfl ?_
  refine jm_ald (v := aI st 33 x1) rfl h.1 rfl rfl dX5_judgeProduct_80 ?_
  replace h := h.2
  refine j_iload_n dX5_judgeProduct_81 rfl ?_
  refine jm_calli (As := [.int (aI st 33 x1), .int x2]) (rest := []) kX5_judgeSort rfl q2379 rfl rfl (Nat.le_of_ble_eq_true rfl) rfl dX5_judgeProduct_82 (Nat.succ_le_succ (Nat.zero_le _)) (h.mono (onI_mono (fun r2 t1 h => ?_) (fun _ _ h => h)))
  refine j_istore (lv' := [some (va_rf (some P.mo)), some (.int x1), some (.int x2), some (.int x3), some (.int x4), some (.int x5), some (.int r2), none]) dX5_judgeProduct_85 (by decide) rfl ?_
  refine j_iload dX5_judgeProduct_87 rfl ?_
  refine j_if_eq 102 dX5_judgeProduct_89 (by decide) (fun c3 => ?_) (fun c3 => ?_)
  · replace h := h.1 c3
    exact h
  · replace h := h.2 c3
    refine j_aload_n (r := some P.mo) dX5_judgeProduct_92 rfl ?_
    refine j_dup dX5_judgeProduct_93 rfl ?_
    refine jm_get (v := fI t1 43) fM_43 rfl rfl dX5_judgeProduct_94 ?_
    refine j_iconst (v := iI 1) dX5_judgeProduct_97 rfl ?_
    refine j_isub dX5_judgeProduct_98 ?_
    refine jm_put fM_43 rfl dX5_judgeProduct_99 ?_
    exact h
theorem tX5_judgeProduct_102 {P : MPl} {s0 : State} {l : Launch} {X : Prop} {lev : Nat} {st0 : MSt} {Q : Outcome → MSt → Prop} {x1 x2 x3 x4 x5 x6 : Int32} {st : MSt} (h : (((fI st 72) = 0 → (inr (((iI 8) * x3) + x6) 64 ∧ ((0 ≤ (aI st 19 (((iI 8) * x3) + x6)) → (inr x1 140000 ∧ (inr x1 140000 ∧ (inr (aI st 19 (((iI 8) * x3) + x6)) 8 ∧ (CQ (wM P s0 l X) mX5_becomes lev (.ref P.mo :: [.int (aI st 19 (((iI 8) * x3) + x6)), .int (aI st 18 (aI st 19 (((iI 8) * x3) + x6)))]) (mst 37 x1 x6 (mst 36 x1 x3 st)) (onV (fun t1 => Q (.returned none) t1) (fun x t => Q (.threw x) t))))))) ∧ (¬ 0 ≤ (aI st 19 (((iI 8) * x3) + x6)) → (inr x1 140000 ∧ (CQ (wM P s0 l X) mX5_wrong lev (.ref P.mo :: [.int (iI 9), .int (aI st 35 x1)]) st (onV (fun t3 => Q (.returned none) t3) (fun x t => Q (.threw x) t)))))))) ∧ (¬ (fI st 72) = 0 → Q (.returned none) st))) : jX5_judgeProduct_102 P s0 l X lev st0 Q x1 x2 x3 x4 x5 x6 st := by
  refine j_aload_n (r := some P.mo) dX5_judgeProduct_102 rfl ?_
  refine jm_get (v := fI st 72) fM_72 rfl rfl dX5_judgeProduct_103 ?_
  refine j_if_eq 110 dX5_judgeProduct_106 (by decide) (fun c6 => ?_) (fun c6 => ?_)
  · replace h := h.1 c6
    refine j_aload_n (r := some P.mo) dX5_judgeProduct_110 rfl ?_
    refine jm_geta fM_19 rfl dX5_judgeProduct_111 ?_
    refine j_bipush (v := iI 8) dX5_judgeProduct_114 rfl ?_
    refine j_iload_n dX5_judgeProduct_116 rfl ?_
    refine j_imul dX5_judgeProduct_117 ?_
    refine j_iload dX5_judgeProduct_118 rfl ?_
    refine j_iadd dX5_judgeProduct_120 ?_
    refine jm_ald (v := aI st 19 (((iI 8) * x3) + x6)) rfl h.1 rfl rfl dX5_judgeProduct_121 ?_
    replace h := h.2
    refine j_istore (lv' := [some (va_rf (some P.mo)), some (.int x1), some (.int x2), some (.int x3), some (.int x4), some (.int x5), some (.int x6), some (.int (aI st 19 (((iI 8) * x3) + x6)))]) dX5_judgeProduct_122 (by decide) rfl ?_
    refine j_iload dX5_judgeProduct_124 rfl ?_
    refine j_if_ge 142 dX5_judgeProduct_126 (by decide) (fun c5 => ?_) (fun c5 => ?_)
    · replace h := h.1 c5
      refine j_aload_n (r := some P.mo) dX5_judgeProduct_142 rfl ?_
      refine jm_geta fM_36 rfl dX5_judgeProduct_143 ?_
      refine j_iload_n dX5_judgeProduct_146 rfl ?_
      refine j_iload_n dX5_judgeProduct_147 rfl ?_
      refine jm_ast rfl h.1 rfl dX5_judgeProduct_148 ?_
      replace h := h.2
      refine j_aload_n (r := some P.mo) dX5_judgeProduct_149 rfl ?_
      refine jm_geta fM_37 rfl dX5_judgeProduct_150 ?_
      refine j_iload_n dX5_judgeProduct_153 rfl ?_
      refine j_iload dX5_judgeProduct_154 rfl ?_
      refine jm_ast rfl h.1 rfl dX5_judgeProduct_156 ?_
      replace h := h.2
      refine j_aload_n (r := some P.mo) dX5_judgeProduct_157 rfl ?_
      refine j_iload dX5_judgeProduct_158 rfl ?_
      refine j_aload_n (r := some P.mo) dX5_judgeProduct_160 rfl ?_
      refine jm_geta fM_18 rfl dX5_judgeProduct_161 ?_
      refine j_iload dX5_judgeProduct_164 rfl ?_
      refine jm_ald (v := aI st 18 (aI st 19 (((iI 8) * x3) + x6))) rfl h.1 rfl rfl dX5_judgeProduct_166 ?_
      replace h := h.2
      refine jm_callv (As := [.int (aI st 19 (((iI 8) * x3) + x6)), .int (aI st 18 (aI st 19 (((iI 8) * x3) + x6)))]) (rest := []) kX5_becomes rfl q2428 rfl rfl (Nat.le_of_ble_eq_true rfl) rfl dX5_judgeProduct_167 (Nat.succ_le_succ (Nat.zero_le _)) (h.mono (onV_mono (fun t1 h => ?_) (fun _ _ h => h)))
      exact j_return rfl dX5_judgeProduct_170 h
    · replace h := h.2 c5
      refine j_aload_n (r := some P.mo) dX5_judgeProduct_129 rfl ?_
      refine j_bipush (v := iI 9) dX5_judgeProduct_130 rfl ?_
      refine j_aload_n (r := some P.mo) dX5_judgeProduct_132 rfl ?_
      refine jm_geta fM_35 rfl dX5_judgeProduct_133 ?_
      refine j_iload_n dX5_judgeProduct_136 rfl ?_
      refine jm_ald (v := aI st 35 x1) rfl h.1 rfl rfl dX5_judgeProduct_137 ?_
      replace h := h.2
      refine jm_callv (As := [.int (iI 9), .int (aI st 35 x1)]) (rest := []) kX5_wrong rfl q2295 rfl rfl (Nat.le_of_ble_eq_true rfl) rfl dX5_judgeProduct_138 (Nat.succ_le_succ (Nat.zero_le _)) (h.mono (onV_mono (fun t3 h => ?_) (fun _ _ h => h)))
      exact j_return rfl dX5_judgeProduct_141 h
  · replace h := h.2 c6
    exact j_return rfl dX5_judgeProduct_109 h
abbrev jX5_judgeUse_8 (P : MPl) (s0 : State) (l : Launch) (X : Prop) (lev : Nat) (st0 : MSt) (Q : Outcome → MSt → Prop) (x1 x2 x3 x4 : Int32) (st : MSt) : Prop := JQ (wM P s0 l X) mX5_judgeUse (lev + 1) st0 8 [some (va_rf (some P.mo)), some (.int x1), some (.int x2), some (.int x3), some (.int x4), none] [] st Q
abbrev jX5_judgeUse_68 (P : MPl) (s0 : State) (l : Launch) (X : Prop) (lev : Nat) (st0 : MSt) (Q : Outcome → MSt → Prop) (x1 x2 x3 x4 x5 : Int32) (st : MSt) : Prop := JQ (wM P s0 l X) mX5_judgeUse (lev + 1) st0 68 [some (va_rf (some P.mo)), some (.int x1), some (.int x2), some (.int x3), some (.int x4), some (.int x5)] [] st Q
theorem tX5_judgeUse {P : MPl} {s0 : State} {l : Launch} {X : Prop} {lev : Nat} {Q : Outcome → MSt → Prop} {x1 x2 : Int32} {st : MSt} (h : jX5_judgeUse_8 P s0 l X lev st Q x1 x2 (fI st 59) x1 st) : CQ (wM P s0 l X) mX5_judgeUse (lev + 1) [.ref P.mo, .int x1, .int x2] st Q := by
  refine CQ.of2 3 (lv := [some (va_rf (some P.mo)), some (.int x1), some (.int x2), none, none, none]) (by decide) (Nat.le_of_ble_eq_true rfl) rfl rfl ?_
  refine j_aload_n (r := some P.mo) dX5_judgeUse_0 rfl ?_
  refine jm_get (v := fI st 59) fM_59 rfl rfl dX5_judgeUse_1 ?_
  refine j_istore_n (lv' := [some (va_rf (some P.mo)), some (.int x1), some (.int x2), some (.int (fI st 59)), none, none]) dX5_judgeUse_4 (by decide) rfl ?_
  refine j_iload_n dX5_judgeUse_5 rfl ?_
  refine j_istore (lv' := [some (va_rf (some P.mo)), some (.int x1), some (.int x2), some (.int (fI st 59)), some (.int x1), none]) dX5_judgeUse_6 (by decide) rfl ?_
  exact h
theorem tX5_judgeUse_8 {P : MPl} {s0 : State} {l : Launch} {X : Prop} {lev : Nat} {st0 : MSt} {Q : Outcome → MSt → Prop} {x1 x2 x3 x4 : Int32} {st : MSt} (h : (inr x4 140000 ∧ (((aI st 30 x4) = (iI 7) → (inr (fI st 59) 4000 ∧ (inr x4 140000 ∧ jX5_judgeUse_8 P s0 l X lev st0 Q x1 x2 x3 (aI st 32 x4) (mput 59 ((fI st 59) + (iI 1)) (mst 58 (fI st 59) x4 st))))) ∧ (¬ (aI st 30 x4) = (iI 7) → (CQ (wM P s0 l X) mX5_judge lev (.ref P.mo :: [.int x4, .int x2]) st (onV (fun t1 => jX5_judgeUse_68 P s0 l X lev st0 Q x1 x2 x3 x4 ((fI t1 59) - (iI 1)) t1) (fun x t => Q (.threw x) t))))))) : jX5_judgeUse_8 P s0 l X lev st0 Q x1 x2 x3 x4 st := by
  refine j_aload_n (r := some P.mo) dX5_judgeUse_8 rfl ?_
  refine jm_geta fM_30 rfl dX5_judgeUse_9 ?_
  refine j_iload dX5_judgeUse_12 rfl ?_
  refine jm_ald (v := aI st 30 x4) rfl h.1 rfl rfl dX5_judgeUse_14 ?_
  replace h := h.2
  refine j_bipush (v := iI 7) dX5_judgeUse_15 rfl ?_
  refine j_icmp_ne 53 dX5_judgeUse_17 (by decide) (fun c3 => ?_) (fun c3 => ?_)
  · replace h := h.2 c3
    refine j_aload_n (r := some P.mo) dX5_judgeUse_53 rfl ?_
    refine j_iload dX5_judgeUse_54 rfl ?_
    refine j_iload_n dX5_judgeUse_56 rfl ?_
    refine jm_callv (As := [.int x4, .int x2]) (rest := []) kX5_judge rfl q2383 rfl rfl (Nat.le_of_ble_eq_true rfl) rfl dX5_judgeUse_57 (Nat.succ_le_succ (Nat.zero_le _)) (h.mono (onV_mono (fun t1 h => ?_) (fun _ _ h => h)))
    refine j_aload_n (r := some P.mo) dX5_judgeUse_60 rfl ?_
    refine jm_get (v := fI t1 59) fM_59 rfl rfl dX5_judgeUse_61 ?_
    refine j_iconst (v := iI 1) dX5_judgeUse_64 rfl ?_
    refine j_isub dX5_judgeUse_65 ?_
    refine j_istore (lv' := [some (va_rf (some P.mo)), some (.int x1), some (.int x2), some (.int x3), some (.int x4), some (.int ((fI t1 59) - (iI 1)))]) dX5_judgeUse_66 (by decide) rfl ?_
    exact h
  · replace h := h.1 c3
    refine j_aload_n (r := some P.mo) dX5_judgeUse_20 rfl ?_
    refine jm_geta fM_58 rfl dX5_judgeUse_21 ?_
    refine j_aload_n (r := some P.mo) dX5_judgeUse_24 rfl ?_
    refine jm_get (v := fI st 59) fM_59 rfl rfl dX5_judgeUse_25 ?_
    refine j_iload dX5_judgeUse_28 rfl ?_
    refine jm_ast rfl h.1 rfl dX5_judgeUse_30 ?_
    replace h := h.2
    refine j_aload_n (r := some P.mo) dX5_judgeUse_31 rfl ?_
    refine j_dup dX5_judgeUse_32 rfl ?_
    refine jm_get (v := fI st 59) fM_59 rfl rfl dX5_judgeUse_33 ?_
    refine j_iconst (v := iI 1) dX5_judgeUse_36 rfl ?_
    refine j_iadd dX5_judgeUse_37 ?_
    refine jm_put fM_59 rfl dX5_judgeUse_38 ?_
    refine j_aload_n (r := some P.mo) dX5_judgeUse_41 rfl ?_
    refine jm_geta fM_32 rfl dX5_judgeUse_42 ?_
    refine j_iload dX5_judgeUse_45 rfl ?_
    refine jm_ald (v := aI st 32 x4) rfl h.1 rfl rfl dX5_judgeUse_47 ?_
    replace h := h.2
    refine j_istore (lv' := [some (va_rf (some P.mo)), some (.int x1), some (.int x2), some (.int x3), some (.int (aI st 32 x4)), none]) dX5_judgeUse_48 (by decide) rfl ?_
    refine j_goto 8 dX5_judgeUse_50 (by decide) ?_
    exact h
theorem tX5_judgeUse_68 {P : MPl} {s0 : State} {l : Launch} {X : Prop} {lev : Nat} {st0 : MSt} {Q : Outcome → MSt → Prop} {x1 x2 x3 x4 x5 : Int32} {st : MSt} (h : (((fI st 72) = 0 → ((x5 < x3 → Q (.returned none) (mput 59 x3 st)) ∧ (¬ x5 < x3 → (inr x5 4000 ∧ (CQ (wM P s0 l X) mX5_applied lev (.ref P.mo :: [.int (aI st 58 x5), .int x2]) st (onV (fun t1 => jX5_judgeUse_68 P s0 l X lev st0 Q x1 x2 x3 x4 (x5 + iI (-1)) t1) (fun x t => Q (.threw x) t))))))) ∧ (¬ (fI st 72) = 0 → Q (.returned none) (mput 59 x3 st)))) : jX5_judgeUse_68 P s0 l X lev st0 Q x1 x2 x3 x4 x5 st := by
  refine j_aload_n (r := some P.mo) dX5_judgeUse_68 rfl ?_
  refine jm_get (v := fI st 72) fM_72 rfl rfl dX5_judgeUse_69 ?_
  refine j_if_ne 99 dX5_judgeUse_72 (by decide) (fun c4 => ?_) (fun c4 => ?_)
  · replace h := h.2 c4
    refine j_aload_n (r := some P.mo) dX5_judgeUse_99 rfl ?_
    refine j_iload_n dX5_judgeUse_100 rfl ?_
    refine jm_put fM_59 rfl dX5_judgeUse_101 ?_
    exact j_return rfl dX5_judgeUse_104 h
  · replace h := h.1 c4
    refine j_iload dX5_judgeUse_75 rfl ?_
    refine j_iload_n dX5_judgeUse_77 rfl ?_
    refine j_icmp_lt 99 dX5_judgeUse_78 (by decide) (fun c3 => ?_) (fun c3 => ?_)
    · replace h := h.1 c3
      refine j_aload_n (r := some P.mo) dX5_judgeUse_99 rfl ?_
      refine j_iload_n dX5_judgeUse_100 rfl ?_
      refine jm_put fM_59 rfl dX5_judgeUse_101 ?_
      exact j_return rfl dX5_judgeUse_104 h
    · replace h := h.2 c3
      refine j_aload_n (r := some P.mo) dX5_judgeUse_81 rfl ?_
      refine j_aload_n (r := some P.mo) dX5_judgeUse_82 rfl ?_
      refine jm_geta fM_58 rfl dX5_judgeUse_83 ?_
      refine j_iload dX5_judgeUse_86 rfl ?_
      refine jm_ald (v := aI st 58 x5) rfl h.1 rfl rfl dX5_judgeUse_88 ?_
      replace h := h.2
      refine j_iload_n dX5_judgeUse_89 rfl ?_
      refine jm_callv (As := [.int (aI st 58 x5), .int x2]) (rest := []) kX5_applied rfl q2440 rfl rfl (Nat.le_of_ble_eq_true rfl) rfl dX5_judgeUse_90 (Nat.succ_le_succ (Nat.zero_le _)) (h.mono (onV_mono (fun t1 h => ?_) (fun _ _ h => h)))
      refine j_iinc (lv' := [some (va_rf (some P.mo)), some (.int x1), some (.int x2), some (.int x3), some (.int x4), some (.int (x5 + iI (-1)))]) dX5_judgeUse_93 rfl (by decide) rfl ?_
      refine j_goto 68 dX5_judgeUse_96 (by decide) ?_
      exact h
abbrev jX5_applied_93 (P : MPl) (s0 : State) (l : Launch) (X : Prop) (lev : Nat) (st0 : MSt) (Q : Outcome → MSt → Prop) (x1 x2 x3 x4 x5 : Int32) (st : MSt) : Prop := JQ (wM P s0 l X) mX5_applied (lev + 1) st0 93 [some (va_rf (some P.mo)), some (.int x1), some (.int x2), some (.int x3), some (.int x4), some (.int x5), none] [] st Q
theorem tX5_applied {P : MPl} {s0 : State} {l : Launch} {X : Prop} {lev : Nat} {Q : Outcome → MSt → Prop} {x1 x2 : Int32} {st : MSt} (h : (inr (fI st 60) 140000 ∧ (((aI st 30 (fI st 60)) = (iI 5) → (inr x1 140000 ∧ (CQ (wM P s0 l X) mX5_judge lev (.ref P.mo :: [.int (aI st 33 x1), .int x2]) st (onV (fun t1 => (((fI t1 72) = 0 → (inr (fI st 60) 140000 ∧ (CQ (wM P s0 l X) mX5_compare lev (.ref P.mo :: [.int (aI t1 32 (fI st 60)), .int (iI 0), .int (fI t1 60), .int (iI 0), .int (iI 0)]) t1 (onI (fun r4 t3 => ((r4 = 0 → (inr (aI st 33 x1) 140000 ∧ (CQ (wM P s0 l X) mX5_wrong lev (.ref P.mo :: [.int (iI 11), .int (aI t3 34 (aI st 33 x1))]) t3 (onV (fun t5 => jX5_applied_93 P s0 l X lev st Q x1 x2 (fI st 60) (aI st 33 x1) r4 t5) (fun x t => Q (.threw x) t))))) ∧ (¬ r4 = 0 → jX5_applied_93 P s0 l X lev st Q x1 x2 (fI st 60) (aI st 33 x1) r4 t3))) (fun x t => Q (.threw x) t))))) ∧ (¬ (fI t1 72) = 0 → Q (.returned none) t1))) (fun x t => Q (.threw x) t))))) ∧ (¬ (aI st 30 (fI st 60)) = (iI 5) → (inr x1 140000 ∧ (inr (aI st 32 x1) 140000 ∧ (CQ (wM P s0 l X) mX5_wrong lev (.ref P.mo :: [.int (iI 10), .int (aI st 34 (aI st 32 x1))]) st (onV (fun t9 => Q (.returned none) t9) (fun x t => Q (.threw x) t))))))))) : CQ (wM P s0 l X) mX5_applied (lev + 1) [.ref P.mo, .int x1, .int x2] st Q := by
  refine CQ.of2 4 (lv := [some (va_rf (some P.mo)), some (.int x1), some (.int x2), none, none, none, none]) (by decide) (Nat.le_of_ble_eq_true rfl) rfl rfl ?_
  refine j_aload_n (r := some P.mo) dX5_applied_0 rfl ?_
  refine jm_get (v := fI st 60) fM_60 rfl rfl dX5_applied_1 ?_
  refine j_istore_n (lv' := [some (va_rf (some P.mo)), some (.int x1), some (.int x2), some (.int (fI st 60)), none, none, none]) dX5_applied_4 (by decide) rfl ?_
  refine j_aload_n (r := some P.mo) dX5_applied_5 rfl ?_
  refine jm_geta fM_30 rfl dX5_applied_6 ?_
  refine j_iload_n dX5_applied_9 rfl ?_
  refine jm_ald (v := aI st 30 (fI st 60)) rfl h.1 rfl rfl dX5_applied_10 ?_
  replace h := h.2
  refine j_iconst (v := iI 5) dX5_applied_11 rfl ?_
  refine j_icmp_eq 33 dX5_applied_12 (by decide) (fun c11 => ?_) (fun c11 => ?_)
  · replace h := h.1 c11
    refine j_aload_n (r := some P.mo) dX5_applied_33 rfl ?_
    refine jm_geta fM_33 rfl dX5_applied_34 ?_
    refine j_iload_n dX5_applied_37 rfl ?_
    refine jm_ald (v := aI st 33 x1) rfl h.1 rfl rfl dX5_applied_38 ?_
    replace h := h.2
    refine j_istore (lv' := [some (va_rf (some P.mo)), some (.int x1), some (.int x2), some (.int (fI st 60)), some (.int (aI st 33 x1)), none, none]) dX5_applied_39 (by decide) rfl ?_
    refine j_aload_n (r := some P.mo) dX5_applied_41 rfl ?_
    refine j_iload dX5_applied_42 rfl ?_
    refine j_iload_n dX5_applied_44 rfl ?_
    refine jm_callv (As := [.int (aI st 33 x1), .int x2]) (rest := []) kX5_judge rfl q2383 rfl rfl (Nat.le_of_ble_eq_true rfl) rfl dX5_applied_45 (Nat.succ_le_succ (Nat.zero_le _)) (h.mono (onV_mono (fun t1 h => ?_) (fun _ _ h => h)))
    refine j_aload_n (r := some P.mo) dX5_applied_48 rfl ?_
    refine jm_get (v := fI t1 72) fM_72 rfl rfl dX5_applied_49 ?_
    refine j_if_eq 56 dX5_applied_52 (by decide) (fun c8 => ?_) (fun c8 => ?_)
    · replace h := h.1 c8
      refine j_aload_n (r := some P.mo) dX5_applied_56 rfl ?_
      refine j_aload_n (r := some P.mo) dX5_applied_57 rfl ?_
      refine jm_geta fM_32 rfl dX5_applied_58 ?_
      refine j_iload_n dX5_applied_61 rfl ?_
      refine jm_ald (v := aI t1 32 (fI st 60)) rfl h.1 rfl rfl dX5_applied_62 ?_
      replace h := h.2
      refine j_iconst (v := iI 0) dX5_applied_63 rfl ?_
      refine j_aload_n (r := some P.mo) dX5_applied_64 rfl ?_
      refine jm_get (v := fI t1 60) fM_60 rfl rfl dX5_applied_65 ?_
      refine j_iconst (v := iI 0) dX5_applied_68 rfl ?_
      refine j_iconst (v := iI 0) dX5_applied_69 rfl ?_
      refine jm_calli (As := [.int (aI t1 32 (fI st 60)), .int (iI 0), .int (fI t1 60), .int (iI 0), .int (iI 0)]) (rest := []) kX5_compare rfl q2444 rfl rfl (Nat.le_of_ble_eq_true rfl) rfl dX5_applied_70 (Nat.succ_le_succ (Nat.zero_le _)) (h.mono (onI_mono (fun r4 t3 h => ?_) (fun _ _ h => h)))
      refine j_istore (lv' := [some (va_rf (some P.mo)), some (.int x1), some (.int x2), some (.int (fI st 60)), some (.int (aI st 33 x1)), some (.int r4), none]) dX5_applied_73 (by decide) rfl ?_
      refine j_iload dX5_applied_75 rfl ?_
      refine j_if_ne 93 dX5_applied_77 (by decide) (fun c7 => ?_) (fun c7 => ?_)
      · replace h := h.2 c7
        exact h
      · replace h := h.1 c7
        refine j_aload_n (r := some P.mo) dX5_applied_80 rfl ?_
        refine j_bipush (v := iI 11) dX5_applied_81 rfl ?_
        refine j_aload_n (r := some P.mo) dX5_applied_83 rfl ?_
        refine jm_geta fM_34 rfl dX5_applied_84 ?_
        refine j_iload dX5_applied_87 rfl ?_
        refine jm_ald (v := aI t3 34 (aI st 33 x1)) rfl h.1 rfl rfl dX5_applied_89 ?_
        replace h := h.2
        refine jm_callv (As := [.int (iI 11), .int (aI t3 34 (aI st 33 x1))]) (rest := []) kX5_wrong rfl q2295 rfl rfl (Nat.le_of_ble_eq_true rfl) rfl dX5_applied_90 (Nat.succ_le_succ (Nat.zero_le _)) (h.mono (onV_mono (fun t5 h => ?_) (fun _ _ h => h)))
        exact h
    · replace h := h.2 c8
      exact j_return rfl dX5_applied_55 h
  · replace h := h.2 c11
    refine j_aload_n (r := some P.mo) dX5_applied_15 rfl ?_
    refine j_bipush (v := iI 10) dX5_applied_16 rfl ?_
    refine j_aload_n (r := some P.mo) dX5_applied_18 rfl ?_
    refine jm_geta fM_34 rfl dX5_applied_19 ?_
    refine j_aload_n (r := some P.mo) dX5_applied_22 rfl ?_
    refine jm_geta fM_32 rfl dX5_applied_23 ?_
    refine j_iload_n dX5_applied_26 rfl ?_
    refine jm_ald (v := aI st 32 x1) rfl h.1 rfl rfl dX5_applied_27 ?_
    replace h := h.2
    refine jm_ald (v := aI st 34 (aI st 32 x1)) rfl h.1 rfl rfl dX5_applied_28 ?_
    replace h := h.2
    refine jm_callv (As := [.int (iI 10), .int (aI st 34 (aI st 32 x1))]) (rest := []) kX5_wrong rfl q2295 rfl rfl (Nat.le_of_ble_eq_true rfl) rfl dX5_applied_29 (Nat.succ_le_succ (Nat.zero_le _)) (h.mono (onV_mono (fun t9 h => ?_) (fun _ _ h => h)))
    exact j_return rfl dX5_applied_32 h
theorem tX5_applied_93 {P : MPl} {s0 : State} {l : Launch} {X : Prop} {lev : Nat} {st0 : MSt} {Q : Outcome → MSt → Prop} {x1 x2 x3 x4 x5 : Int32} {st : MSt} (h : (((fI st 72) = 0 → (inr x3 140000 ∧ (inr x3 140000 ∧ (CQ (wM P s0 l X) mX5_cell lev (.ref P.mo :: [.int (iI 0), .int (aI st 38 x3), .int x4, .int x2]) st (onI (fun r4 t3 => (CQ (wM P s0 l X) mX5_normal lev (.ref P.mo :: [.int (aI st 33 x3), .int r4, .int (iI 0)]) t3 (onI (fun r6 t5 => (inr x3 140000 ∧ (CQ (wM P s0 l X) mX5_becomes lev (.ref P.mo :: [.int r6, .int (aI t5 37 x3)]) t5 (onV (fun t7 => Q (.returned none) t7) (fun x t => Q (.threw x) t))))) (fun x t => Q (.threw x) t)))) (fun x t => Q (.threw x) t)))))) ∧ (¬ (fI st 72) = 0 → (inr x3 140000 ∧ (CQ (wM P s0 l X) mX5_becomes lev (.ref P.mo :: [.int (iI 0), .int (aI st 37 x3)]) st (onV (fun t1 => Q (.returned none) t1) (fun x t => Q (.threw x) t))))))) : jX5_applied_93 P s0 l X lev st0 Q x1 x2 x3 x4 x5 st := by
  refine j_aload_n (r := some P.mo) dX5_applied_93 rfl ?_
  refine jm_get (v := fI st 72) fM_72 rfl rfl dX5_applied_94 ?_
  refine j_if_ne 128 dX5_applied_97 (by decide) (fun c9 => ?_) (fun c9 => ?_)
  · replace h := h.2 c9
    refine j_iconst (v := iI 0) dX5_applied_128 rfl ?_
    refine j_istore (lv' := [some (va_rf (some P.mo)), some (.int x1), some (.int x2), some (.int x3), some (.int x4), some (.int x5), some (.int (iI 0))]) dX5_applied_129 (by decide) rfl ?_
    refine j_aload_n (r := some P.mo) dX5_applied_131 rfl ?_
    refine j_iload dX5_applied_132 rfl ?_
    refine j_aload_n (r := some P.mo) dX5_applied_134 rfl ?_
    refine jm_geta fM_37 rfl dX5_applied_135 ?_
    refine j_iload_n dX5_applied_138 rfl ?_
    refine jm_ald (v := aI st 37 x3) rfl h.1 rfl rfl dX5_applied_139 ?_
    replace h := h.2
    refine jm_callv (As := [.int (iI 0), .int (aI st 37 x3)]) (rest := []) kX5_becomes rfl q2428 rfl rfl (Nat.le_of_ble_eq_true rfl) rfl dX5_applied_140 (Nat.succ_le_succ (Nat.zero_le _)) (h.mono (onV_mono (fun t1 h => ?_) (fun _ _ h => h)))
    exact j_return rfl dX5_applied_143 h
  · replace h := h.1 c9
    refine j_aload_n (r := some P.mo) dX5_applied_100 rfl ?_
    refine j_aload_n (r := some P.mo) dX5_applied_101 rfl ?_
    refine jm_geta fM_33 rfl dX5_applied_102 ?_
    refine j_iload_n dX5_applied_105 rfl ?_
    refine jm_ald (v := aI st 33 x3) rfl h.1 rfl rfl dX5_applied_106 ?_
    replace h := h.2
    refine j_aload_n (r := some P.mo) dX5_applied_107 rfl ?_
    refine j_iconst (v := iI 0) dX5_applied_108 rfl ?_
    refine j_aload_n (r := some P.mo) dX5_applied_109 rfl ?_
    refine jm_geta fM_38 rfl dX5_applied_110 ?_
    refine j_iload_n dX5_applied_113 rfl ?_
    refine jm_ald (v := aI st 38 x3) rfl h.1 rfl rfl dX5_applied_114 ?_
    replace h := h.2
    refine j_iload dX5_applied_115 rfl ?_
    refine j_iload_n dX5_applied_117 rfl ?_
    refine jm_calli (As := [.int (iI 0), .int (aI st 38 x3), .int x4, .int x2]) (rest := [.int (aI st 33 x3), va_rf (some P.mo)]) kX5_cell rfl q2412 rfl rfl (Nat.le_of_ble_eq_true rfl) rfl dX5_applied_118 (Nat.succ_le_succ (Nat.zero_le _)) (h.mono (onI_mono (fun r4 t3 h => ?_) (fun _ _ h => h)))
    refine j_iconst (v := iI 0) dX5_applied_121 rfl ?_
    refine jm_calli (As := [.int (aI st 33 x3), .int r4, .int (iI 0)]) (rest := []) kX5_normal rfl q2391 rfl rfl (Nat.le_of_ble_eq_true rfl) rfl dX5_applied_122 (Nat.succ_le_succ (Nat.zero_le _)) (h.mono (onI_mono (fun r6 t5 h => ?_) (fun _ _ h => h)))
    refine j_goto 129 dX5_applied_125 (by decide) ?_
    refine j_istore (lv' := [some (va_rf (some P.mo)), some (.int x1), some (.int x2), some (.int x3), some (.int x4), some (.int x5), some (.int r6)]) dX5_applied_129 (by decide) rfl ?_
    refine j_aload_n (r := some P.mo) dX5_applied_131 rfl ?_
    refine j_iload dX5_applied_132 rfl ?_
    refine j_aload_n (r := some P.mo) dX5_applied_134 rfl ?_
    refine jm_geta fM_37 rfl dX5_applied_135 ?_
    refine j_iload_n dX5_applied_138 rfl ?_
    refine jm_ald (v := aI t5 37 x3) rfl h.1 rfl rfl dX5_applied_139 ?_
    replace h := h.2
    refine jm_callv (As := [.int r6, .int (aI t5 37 x3)]) (rest := []) kX5_becomes rfl q2428 rfl rfl (Nat.le_of_ble_eq_true rfl) rfl dX5_applied_140 (Nat.succ_le_succ (Nat.zero_le _)) (h.mono (onV_mono (fun t7 h => ?_) (fun _ _ h => h)))
    exact j_return rfl dX5_applied_143 h
theorem tX5_compare {P : MPl} {s0 : State} {l : Launch} {X : Prop} {lev : Nat} {Q : Outcome → MSt → Prop} {x1 x2 x3 x4 x5 : Int32} {st : MSt} (h : (CQ (wM P s0 l X) mX5_look lev (.ref P.mo :: [.int x5]) st (onI (fun r2 t1 => ((r2 = 0 → Q (.returned (some (.int (iI 0)))) t1) ∧ (¬ r2 = 0 → (CQ (wM P s0 l X) mX5_head lev (.ref P.mo :: [.int x1, .int x2]) t1 (onV (fun t3 => (CQ (wM P s0 l X) mX5_head lev (.ref P.mo :: [.int x3, .int x4]) t3 (onV (fun t5 => (((fI t5 72) = 0 → (CQ (wM P s0 l X) mX5_alike lev (.ref P.mo :: [.int (fI t3 52), .int (fI t3 53), .int (fI t3 51), .int (fI t1 51), .int (fI t5 52), .int (fI t5 53), .int x5]) t5 (onI (fun r8 t7 => ((r8 = 0 → Q (.returned (some (.int (iI 0)))) (mput 51 (fI t1 51) t7)) ∧ (¬ r8 = 0 → Q (.returned (some (.int (iI 1)))) (mput 51 (fI t1 51) t7)))) (fun x t => Q (.threw x) t)))) ∧ (¬ (fI t5 72) = 0 → Q (.returned (some (.int (iI 0)))) (mput 51 (fI t1 51) t5)))) (fun x t => Q (.threw x) t)))) (fun x t => Q (.threw x) t)))))) (fun x t => Q (.threw x) t)))) : CQ (wM P s0 l X) mX5_compare (lev + 1) [.ref P.mo, .int x1, .int x2, .int x3, .int x4, .int x5] st Q := by
  refine CQ.of2 7 (lv := [some (va_rf (some P.mo)), some (.int x1), some (.int x2), some (.int x3), some (.int x4), some (.int x5), none, none, none, none, none, none, none]) (by decide) (Nat.le_of_ble_eq_true rfl) rfl rfl ?_
  refine j_aload_n (r := some P.mo) dX5_compare_0 rfl ?_
  refine j_iload dX5_compare_1 rfl ?_
  refine jm_calli (As := [.int x5]) (rest := []) kX5_look rfl q2395 rfl rfl (Nat.le_of_ble_eq_true rfl) rfl dX5_compare_3 (Nat.succ_le_succ (Nat.zero_le _)) (h.mono (onI_mono (fun r2 t1 h => ?_) (fun _ _ h => h)))
  refine j_if_ne 11 dX5_compare_6 (by decide) (fun c11 => ?_) (fun c11 => ?_)
  · replace h := h.2 c11
    refine j_aload_n (r := some P.mo) dX5_compare_11 rfl ?_
    refine jm_get (v := fI t1 51) fM_51 rfl rfl dX5_compare_12 ?_
    refine j_istore (lv' := [some (va_rf (some P.mo)), some (.int x1), some (.int x2), some (.int x3), some (.int x4), some (.int x5), some (.int (fI t1 51)), none, none, none, none, none, none]) dX5_compare_15 (by decide) rfl ?_
    refine j_aload_n (r := some P.mo) dX5_compare_17 rfl ?_
    refine j_iload_n dX5_compare_18 rfl ?_
    refine j_iload_n dX5_compare_19 rfl ?_
    refine jm_callv (As := [.int x1, .int x2]) (rest := []) kX5_head rfl q2404 rfl rfl (Nat.le_of_ble_eq_true rfl) rfl dX5_compare_20 (Nat.succ_le_succ (Nat.zero_le _)) (h.mono (onV_mono (fun t3 h => ?_) (fun _ _ h => h)))
    refine j_aload_n (r := some P.mo) dX5_compare_23 rfl ?_
    refine jm_get (v := fI t3 52) fM_52 rfl rfl dX5_compare_24 ?_
    refine j_istore (lv' := [some (va_rf (some P.mo)), some (.int x1), some (.int x2), some (.int x3), some (.int x4), some (.int x5), some (.int (fI t1 51)), some (.int (fI t3 52)), none, none, none, none, none]) dX5_compare_27 (by decide) rfl ?_
    refine j_aload_n (r := some P.mo) dX5_compare_29 rfl ?_
    refine jm_get (v := fI t3 53) fM_53 rfl rfl dX5_compare_30 ?_
    refine j_istore (lv' := [some (va_rf (some P.mo)), some (.int x1), some (.int x2), some (.int x3), some (.int x4), some (.int x5), some (.int (fI t1 51)), some (.int (fI t3 52)), some (.int (fI t3 53)), none, none, none, none]) dX5_compare_33 (by decide) rfl ?_
    refine j_aload_n (r := some P.mo) dX5_compare_35 rfl ?_
    refine jm_get (v := fI t3 51) fM_51 rfl rfl dX5_compare_36 ?_
    refine j_istore (lv' := [some (va_rf (some P.mo)), some (.int x1), some (.int x2), some (.int x3), some (.int x4), some (.int x5), some (.int (fI t1 51)), some (.int (fI t3 52)), some (.int (fI t3 53)), some (.int (fI t3 51)), none, none, none]) dX5_compare_39 (by decide) rfl ?_
    refine j_aload_n (r := some P.mo) dX5_compare_41 rfl ?_
    refine j_iload_n dX5_compare_42 rfl ?_
    refine j_iload dX5_compare_43 rfl ?_
    refine jm_callv (As := [.int x3, .int x4]) (rest := []) kX5_head rfl q2404 rfl rfl (Nat.le_of_ble_eq_true rfl) rfl dX5_compare_45 (Nat.succ_le_succ (Nat.zero_le _)) (h.mono (onV_mono (fun t5 h => ?_) (fun _ _ h => h)))
    refine j_aload_n (r := some P.mo) dX5_compare_48 rfl ?_
    refine jm_get (v := fI t5 52) fM_52 rfl rfl dX5_compare_49 ?_
    refine j_istore (lv' := [some (va_rf (some P.mo)), some (.int x1), some (.int x2), some (.int x3), some (.int x4), some (.int x5), some (.int (fI t1 51)), some (.int (fI t3 52)), some (.int (fI t3 53)), some (.int (fI t3 51)), some (.int (fI t5 52)), none, none]) dX5_compare_52 (by decide) rfl ?_
    refine j_aload_n (r := some P.mo) dX5_compare_54 rfl ?_
    refine jm_get (v := fI t5 53) fM_53 rfl rfl dX5_compare_55 ?_
    refine j_istore (lv' := [some (va_rf (some P.mo)), some (.int x1), some (.int x2), some (.int x3), some (.int x4), some (.int x5), some (.int (fI t1 51)), some (.int (fI t3 52)), some (.int (fI t3 53)), some (.int (fI t3 51)), some (.int (fI t5 52)), some (.int (fI t5 53)), none]) dX5_compare_58 (by decide) rfl ?_
    refine j_aload_n (r := some P.mo) dX5_compare_60 rfl ?_
    refine jm_get (v := fI t5 72) fM_72 rfl rfl dX5_compare_61 ?_
    refine j_if_ne 92 dX5_compare_64 (by decide) (fun c10 => ?_) (fun c10 => ?_)
    · replace h := h.2 c10
      refine j_iconst (v := iI 0) dX5_compare_92 rfl ?_
      refine j_istore (lv' := [some (va_rf (some P.mo)), some (.int x1), some (.int x2), some (.int x3), some (.int x4), some (.int x5), some (.int (fI t1 51)), some (.int (fI t3 52)), some (.int (fI t3 53)), some (.int (fI t3 51)), some (.int (fI t5 52)), some (.int (fI t5 53)), some (.int (iI 0))]) dX5_compare_93 (by decide) rfl ?_
      refine j_aload_n (r := some P.mo) dX5_compare_95 rfl ?_
      refine j_iload dX5_compare_96 rfl ?_
      refine jm_put fM_51 rfl dX5_compare_98 ?_
      refine j_iload dX5_compare_101 rfl ?_
      exact j_ireturn (ty := .boolean) rfl rfl dX5_compare_103 h
    · replace h := h.1 c10
      refine j_aload_n (r := some P.mo) dX5_compare_67 rfl ?_
      refine j_iload dX5_compare_68 rfl ?_
      refine j_iload dX5_compare_70 rfl ?_
      refine j_iload dX5_compare_72 rfl ?_
      refine j_iload dX5_compare_74 rfl ?_
      refine j_iload dX5_compare_76 rfl ?_
      refine j_iload dX5_compare_78 rfl ?_
      refine j_iload dX5_compare_80 rfl ?_
      refine jm_calli (As := [.int (fI t3 52), .int (fI t3 53), .int (fI t3 51), .int (fI t1 51), .int (fI t5 52), .int (fI t5 53), .int x5]) (rest := []) kX5_alike rfl q2448 rfl rfl (Nat.le_of_ble_eq_true rfl) rfl dX5_compare_82 (Nat.succ_le_succ (Nat.zero_le _)) (h.mono (onI_mono (fun r8 t7 h => ?_) (fun _ _ h => h)))
      refine j_if_eq 92 dX5_compare_85 (by decide) (fun c9 => ?_) (fun c9 => ?_)
      · replace h := h.1 c9
        refine j_iconst (v := iI 0) dX5_compare_92 rfl ?_
        refine j_istore (lv' := [some (va_rf (some P.mo)), some (.int x1), some (.int x2), some (.int x3), some (.int x4), some (.int x5), some (.int (fI t1 51)), some (.int (fI t3 52)), some (.int (fI t3 53)), some (.int (fI t3 51)), some (.int (fI t5 52)), some (.int (fI t5 53)), some (.int (iI 0))]) dX5_compare_93 (by decide) rfl ?_
        refine j_aload_n (r := some P.mo) dX5_compare_95 rfl ?_
        refine j_iload dX5_compare_96 rfl ?_
        refine jm_put fM_51 rfl dX5_compare_98 ?_
        refine j_iload dX5_compare_101 rfl ?_
        exact j_ireturn (ty := .boolean) rfl rfl dX5_compare_103 h
      · replace h := h.2 c9
        refine j_iconst (v := iI 1) dX5_compare_88 rfl ?_
        refine j_goto 93 dX5_compare_89 (by decide) ?_
        refine j_istore (lv' := [some (va_rf (some P.mo)), some (.int x1), some (.int x2), some (.int x3), some (.int x4), some (.int x5), some (.int (fI t1 51)), some (.int (fI t3 52)), some (.int (fI t3 53)), some (.int (fI t3 51)), some (.int (fI t5 52)), some (.int (fI t5 53)), some (.int (iI 1))]) dX5_compare_93 (by decide) rfl ?_
        refine j_aload_n (r := some P.mo) dX5_compare_95 rfl ?_
        refine j_iload dX5_compare_96 rfl ?_
        refine jm_put fM_51 rfl dX5_compare_98 ?_
        refine j_iload dX5_compare_101 rfl ?_
        exact j_ireturn (ty := .boolean) rfl rfl dX5_compare_103 h
  · replace h := h.1 c11
    refine j_iconst (v := iI 0) dX5_compare_9 rfl ?_
    exact j_ireturn (ty := .boolean) rfl rfl dX5_compare_10 h
abbrev jX5_alike_34 (P : MPl) (s0 : State) (l : Launch) (X : Prop) (lev : Nat) (st0 : MSt) (Q : Outcome → MSt → Prop) (x1 x2 x3 x4 x5 x6 x7 x8 x9 : Int32) (st : MSt) : Prop := JQ (wM P s0 l X) mX5_alike (lev + 1) st0 34 [some (va_rf (some P.mo)), some (.int x1), some (.int x2), some (.int x3), some (.int x4), some (.int x5), some (.int x6), some (.int x7), some (.int x8), some (.int x9), none, none, none, none] [] st Q
abbrev jX5_alike_131 (P : MPl) (s0 : State) (l : Launch) (X : Prop) (lev : Nat) (st0 : MSt) (Q : Outcome → MSt → Prop) (x1 x2 x3 x4 x5 x6 x7 x8 x9 : Int32) (st : MSt) : Prop := JQ (wM P s0 l X) mX5_alike (lev + 1) st0 131 [some (va_rf (some P.mo)), some (.int x1), some (.int x2), some (.int x3), some (.int x4), some (.int x5), some (.int x6), some (.int x7), some (.int x8), some (.int x9), none, none, none, none] [] st Q
abbrev jX5_alike_188 (P : MPl) (s0 : State) (l : Launch) (X : Prop) (lev : Nat) (st0 : MSt) (Q : Outcome → MSt → Prop) (x1 x2 x3 x4 x5 x6 x7 x8 x9 x10 : Int32) (st : MSt) : Prop := JQ (wM P s0 l X) mX5_alike (lev + 1) st0 188 [some (va_rf (some P.mo)), some (.int x1), some (.int x2), some (.int x3), some (.int x4), some (.int x5), some (.int x6), some (.int x7), some (.int x8), some (.int x9), some (.int x10), none, none, none] [] st Q
abbrev jX5_alike_204 (P : MPl) (s0 : State) (l : Launch) (X : Prop) (lev : Nat) (st0 : MSt) (Q : Outcome → MSt → Prop) (x1 x2 x3 x4 x5 x6 x7 x8 x9 x10 : Int32) (st : MSt) : Prop := JQ (wM P s0 l X) mX5_alike (lev + 1) st0 204 [some (va_rf (some P.mo)), some (.int x1), some (.int x2), some (.int x3), some (.int x4), some (.int x5), some (.int x6), some (.int x7), some (.int x8), some (.int x9), some (.int x10), none, none, none] [] st Q
abbrev jX5_alike_208 (P : MPl) (s0 : State) (l : Launch) (X : Prop) (lev : Nat) (st0 : MSt) (Q : Outcome → MSt → Prop) (x1 x2 x3 x4 x5 x6 x7 x8 x9 x10 : Int32) (st : MSt) : Prop := JQ (wM P s0 l X) mX5_alike (lev + 1) st0 208 [some (va_rf (some P.mo)), some (.int x1), some (.int x2), some (.int x3), some (.int x4), some (.int x5), some (.int x6), some (.int x7), some (.int x8), some (.int x9), some (.int x10), none, none, none] [] st Q
abbrev jX5_alike_220 (P : MPl) (s0 : State) (l : Launch) (X : Prop) (lev : Nat) (st0 : MSt) (Q : Outcome → MSt → Prop) (x1 x2 x3 x4 x5 x6 x7 x8 x9 x10 x11 x12 x13 : Int32) (st : MSt) : Prop := JQ (wM P s0 l X) mX5_alike (lev + 1) st0 220 [some (va_rf (some P.mo)), some (.int x1), some (.int x2), some (.int x3), some (.int x4), some (.int x5), some (.int x6), some (.int x7), some (.int x8), some (.int x9), some (.int x10), some (.int x11), some (.int x12), some (.int x13)] [] st Q
theorem tX5_alike {P : MPl} {s0 : State} {l : Launch} {X : Prop} {lev : Nat} {Q : Outcome → MSt → Prop} {x1 x2 x3 x4 x5 x6 x7 : Int32} {st : MSt} (h : (CQ (wM P s0 l X) mX5_kindOf lev (.ref P.mo :: [.int x1]) st (onI (fun r2 t1 => (CQ (wM P s0 l X) mX5_kindOf lev (.ref P.mo :: [.int x5]) t1 (onI (fun r4 t3 => ((r2 = r4 → ((r2 = (iI 4) → jX5_alike_34 P s0 l X lev st Q x1 x2 x3 x4 x5 x6 x7 r2 r4 t3) ∧ (¬ r2 = (iI 4) → ((r2 = (iI 5) → jX5_alike_34 P s0 l X lev st Q x1 x2 x3 x4 x5 x6 x7 r2 r4 t3) ∧ (¬ r2 = (iI 5) → jX5_alike_131 P s0 l X lev st Q x1 x2 x3 x4 x5 x6 x7 r2 r4 t3))))) ∧ (¬ r2 = r4 → jX5_alike_131 P s0 l X lev st Q x1 x2 x3 x4 x5 x6 x7 r2 r4 t3))) (fun x t => Q (.threw x) t)))) (fun x t => Q (.threw x) t)))) : CQ (wM P s0 l X) mX5_alike (lev + 1) [.ref P.mo, .int x1, .int x2, .int x3, .int x4, .int x5, .int x6, .int x7] st Q := by
  refine CQ.of2 6 (lv := [some (va_rf (some P.mo)), some (.int x1), some (.int x2), some (.int x3), some (.int x4), some (.int x5), some (.int x6), some (.int x7), none, none, none, none, none, none]) (by decide) (Nat.le_of_ble_eq_true rfl) rfl rfl ?_
  refine j_aload_n (r := some P.mo) dX5_alike_0 rfl ?_
  refine j_iload_n dX5_alike_1 rfl ?_
  refine jm_calli (As := [.int x1]) (rest := []) kX5_kindOf rfl q2416 rfl rfl (Nat.le_of_ble_eq_true rfl) rfl dX5_alike_2 (Nat.succ_le_succ (Nat.zero_le _)) (h.mono (onI_mono (fun r2 t1 h => ?_) (fun _ _ h => h)))
  refine j_istore (lv' := [some (va_rf (some P.mo)), some (.int x1), some (.int x2), some (.int x3), some (.int x4), some (.int x5), some (.int x6), some (.int x7), some (.int r2), none, none, none, none, none]) dX5_alike_5 (by decide) rfl ?_
  refine j_aload_n (r := some P.mo) dX5_alike_7 rfl ?_
  refine j_iload dX5_alike_8 rfl ?_
  refine jm_calli (As := [.int x5]) (rest := []) kX5_kindOf rfl q2416 rfl rfl (Nat.le_of_ble_eq_true rfl) rfl dX5_alike_10 (Nat.succ_le_succ (Nat.zero_le _)) (h.mono (onI_mono (fun r4 t3 h => ?_) (fun _ _ h => h)))
  refine j_istore (lv' := [some (va_rf (some P.mo)), some (.int x1), some (.int x2), some (.int x3), some (.int x4), some (.int x5), some (.int x6), some (.int x7), some (.int r2), some (.int r4), none, none, none, none]) dX5_alike_13 (by decide) rfl ?_
  refine j_iload dX5_alike_15 rfl ?_
  refine j_iload dX5_alike_17 rfl ?_
  refine j_icmp_ne 131 dX5_alike_19 (by decide) (fun c7 => ?_) (fun c7 => ?_)
  · replace h := h.2 c7
    exact h
  · replace h := h.1 c7
    refine j_iload dX5_alike_22 rfl ?_
    refine j_iconst (v := iI 4) dX5_alike_24 rfl ?_
    refine j_icmp_eq 34 dX5_alike_25 (by decide) (fun c6 => ?_) (fun c6 => ?_)
    · replace h := h.1 c6
      exact h
    · replace h := h.2 c6
      refine j_iload dX5_alike_28 rfl ?_
      refine j_iconst (v := iI 5) dX5_alike_30 rfl ?_
      refine j_icmp_ne 131 dX5_alike_31 (by decide) (fun c5 => ?_) (fun c5 => ?_)
      · replace h := h.2 c5
        exact h
      · replace h := h.1 c5
        exact h
theorem tX5_alike_34 {P : MPl} {s0 : State} {l : Launch} {X : Prop} {lev : Nat} {st0 : MSt} {Q : Outcome → MSt → Prop} {x1 x2 x3 x4 x5 x6 x7 x8 x9 : Int32} {st : MSt} (h : (inr x1 140000 ∧ (inr x5 140000 ∧ (CQ (wM P s0 l X) mX5_compare lev (.ref P.mo :: [.int (aI st 32 x1), .int x2, .int (aI st 32 x5), .int x6, .int (x7 + (iI 1))]) st (onI (fun r2 t1 => ((r2 = 0 → Q (.returned (some (.int (iI 0)))) t1) ∧ (¬ r2 = 0 → (CQ (wM P s0 l X) mX5_inside lev (.ref P.mo :: [.int x1, .int x2, .int ((iI (-200000)) - (fI t1 57))]) (mput 57 ((fI t1 57) + (iI 1)) t1) (onI (fun r4 t3 => (CQ (wM P s0 l X) mX5_inside lev (.ref P.mo :: [.int x5, .int x6, .int ((iI (-200000)) - (fI t1 57))]) t3 (onI (fun r6 t5 => (inr x1 140000 ∧ (inr x5 140000 ∧ (CQ (wM P s0 l X) mX5_compare lev (.ref P.mo :: [.int (aI t5 33 x1), .int r4, .int (aI t5 33 x5), .int r6, .int (x7 + (iI 1))]) t5 (onI (fun r8 t7 => (isZ r8 ∧ Q (.returned (some (.int r8))) t7)) (fun x t => Q (.threw x) t)))))) (fun x t => Q (.threw x) t)))) (fun x t => Q (.threw x) t)))))) (fun x t => Q (.threw x) t)))))) : jX5_alike_34 P s0 l X lev st0 Q x1 x2 x3 x4 x5 x6 x7 x8 x9 st := by
  refine j_aload_n (r := some P.mo) dX5_alike_34 rfl ?_
  refine j_aload_n (r := some P.mo) dX5_alike_35 rfl ?_
  refine jm_geta fM_32 rfl dX5_alike_36 ?_
  refine j_iload_n dX5_alike_39 rfl ?_
  refine jm_ald (v := aI st 32 x1) rfl h.1 rfl rfl dX5_alike_40 ?_
  replace h := h.2
  refine j_iload_n dX5_alike_41 rfl ?_
  refine j_aload_n (r := some P.mo) dX5_alike_42 rfl ?_
  refine jm_geta fM_32 rfl dX5_alike_43 ?_
  refine j_iload dX5_alike_46 rfl ?_
  refine jm_ald (v := aI st 32 x5) rfl h.1 rfl rfl dX5_alike_48 ?_
  replace h := h.2
  refine j_iload dX5_alike_49 rfl ?_
  refine j_iload dX5_alike_51 rfl ?_
  refine j_iconst (v := iI 1) dX5_alike_53 rfl ?_
  refine j_iadd dX5_alike_54 ?_
  refine jm_calli (As := [.int (aI st 32 x1), .int x2, .int (aI st 32 x5), .int x6, .int (x7 + (iI 1))]) (rest := []) kX5_compare rfl q2444 rfl rfl (Nat.le_of_ble_eq_true rfl) rfl dX5_alike_55 (Nat.succ_le_succ (Nat.zero_le _)) (h.mono (onI_mono (fun r2 t1 h => ?_) (fun _ _ h => h)))
  refine j_if_ne 63 dX5_alike_58 (by decide) (fun c9 => ?_) (fun c9 => ?_)
  · replace h := h.2 c9
    refine j_ldcw (v := iI (-200000)) q2452 dX5_alike_63 (by decide) ?_
    refine j_aload_n (r := some P.mo) dX5_alike_66 rfl ?_
    refine jm_get (v := fI t1 57) fM_57 rfl rfl dX5_alike_67 ?_
    refine j_isub dX5_alike_70 ?_
    refine j_istore (lv' := [some (va_rf (some P.mo)), some (.int x1), some (.int x2), some (.int x3), some (.int x4), some (.int x5), some (.int x6), some (.int x7), some (.int x8), some (.int x9), some (.int ((iI (-200000)) - (fI t1 57))), none, none, none]) dX5_alike_71 (by decide) rfl ?_
    refine j_aload_n (r := some P.mo) dX5_alike_73 rfl ?_
    refine j_dup dX5_alike_74 rfl ?_
    refine jm_get (v := fI t1 57) fM_57 rfl rfl dX5_alike_75 ?_
    refine j_iconst (v := iI 1) dX5_alike_78 rfl ?_
    refine j_iadd dX5_alike_79 ?_
    refine jm_put fM_57 rfl dX5_alike_80 ?_
    refine j_aload_n (r := some P.mo) dX5_alike_83 rfl ?_
    refine j_iload_n dX5_alike_84 rfl ?_
    refine j_iload_n dX5_alike_85 rfl ?_
    refine j_iload dX5_alike_86 rfl ?_
    refine jm_calli (As := [.int x1, .int x2, .int ((iI (-200000)) - (fI t1 57))]) (rest := []) kX5_inside rfl q2420 rfl rfl (Nat.le_of_ble_eq_true rfl) rfl dX5_alike_88 (Nat.succ_le_succ (Nat.zero_le _)) (h.mono (onI_mono (fun r4 t3 h => ?_) (fun _ _ h => h)))
    refine j_istore (lv' := [some (va_rf (some P.mo)), some (.int x1), some (.int x2), some (.int x3), some (.int x4), some (.int x5), some (.int x6), some (.int x7), some (.int x8), some (.int x9), some (.int ((iI (-200000)) - (fI t1 57))), some (.int r4), none, none]) dX5_alike_91 (by decide) rfl ?_
    refine j_aload_n (r := some P.mo) dX5_alike_93 rfl ?_
    refine j_iload dX5_alike_94 rfl ?_
    refine j_iload dX5_alike_96 rfl ?_
    refine j_iload dX5_alike_98 rfl ?_
    refine jm_calli (As := [.int x5, .int x6, .int ((iI (-200000)) - (fI t1 57))]) (rest := []) kX5_inside rfl q2420 rfl rfl (Nat.le_of_ble_eq_true rfl) rfl dX5_alike_100 (Nat.succ_le_succ (Nat.zero_le _)) (h.mono (onI_mono (fun r6 t5 h => ?_) (fun _ _ h => h)))
    refine j_istore (lv' := [some (va_rf (some P.mo)), some (.int x1), some (.int x2), some (.int x3), some (.int x4), some (.int x5), some (.int x6), some (.int x7), some (.int x8), some (.int x9), some (.int ((iI (-200000)) - (fI t1 57))), some (.int r4), some (.int r6), none]) dX5_alike_103 (by decide) rfl ?_
    refine j_aload_n (r := some P.mo) dX5_alike_105 rfl ?_
    refine j_aload_n (r := some P.mo) dX5_alike_106 rfl ?_
    refine jm_geta fM_33 rfl dX5_alike_107 ?_
    refine j_iload_n dX5_alike_110 rfl ?_
    refine jm_ald (v := aI t5 33 x1) rfl h.1 rfl rfl dX5_alike_111 ?_
    replace h := h.2
    refine j_iload dX5_alike_112 rfl ?_
    refine j_aload_n (r := some P.mo) dX5_alike_114 rfl ?_
    refine jm_geta fM_33 rfl dX5_alike_115 ?_
    refine j_iload dX5_alike_118 rfl ?_
    refine jm_ald (v := aI t5 33 x5) rfl h.1 rfl rfl dX5_alike_120 ?_
    replace h := h.2
    refine j_iload dX5_alike_121 rfl ?_
    refine j_iload dX5_alike_123 rfl ?_
    refine j_iconst (v := iI 1) dX5_alike_125 rfl ?_
    refine j_iadd dX5_alike_126 ?_
    refine jm_calli (As := [.int (aI t5 33 x1), .int r4, .int (aI t5 33 x5), .int r6, .int (x7 + (iI 1))]) (rest := []) kX5_compare rfl q2444 rfl rfl (Nat.le_of_ble_eq_true rfl) rfl dX5_alike_127 (Nat.succ_le_succ (Nat.zero_le _)) (h.mono (onI_mono (fun r8 t7 h => ?_) (fun _ _ h => h)))
    have hz := h.1
    replace h := h.2
    exact j_ireturn (ty := .boolean) rfl (nz hz) dX5_alike_130 h
  · replace h := h.1 c9
    refine j_iconst (v := iI 0) dX5_alike_61 rfl ?_
    exact j_ireturn (ty := .boolean) rfl rfl dX5_alike_62 h
theorem tX5_alike_131 {P : MPl} {s0 : State} {l : Launch} {X : Prop} {lev : Nat} {st0 : MSt} {Q : Outcome → MSt → Prop} {x1 x2 x3 x4 x5 x6 x7 x8 x9 : Int32} {st : MSt} (h : ((x8 = x9 → (((x3 - x4) = ((fI st 51) - x3) → ((x8 = (iI (-1)) → ((x1 = x5 → jX5_alike_204 P s0 l X lev st0 Q x1 x2 x3 x4 x5 x6 x7 x8 x9 (x3 - x4) st) ∧ (¬ x1 = x5 → jX5_alike_208 P s0 l X lev st0 Q x1 x2 x3 x4 x5 x6 x7 x8 x9 (x3 - x4) st))) ∧ (¬ x8 = (iI (-1)) → ((x8 = (iI 1) → jX5_alike_188 P s0 l X lev st0 Q x1 x2 x3 x4 x5 x6 x7 x8 x9 (x3 - x4) st) ∧ (¬ x8 = (iI 1) → ((x8 = (iI 2) → jX5_alike_188 P s0 l X lev st0 Q x1 x2 x3 x4 x5 x6 x7 x8 x9 (x3 - x4) st) ∧ (¬ x8 = (iI 2) → ((x8 = (iI 3) → jX5_alike_188 P s0 l X lev st0 Q x1 x2 x3 x4 x5 x6 x7 x8 x9 (x3 - x4) st) ∧ (¬ x8 = (iI 3) → jX5_alike_208 P s0 l X lev st0 Q x1 x2 x3 x4 x5 x6 x7 x8 x9 (x3 - x4) st))))))))) ∧ (¬ (x3 - x4) = ((fI st 51) - x3) → jX5_alike_208 P s0 l X lev st0 Q x1 x2 x3 x4 x5 x6 x7 x8 x9 (x3 - x4) st))) ∧ (¬ x8 = x9 → jX5_alike_208 P s0 l X lev st0 Q x1 x2 x3 x4 x5 x6 x7 x8 x9 (x3 - x4) st))) : jX5_alike_131 P s0 l X lev st0 Q x1 x2 x3 x4 x5 x6 x7 x8 x9 st := by
  refine j_iload_n dX5_alike_131 rfl ?_
  refine j_iload dX5_alike_132 rfl ?_
  refine j_isub dX5_alike_134 ?_
  refine j_istore (lv' := [some (va_rf (some P.mo)), some (.int x1), some (.int x2), some (.int x3), some (.int x4), some (.int x5), some (.int x6), some (.int x7), some (.int x8), some (.int x9), some (.int (x3 - x4)), none, none, none]) dX5_alike_135 (by decide) rfl ?_
  refine j_iload dX5_alike_137 rfl ?_
  refine j_iload dX5_alike_139 rfl ?_
  refine j_icmp_ne 208 dX5_alike_141 (by decide) (fun c7 => ?_) (fun c7 => ?_)
  · replace h := h.2 c7
    exact h
  · replace h := h.1 c7
    refine j_iload dX5_alike_144 rfl ?_
    refine j_aload_n (r := some P.mo) dX5_alike_146 rfl ?_
    refine jm_get (v := fI st 51) fM_51 rfl rfl dX5_alike_147 ?_
    refine j_iload_n dX5_alike_150 rfl ?_
    refine j_isub dX5_alike_151 ?_
    refine j_icmp_ne 208 dX5_alike_152 (by decide) (fun c6 => ?_) (fun c6 => ?_)
    · replace h := h.2 c6
      exact h
    · replace h := h.1 c6
      refine j_iload dX5_alike_155 rfl ?_
      refine j_iconst (v := iI (-1)) dX5_alike_157 rfl ?_
      refine j_icmp_ne 170 dX5_alike_158 (by decide) (fun c5 => ?_) (fun c5 => ?_)
      · replace h := h.2 c5
        refine j_iload dX5_alike_170 rfl ?_
        refine j_iconst (v := iI 1) dX5_alike_172 rfl ?_
        refine j_icmp_eq 188 dX5_alike_173 (by decide) (fun c3 => ?_) (fun c3 => ?_)
        · replace h := h.1 c3
          exact h
        · replace h := h.2 c3
          refine j_iload dX5_alike_176 rfl ?_
          refine j_iconst (v := iI 2) dX5_alike_178 rfl ?_
          refine j_icmp_eq 188 dX5_alike_179 (by decide) (fun c2 => ?_) (fun c2 => ?_)
          · replace h := h.1 c2
            exact h
          · replace h := h.2 c2
            refine j_iload dX5_alike_182 rfl ?_
            refine j_iconst (v := iI 3) dX5_alike_184 rfl ?_
            refine j_icmp_ne 208 dX5_alike_185 (by decide) (fun c1 => ?_) (fun c1 => ?_)
            · replace h := h.2 c1
              exact h
            · replace h := h.1 c1
              exact h
      · replace h := h.1 c5
        refine j_iload_n dX5_alike_161 rfl ?_
        refine j_iload dX5_alike_162 rfl ?_
        refine j_icmp_ne 208 dX5_alike_164 (by decide) (fun c4 => ?_) (fun c4 => ?_)
        · replace h := h.2 c4
          exact h
        · replace h := h.1 c4
          refine j_goto 204 dX5_alike_167 (by decide) ?_
          exact h
theorem tX5_alike_188 {P : MPl} {s0 : State} {l : Launch} {X : Prop} {lev : Nat} {st0 : MSt} {Q : Outcome → MSt → Prop} {x1 x2 x3 x4 x5 x6 x7 x8 x9 x10 : Int32} {st : MSt} (h : (inr x1 140000 ∧ (inr x5 140000 ∧ (((aI st 31 x1) = (aI st 31 x5) → jX5_alike_204 P s0 l X lev st0 Q x1 x2 x3 x4 x5 x6 x7 x8 x9 x10 st) ∧ (¬ (aI st 31 x1) = (aI st 31 x5) → jX5_alike_208 P s0 l X lev st0 Q x1 x2 x3 x4 x5 x6 x7 x8 x9 x10 st))))) : jX5_alike_188 P s0 l X lev st0 Q x1 x2 x3 x4 x5 x6 x7 x8 x9 x10 st := by
  refine j_aload_n (r := some P.mo) dX5_alike_188 rfl ?_
  refine jm_geta fM_31 rfl dX5_alike_189 ?_
  refine j_iload_n dX5_alike_192 rfl ?_
  refine jm_ald (v := aI st 31 x1) rfl h.1 rfl rfl dX5_alike_193 ?_
  replace h := h.2
  refine j_aload_n (r := some P.mo) dX5_alike_194 rfl ?_
  refine jm_geta fM_31 rfl dX5_alike_195 ?_
  refine j_iload dX5_alike_198 rfl ?_
  refine jm_ald (v := aI st 31 x5) rfl h.1 rfl rfl dX5_alike_200 ?_
  replace h := h.2
  refine j_icmp_ne 208 dX5_alike_201 (by decide) (fun c1 => ?_) (fun c1 => ?_)
  · replace h := h.2 c1
    exact h
  · replace h := h.1 c1
    exact h
theorem tX5_alike_204 {P : MPl} {s0 : State} {l : Launch} {X : Prop} {lev : Nat} {st0 : MSt} {Q : Outcome → MSt → Prop} {x1 x2 x3 x4 x5 x6 x7 x8 x9 x10 : Int32} {st : MSt} (h : jX5_alike_220 P s0 l X lev st0 Q x1 x2 x3 x4 x5 x6 x7 x8 x9 x10 (iI 1) (fI st 51) (iI 1) st) : jX5_alike_204 P s0 l X lev st0 Q x1 x2 x3 x4 x5 x6 x7 x8 x9 x10 st := by
  refine j_iconst (v := iI 1) dX5_alike_204 rfl ?_
  refine j_goto 209 dX5_alike_205 (by decide) ?_
  refine j_istore (lv' := [some (va_rf (some P.mo)), some (.int x1), some (.int x2), some (.int x3), some (.int x4), some (.int x5), some (.int x6), some (.int x7), some (.int x8), some (.int x9), some (.int x10), some (.int (iI 1)), none, none]) dX5_alike_209 (by decide) rfl ?_
  refine j_aload_n (r := some P.mo) dX5_alike_211 rfl ?_
  refine jm_get (v := fI st 51) fM_51 rfl rfl dX5_alike_212 ?_
  refine j_istore (lv' := [some (va_rf (some P.mo)), some (.int x1), some (.int x2), some (.int x3), some (.int x4), some (.int x5), some (.int x6), some (.int x7), some (.int x8), some (.int x9), some (.int x10), some (.int (iI 1)), some (.int (fI st 51)), none]) dX5_alike_215 (by decide) rfl ?_
  refine j_iconst (v := iI 1) dX5_alike_217 rfl ?_
  refine j_istore (lv' := [some (va_rf (some P.mo)), some (.int x1), some (.int x2), some (.int x3), some (.int x4), some (.int x5), some (.int x6), some (.int x7), some (.int x8), some (.int x9), some (.int x10), some (.int (iI 1)), some (.int (fI st 51)), some (.int (iI 1))]) dX5_alike_218 (by decide) rfl ?_
  exact h
theorem tX5_alike_208 {P : MPl} {s0 : State} {l : Launch} {X : Prop} {lev : Nat} {st0 : MSt} {Q : Outcome → MSt → Prop} {x1 x2 x3 x4 x5 x6 x7 x8 x9 x10 : Int32} {st : MSt} (h : jX5_alike_220 P s0 l X lev st0 Q x1 x2 x3 x4 x5 x6 x7 x8 x9 x10 (iI 0) (fI st 51) (iI 1) st) : jX5_alike_208 P s0 l X lev st0 Q x1 x2 x3 x4 x5 x6 x7 x8 x9 x10 st := by
  refine j_iconst (v := iI 0) dX5_alike_208 rfl ?_
  refine j_istore (lv' := [some (va_rf (some P.mo)), some (.int x1), some (.int x2), some (.int x3), some (.int x4), some (.int x5), some (.int x6), some (.int x7), some (.int x8), some (.int x9), some (.int x10), some (.int (iI 0)), none, none]) dX5_alike_209 (by decide) rfl ?_
  refine j_aload_n (r := some P.mo) dX5_alike_211 rfl ?_
  refine jm_get (v := fI st 51) fM_51 rfl rfl dX5_alike_212 ?_
  refine j_istore (lv' := [some (va_rf (some P.mo)), some (.int x1), some (.int x2), some (.int x3), some (.int x4), some (.int x5), some (.int x6), some (.int x7), some (.int x8), some (.int x9), some (.int x10), some (.int (iI 0)), some (.int (fI st 51)), none]) dX5_alike_215 (by decide) rfl ?_
  refine j_iconst (v := iI 1) dX5_alike_217 rfl ?_
  refine j_istore (lv' := [some (va_rf (some P.mo)), some (.int x1), some (.int x2), some (.int x3), some (.int x4), some (.int x5), some (.int x6), some (.int x7), some (.int x8), some (.int x9), some (.int x10), some (.int (iI 0)), some (.int (fI st 51)), some (.int (iI 1))]) dX5_alike_218 (by decide) rfl ?_
  exact h
theorem tX5_alike_220 {P : MPl} {s0 : State} {l : Launch} {X : Prop} {lev : Nat} {st0 : MSt} {Q : Outcome → MSt → Prop} {x1 x2 x3 x4 x5 x6 x7 x8 x9 x10 x11 x12 x13 : Int32} {st : MSt} (h : ((x11 = 0 → (isZ x11 ∧ Q (.returned (some (.int x11))) st)) ∧ (¬ x11 = 0 → ((x10 < x13 → (isZ x11 ∧ Q (.returned (some (.int x11))) st)) ∧ (¬ x10 < x13 → (inr (x3 - x13) 21000 ∧ (inr (x3 - x13) 21000 ∧ (inr (x12 - x13) 21000 ∧ (inr (x12 - x13) 21000 ∧ (CQ (wM P s0 l X) mX5_compare lev (.ref P.mo :: [.int (aI st 49 (x3 - x13)), .int (aI st 50 (x3 - x13)), .int (aI st 49 (x12 - x13)), .int (aI st 50 (x12 - x13)), .int (x7 + (iI 1))]) st (onI (fun r2 t1 => jX5_alike_220 P s0 l X lev st0 Q x1 x2 x3 x4 x5 x6 x7 x8 x9 x10 r2 x12 (x13 + iI 1) t1) (fun x t => Q (.threw x) t)))))))))))) : jX5_alike_220 P s0 l X lev st0 Q x1 x2 x3 x4 x5 x6 x7 x8 x9 x10 x11 x12 x13 st := by
  refine j_iload dX5_alike_220 rfl ?_
  refine j_if_eq 286 dX5_alike_222 (by decide) (fun c4 => ?_) (fun c4 => ?_)
  · replace h := h.1 c4
    refine j_iload dX5_alike_286 rfl ?_
    have hz := h.1
    replace h := h.2
    exact j_ireturn (ty := .boolean) rfl (nz hz) dX5_alike_288 h
  · replace h := h.2 c4
    refine j_iload dX5_alike_225 rfl ?_
    refine j_iload dX5_alike_227 rfl ?_
    refine j_icmp_gt 286 dX5_alike_229 (by decide) (fun c3 => ?_) (fun c3 => ?_)
    · replace h := h.1 c3
      refine j_iload dX5_alike_286 rfl ?_
      have hz := h.1
      replace h := h.2
      exact j_ireturn (ty := .boolean) rfl (nz hz) dX5_alike_288 h
    · replace h := h.2 c3
      refine j_aload_n (r := some P.mo) dX5_alike_232 rfl ?_
      refine j_aload_n (r := some P.mo) dX5_alike_233 rfl ?_
      refine jm_geta fM_49 rfl dX5_alike_234 ?_
      refine j_iload_n dX5_alike_237 rfl ?_
      refine j_iload dX5_alike_238 rfl ?_
      refine j_isub dX5_alike_240 ?_
      refine jm_ald (v := aI st 49 (x3 - x13)) rfl h.1 rfl rfl dX5_alike_241 ?_
      replace h := h.2
      refine j_aload_n (r := some P.mo) dX5_alike_242 rfl ?_
      refine jm_geta fM_50 rfl dX5_alike_243 ?_
      refine j_iload_n dX5_alike_246 rfl ?_
      refine j_iload dX5_alike_247 rfl ?_
      refine j_isub dX5_alike_249 ?_
      refine jm_ald (v := aI st 50 (x3 - x13)) rfl h.1 rfl rfl dX5_alike_250 ?_
      replace h := h.2
      refine j_aload_n (r := some P.mo) dX5_alike_251 rfl ?_
      refine jm_geta fM_49 rfl dX5_alike_252 ?_
      refine j_iload dX5_alike_255 rfl ?_
      refine j_iload dX5_alike_257 rfl ?_
      refine j_isub dX5_alike_259 ?_
      refine jm_ald (v := aI st 49 (x12 - x13)) rfl h.1 rfl rfl dX5_alike_260 ?_
      replace h := h.2
      refine j_aload_n (r := some P.mo) dX5_alike_261 rfl ?_
      refine jm_geta fM_50 rfl dX5_alike_262 ?_
      refine j_iload dX5_alike_265 rfl ?_
      refine j_iload dX5_alike_267 rfl ?_
      refine j_isub dX5_alike_269 ?_
      refine jm_ald (v := aI st 50 (x12 - x13)) rfl h.1 rfl rfl dX5_alike_270 ?_
      replace h := h.2
      refine j_iload dX5_alike_271 rfl ?_
      refine j_iconst (v := iI 1) dX5_alike_273 rfl ?_
      refine j_iadd dX5_alike_274 ?_
      refine jm_calli (As := [.int (aI st 49 (x3 - x13)), .int (aI st 50 (x3 - x13)), .int (aI st 49 (x12 - x13)), .int (aI st 50 (x12 - x13)), .int (x7 + (iI 1))]) (rest := []) kX5_compare rfl q2444 rfl rfl (Nat.le_of_ble_eq_true rfl) rfl dX5_alike_275 (Nat.succ_le_succ (Nat.zero_le _)) (h.mono (onI_mono (fun r2 t1 h => ?_) (fun _ _ h => h)))
      refine j_istore (lv' := [some (va_rf (some P.mo)), some (.int x1), some (.int x2), some (.int x3), some (.int x4), some (.int x5), some (.int x6), some (.int x7), some (.int x8), some (.int x9), some (.int x10), some (.int r2), some (.int x12), some (.int x13)]) dX5_alike_278 (by decide) rfl ?_
      refine j_iinc (lv' := [some (va_rf (some P.mo)), some (.int x1), some (.int x2), some (.int x3), some (.int x4), some (.int x5), some (.int x6), some (.int x7), some (.int x8), some (.int x9), some (.int x10), some (.int r2), some (.int x12), some (.int (x13 + iI 1))]) dX5_alike_280 rfl (by decide) rfl ?_
      refine j_goto 220 dX5_alike_283 (by decide) ?_
      exact h
abbrev jX5_judgeName_4 (P : MPl) (s0 : State) (l : Launch) (X : Prop) (lev : Nat) (st0 : MSt) (Q : Outcome → MSt → Prop) (x1 x2 x3 : Int32) (st : MSt) : Prop := JQ (wM P s0 l X) mX5_judgeName (lev + 1) st0 4 [some (va_rf (some P.mo)), some (.int x1), some (.int x2), some (.int x3), none, none, none] [] st Q
abbrev jX5_judgeName_51 (P : MPl) (s0 : State) (l : Launch) (X : Prop) (lev : Nat) (st0 : MSt) (Q : Outcome → MSt → Prop) (x1 x2 x3 x4 x5 x6 : Int32) (st : MSt) : Prop := JQ (wM P s0 l X) mX5_judgeName (lev + 1) st0 51 [some (va_rf (some P.mo)), some (.int x1), some (.int x2), some (.int x3), some (.int x4), some (.int x5), some (.int x6)] [] st Q
abbrev jX5_judgeName_112 (P : MPl) (s0 : State) (l : Launch) (X : Prop) (lev : Nat) (st0 : MSt) (Q : Outcome → MSt → Prop) (x1 x2 x3 x4 x5 x6 : Int32) (st : MSt) : Prop := JQ (wM P s0 l X) mX5_judgeName (lev + 1) st0 112 [some (va_rf (some P.mo)), some (.int x1), some (.int x2), some (.int x3), some (.int x4), some (.int x5), some (.int x6)] [] st Q
abbrev jX5_judgeName_124 (P : MPl) (s0 : State) (l : Launch) (X : Prop) (lev : Nat) (st0 : MSt) (Q : Outcome → MSt → Prop) (x1 x2 x3 x4 x5 x6 : Int32) (st : MSt) : Prop := JQ (wM P s0 l X) mX5_judgeName (lev + 1) st0 124 [some (va_rf (some P.mo)), some (.int x1), some (.int x2), some (.int x3), some (.int x4), some (.int x5), some (.int x6)] [] st Q
theorem tX5_judgeName {P : MPl} {s0 : State} {l : Launch} {X : Prop} {lev : Nat} {Q : Outcome → MSt → Prop} {x1 : Int32} {st : MSt} (h : jX5_judgeName_4 P s0 l X lev st Q x1 (iI (-1)) (iI 0) st) : CQ (wM P s0 l X) mX5_judgeName (lev + 1) [.ref P.mo, .int x1] st Q := by
  refine CQ.of2 5 (lv := [some (va_rf (some P.mo)), some (.int x1), none, none, none, none, none]) (by decide) (Nat.le_of_ble_eq_true rfl) rfl rfl ?_
  refine j_iconst (v := iI (-1)) dX5_judgeName_0 rfl ?_
  refine j_istore_n (lv' := [some (va_rf (some P.mo)), some (.int x1), some (.int (iI (-1))), none, none, none, none]) dX5_judgeName_1 (by decide) rfl ?_
  refine j_iconst (v := iI 0) dX5_judgeName_2 rfl ?_
  refine j_istore_n (lv' := [some (va_rf (some P.mo)), some (.int x1), some (.int (iI (-1))), some (.int (iI 0)), none, none, none]) dX5_judgeName_3 (by decide) rfl ?_
  exact h
theorem tX5_judgeName_4 {P : MPl} {s0 : State} {l : Launch} {X : Prop} {lev : Nat} {st0 : MSt} {Q : Outcome → MSt → Prop} {x1 x2 x3 : Int32} {st : MSt} (h : (((fI st 43) ≤ x3 → ((x2 < 0 → (CQ (wM P s0 l X) mX5_knownOf lev (.ref P.mo :: [.int x1]) st (onI (fun r2 t1 => ((r2 < 0 → (CQ (wM P s0 l X) mX5_sortOf lev (.ref P.mo :: [.int x1]) t1 (onI (fun r4 t3 => ((r2 < 0 → ((0 ≤ r4 → (inr r4 8 ∧ ((0 ≤ (aI t3 18 r4) → (inr x1 140000 ∧ (inr x1 140000 ∧ (inr r4 8 ∧ (inr r4 8 ∧ (inr (aI t3 18 r4) 8 ∧ (CQ (wM P s0 l X) mX5_becomes lev (.ref P.mo :: [.int (aI t3 18 r4), .int (aI t3 18 (aI t3 18 r4))]) (mst 31 x1 r4 (mst 30 x1 (iI 3) t3)) (onV (fun t5 => Q (.returned none) t5) (fun x t => Q (.threw x) t))))))))) ∧ (¬ 0 ≤ (aI t3 18 r4) → (inr x1 140000 ∧ (CQ (wM P s0 l X) mX5_wrong lev (.ref P.mo :: [.int (iI 7), .int (aI t3 31 x1)]) t3 (onV (fun t7 => Q (.returned none) t7) (fun x t => Q (.threw x) t)))))))) ∧ (¬ 0 ≤ r4 → (inr x1 140000 ∧ (CQ (wM P s0 l X) mX5_wrong lev (.ref P.mo :: [.int (iI 3), .int (aI t3 31 x1)]) t3 (onV (fun t10 => Q (.returned none) t10) (fun x t => Q (.threw x) t))))))) ∧ (¬ r2 < 0 → (inr x1 140000 ∧ (inr x1 140000 ∧ (inr r2 100 ∧ (inr r2 100 ∧ (CQ (wM P s0 l X) mX5_becomes lev (.ref P.mo :: [.int (aI t3 23 r2), .int (aI t3 24 r2)]) (mst 31 x1 r2 (mst 30 x1 (iI 2) t3)) (onV (fun t13 => Q (.returned none) t13) (fun x t => Q (.threw x) t)))))))))) (fun x t => Q (.threw x) t)))) ∧ (¬ r2 < 0 → ((r2 < 0 → (inr x1 140000 ∧ (CQ (wM P s0 l X) mX5_wrong lev (.ref P.mo :: [.int (iI 3), .int (aI t1 31 x1)]) t1 (onV (fun t16 => Q (.returned none) t16) (fun x t => Q (.threw x) t))))) ∧ (¬ r2 < 0 → (inr x1 140000 ∧ (inr x1 140000 ∧ (inr r2 100 ∧ (inr r2 100 ∧ (CQ (wM P s0 l X) mX5_becomes lev (.ref P.mo :: [.int (aI t1 23 r2), .int (aI t1 24 r2)]) (mst 31 x1 r2 (mst 30 x1 (iI 2) t1)) (onV (fun t18 => Q (.returned none) t18) (fun x t => Q (.threw x) t)))))))))))) (fun x t => Q (.threw x) t)))) ∧ (¬ x2 < 0 → (inr x1 140000 ∧ (inr x1 140000 ∧ (inr x2 140000 ∧ (inr x2 140000 ∧ (CQ (wM P s0 l X) mX5_becomes lev (.ref P.mo :: [.int (aI st 40 x2), .int (aI st 41 x2)]) (mst 31 x1 x2 (mst 30 x1 (iI 1) st)) (onV (fun t22 => Q (.returned none) t22) (fun x t => Q (.threw x) t)))))))))) ∧ (¬ (fI st 43) ≤ x3 → (inr x3 50 ∧ (inr (aI st 42 x3) 140000 ∧ (inr x1 140000 ∧ (inr (aI st 31 (aI st 42 x3)) 140000 ∧ (((aI st 32 x1) = (aI st 32 (aI st 31 (aI st 42 x3))) → jX5_judgeName_51 P s0 l X lev st0 Q x1 x2 x3 (aI st 31 (aI st 42 x3)) (iI 1) (iI 0) st) ∧ (¬ (aI st 32 x1) = (aI st 32 (aI st 31 (aI st 42 x3))) → jX5_judgeName_51 P s0 l X lev st0 Q x1 x2 x3 (aI st 31 (aI st 42 x3)) (iI 0) (iI 0) st))))))))) : jX5_judgeName_4 P s0 l X lev st0 Q x1 x2 x3 st := by
  refine j_iload_n dX5_judgeName_4 rfl ?_
  refine j_aload_n (r := some P.mo) dX5_judgeName_5 rfl ?_
  refine jm_get (v := fI st 43) fM_43 rfl rfl dX5_judgeName_6 ?_
  refine j_icmp_ge 130 dX5_judgeName_9 (by decide) (fun c26 => ?_) (fun c26 => ?_)
  · replace h := h.1 c26
    refine j_iload_n dX5_judgeName_130 rfl ?_
    refine j_if_lt 165 dX5_judgeName_131 (by decide) (fun c24 => ?_) (fun c24 => ?_)
    · replace h := h.1 c24
      refine j_aload_n (r := some P.mo) dX5_judgeName_165 rfl ?_
      refine j_iload_n dX5_judgeName_166 rfl ?_
      refine jm_calli (As := [.int x1]) (rest := []) kX5_knownOf rfl q2457 rfl rfl (Nat.le_of_ble_eq_true rfl) rfl dX5_judgeName_167 (Nat.succ_le_succ (Nat.zero_le _)) (h.mono (onI_mono (fun r2 t1 h => ?_) (fun _ _ h => h)))
      refine j_istore_n (lv' := [some (va_rf (some P.mo)), some (.int x1), some (.int x2), some (.int r2), none, none, none]) dX5_judgeName_170 (by decide) rfl ?_
      refine j_iload_n dX5_judgeName_171 rfl ?_
      refine j_if_lt 179 dX5_judgeName_172 (by decide) (fun c21 => ?_) (fun c21 => ?_)
      · replace h := h.1 c21
        refine j_aload_n (r := some P.mo) dX5_judgeName_179 rfl ?_
        refine j_iload_n dX5_judgeName_180 rfl ?_
        refine jm_calli (As := [.int x1]) (rest := []) kX5_sortOf rfl q2371 rfl rfl (Nat.le_of_ble_eq_true rfl) rfl dX5_judgeName_181 (Nat.succ_le_succ (Nat.zero_le _)) (h.mono (onI_mono (fun r4 t3 h => ?_) (fun _ _ h => h)))
        refine j_istore (lv' := [some (va_rf (some P.mo)), some (.int x1), some (.int x2), some (.int r2), some (.int r4), none, none]) dX5_judgeName_184 (by decide) rfl ?_
        refine j_iload_n dX5_judgeName_186 rfl ?_
        refine j_if_lt 223 dX5_judgeName_187 (by decide) (fun c15 => ?_) (fun c15 => ?_)
        · replace h := h.1 c15
          refine j_iload dX5_judgeName_223 rfl ?_
          refine j_if_ge 242 dX5_judgeName_225 (by decide) (fun c12 => ?_) (fun c12 => ?_)
          · replace h := h.1 c12
            refine j_aload_n (r := some P.mo) dX5_judgeName_242 rfl ?_
            refine jm_geta fM_18 rfl dX5_judgeName_243 ?_
            refine j_iload dX5_judgeName_246 rfl ?_
            refine jm_ald (v := aI t3 18 r4) rfl h.1 rfl rfl dX5_judgeName_248 ?_
            replace h := h.2
            refine j_if_ge 267 dX5_judgeName_249 (by decide) (fun c9 => ?_) (fun c9 => ?_)
            · replace h := h.1 c9
              refine j_aload_n (r := some P.mo) dX5_judgeName_267 rfl ?_
              refine jm_geta fM_30 rfl dX5_judgeName_268 ?_
              refine j_iload_n dX5_judgeName_271 rfl ?_
              refine j_iconst (v := iI 3) dX5_judgeName_272 rfl ?_
              refine jm_ast rfl h.1 rfl dX5_judgeName_273 ?_
              replace h := h.2
              refine j_aload_n (r := some P.mo) dX5_judgeName_274 rfl ?_
              refine jm_geta fM_31 rfl dX5_judgeName_275 ?_
              refine j_iload_n dX5_judgeName_278 rfl ?_
              refine j_iload dX5_judgeName_279 rfl ?_
              refine jm_ast rfl h.1 rfl dX5_judgeName_281 ?_
              replace h := h.2
              refine j_aload_n (r := some P.mo) dX5_judgeName_282 rfl ?_
              refine j_aload_n (r := some P.mo) dX5_judgeName_283 rfl ?_
              refine jm_geta fM_18 rfl dX5_judgeName_284 ?_
              refine j_iload dX5_judgeName_287 rfl ?_
              refine jm_ald (v := aI t3 18 r4) rfl h.1 rfl rfl dX5_judgeName_289 ?_
              replace h := h.2
              refine j_aload_n (r := some P.mo) dX5_judgeName_290 rfl ?_
              refine jm_geta fM_18 rfl dX5_judgeName_291 ?_
              refine j_aload_n (r := some P.mo) dX5_judgeName_294 rfl ?_
              refine jm_geta fM_18 rfl dX5_judgeName_295 ?_
              refine j_iload dX5_judgeName_298 rfl ?_
              refine jm_ald (v := aI t3 18 r4) rfl h.1 rfl rfl dX5_judgeName_300 ?_
              replace h := h.2
              refine jm_ald (v := aI t3 18 (aI t3 18 r4)) rfl h.1 rfl rfl dX5_judgeName_301 ?_
              replace h := h.2
              refine jm_callv (As := [.int (aI t3 18 r4), .int (aI t3 18 (aI t3 18 r4))]) (rest := []) kX5_becomes rfl q2428 rfl rfl (Nat.le_of_ble_eq_true rfl) rfl dX5_judgeName_302 (Nat.succ_le_succ (Nat.zero_le _)) (h.mono (onV_mono (fun t5 h => ?_) (fun _ _ h => h)))
              exact j_return rfl dX5_judgeName_305 h
            · replace h := h.2 c9
              refine j_aload_n (r := some P.mo) dX5_judgeName_252 rfl ?_
              refine j_bipush (v := iI 7) dX5_judgeName_253 rfl ?_
              refine j_aload_n (r := some P.mo) dX5_judgeName_255 rfl ?_
              refine jm_geta fM_31 rfl dX5_judgeName_256 ?_
              refine j_iload_n dX5_judgeName_259 rfl ?_
              refine jm_ald (v := aI t3 31 x1) rfl h.1 rfl rfl dX5_judgeName_260 ?_
              replace h := h.2
              refine jm_callv (As := [.int (iI 7), .int (aI t3 31 x1)]) (rest := []) kX5_wrong rfl q2295 rfl rfl (Nat.le_of_ble_eq_true rfl) rfl dX5_judgeName_261 (Nat.succ_le_succ (Nat.zero_le _)) (h.mono (onV_mono (fun t7 h => ?_) (fun _ _ h => h)))
              refine j_goto 305 dX5_judgeName_264 (by decide) ?_
              exact j_return rfl dX5_judgeName_305 h
          · replace h := h.2 c12
            refine j_aload_n (r := some P.mo) dX5_judgeName_228 rfl ?_
            refine j_iconst (v := iI 3) dX5_judgeName_229 rfl ?_
            refine j_aload_n (r := some P.mo) dX5_judgeName_230 rfl ?_
            refine jm_geta fM_31 rfl dX5_judgeName_231 ?_
            refine j_iload_n dX5_judgeName_234 rfl ?_
            refine jm_ald (v := aI t3 31 x1) rfl h.1 rfl rfl dX5_judgeName_235 ?_
            replace h := h.2
            refine jm_callv (As := [.int (iI 3), .int (aI t3 31 x1)]) (rest := []) kX5_wrong rfl q2295 rfl rfl (Nat.le_of_ble_eq_true rfl) rfl dX5_judgeName_236 (Nat.succ_le_succ (Nat.zero_le _)) (h.mono (onV_mono (fun t10 h => ?_) (fun _ _ h => h)))
            refine j_goto 305 dX5_judgeName_239 (by decide) ?_
            exact j_return rfl dX5_judgeName_305 h
        · replace h := h.2 c15
          refine j_aload_n (r := some P.mo) dX5_judgeName_190 rfl ?_
          refine jm_geta fM_30 rfl dX5_judgeName_191 ?_
          refine j_iload_n dX5_judgeName_194 rfl ?_
          refine j_iconst (v := iI 2) dX5_judgeName_195 rfl ?_
          refine jm_ast rfl h.1 rfl dX5_judgeName_196 ?_
          replace h := h.2
          refine j_aload_n (r := some P.mo) dX5_judgeName_197 rfl ?_
          refine jm_geta fM_31 rfl dX5_judgeName_198 ?_
          refine j_iload_n dX5_judgeName_201 rfl ?_
          refine j_iload_n dX5_judgeName_202 rfl ?_
          refine jm_ast rfl h.1 rfl dX5_judgeName_203 ?_
          replace h := h.2
          refine j_aload_n (r := some P.mo) dX5_judgeName_204 rfl ?_
          refine j_aload_n (r := some P.mo) dX5_judgeName_205 rfl ?_
          refine jm_geta fM_23 rfl dX5_judgeName_206 ?_
          refine j_iload_n dX5_judgeName_209 rfl ?_
          refine jm_ald (v := aI t3 23 r2) rfl h.1 rfl rfl dX5_judgeName_210 ?_
          replace h := h.2
          refine j_aload_n (r := some P.mo) dX5_judgeName_211 rfl ?_
          refine jm_geta fM_24 rfl dX5_judgeName_212 ?_
          refine j_iload_n dX5_judgeName_215 rfl ?_
          refine jm_ald (v := aI t3 24 r2) rfl h.1 rfl rfl dX5_judgeName_216 ?_
          replace h := h.2
          refine jm_callv (As := [.int (aI t3 23 r2), .int (aI t3 24 r2)]) (rest := []) kX5_becomes rfl q2428 rfl rfl (Nat.le_of_ble_eq_true rfl) rfl dX5_judgeName_217 (Nat.succ_le_succ (Nat.zero_le _)) (h.mono (onV_mono (fun t13 h => ?_) (fun _ _ h => h)))
          refine j_goto 305 dX5_judgeName_220 (by decide) ?_
          exact j_return rfl dX5_judgeName_305 h
      · replace h := h.2 c21
        refine j_iconst (v := iI (-1)) dX5_judgeName_175 rfl ?_
        refine j_goto 184 dX5_judgeName_176 (by decide) ?_
        refine j_istore (lv' := [some (va_rf (some P.mo)), some (.int x1), some (.int x2), some (.int r2), some (.int (iI (-1))), none, none]) dX5_judgeName_184 (by decide) rfl ?_
        refine j_iload_n dX5_judgeName_186 rfl ?_
        refine j_if_lt 223 dX5_judgeName_187 (by decide) (fun c20 => ?_) (fun c20 => ?_)
        · replace h := h.1 c20
          refine j_iload dX5_judgeName_223 rfl ?_
          refine j_if_ge 242 dX5_judgeName_225 (by decide) (fun q_ => absurd q_ (by decide)) (fun _ => ?_)
          refine j_aload_n (r := some P.mo) dX5_judgeName_228 rfl ?_
          refine j_iconst (v := iI 3) dX5_judgeName_229 rfl ?_
          refine j_aload_n (r := some P.mo) dX5_judgeName_230 rfl ?_
          refine jm_geta fM_31 rfl dX5_judgeName_231 ?_
          refine j_iload_n dX5_judgeName_234 rfl ?_
          refine jm_ald (v := aI t1 31 x1) rfl h.1 rfl rfl dX5_judgeName_235 ?_
          replace h := h.2
          refine jm_callv (As := [.int (iI 3), .int (aI t1 31 x1)]) (rest := []) kX5_wrong rfl q2295 rfl rfl (Nat.le_of_ble_eq_true rfl) rfl dX5_judgeName_236 (Nat.succ_le_succ (Nat.zero_le _)) (h.mono (onV_mono (fun t16 h => ?_) (fun _ _ h => h)))
          refine j_goto 305 dX5_judgeName_239 (by decide) ?_
          exact j_return rfl dX5_judgeName_305 h
        · replace h := h.2 c20
          refine j_aload_n (r := some P.mo) dX5_judgeName_190 rfl ?_
          refine jm_geta fM_30 rfl dX5_judgeName_191 ?_
          refine j_iload_n dX5_judgeName_194 rfl ?_
          refine j_iconst (v := iI 2) dX5_judgeName_195 rfl ?_
          refine jm_ast rfl h.1 rfl dX5_judgeName_196 ?_
          replace h := h.2
          refine j_aload_n (r := some P.mo) dX5_judgeName_197 rfl ?_
          refine jm_geta fM_31 rfl dX5_judgeName_198 ?_
          refine j_iload_n dX5_judgeName_201 rfl ?_
          refine j_iload_n dX5_judgeName_202 rfl ?_
          refine jm_ast rfl h.1 rfl dX5_judgeName_203 ?_
          replace h := h.2
          refine j_aload_n (r := some P.mo) dX5_judgeName_204 rfl ?_
          refine j_aload_n (r := some P.mo) dX5_judgeName_205 rfl ?_
          refine jm_geta fM_23 rfl dX5_judgeName_206 ?_
          refine j_iload_n dX5_judgeName_209 rfl ?_
          refine jm_ald (v := aI t1 23 r2) rfl h.1 rfl rfl dX5_judgeName_210 ?_
          replace h := h.2
          refine j_aload_n (r := some P.mo) dX5_judgeName_211 rfl ?_
          refine jm_geta fM_24 rfl dX5_judgeName_212 ?_
          refine j_iload_n dX5_judgeName_215 rfl ?_
          refine jm_ald (v := aI t1 24 r2) rfl h.1 rfl rfl dX5_judgeName_216 ?_
          replace h := h.2
          refine jm_callv (As := [.int (aI t1 23 r2), .int (aI t1 24 r2)]) (rest := []) kX5_becomes rfl q2428 rfl rfl (Nat.le_of_ble_eq_true rfl) rfl dX5_judgeName_217 (Nat.succ_le_succ (Nat.zero_le _)) (h.mono (onV_mono (fun t18 h => ?_) (fun _ _ h => h)))
          refine j_goto 305 dX5_judgeName_220 (by decide) ?_
          exact j_return rfl dX5_judgeName_305 h
    · replace h := h.2 c24
      refine j_aload_n (r := some P.mo) dX5_judgeName_134 rfl ?_
      refine jm_geta fM_30 rfl dX5_judgeName_135 ?_
      refine j_iload_n dX5_judgeName_138 rfl ?_
      refine j_iconst (v := iI 1) dX5_judgeName_139 rfl ?_
      refine jm_ast rfl h.1 rfl dX5_judgeName_140 ?_
      replace h := h.2
      refine j_aload_n (r := some P.mo) dX5_judgeName_141 rfl ?_
      refine jm_geta fM_31 rfl dX5_judgeName_142 ?_
      refine j_iload_n dX5_judgeName_145 rfl ?_
      refine j_iload_n dX5_judgeName_146 rfl ?_
      refine jm_ast rfl h.1 rfl dX5_judgeName_147 ?_
      replace h := h.2
      refine j_aload_n (r := some P.mo) dX5_judgeName_148 rfl ?_
      refine j_aload_n (r := some P.mo) dX5_judgeName_149 rfl ?_
      refine jm_geta fM_40 rfl dX5_judgeName_150 ?_
      refine j_iload_n dX5_judgeName_153 rfl ?_
      refine jm_ald (v := aI st 40 x2) rfl h.1 rfl rfl dX5_judgeName_154 ?_
      replace h := h.2
      refine j_aload_n (r := some P.mo) dX5_judgeName_155 rfl ?_
      refine jm_geta fM_41 rfl dX5_judgeName_156 ?_
      refine j_iload_n dX5_judgeName_159 rfl ?_
      refine jm_ald (v := aI st 41 x2) rfl h.1 rfl rfl dX5_judgeName_160 ?_
      replace h := h.2
      refine jm_callv (As := [.int (aI st 40 x2), .int (aI st 41 x2)]) (rest := []) kX5_becomes rfl q2428 rfl rfl (Nat.le_of_ble_eq_true rfl) rfl dX5_judgeName_161 (Nat.succ_le_succ (Nat.zero_le _)) (h.mono (onV_mono (fun t22 h => ?_) (fun _ _ h => h)))
      exact j_return rfl dX5_judgeName_164 h
  · replace h := h.2 c26
    refine j_aload_n (r := some P.mo) dX5_judgeName_12 rfl ?_
    refine jm_geta fM_31 rfl dX5_judgeName_13 ?_
    refine j_aload_n (r := some P.mo) dX5_judgeName_16 rfl ?_
    refine jm_geta fM_42 rfl dX5_judgeName_17 ?_
    refine j_iload_n dX5_judgeName_20 rfl ?_
    refine jm_ald (v := aI st 42 x3) rfl h.1 rfl rfl dX5_judgeName_21 ?_
    replace h := h.2
    refine jm_ald (v := aI st 31 (aI st 42 x3)) rfl h.1 rfl rfl dX5_judgeName_22 ?_
    replace h := h.2
    refine j_istore (lv' := [some (va_rf (some P.mo)), some (.int x1), some (.int x2), some (.int x3), some (.int (aI st 31 (aI st 42 x3))), none, none]) dX5_judgeName_23 (by decide) rfl ?_
    refine j_aload_n (r := some P.mo) dX5_judgeName_25 rfl ?_
    refine jm_geta fM_32 rfl dX5_judgeName_26 ?_
    refine j_iload_n dX5_judgeName_29 rfl ?_
    refine jm_ald (v := aI st 32 x1) rfl h.1 rfl rfl dX5_judgeName_30 ?_
    replace h := h.2
    refine j_aload_n (r := some P.mo) dX5_judgeName_31 rfl ?_
    refine jm_geta fM_32 rfl dX5_judgeName_32 ?_
    refine j_iload dX5_judgeName_35 rfl ?_
    refine jm_ald (v := aI st 32 (aI st 31 (aI st 42 x3))) rfl h.1 rfl rfl dX5_judgeName_37 ?_
    replace h := h.2
    refine j_icmp_ne 45 dX5_judgeName_38 (by decide) (fun c25 => ?_) (fun c25 => ?_)
    · replace h := h.2 c25
      refine j_iconst (v := iI 0) dX5_judgeName_45 rfl ?_
      refine j_istore (lv' := [some (va_rf (some P.mo)), some (.int x1), some (.int x2), some (.int x3), some (.int (aI st 31 (aI st 42 x3))), some (.int (iI 0)), none]) dX5_judgeName_46 (by decide) rfl ?_
      refine j_iconst (v := iI 0) dX5_judgeName_48 rfl ?_
      refine j_istore (lv' := [some (va_rf (some P.mo)), some (.int x1), some (.int x2), some (.int x3), some (.int (aI st 31 (aI st 42 x3))), some (.int (iI 0)), some (.int (iI 0))]) dX5_judgeName_49 (by decide) rfl ?_
      exact h
    · replace h := h.1 c25
      refine j_iconst (v := iI 1) dX5_judgeName_41 rfl ?_
      refine j_goto 46 dX5_judgeName_42 (by decide) ?_
      refine j_istore (lv' := [some (va_rf (some P.mo)), some (.int x1), some (.int x2), some (.int x3), some (.int (aI st 31 (aI st 42 x3))), some (.int (iI 1)), none]) dX5_judgeName_46 (by decide) rfl ?_
      refine j_iconst (v := iI 0) dX5_judgeName_48 rfl ?_
      refine j_istore (lv' := [some (va_rf (some P.mo)), some (.int x1), some (.int x2), some (.int x3), some (.int (aI st 31 (aI st 42 x3))), some (.int (iI 1)), some (.int (iI 0))]) dX5_judgeName_49 (by decide) rfl ?_
      exact h
theorem tX5_judgeName_51 {P : MPl} {s0 : State} {l : Launch} {X : Prop} {lev : Nat} {st0 : MSt} {Q : Outcome → MSt → Prop} {x1 x2 x3 x4 x5 x6 : Int32} {st : MSt} (h : ((x5 = 0 → jX5_judgeName_112 P s0 l X lev st0 Q x1 x2 x3 x4 x5 x6 st) ∧ (¬ x5 = 0 → (inr x1 140000 ∧ (((aI st 32 x1) ≤ x6 → jX5_judgeName_112 P s0 l X lev st0 Q x1 x2 x3 x4 x5 x6 st) ∧ (¬ (aI st 32 x1) ≤ x6 → (inr x1 140000 ∧ (inr ((aI st 31 x1) + x6) 4000 ∧ (inr x4 140000 ∧ (inr ((aI st 31 x4) + x6) 4000 ∧ (((aI st 4 ((aI st 31 x1) + x6)) = (aI st 4 ((aI st 31 x4) + x6)) → jX5_judgeName_51 P s0 l X lev st0 Q x1 x2 x3 x4 (iI 1) (x6 + iI 1) st) ∧ (¬ (aI st 4 ((aI st 31 x1) + x6)) = (aI st 4 ((aI st 31 x4) + x6)) → jX5_judgeName_51 P s0 l X lev st0 Q x1 x2 x3 x4 (iI 0) (x6 + iI 1) st)))))))))))) : jX5_judgeName_51 P s0 l X lev st0 Q x1 x2 x3 x4 x5 x6 st := by
  refine j_iload dX5_judgeName_51 rfl ?_
  refine j_if_eq 112 dX5_judgeName_53 (by decide) (fun c3 => ?_) (fun c3 => ?_)
  · replace h := h.1 c3
    exact h
  · replace h := h.2 c3
    refine j_iload dX5_judgeName_56 rfl ?_
    refine j_aload_n (r := some P.mo) dX5_judgeName_58 rfl ?_
    refine jm_geta fM_32 rfl dX5_judgeName_59 ?_
    refine j_iload_n dX5_judgeName_62 rfl ?_
    refine jm_ald (v := aI st 32 x1) rfl h.1 rfl rfl dX5_judgeName_63 ?_
    replace h := h.2
    refine j_icmp_ge 112 dX5_judgeName_64 (by decide) (fun c2 => ?_) (fun c2 => ?_)
    · replace h := h.1 c2
      exact h
    · replace h := h.2 c2
      refine j_aload_n (r := some P.mo) dX5_judgeName_67 rfl ?_
      refine jm_geta fM_4 rfl dX5_judgeName_68 ?_
      refine j_aload_n (r := some P.mo) dX5_judgeName_71 rfl ?_
      refine jm_geta fM_31 rfl dX5_judgeName_72 ?_
      refine j_iload_n dX5_judgeName_75 rfl ?_
      refine jm_ald (v := aI st 31 x1) rfl h.1 rfl rfl dX5_judgeName_76 ?_
      replace h := h.2
      refine j_iload dX5_judgeName_77 rfl ?_
      refine j_iadd dX5_judgeName_79 ?_
      refine jm_ald (v := aI st 4 ((aI st 31 x1) + x6)) rfl h.1 rfl rfl dX5_judgeName_80 ?_
      replace h := h.2
      refine j_aload_n (r := some P.mo) dX5_judgeName_81 rfl ?_
      refine jm_geta fM_4 rfl dX5_judgeName_82 ?_
      refine j_aload_n (r := some P.mo) dX5_judgeName_85 rfl ?_
      refine jm_geta fM_31 rfl dX5_judgeName_86 ?_
      refine j_iload dX5_judgeName_89 rfl ?_
      refine jm_ald (v := aI st 31 x4) rfl h.1 rfl rfl dX5_judgeName_91 ?_
      replace h := h.2
      refine j_iload dX5_judgeName_92 rfl ?_
      refine j_iadd dX5_judgeName_94 ?_
      refine jm_ald (v := aI st 4 ((aI st 31 x4) + x6)) rfl h.1 rfl rfl dX5_judgeName_95 ?_
      replace h := h.2
      refine j_icmp_ne 103 dX5_judgeName_96 (by decide) (fun c1 => ?_) (fun c1 => ?_)
      · replace h := h.2 c1
        refine j_iconst (v := iI 0) dX5_judgeName_103 rfl ?_
        refine j_istore (lv' := [some (va_rf (some P.mo)), some (.int x1), some (.int x2), some (.int x3), some (.int x4), some (.int (iI 0)), some (.int x6)]) dX5_judgeName_104 (by decide) rfl ?_
        refine j_iinc (lv' := [some (va_rf (some P.mo)), some (.int x1), some (.int x2), some (.int x3), some (.int x4), some (.int (iI 0)), some (.int (x6 + iI 1))]) dX5_judgeName_106 rfl (by decide) rfl ?_
        refine j_goto 51 dX5_judgeName_109 (by decide) ?_
        exact h
      · replace h := h.1 c1
        refine j_iconst (v := iI 1) dX5_judgeName_99 rfl ?_
        refine j_goto 104 dX5_judgeName_100 (by decide) ?_
        refine j_istore (lv' := [some (va_rf (some P.mo)), some (.int x1), some (.int x2), some (.int x3), some (.int x4), some (.int (iI 1)), some (.int x6)]) dX5_judgeName_104 (by decide) rfl ?_
        refine j_iinc (lv' := [some (va_rf (some P.mo)), some (.int x1), some (.int x2), some (.int x3), some (.int x4), some (.int (iI 1)), some (.int (x6 + iI 1))]) dX5_judgeName_106 rfl (by decide) rfl ?_
        refine j_goto 51 dX5_judgeName_109 (by decide) ?_
        exact h
theorem tX5_judgeName_112 {P : MPl} {s0 : State} {l : Launch} {X : Prop} {lev : Nat} {st0 : MSt} {Q : Outcome → MSt → Prop} {x1 x2 x3 x4 x5 x6 : Int32} {st : MSt} (h : ((x5 = 0 → jX5_judgeName_124 P s0 l X lev st0 Q x1 x2 x3 x4 x5 x6 st) ∧ (¬ x5 = 0 → (inr x3 50 ∧ jX5_judgeName_124 P s0 l X lev st0 Q x1 (aI st 42 x3) x3 x4 x5 x6 st)))) : jX5_judgeName_112 P s0 l X lev st0 Q x1 x2 x3 x4 x5 x6 st := by
  refine j_iload dX5_judgeName_112 rfl ?_
  refine j_if_eq 124 dX5_judgeName_114 (by decide) (fun c1 => ?_) (fun c1 => ?_)
  · replace h := h.1 c1
    exact h
  · replace h := h.2 c1
    refine j_aload_n (r := some P.mo) dX5_judgeName_117 rfl ?_
    refine jm_geta fM_42 rfl dX5_judgeName_118 ?_
    refine j_iload_n dX5_judgeName_121 rfl ?_
    refine jm_ald (v := aI st 42 x3) rfl h.1 rfl rfl dX5_judgeName_122 ?_
    replace h := h.2
    refine j_istore_n (lv' := [some (va_rf (some P.mo)), some (.int x1), some (.int (aI st 42 x3)), some (.int x3), some (.int x4), some (.int x5), some (.int x6)]) dX5_judgeName_123 (by decide) rfl ?_
    exact h
theorem tX5_judgeName_124 {P : MPl} {s0 : State} {l : Launch} {X : Prop} {lev : Nat} {st0 : MSt} {Q : Outcome → MSt → Prop} {x1 x2 x3 x4 x5 x6 : Int32} {st : MSt} (h : jX5_judgeName_4 P s0 l X lev st0 Q x1 x2 (x3 + iI 1) st) : jX5_judgeName_124 P s0 l X lev st0 Q x1 x2 x3 x4 x5 x6 st := by
  refine j_iinc (lv' := [some (va_rf (some P.mo)), some (.int x1), some (.int x2), some (.int (x3 + iI 1)), some (.int x4), some (.int x5), some (.int x6)]) dX5_judgeName_124 rfl (by decide) rfl ?_
  refine j_goto 4 dX5_judgeName_127 (by decide) ?_
  exact j_mask [true, true, true, true, false, false, false] rfl h
abbrev jX5_knownOf_4 (P : MPl) (s0 : State) (l : Launch) (X : Prop) (lev : Nat) (st0 : MSt) (Q : Outcome → MSt → Prop) (x1 x2 x3 : Int32) (st : MSt) : Prop := JQ (wM P s0 l X) mX5_knownOf (lev + 1) st0 4 [some (va_rf (some P.mo)), some (.int x1), some (.int x2), some (.int x3)] [] st Q
abbrev jX5_knownOf_47 (P : MPl) (s0 : State) (l : Launch) (X : Prop) (lev : Nat) (st0 : MSt) (Q : Outcome → MSt → Prop) (x1 x2 x3 : Int32) (st : MSt) : Prop := JQ (wM P s0 l X) mX5_knownOf (lev + 1) st0 47 [some (va_rf (some P.mo)), some (.int x1), some (.int x2), some (.int x3)] [] st Q
theorem tX5_knownOf {P : MPl} {s0 : State} {l : Launch} {X : Prop} {lev : Nat} {Q : Outcome → MSt → Prop} {x1 : Int32} {st : MSt} (h : jX5_knownOf_4 P s0 l X lev st Q x1 (iI (-1)) (iI 0) st) : CQ (wM P s0 l X) mX5_knownOf (lev + 1) [.ref P.mo, .int x1] st Q := by
  refine CQ.of2 2 (lv := [some (va_rf (some P.mo)), some (.int x1), none, none]) (by decide) (Nat.le_of_ble_eq_true rfl) rfl rfl ?_
  refine j_iconst (v := iI (-1)) dX5_knownOf_0 rfl ?_
  refine j_istore_n (lv' := [some (va_rf (some P.mo)), some (.int x1), some (.int (iI (-1))), none]) dX5_knownOf_1 (by decide) rfl ?_
  refine j_iconst (v := iI 0) dX5_knownOf_2 rfl ?_
  refine j_istore_n (lv' := [some (va_rf (some P.mo)), some (.int x1), some (.int (iI (-1))), some (.int (iI 0))]) dX5_knownOf_3 (by decide) rfl ?_
  exact h
theorem tX5_knownOf_4 {P : MPl} {s0 : State} {l : Launch} {X : Prop} {lev : Nat} {st0 : MSt} {Q : Outcome → MSt → Prop} {x1 x2 x3 : Int32} {st : MSt} (h : (((fI st 27) ≤ x3 → Q (.returned (some (.int x2))) st) ∧ (¬ (fI st 27) ≤ x3 → (inr x1 140000 ∧ (inr x1 140000 ∧ (inr x3 100 ∧ (CQ (wM P s0 l X) mX5_sameName lev (.ref P.mo :: [.int (aI st 31 x1), .int (aI st 32 x1), va_rf (some (P.ad 21)), .int ((iI 12) * x3), .int (aI st 22 x3)]) st (onI (fun r2 t1 => ((r2 = 0 → jX5_knownOf_47 P s0 l X lev st0 Q x1 x2 x3 t1) ∧ (¬ r2 = 0 → jX5_knownOf_47 P s0 l X lev st0 Q x1 x3 x3 t1))) (fun x t => Q (.threw x) t))))))))) : jX5_knownOf_4 P s0 l X lev st0 Q x1 x2 x3 st := by
  refine j_iload_n dX5_knownOf_4 rfl ?_
  refine j_aload_n (r := some P.mo) dX5_knownOf_5 rfl ?_
  refine jm_get (v := fI st 27) fM_27 rfl rfl dX5_knownOf_6 ?_
  refine j_icmp_ge 53 dX5_knownOf_9 (by decide) (fun c4 => ?_) (fun c4 => ?_)
  · replace h := h.1 c4
    refine j_iload_n dX5_knownOf_53 rfl ?_
    exact j_ireturn (ty := .int) rfl rfl dX5_knownOf_54 h
  · replace h := h.2 c4
    refine j_aload_n (r := some P.mo) dX5_knownOf_12 rfl ?_
    refine j_aload_n (r := some P.mo) dX5_knownOf_13 rfl ?_
    refine jm_geta fM_31 rfl dX5_knownOf_14 ?_
    refine j_iload_n dX5_knownOf_17 rfl ?_
    refine jm_ald (v := aI st 31 x1) rfl h.1 rfl rfl dX5_knownOf_18 ?_
    replace h := h.2
    refine j_aload_n (r := some P.mo) dX5_knownOf_19 rfl ?_
    refine jm_geta fM_32 rfl dX5_knownOf_20 ?_
    refine j_iload_n dX5_knownOf_23 rfl ?_
    refine jm_ald (v := aI st 32 x1) rfl h.1 rfl rfl dX5_knownOf_24 ?_
    replace h := h.2
    refine j_aload_n (r := some P.mo) dX5_knownOf_25 rfl ?_
    refine jm_geta fM_21 rfl dX5_knownOf_26 ?_
    refine j_bipush (v := iI 12) dX5_knownOf_29 rfl ?_
    refine j_iload_n dX5_knownOf_31 rfl ?_
    refine j_imul dX5_knownOf_32 ?_
    refine j_aload_n (r := some P.mo) dX5_knownOf_33 rfl ?_
    refine jm_geta fM_22 rfl dX5_knownOf_34 ?_
    refine j_iload_n dX5_knownOf_37 rfl ?_
    refine jm_ald (v := aI st 22 x3) rfl h.1 rfl rfl dX5_knownOf_38 ?_
    replace h := h.2
    refine jm_calli (As := [.int (aI st 31 x1), .int (aI st 32 x1), va_rf (some (P.ad 21)), .int ((iI 12) * x3), .int (aI st 22 x3)]) (rest := []) kX5_sameName rfl q2375 rfl rfl (Nat.le_of_ble_eq_true rfl) rfl dX5_knownOf_39 (Nat.succ_le_succ (Nat.zero_le _)) (h.mono (onI_mono (fun r2 t1 h => ?_) (fun _ _ h => h)))
    refine j_if_eq 47 dX5_knownOf_42 (by decide) (fun c3 => ?_) (fun c3 => ?_)
    · replace h := h.1 c3
      exact h
    · replace h := h.2 c3
      refine j_iload_n dX5_knownOf_45 rfl ?_
      refine j_istore_n (lv' := [some (va_rf (some P.mo)), some (.int x1), some (.int x3), some (.int x3)]) dX5_knownOf_46 (by decide) rfl ?_
      exact h
theorem tX5_knownOf_47 {P : MPl} {s0 : State} {l : Launch} {X : Prop} {lev : Nat} {st0 : MSt} {Q : Outcome → MSt → Prop} {x1 x2 x3 : Int32} {st : MSt} (h : jX5_knownOf_4 P s0 l X lev st0 Q x1 x2 (x3 + iI 1) st) : jX5_knownOf_47 P s0 l X lev st0 Q x1 x2 x3 st := by
  refine j_iinc (lv' := [some (va_rf (some P.mo)), some (.int x1), some (.int x2), some (.int (x3 + iI 1))]) dX5_knownOf_47 rfl (by decide) rfl ?_
  refine j_goto 4 dX5_knownOf_50 (by decide) ?_
  exact h
