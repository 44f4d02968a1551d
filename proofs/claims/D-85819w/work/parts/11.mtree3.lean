/-! trees (made by gen/genm.py) -/
set_option maxRecDepth 100000
abbrev jX5_yes_37 (P : MPl) (s0 : State) (l : Launch) (X : Prop) (lev : Nat) (st0 : MSt) (Q : Outcome → MSt → Prop) (x1 : Int32) (st : MSt) : Prop := JQ (wM P s0 l X) mX5_yes (lev + 1) st0 37 [some (va_rf (some P.mo)), some (.int x1)] [] st Q
theorem tX5_yes {P : MPl} {s0 : State} {l : Launch} {X : Prop} {lev : Nat} {Q : Outcome → MSt → Prop} {x1 : Int32} {st : MSt} (h : ((x1 = 0 → (CQ (wM P s0 l X) mX5_put lev (.ref P.mo :: [.int (iI 110)]) st (onV (fun t1 => (CQ (wM P s0 l X) mX5_put lev (.ref P.mo :: [.int (iI 111)]) t1 (onV (fun t3 => jX5_yes_37 P s0 l X lev st Q x1 t3) (fun x t => Q (.threw x) t)))) (fun x t => Q (.threw x) t)))) ∧ (¬ x1 = 0 → (CQ (wM P s0 l X) mX5_put lev (.ref P.mo :: [.int (iI 121)]) st (onV (fun t5 => (CQ (wM P s0 l X) mX5_put lev (.ref P.mo :: [.int (iI 101)]) t5 (onV (fun t7 => (CQ (wM P s0 l X) mX5_put lev (.ref P.mo :: [.int (iI 115)]) t7 (onV (fun t9 => jX5_yes_37 P s0 l X lev st Q x1 t9) (fun x t => Q (.threw x) t)))) (fun x t => Q (.threw x) t)))) (fun x t => Q (.threw x) t)))))) : CQ (wM P s0 l X) mX5_yes (lev + 1) [.ref P.mo, .int x1] st Q := by
  refine CQ.of2 0 (lv := [some (va_rf (some P.mo)), some (.int x1)]) (by decide) (Nat.le_of_ble_eq_true rfl) rfl rfl ?_
  refine j_iload_n dX5_yes_0 rfl ?_
  refine j_if_eq 25 dX5_yes_1 (by decide) (fun c11 => ?_) (fun c11 => ?_)
  · replace h := h.1 c11
    refine j_aload_n (r := some P.mo) dX5_yes_25 rfl ?_
    refine j_bipush (v := iI 110) dX5_yes_26 rfl ?_
    refine jm_callv (As := [.int (iI 110)]) (rest := []) kX5_put rfl q2465 rfl rfl (Nat.le_of_ble_eq_true rfl) rfl dX5_yes_28 (Nat.succ_le_succ (Nat.zero_le _)) (h.mono (onV_mono (fun t1 h => ?_) (fun _ _ h => h)))
    refine j_aload_n (r := some P.mo) dX5_yes_31 rfl ?_
    refine j_bipush (v := iI 111) dX5_yes_32 rfl ?_
    refine jm_callv (As := [.int (iI 111)]) (rest := []) kX5_put rfl q2465 rfl rfl (Nat.le_of_ble_eq_true rfl) rfl dX5_yes_34 (Nat.succ_le_succ (Nat.zero_le _)) (h.mono (onV_mono (fun t3 h => ?_) (fun _ _ h => h)))
    exact h
  · replace h := h.2 c11
    refine j_aload_n (r := some P.mo) dX5_yes_4 rfl ?_
    refine j_bipush (v := iI 121) dX5_yes_5 rfl ?_
    refine jm_callv (As := [.int (iI 121)]) (rest := []) kX5_put rfl q2465 rfl rfl (Nat.le_of_ble_eq_true rfl) rfl dX5_yes_7 (Nat.succ_le_succ (Nat.zero_le _)) (h.mono (onV_mono (fun t5 h => ?_) (fun _ _ h => h)))
    refine j_aload_n (r := some P.mo) dX5_yes_10 rfl ?_
    refine j_bipush (v := iI 101) dX5_yes_11 rfl ?_
    refine jm_callv (As := [.int (iI 101)]) (rest := []) kX5_put rfl q2465 rfl rfl (Nat.le_of_ble_eq_true rfl) rfl dX5_yes_13 (Nat.succ_le_succ (Nat.zero_le _)) (h.mono (onV_mono (fun t7 h => ?_) (fun _ _ h => h)))
    refine j_aload_n (r := some P.mo) dX5_yes_16 rfl ?_
    refine j_bipush (v := iI 115) dX5_yes_17 rfl ?_
    refine jm_callv (As := [.int (iI 115)]) (rest := []) kX5_put rfl q2465 rfl rfl (Nat.le_of_ble_eq_true rfl) rfl dX5_yes_19 (Nat.succ_le_succ (Nat.zero_le _)) (h.mono (onV_mono (fun t9 h => ?_) (fun _ _ h => h)))
    refine j_goto 37 dX5_yes_22 (by decide) ?_
    exact h
theorem tX5_yes_37 {P : MPl} {s0 : State} {l : Launch} {X : Prop} {lev : Nat} {st0 : MSt} {Q : Outcome → MSt → Prop} {x1 : Int32} {st : MSt} (h : (CQ (wM P s0 l X) mX5_put lev (.ref P.mo :: [.int (iI 10)]) st (onV (fun t1 => Q (.returned none) t1) (fun x t => Q (.threw x) t)))) : jX5_yes_37 P s0 l X lev st0 Q x1 st := by
  refine j_aload_n (r := some P.mo) dX5_yes_37 rfl ?_
  refine j_bipush (v := iI 10) dX5_yes_38 rfl ?_
  refine jm_callv (As := [.int (iI 10)]) (rest := []) kX5_put rfl q2465 rfl rfl (Nat.le_of_ble_eq_true rfl) rfl dX5_yes_40 (Nat.succ_le_succ (Nat.zero_le _)) (h.mono (onV_mono (fun t1 h => ?_) (fun _ _ h => h)))
  exact j_return rfl dX5_yes_43 h
theorem tX5_put {P : MPl} {s0 : State} {l : Launch} {X : Prop} {lev : Nat} {Q : Outcome → MSt → Prop} {x1 : Int32} {st : MSt} (h : (((iI 3000) ≤ (fI st 75) → Q (.returned none) (mput 75 ((fI st 75) + (iI 1)) st)) ∧ (¬ (iI 3000) ≤ (fI st 75) → (inr (fI st 75) 3000 ∧ Q (.returned none) (mput 75 ((fI st 75) + (iI 1)) (mst 74 (fI st 75) x1 st)))))) : CQ (wM P s0 l X) mX5_put (lev + 1) [.ref P.mo, .int x1] st Q := by
  refine CQ.of2 0 (lv := [some (va_rf (some P.mo)), some (.int x1)]) (by decide) (Nat.le_of_ble_eq_true rfl) rfl rfl ?_
  refine j_aload_n (r := some P.mo) dX5_put_0 rfl ?_
  refine jm_get (v := fI st 75) fM_75 rfl rfl dX5_put_1 ?_
  refine j_sipush (v := iI 3000) dX5_put_4 rfl ?_
  refine j_icmp_ge 20 dX5_put_7 (by decide) (fun c1 => ?_) (fun c1 => ?_)
  · replace h := h.1 c1
    refine j_aload_n (r := some P.mo) dX5_put_20 rfl ?_
    refine j_dup dX5_put_21 rfl ?_
    refine jm_get (v := fI st 75) fM_75 rfl rfl dX5_put_22 ?_
    refine j_iconst (v := iI 1) dX5_put_25 rfl ?_
    refine j_iadd dX5_put_26 ?_
    refine jm_put fM_75 rfl dX5_put_27 ?_
    exact j_return rfl dX5_put_30 h
  · replace h := h.2 c1
    refine j_aload_n (r := some P.mo) dX5_put_10 rfl ?_
    refine jm_geta fM_74 rfl dX5_put_11 ?_
    refine j_aload_n (r := some P.mo) dX5_put_14 rfl ?_
    refine jm_get (v := fI st 75) fM_75 rfl rfl dX5_put_15 ?_
    refine j_iload_n dX5_put_18 rfl ?_
    refine jm_ast rfl h.1 rfl dX5_put_19 ?_
    replace h := h.2
    refine j_aload_n (r := some P.mo) dX5_put_20 rfl ?_
    refine j_dup dX5_put_21 rfl ?_
    refine jm_get (v := fI st 75) fM_75 rfl rfl dX5_put_22 ?_
    refine j_iconst (v := iI 1) dX5_put_25 rfl ?_
    refine j_iadd dX5_put_26 ?_
    refine jm_put fM_75 rfl dX5_put_27 ?_
    exact j_return rfl dX5_put_30 h
theorem tX5_tellLine {P : MPl} {s0 : State} {l : Launch} {X : Prop} {lev : Nat} {Q : Outcome → MSt → Prop} {x1 : Int32} {st : MSt} (h : (((fI st 72) = 0 → (CQ (wM P s0 l X) mX5_tell lev (.ref P.mo :: [.int x1, .int (iI 0), .int (iI 0), .int (iI 0), .int (iI 0)]) st (onV (fun t1 => (((fI t1 72) = 0 → (CQ (wM P s0 l X) mX5_put lev (.ref P.mo :: [.int (iI 10)]) t1 (onV (fun t3 => Q (.returned none) t3) (fun x t => Q (.threw x) t)))) ∧ (¬ (fI t1 72) = 0 → Q (.returned none) t1))) (fun x t => Q (.threw x) t)))) ∧ (¬ (fI st 72) = 0 → Q (.returned none) st))) : CQ (wM P s0 l X) mX5_tellLine (lev + 1) [.ref P.mo, .int x1] st Q := by
  refine CQ.of2 0 (lv := [some (va_rf (some P.mo)), some (.int x1)]) (by decide) (Nat.le_of_ble_eq_true rfl) rfl rfl ?_
  refine j_aload_n (r := some P.mo) dX5_tellLine_0 rfl ?_
  refine jm_get (v := fI st 72) fM_72 rfl rfl dX5_tellLine_1 ?_
  refine j_if_eq 8 dX5_tellLine_4 (by decide) (fun c6 => ?_) (fun c6 => ?_)
  · replace h := h.1 c6
    refine j_aload_n (r := some P.mo) dX5_tellLine_8 rfl ?_
    refine j_iload_n dX5_tellLine_9 rfl ?_
    refine j_iconst (v := iI 0) dX5_tellLine_10 rfl ?_
    refine j_iconst (v := iI 0) dX5_tellLine_11 rfl ?_
    refine j_iconst (v := iI 0) dX5_tellLine_12 rfl ?_
    refine j_iconst (v := iI 0) dX5_tellLine_13 rfl ?_
    refine jm_callv (As := [.int x1, .int (iI 0), .int (iI 0), .int (iI 0), .int (iI 0)]) (rest := []) kX5_tell rfl q2473 rfl rfl (Nat.le_of_ble_eq_true rfl) rfl dX5_tellLine_14 (Nat.succ_le_succ (Nat.zero_le _)) (h.mono (onV_mono (fun t1 h => ?_) (fun _ _ h => h)))
    refine j_aload_n (r := some P.mo) dX5_tellLine_17 rfl ?_
    refine jm_get (v := fI t1 72) fM_72 rfl rfl dX5_tellLine_18 ?_
    refine j_if_ne 30 dX5_tellLine_21 (by decide) (fun c5 => ?_) (fun c5 => ?_)
    · replace h := h.2 c5
      exact j_return rfl dX5_tellLine_30 h
    · replace h := h.1 c5
      refine j_aload_n (r := some P.mo) dX5_tellLine_24 rfl ?_
      refine j_bipush (v := iI 10) dX5_tellLine_25 rfl ?_
      refine jm_callv (As := [.int (iI 10)]) (rest := []) kX5_put rfl q2465 rfl rfl (Nat.le_of_ble_eq_true rfl) rfl dX5_tellLine_27 (Nat.succ_le_succ (Nat.zero_le _)) (h.mono (onV_mono (fun t3 h => ?_) (fun _ _ h => h)))
      exact j_return rfl dX5_tellLine_30 h
  · replace h := h.2 c6
    exact j_return rfl dX5_tellLine_7 h
abbrev jX5_tell_61 (P : MPl) (s0 : State) (l : Launch) (X : Prop) (lev : Nat) (st0 : MSt) (Q : Outcome → MSt → Prop) (x1 x2 x3 x4 x5 x6 x7 x8 x9 : Int32) (st : MSt) : Prop := JQ (wM P s0 l X) mX5_tell (lev + 1) st0 61 [some (va_rf (some P.mo)), some (.int x1), some (.int x2), some (.int x3), some (.int x4), some (.int x5), some (.int x6), some (.int x7), some (.int x8), some (.int x9), none, none, none, none] [] st Q
abbrev jX5_tell_78 (P : MPl) (s0 : State) (l : Launch) (X : Prop) (lev : Nat) (st0 : MSt) (Q : Outcome → MSt → Prop) (x1 x2 x3 x4 x5 x6 x7 x8 x9 x10 : Int32) (st : MSt) : Prop := JQ (wM P s0 l X) mX5_tell (lev + 1) st0 78 [some (va_rf (some P.mo)), some (.int x1), some (.int x2), some (.int x3), some (.int x4), some (.int x5), some (.int x6), some (.int x7), some (.int x8), some (.int x9), some (.int x10), none, none, none] [] st Q
abbrev jX5_tell_93 (P : MPl) (s0 : State) (l : Launch) (X : Prop) (lev : Nat) (st0 : MSt) (Q : Outcome → MSt → Prop) (x1 x2 x3 x4 x5 x6 x7 x8 x9 x10 : Int32) (st : MSt) : Prop := JQ (wM P s0 l X) mX5_tell (lev + 1) st0 93 [some (va_rf (some P.mo)), some (.int x1), some (.int x2), some (.int x3), some (.int x4), some (.int x5), some (.int x6), some (.int x7), some (.int x8), some (.int x9), some (.int x10), none, none, none] [] st Q
abbrev jX5_tell_97 (P : MPl) (s0 : State) (l : Launch) (X : Prop) (lev : Nat) (st0 : MSt) (Q : Outcome → MSt → Prop) (x1 x2 x3 x4 x5 x6 x7 x8 x9 x10 : Int32) (st : MSt) : Prop := JQ (wM P s0 l X) mX5_tell (lev + 1) st0 97 [some (va_rf (some P.mo)), some (.int x1), some (.int x2), some (.int x3), some (.int x4), some (.int x5), some (.int x6), some (.int x7), some (.int x8), some (.int x9), some (.int x10), none, none, none] [] st Q
abbrev jX5_tell_111 (P : MPl) (s0 : State) (l : Launch) (X : Prop) (lev : Nat) (st0 : MSt) (Q : Outcome → MSt → Prop) (x1 x2 x3 x4 x5 x6 x7 x8 x9 x10 x11 : Int32) (st : MSt) : Prop := JQ (wM P s0 l X) mX5_tell (lev + 1) st0 111 [some (va_rf (some P.mo)), some (.int x1), some (.int x2), some (.int x3), some (.int x4), some (.int x5), some (.int x6), some (.int x7), some (.int x8), some (.int x9), some (.int x10), some (.int x11), none, none] [] st Q
abbrev jX5_tell_314 (P : MPl) (s0 : State) (l : Launch) (X : Prop) (lev : Nat) (st0 : MSt) (Q : Outcome → MSt → Prop) (x1 x2 x3 x4 x5 x6 x7 x8 x9 x10 x11 : Int32) (st : MSt) : Prop := JQ (wM P s0 l X) mX5_tell (lev + 1) st0 314 [some (va_rf (some P.mo)), some (.int x1), some (.int x2), some (.int x3), some (.int x4), some (.int x5), some (.int x6), some (.int x7), some (.int x8), some (.int x9), some (.int x10), some (.int x11), none, none] [] st Q
abbrev jX5_tell_323 (P : MPl) (s0 : State) (l : Launch) (X : Prop) (lev : Nat) (st0 : MSt) (Q : Outcome → MSt → Prop) (x1 x2 x3 x4 x5 x6 x7 x8 x9 x10 x11 x12 x13 : Int32) (st : MSt) : Prop := JQ (wM P s0 l X) mX5_tell (lev + 1) st0 323 [some (va_rf (some P.mo)), some (.int x1), some (.int x2), some (.int x3), some (.int x4), some (.int x5), some (.int x6), some (.int x7), some (.int x8), some (.int x9), some (.int x10), some (.int x11), some (.int x12), some (.int x13)] [] st Q
abbrev jX5_tell_382 (P : MPl) (s0 : State) (l : Launch) (X : Prop) (lev : Nat) (st0 : MSt) (Q : Outcome → MSt → Prop) (x1 x2 x3 x4 x5 x6 x7 x8 x9 x10 x11 : Int32) (st : MSt) : Prop := JQ (wM P s0 l X) mX5_tell (lev + 1) st0 382 [some (va_rf (some P.mo)), some (.int x1), some (.int x2), some (.int x3), some (.int x4), some (.int x5), some (.int x6), some (.int x7), some (.int x8), some (.int x9), some (.int x10), some (.int x11), none, none] [] st Q
theorem tX5_tell {P : MPl} {s0 : State} {l : Launch} {X : Prop} {lev : Nat} {Q : Outcome → MSt → Prop} {x1 x2 x3 x4 x5 : Int32} {st : MSt} (h : (CQ (wM P s0 l X) mX5_look lev (.ref P.mo :: [.int x3]) st (onI (fun r2 t1 => ((r2 = 0 → Q (.returned none) t1) ∧ (¬ r2 = 0 → (CQ (wM P s0 l X) mX5_head lev (.ref P.mo :: [.int x1, .int x2]) t1 (onV (fun t3 => (((fI t3 72) = 0 → (CQ (wM P s0 l X) mX5_kindOf lev (.ref P.mo :: [.int (fI t3 52)]) t3 (onI (fun r6 t5 => ((r6 = (iI 4) → jX5_tell_61 P s0 l X lev st Q x1 x2 x3 x4 x5 (fI t1 51) (fI t3 52) (fI t3 53) r6 t5) ∧ (¬ r6 = (iI 4) → ((r6 = (iI 5) → jX5_tell_61 P s0 l X lev st Q x1 x2 x3 x4 x5 (fI t1 51) (fI t3 52) (fI t3 53) r6 t5) ∧ (¬ r6 = (iI 5) → jX5_tell_78 P s0 l X lev st Q x1 x2 x3 x4 x5 (fI t1 51) (fI t3 52) (fI t3 53) r6 (iI 0) t5))))) (fun x t => Q (.threw x) t)))) ∧ (¬ (fI t3 72) = 0 → Q (.returned none) t3))) (fun x t => Q (.threw x) t)))))) (fun x t => Q (.threw x) t)))) : CQ (wM P s0 l X) mX5_tell (lev + 1) [.ref P.mo, .int x1, .int x2, .int x3, .int x4, .int x5] st Q := by
  refine CQ.of2 8 (lv := [some (va_rf (some P.mo)), some (.int x1), some (.int x2), some (.int x3), some (.int x4), some (.int x5), none, none, none, none, none, none, none, none]) (by decide) (Nat.le_of_ble_eq_true rfl) rfl rfl ?_
  refine j_aload_n (r := some P.mo) dX5_tell_0 rfl ?_
  refine j_iload_n dX5_tell_1 rfl ?_
  refine jm_calli (As := [.int x3]) (rest := []) kX5_look rfl q2395 rfl rfl (Nat.le_of_ble_eq_true rfl) rfl dX5_tell_2 (Nat.succ_le_succ (Nat.zero_le _)) (h.mono (onI_mono (fun r2 t1 h => ?_) (fun _ _ h => h)))
  refine j_if_ne 9 dX5_tell_5 (by decide) (fun c10 => ?_) (fun c10 => ?_)
  · replace h := h.2 c10
    refine j_aload_n (r := some P.mo) dX5_tell_9 rfl ?_
    refine jm_get (v := fI t1 51) fM_51 rfl rfl dX5_tell_10 ?_
    refine j_istore (lv' := [some (va_rf (some P.mo)), some (.int x1), some (.int x2), some (.int x3), some (.int x4), some (.int x5), some (.int (fI t1 51)), none, none, none, none, none, none, none]) dX5_tell_13 (by decide) rfl ?_
    refine j_aload_n (r := some P.mo) dX5_tell_15 rfl ?_
    refine j_iload_n dX5_tell_16 rfl ?_
    refine j_iload_n dX5_tell_17 rfl ?_
    refine jm_callv (As := [.int x1, .int x2]) (rest := []) kX5_head rfl q2404 rfl rfl (Nat.le_of_ble_eq_true rfl) rfl dX5_tell_18 (Nat.succ_le_succ (Nat.zero_le _)) (h.mono (onV_mono (fun t3 h => ?_) (fun _ _ h => h)))
    refine j_aload_n (r := some P.mo) dX5_tell_21 rfl ?_
    refine jm_get (v := fI t3 72) fM_72 rfl rfl dX5_tell_22 ?_
    refine j_if_eq 29 dX5_tell_25 (by decide) (fun c9 => ?_) (fun c9 => ?_)
    · replace h := h.1 c9
      refine j_aload_n (r := some P.mo) dX5_tell_29 rfl ?_
      refine jm_get (v := fI t3 52) fM_52 rfl rfl dX5_tell_30 ?_
      refine j_istore (lv' := [some (va_rf (some P.mo)), some (.int x1), some (.int x2), some (.int x3), some (.int x4), some (.int x5), some (.int (fI t1 51)), some (.int (fI t3 52)), none, none, none, none, none, none]) dX5_tell_33 (by decide) rfl ?_
      refine j_aload_n (r := some P.mo) dX5_tell_35 rfl ?_
      refine jm_get (v := fI t3 53) fM_53 rfl rfl dX5_tell_36 ?_
      refine j_istore (lv' := [some (va_rf (some P.mo)), some (.int x1), some (.int x2), some (.int x3), some (.int x4), some (.int x5), some (.int (fI t1 51)), some (.int (fI t3 52)), some (.int (fI t3 53)), none, none, none, none, none]) dX5_tell_39 (by decide) rfl ?_
      refine j_aload_n (r := some P.mo) dX5_tell_41 rfl ?_
      refine j_iload dX5_tell_42 rfl ?_
      refine jm_calli (As := [.int (fI t3 52)]) (rest := []) kX5_kindOf rfl q2416 rfl rfl (Nat.le_of_ble_eq_true rfl) rfl dX5_tell_44 (Nat.succ_le_succ (Nat.zero_le _)) (h.mono (onI_mono (fun r6 t5 h => ?_) (fun _ _ h => h)))
      refine j_istore (lv' := [some (va_rf (some P.mo)), some (.int x1), some (.int x2), some (.int x3), some (.int x4), some (.int x5), some (.int (fI t1 51)), some (.int (fI t3 52)), some (.int (fI t3 53)), some (.int r6), none, none, none, none]) dX5_tell_47 (by decide) rfl ?_
      refine j_iload dX5_tell_49 rfl ?_
      refine j_iconst (v := iI 4) dX5_tell_51 rfl ?_
      refine j_icmp_eq 61 dX5_tell_52 (by decide) (fun c8 => ?_) (fun c8 => ?_)
      · replace h := h.1 c8
        exact h
      · replace h := h.2 c8
        refine j_iload dX5_tell_55 rfl ?_
        refine j_iconst (v := iI 5) dX5_tell_57 rfl ?_
        refine j_icmp_ne 65 dX5_tell_58 (by decide) (fun c7 => ?_) (fun c7 => ?_)
        · replace h := h.2 c7
          refine j_iconst (v := iI 0) dX5_tell_65 rfl ?_
          refine j_istore (lv' := [some (va_rf (some P.mo)), some (.int x1), some (.int x2), some (.int x3), some (.int x4), some (.int x5), some (.int (fI t1 51)), some (.int (fI t3 52)), some (.int (fI t3 53)), some (.int r6), some (.int (iI 0)), none, none, none]) dX5_tell_66 (by decide) rfl ?_
          refine j_iload dX5_tell_68 rfl ?_
          refine j_if_eq 78 dX5_tell_70 (by decide) (fun _ => ?_) (fun q_ => absurd (by decide) q_)
          exact h
        · replace h := h.1 c7
          exact h
    · replace h := h.2 c9
      exact j_return rfl dX5_tell_28 h
  · replace h := h.1 c10
    exact j_return rfl dX5_tell_8 h
theorem tX5_tell_61 {P : MPl} {s0 : State} {l : Launch} {X : Prop} {lev : Nat} {st0 : MSt} {Q : Outcome → MSt → Prop} {x1 x2 x3 x4 x5 x6 x7 x8 x9 : Int32} {st : MSt} (h : ((0 < x5 → jX5_tell_93 P s0 l X lev st0 Q x1 x2 x3 x4 x5 x6 x7 x8 x9 (iI 1) st) ∧ (¬ 0 < x5 → jX5_tell_78 P s0 l X lev st0 Q x1 x2 x3 x4 x5 x6 x7 x8 x9 (iI 1) st))) : jX5_tell_61 P s0 l X lev st0 Q x1 x2 x3 x4 x5 x6 x7 x8 x9 st := by
  refine j_iconst (v := iI 1) dX5_tell_61 rfl ?_
  refine j_goto 66 dX5_tell_62 (by decide) ?_
  refine j_istore (lv' := [some (va_rf (some P.mo)), some (.int x1), some (.int x2), some (.int x3), some (.int x4), some (.int x5), some (.int x6), some (.int x7), some (.int x8), some (.int x9), some (.int (iI 1)), none, none, none]) dX5_tell_66 (by decide) rfl ?_
  refine j_iload dX5_tell_68 rfl ?_
  refine j_if_eq 78 dX5_tell_70 (by decide) (fun q_ => absurd q_ (by decide)) (fun _ => ?_)
  refine j_iload dX5_tell_73 rfl ?_
  refine j_if_gt 93 dX5_tell_75 (by decide) (fun c1 => ?_) (fun c1 => ?_)
  · replace h := h.1 c1
    exact h
  · replace h := h.2 c1
    exact h
theorem tX5_tell_78 {P : MPl} {s0 : State} {l : Launch} {X : Prop} {lev : Nat} {st0 : MSt} {Q : Outcome → MSt → Prop} {x1 x2 x3 x4 x5 x6 x7 x8 x9 x10 : Int32} {st : MSt} (h : ((x5 = (iI 2) → (((fI st 51) ≤ x6 → jX5_tell_97 P s0 l X lev st0 Q x1 x2 x3 x4 x5 x6 x7 x8 x9 x10 st) ∧ (¬ (fI st 51) ≤ x6 → jX5_tell_93 P s0 l X lev st0 Q x1 x2 x3 x4 x5 x6 x7 x8 x9 x10 st))) ∧ (¬ x5 = (iI 2) → jX5_tell_97 P s0 l X lev st0 Q x1 x2 x3 x4 x5 x6 x7 x8 x9 x10 st))) : jX5_tell_78 P s0 l X lev st0 Q x1 x2 x3 x4 x5 x6 x7 x8 x9 x10 st := by
  refine j_iload dX5_tell_78 rfl ?_
  refine j_iconst (v := iI 2) dX5_tell_80 rfl ?_
  refine j_icmp_ne 97 dX5_tell_81 (by decide) (fun c2 => ?_) (fun c2 => ?_)
  · replace h := h.2 c2
    exact h
  · replace h := h.1 c2
    refine j_aload_n (r := some P.mo) dX5_tell_84 rfl ?_
    refine jm_get (v := fI st 51) fM_51 rfl rfl dX5_tell_85 ?_
    refine j_iload dX5_tell_88 rfl ?_
    refine j_icmp_le 97 dX5_tell_90 (by decide) (fun c1 => ?_) (fun c1 => ?_)
    · replace h := h.1 c1
      exact h
    · replace h := h.2 c1
      exact h
theorem tX5_tell_93 {P : MPl} {s0 : State} {l : Launch} {X : Prop} {lev : Nat} {st0 : MSt} {Q : Outcome → MSt → Prop} {x1 x2 x3 x4 x5 x6 x7 x8 x9 x10 : Int32} {st : MSt} (h : (CQ (wM P s0 l X) mX5_put lev (.ref P.mo :: [.int (iI 40)]) st (onV (fun t1 => jX5_tell_111 P s0 l X lev st0 Q x1 x2 x3 x4 x5 x6 x7 x8 x9 x10 (iI 1) t1) (fun x t => Q (.threw x) t)))) : jX5_tell_93 P s0 l X lev st0 Q x1 x2 x3 x4 x5 x6 x7 x8 x9 x10 st := by
  refine j_iconst (v := iI 1) dX5_tell_93 rfl ?_
  refine j_goto 98 dX5_tell_94 (by decide) ?_
  refine j_istore (lv' := [some (va_rf (some P.mo)), some (.int x1), some (.int x2), some (.int x3), some (.int x4), some (.int x5), some (.int x6), some (.int x7), some (.int x8), some (.int x9), some (.int x10), some (.int (iI 1)), none, none]) dX5_tell_98 (by decide) rfl ?_
  refine j_iload dX5_tell_100 rfl ?_
  refine j_if_eq 111 dX5_tell_102 (by decide) (fun q_ => absurd q_ (by decide)) (fun _ => ?_)
  refine j_aload_n (r := some P.mo) dX5_tell_105 rfl ?_
  refine j_bipush (v := iI 40) dX5_tell_106 rfl ?_
  refine jm_callv (As := [.int (iI 40)]) (rest := []) kX5_put rfl q2465 rfl rfl (Nat.le_of_ble_eq_true rfl) rfl dX5_tell_108 (Nat.succ_le_succ (Nat.zero_le _)) (h.mono (onV_mono (fun t1 h => ?_) (fun _ _ h => h)))
  exact h
theorem tX5_tell_97 {P : MPl} {s0 : State} {l : Launch} {X : Prop} {lev : Nat} {st0 : MSt} {Q : Outcome → MSt → Prop} {x1 x2 x3 x4 x5 x6 x7 x8 x9 x10 : Int32} {st : MSt} (h : jX5_tell_111 P s0 l X lev st0 Q x1 x2 x3 x4 x5 x6 x7 x8 x9 x10 (iI 0) st) : jX5_tell_97 P s0 l X lev st0 Q x1 x2 x3 x4 x5 x6 x7 x8 x9 x10 st := by
  refine j_iconst (v := iI 0) dX5_tell_97 rfl ?_
  refine j_istore (lv' := [some (va_rf (some P.mo)), some (.int x1), some (.int x2), some (.int x3), some (.int x4), some (.int x5), some (.int x6), some (.int x7), some (.int x8), some (.int x9), some (.int x10), some (.int (iI 0)), none, none]) dX5_tell_98 (by decide) rfl ?_
  refine j_iload dX5_tell_100 rfl ?_
  refine j_if_eq 111 dX5_tell_102 (by decide) (fun _ => ?_) (fun q_ => absurd (by decide) q_)
  exact h
theorem tX5_tell_111 {P : MPl} {s0 : State} {l : Launch} {X : Prop} {lev : Nat} {st0 : MSt} {Q : Outcome → MSt → Prop} {x1 x2 x3 x4 x5 x6 x7 x8 x9 x10 x11 : Int32} {st : MSt} (h : ((x10 = 0 → ((x9 = (iI (-1)) → (CQ (wM P s0 l X) mX5_put lev (.ref P.mo :: [.int (iI 95)]) st (onV (fun t6 => (CQ (wM P s0 l X) mX5_number lev (.ref P.mo :: [.int ((iI (-1000000)) - x7)]) t6 (onV (fun t8 => jX5_tell_314 P s0 l X lev st0 Q x1 x2 x3 x4 x5 x6 x7 x8 x9 x10 x11 t8) (fun x t => Q (.threw x) t)))) (fun x t => Q (.threw x) t)))) ∧ (¬ x9 = (iI (-1)) → ((x9 = (iI 3) → (inr x7 140000 ∧ (inr x7 140000 ∧ (inr (aI st 31 x7) 8 ∧ (CQ (wM P s0 l X) mX5_putWord lev (.ref P.mo :: [.int ((iI 12) * (aI st 31 x7)), va_rf (some (P.ad 16)), .int (aI st 17 (aI st 31 x7))]) st (onV (fun t3 => jX5_tell_314 P s0 l X lev st0 Q x1 x2 x3 x4 x5 x6 x7 x8 x9 x10 x11 t3) (fun x t => Q (.threw x) t))))))) ∧ (¬ x9 = (iI 3) → (inr x7 140000 ∧ (inr x7 140000 ∧ (inr (aI st 31 x7) 100 ∧ (CQ (wM P s0 l X) mX5_putWord lev (.ref P.mo :: [.int ((iI 12) * (aI st 31 x7)), va_rf (some (P.ad 21)), .int (aI st 22 (aI st 31 x7))]) st (onV (fun t1 => jX5_tell_314 P s0 l X lev st0 Q x1 x2 x3 x4 x5 x6 x7 x8 x9 x10 x11 t1) (fun x t => Q (.threw x) t))))))))))) ∧ (¬ x10 = 0 → ((x9 = (iI 4) → (CQ (wM P s0 l X) mX5_put lev (.ref P.mo :: [.int (iI 92)]) st (onV (fun t28 => (CQ (wM P s0 l X) mX5_put lev (.ref P.mo :: [.int (iI 95)]) t28 (onV (fun t30 => (CQ (wM P s0 l X) mX5_number lev (.ref P.mo :: [.int x4]) t30 (onV (fun t32 => (CQ (wM P s0 l X) mX5_put lev (.ref P.mo :: [.int (iI 58)]) t32 (onV (fun t34 => (inr x7 140000 ∧ (CQ (wM P s0 l X) mX5_tell lev (.ref P.mo :: [.int (aI t34 32 x7), .int x8, .int (x3 + (iI 1)), .int x4, .int (iI 1)]) t34 (onV (fun t36 => (((fI t36 72) = 0 → (CQ (wM P s0 l X) mX5_put lev (.ref P.mo :: [.int (iI 46)]) t36 (onV (fun t38 => (inr x7 140000 ∧ (CQ (wM P s0 l X) mX5_inside lev (.ref P.mo :: [.int x7, .int x8, .int ((iI (-1000000)) - x4)]) t38 (onI (fun r41 t40 => (CQ (wM P s0 l X) mX5_tell lev (.ref P.mo :: [.int (aI t38 33 x7), .int r41, .int (x3 + (iI 1)), .int (x4 + (iI 1)), .int (iI 0)]) t40 (onV (fun t42 => jX5_tell_382 P s0 l X lev st0 Q x1 x2 x3 x4 x5 x6 x7 x8 x9 x10 x11 t42) (fun x t => Q (.threw x) t)))) (fun x t => Q (.threw x) t))))) (fun x t => Q (.threw x) t)))) ∧ (¬ (fI t36 72) = 0 → Q (.returned none) t36))) (fun x t => Q (.threw x) t))))) (fun x t => Q (.threw x) t)))) (fun x t => Q (.threw x) t)))) (fun x t => Q (.threw x) t)))) (fun x t => Q (.threw x) t)))) ∧ (¬ x9 = (iI 4) → (CQ (wM P s0 l X) mX5_put lev (.ref P.mo :: [.int (iI 33)]) st (onV (fun t11 => (CQ (wM P s0 l X) mX5_put lev (.ref P.mo :: [.int (iI 95)]) t11 (onV (fun t13 => (CQ (wM P s0 l X) mX5_number lev (.ref P.mo :: [.int x4]) t13 (onV (fun t15 => (CQ (wM P s0 l X) mX5_put lev (.ref P.mo :: [.int (iI 58)]) t15 (onV (fun t17 => (inr x7 140000 ∧ (CQ (wM P s0 l X) mX5_tell lev (.ref P.mo :: [.int (aI t17 32 x7), .int x8, .int (x3 + (iI 1)), .int x4, .int (iI 1)]) t17 (onV (fun t19 => (((fI t19 72) = 0 → (CQ (wM P s0 l X) mX5_put lev (.ref P.mo :: [.int (iI 46)]) t19 (onV (fun t21 => (inr x7 140000 ∧ (CQ (wM P s0 l X) mX5_inside lev (.ref P.mo :: [.int x7, .int x8, .int ((iI (-1000000)) - x4)]) t21 (onI (fun r24 t23 => (CQ (wM P s0 l X) mX5_tell lev (.ref P.mo :: [.int (aI t21 33 x7), .int r24, .int (x3 + (iI 1)), .int (x4 + (iI 1)), .int (iI 0)]) t23 (onV (fun t25 => jX5_tell_382 P s0 l X lev st0 Q x1 x2 x3 x4 x5 x6 x7 x8 x9 x10 x11 t25) (fun x t => Q (.threw x) t)))) (fun x t => Q (.threw x) t))))) (fun x t => Q (.threw x) t)))) ∧ (¬ (fI t19 72) = 0 → Q (.returned none) t19))) (fun x t => Q (.threw x) t))))) (fun x t => Q (.threw x) t)))) (fun x t => Q (.threw x) t)))) (fun x t => Q (.threw x) t)))) (fun x t => Q (.threw x) t)))))))) : jX5_tell_111 P s0 l X lev st0 Q x1 x2 x3 x4 x5 x6 x7 x8 x9 x10 x11 st := by
  refine j_iload dX5_tell_111 rfl ?_
  refine j_if_eq 220 dX5_tell_113 (by decide) (fun c46 => ?_) (fun c46 => ?_)
  · replace h := h.1 c46
    refine j_iload dX5_tell_220 rfl ?_
    refine j_iconst (v := iI (-1)) dX5_tell_222 rfl ?_
    refine j_icmp_ne 245 dX5_tell_223 (by decide) (fun c10 => ?_) (fun c10 => ?_)
    · replace h := h.2 c10
      refine j_iload dX5_tell_245 rfl ?_
      refine j_iconst (v := iI 3) dX5_tell_247 rfl ?_
      refine j_icmp_ne 284 dX5_tell_248 (by decide) (fun c5 => ?_) (fun c5 => ?_)
      · replace h := h.2 c5
        refine j_aload_n (r := some P.mo) dX5_tell_284 rfl ?_
        refine j_bipush (v := iI 12) dX5_tell_285 rfl ?_
        refine j_aload_n (r := some P.mo) dX5_tell_287 rfl ?_
        refine jm_geta fM_31 rfl dX5_tell_288 ?_
        refine j_iload dX5_tell_291 rfl ?_
        refine jm_ald (v := aI st 31 x7) rfl h.1 rfl rfl dX5_tell_293 ?_
        replace h := h.2
        refine j_imul dX5_tell_294 ?_
        refine j_aload_n (r := some P.mo) dX5_tell_295 rfl ?_
        refine jm_geta fM_21 rfl dX5_tell_296 ?_
        refine j_aload_n (r := some P.mo) dX5_tell_299 rfl ?_
        refine jm_geta fM_22 rfl dX5_tell_300 ?_
        refine j_aload_n (r := some P.mo) dX5_tell_303 rfl ?_
        refine jm_geta fM_31 rfl dX5_tell_304 ?_
        refine j_iload dX5_tell_307 rfl ?_
        refine jm_ald (v := aI st 31 x7) rfl h.1 rfl rfl dX5_tell_309 ?_
        replace h := h.2
        refine jm_ald (v := aI st 22 (aI st 31 x7)) rfl h.1 rfl rfl dX5_tell_310 ?_
        replace h := h.2
        refine jm_callv (As := [.int ((iI 12) * (aI st 31 x7)), va_rf (some (P.ad 21)), .int (aI st 22 (aI st 31 x7))]) (rest := []) kX5_putWord rfl q2482 rfl rfl (Nat.le_of_ble_eq_true rfl) rfl dX5_tell_311 (Nat.succ_le_succ (Nat.zero_le _)) (h.mono (onV_mono (fun t1 h => ?_) (fun _ _ h => h)))
        exact h
      · replace h := h.1 c5
        refine j_aload_n (r := some P.mo) dX5_tell_251 rfl ?_
        refine j_bipush (v := iI 12) dX5_tell_252 rfl ?_
        refine j_aload_n (r := some P.mo) dX5_tell_254 rfl ?_
        refine jm_geta fM_31 rfl dX5_tell_255 ?_
        refine j_iload dX5_tell_258 rfl ?_
        refine jm_ald (v := aI st 31 x7) rfl h.1 rfl rfl dX5_tell_260 ?_
        replace h := h.2
        refine j_imul dX5_tell_261 ?_
        refine j_aload_n (r := some P.mo) dX5_tell_262 rfl ?_
        refine jm_geta fM_16 rfl dX5_tell_263 ?_
        refine j_aload_n (r := some P.mo) dX5_tell_266 rfl ?_
        refine jm_geta fM_17 rfl dX5_tell_267 ?_
        refine j_aload_n (r := some P.mo) dX5_tell_270 rfl ?_
        refine jm_geta fM_31 rfl dX5_tell_271 ?_
        refine j_iload dX5_tell_274 rfl ?_
        refine jm_ald (v := aI st 31 x7) rfl h.1 rfl rfl dX5_tell_276 ?_
        replace h := h.2
        refine jm_ald (v := aI st 17 (aI st 31 x7)) rfl h.1 rfl rfl dX5_tell_277 ?_
        replace h := h.2
        refine jm_callv (As := [.int ((iI 12) * (aI st 31 x7)), va_rf (some (P.ad 16)), .int (aI st 17 (aI st 31 x7))]) (rest := []) kX5_putWord rfl q2482 rfl rfl (Nat.le_of_ble_eq_true rfl) rfl dX5_tell_278 (Nat.succ_le_succ (Nat.zero_le _)) (h.mono (onV_mono (fun t3 h => ?_) (fun _ _ h => h)))
        refine j_goto 314 dX5_tell_281 (by decide) ?_
        exact h
    · replace h := h.1 c10
      refine j_aload_n (r := some P.mo) dX5_tell_226 rfl ?_
      refine j_bipush (v := iI 95) dX5_tell_227 rfl ?_
      refine jm_callv (As := [.int (iI 95)]) (rest := []) kX5_put rfl q2465 rfl rfl (Nat.le_of_ble_eq_true rfl) rfl dX5_tell_229 (Nat.succ_le_succ (Nat.zero_le _)) (h.mono (onV_mono (fun t6 h => ?_) (fun _ _ h => h)))
      refine j_aload_n (r := some P.mo) dX5_tell_232 rfl ?_
      refine j_ldcw (v := iI (-1000000)) q2481 dX5_tell_233 (by decide) ?_
      refine j_iload dX5_tell_236 rfl ?_
      refine j_isub dX5_tell_238 ?_
      refine jm_callv (As := [.int ((iI (-1000000)) - x7)]) (rest := []) kX5_number rfl q2477 rfl rfl (Nat.le_of_ble_eq_true rfl) rfl dX5_tell_239 (Nat.succ_le_succ (Nat.zero_le _)) (h.mono (onV_mono (fun t8 h => ?_) (fun _ _ h => h)))
      refine j_goto 314 dX5_tell_242 (by decide) ?_
      exact h
  · replace h := h.2 c46
    refine j_aload_n (r := some P.mo) dX5_tell_116 rfl ?_
    refine j_iload dX5_tell_117 rfl ?_
    refine j_iconst (v := iI 4) dX5_tell_119 rfl ?_
    refine j_icmp_ne 128 dX5_tell_120 (by decide) (fun c45 => ?_) (fun c45 => ?_)
    · replace h := h.2 c45
      refine j_bipush (v := iI 33) dX5_tell_128 rfl ?_
      refine jm_callv (As := [.int (iI 33)]) (rest := []) kX5_put rfl q2465 rfl rfl (Nat.le_of_ble_eq_true rfl) rfl dX5_tell_130 (Nat.succ_le_succ (Nat.zero_le _)) (h.mono (onV_mono (fun t11 h => ?_) (fun _ _ h => h)))
      refine j_aload_n (r := some P.mo) dX5_tell_133 rfl ?_
      refine j_bipush (v := iI 95) dX5_tell_134 rfl ?_
      refine jm_callv (As := [.int (iI 95)]) (rest := []) kX5_put rfl q2465 rfl rfl (Nat.le_of_ble_eq_true rfl) rfl dX5_tell_136 (Nat.succ_le_succ (Nat.zero_le _)) (h.mono (onV_mono (fun t13 h => ?_) (fun _ _ h => h)))
      refine j_aload_n (r := some P.mo) dX5_tell_139 rfl ?_
      refine j_iload dX5_tell_140 rfl ?_
      refine jm_callv (As := [.int x4]) (rest := []) kX5_number rfl q2477 rfl rfl (Nat.le_of_ble_eq_true rfl) rfl dX5_tell_142 (Nat.succ_le_succ (Nat.zero_le _)) (h.mono (onV_mono (fun t15 h => ?_) (fun _ _ h => h)))
      refine j_aload_n (r := some P.mo) dX5_tell_145 rfl ?_
      refine j_bipush (v := iI 58) dX5_tell_146 rfl ?_
      refine jm_callv (As := [.int (iI 58)]) (rest := []) kX5_put rfl q2465 rfl rfl (Nat.le_of_ble_eq_true rfl) rfl dX5_tell_148 (Nat.succ_le_succ (Nat.zero_le _)) (h.mono (onV_mono (fun t17 h => ?_) (fun _ _ h => h)))
      refine j_aload_n (r := some P.mo) dX5_tell_151 rfl ?_
      refine j_aload_n (r := some P.mo) dX5_tell_152 rfl ?_
      refine jm_geta fM_32 rfl dX5_tell_153 ?_
      refine j_iload dX5_tell_156 rfl ?_
      refine jm_ald (v := aI t17 32 x7) rfl h.1 rfl rfl dX5_tell_158 ?_
      replace h := h.2
      refine j_iload dX5_tell_159 rfl ?_
      refine j_iload_n dX5_tell_161 rfl ?_
      refine j_iconst (v := iI 1) dX5_tell_162 rfl ?_
      refine j_iadd dX5_tell_163 ?_
      refine j_iload dX5_tell_164 rfl ?_
      refine j_iconst (v := iI 1) dX5_tell_166 rfl ?_
      refine jm_callv (As := [.int (aI t17 32 x7), .int x8, .int (x3 + (iI 1)), .int x4, .int (iI 1)]) (rest := []) kX5_tell rfl q2473 rfl rfl (Nat.le_of_ble_eq_true rfl) rfl dX5_tell_167 (Nat.succ_le_succ (Nat.zero_le _)) (h.mono (onV_mono (fun t19 h => ?_) (fun _ _ h => h)))
      refine j_aload_n (r := some P.mo) dX5_tell_170 rfl ?_
      refine jm_get (v := fI t19 72) fM_72 rfl rfl dX5_tell_171 ?_
      refine j_if_eq 178 dX5_tell_174 (by decide) (fun c27 => ?_) (fun c27 => ?_)
      · replace h := h.1 c27
        refine j_aload_n (r := some P.mo) dX5_tell_178 rfl ?_
        refine j_bipush (v := iI 46) dX5_tell_179 rfl ?_
        refine jm_callv (As := [.int (iI 46)]) (rest := []) kX5_put rfl q2465 rfl rfl (Nat.le_of_ble_eq_true rfl) rfl dX5_tell_181 (Nat.succ_le_succ (Nat.zero_le _)) (h.mono (onV_mono (fun t21 h => ?_) (fun _ _ h => h)))
        refine j_aload_n (r := some P.mo) dX5_tell_184 rfl ?_
        refine j_aload_n (r := some P.mo) dX5_tell_185 rfl ?_
        refine jm_geta fM_33 rfl dX5_tell_186 ?_
        refine j_iload dX5_tell_189 rfl ?_
        refine jm_ald (v := aI t21 33 x7) rfl h.1 rfl rfl dX5_tell_191 ?_
        replace h := h.2
        refine j_aload_n (r := some P.mo) dX5_tell_192 rfl ?_
        refine j_iload dX5_tell_193 rfl ?_
        refine j_iload dX5_tell_195 rfl ?_
        refine j_ldcw (v := iI (-1000000)) q2481 dX5_tell_197 (by decide) ?_
        refine j_iload dX5_tell_200 rfl ?_
        refine j_isub dX5_tell_202 ?_
        refine jm_calli (As := [.int x7, .int x8, .int ((iI (-1000000)) - x4)]) (rest := [.int (aI t21 33 x7), va_rf (some P.mo)]) kX5_inside rfl q2420 rfl rfl (Nat.le_of_ble_eq_true rfl) rfl dX5_tell_203 (Nat.succ_le_succ (Nat.zero_le _)) (h.mono (onI_mono (fun r24 t23 h => ?_) (fun _ _ h => h)))
        refine j_iload_n dX5_tell_206 rfl ?_
        refine j_iconst (v := iI 1) dX5_tell_207 rfl ?_
        refine j_iadd dX5_tell_208 ?_
        refine j_iload dX5_tell_209 rfl ?_
        refine j_iconst (v := iI 1) dX5_tell_211 rfl ?_
        refine j_iadd dX5_tell_212 ?_
        refine j_iconst (v := iI 0) dX5_tell_213 rfl ?_
        refine jm_callv (As := [.int (aI t21 33 x7), .int r24, .int (x3 + (iI 1)), .int (x4 + (iI 1)), .int (iI 0)]) (rest := []) kX5_tell rfl q2473 rfl rfl (Nat.le_of_ble_eq_true rfl) rfl dX5_tell_214 (Nat.succ_le_succ (Nat.zero_le _)) (h.mono (onV_mono (fun t25 h => ?_) (fun _ _ h => h)))
        refine j_goto 382 dX5_tell_217 (by decide) ?_
        exact h
      · replace h := h.2 c27
        exact j_return rfl dX5_tell_177 h
    · replace h := h.1 c45
      refine j_bipush (v := iI 92) dX5_tell_123 rfl ?_
      refine j_goto 130 dX5_tell_125 (by decide) ?_
      refine jm_callv (As := [.int (iI 92)]) (rest := []) kX5_put rfl q2465 rfl rfl (Nat.le_of_ble_eq_true rfl) rfl dX5_tell_130 (Nat.succ_le_succ (Nat.zero_le _)) (h.mono (onV_mono (fun t28 h => ?_) (fun _ _ h => h)))
      refine j_aload_n (r := some P.mo) dX5_tell_133 rfl ?_
      refine j_bipush (v := iI 95) dX5_tell_134 rfl ?_
      refine jm_callv (As := [.int (iI 95)]) (rest := []) kX5_put rfl q2465 rfl rfl (Nat.le_of_ble_eq_true rfl) rfl dX5_tell_136 (Nat.succ_le_succ (Nat.zero_le _)) (h.mono (onV_mono (fun t30 h => ?_) (fun _ _ h => h)))
      refine j_aload_n (r := some P.mo) dX5_tell_139 rfl ?_
      refine j_iload dX5_tell_140 rfl ?_
      refine jm_callv (As := [.int x4]) (rest := []) kX5_number rfl q2477 rfl rfl (Nat.le_of_ble_eq_true rfl) rfl dX5_tell_142 (Nat.succ_le_succ (Nat.zero_le _)) (h.mono (onV_mono (fun t32 h => ?_) (fun _ _ h => h)))
      refine j_aload_n (r := some P.mo) dX5_tell_145 rfl ?_
      refine j_bipush (v := iI 58) dX5_tell_146 rfl ?_
      refine jm_callv (As := [.int (iI 58)]) (rest := []) kX5_put rfl q2465 rfl rfl (Nat.le_of_ble_eq_true rfl) rfl dX5_tell_148 (Nat.succ_le_succ (Nat.zero_le _)) (h.mono (onV_mono (fun t34 h => ?_) (fun _ _ h => h)))
      refine j_aload_n (r := some P.mo) dX5_tell_151 rfl ?_
      refine j_aload_n (r := some P.mo) dX5_tell_152 rfl ?_
      refine jm_geta fM_32 rfl dX5_tell_153 ?_
      refine j_iload dX5_tell_156 rfl ?_
      refine jm_ald (v := aI t34 32 x7) rfl h.1 rfl rfl dX5_tell_158 ?_
      replace h := h.2
      refine j_iload dX5_tell_159 rfl ?_
      refine j_iload_n dX5_tell_161 rfl ?_
      refine j_iconst (v := iI 1) dX5_tell_162 rfl ?_
      refine j_iadd dX5_tell_163 ?_
      refine j_iload dX5_tell_164 rfl ?_
      refine j_iconst (v := iI 1) dX5_tell_166 rfl ?_
      refine jm_callv (As := [.int (aI t34 32 x7), .int x8, .int (x3 + (iI 1)), .int x4, .int (iI 1)]) (rest := []) kX5_tell rfl q2473 rfl rfl (Nat.le_of_ble_eq_true rfl) rfl dX5_tell_167 (Nat.succ_le_succ (Nat.zero_le _)) (h.mono (onV_mono (fun t36 h => ?_) (fun _ _ h => h)))
      refine j_aload_n (r := some P.mo) dX5_tell_170 rfl ?_
      refine jm_get (v := fI t36 72) fM_72 rfl rfl dX5_tell_171 ?_
      refine j_if_eq 178 dX5_tell_174 (by decide) (fun c44 => ?_) (fun c44 => ?_)
      · replace h := h.1 c44
        refine j_aload_n (r := some P.mo) dX5_tell_178 rfl ?_
        refine j_bipush (v := iI 46) dX5_tell_179 rfl ?_
        refine jm_callv (As := [.int (iI 46)]) (rest := []) kX5_put rfl q2465 rfl rfl (Nat.le_of_ble_eq_true rfl) rfl dX5_tell_181 (Nat.succ_le_succ (Nat.zero_le _)) (h.mono (onV_mono (fun t38 h => ?_) (fun _ _ h => h)))
        refine j_aload_n (r := some P.mo) dX5_tell_184 rfl ?_
        refine j_aload_n (r := some P.mo) dX5_tell_185 rfl ?_
        refine jm_geta fM_33 rfl dX5_tell_186 ?_
        refine j_iload dX5_tell_189 rfl ?_
        refine jm_ald (v := aI t38 33 x7) rfl h.1 rfl rfl dX5_tell_191 ?_
        replace h := h.2
        refine j_aload_n (r := some P.mo) dX5_tell_192 rfl ?_
        refine j_iload dX5_tell_193 rfl ?_
        refine j_iload dX5_tell_195 rfl ?_
        refine j_ldcw (v := iI (-1000000)) q2481 dX5_tell_197 (by decide) ?_
        refine j_iload dX5_tell_200 rfl ?_
        refine j_isub dX5_tell_202 ?_
        refine jm_calli (As := [.int x7, .int x8, .int ((iI (-1000000)) - x4)]) (rest := [.int (aI t38 33 x7), va_rf (some P.mo)]) kX5_inside rfl q2420 rfl rfl (Nat.le_of_ble_eq_true rfl) rfl dX5_tell_203 (Nat.succ_le_succ (Nat.zero_le _)) (h.mono (onI_mono (fun r41 t40 h => ?_) (fun _ _ h => h)))
        refine j_iload_n dX5_tell_206 rfl ?_
        refine j_iconst (v := iI 1) dX5_tell_207 rfl ?_
        refine j_iadd dX5_tell_208 ?_
        refine j_iload dX5_tell_209 rfl ?_
        refine j_iconst (v := iI 1) dX5_tell_211 rfl ?_
        refine j_iadd dX5_tell_212 ?_
        refine j_iconst (v := iI 0) dX5_tell_213 rfl ?_
        refine jm_callv (As := [.int (aI t38 33 x7), .int r41, .int (x3 + (iI 1)), .int (x4 + (iI 1)), .int (iI 0)]) (rest := []) kX5_tell rfl q2473 rfl rfl (Nat.le_of_ble_eq_true rfl) rfl dX5_tell_214 (Nat.succ_le_succ (Nat.zero_le _)) (h.mono (onV_mono (fun t42 h => ?_) (fun _ _ h => h)))
        refine j_goto 382 dX5_tell_217 (by decide) ?_
        exact h
      · replace h := h.2 c44
        exact j_return rfl dX5_tell_177 h
theorem tX5_tell_314 {P : MPl} {s0 : State} {l : Launch} {X : Prop} {lev : Nat} {st0 : MSt} {Q : Outcome → MSt → Prop} {x1 x2 x3 x4 x5 x6 x7 x8 x9 x10 x11 : Int32} {st : MSt} (h : jX5_tell_323 P s0 l X lev st0 Q x1 x2 x3 x4 x5 x6 x7 x8 x9 x10 x11 (fI st 51) (iI 1) st) : jX5_tell_314 P s0 l X lev st0 Q x1 x2 x3 x4 x5 x6 x7 x8 x9 x10 x11 st := by
  refine j_aload_n (r := some P.mo) dX5_tell_314 rfl ?_
  refine jm_get (v := fI st 51) fM_51 rfl rfl dX5_tell_315 ?_
  refine j_istore (lv' := [some (va_rf (some P.mo)), some (.int x1), some (.int x2), some (.int x3), some (.int x4), some (.int x5), some (.int x6), some (.int x7), some (.int x8), some (.int x9), some (.int x10), some (.int x11), some (.int (fI st 51)), none]) dX5_tell_318 (by decide) rfl ?_
  refine j_iconst (v := iI 1) dX5_tell_320 rfl ?_
  refine j_istore (lv' := [some (va_rf (some P.mo)), some (.int x1), some (.int x2), some (.int x3), some (.int x4), some (.int x5), some (.int x6), some (.int x7), some (.int x8), some (.int x9), some (.int x10), some (.int x11), some (.int (fI st 51)), some (.int (iI 1))]) dX5_tell_321 (by decide) rfl ?_
  exact h
theorem tX5_tell_323 {P : MPl} {s0 : State} {l : Launch} {X : Prop} {lev : Nat} {st0 : MSt} {Q : Outcome → MSt → Prop} {x1 x2 x3 x4 x5 x6 x7 x8 x9 x10 x11 x12 x13 : Int32} {st : MSt} (h : (((fI st 72) = 0 → (((x12 - x6) < x13 → jX5_tell_382 P s0 l X lev st0 Q x1 x2 x3 x4 x5 x6 x7 x8 x9 x10 x11 st) ∧ (¬ (x12 - x6) < x13 → (CQ (wM P s0 l X) mX5_put lev (.ref P.mo :: [.int (iI 32)]) st (onV (fun t1 => (inr (x12 - x13) 21000 ∧ (inr (x12 - x13) 21000 ∧ (CQ (wM P s0 l X) mX5_tell lev (.ref P.mo :: [.int (aI t1 49 (x12 - x13)), .int (aI t1 50 (x12 - x13)), .int (x3 + (iI 1)), .int x4, .int (iI 2)]) t1 (onV (fun t3 => jX5_tell_323 P s0 l X lev st0 Q x1 x2 x3 x4 x5 x6 x7 x8 x9 x10 x11 x12 (x13 + iI 1) t3) (fun x t => Q (.threw x) t)))))) (fun x t => Q (.threw x) t)))))) ∧ (¬ (fI st 72) = 0 → jX5_tell_382 P s0 l X lev st0 Q x1 x2 x3 x4 x5 x6 x7 x8 x9 x10 x11 st))) : jX5_tell_323 P s0 l X lev st0 Q x1 x2 x3 x4 x5 x6 x7 x8 x9 x10 x11 x12 x13 st := by
  refine j_aload_n (r := some P.mo) dX5_tell_323 rfl ?_
  refine jm_get (v := fI st 72) fM_72 rfl rfl dX5_tell_324 ?_
  refine j_if_ne 382 dX5_tell_327 (by decide) (fun c6 => ?_) (fun c6 => ?_)
  · replace h := h.2 c6
    exact j_mask [true, true, true, true, true, true, true, true, true, true, true, true, false, false] rfl h
  · replace h := h.1 c6
    refine j_iload dX5_tell_330 rfl ?_
    refine j_iload dX5_tell_332 rfl ?_
    refine j_iload dX5_tell_334 rfl ?_
    refine j_isub dX5_tell_336 ?_
    refine j_icmp_gt 382 dX5_tell_337 (by decide) (fun c5 => ?_) (fun c5 => ?_)
    · replace h := h.1 c5
      exact j_mask [true, true, true, true, true, true, true, true, true, true, true, true, false, false] rfl h
    · replace h := h.2 c5
      refine j_aload_n (r := some P.mo) dX5_tell_340 rfl ?_
      refine j_bipush (v := iI 32) dX5_tell_341 rfl ?_
      refine jm_callv (As := [.int (iI 32)]) (rest := []) kX5_put rfl q2465 rfl rfl (Nat.le_of_ble_eq_true rfl) rfl dX5_tell_343 (Nat.succ_le_succ (Nat.zero_le _)) (h.mono (onV_mono (fun t1 h => ?_) (fun _ _ h => h)))
      refine j_aload_n (r := some P.mo) dX5_tell_346 rfl ?_
      refine j_aload_n (r := some P.mo) dX5_tell_347 rfl ?_
      refine jm_geta fM_49 rfl dX5_tell_348 ?_
      refine j_iload dX5_tell_351 rfl ?_
      refine j_iload dX5_tell_353 rfl ?_
      refine j_isub dX5_tell_355 ?_
      refine jm_ald (v := aI t1 49 (x12 - x13)) rfl h.1 rfl rfl dX5_tell_356 ?_
      replace h := h.2
      refine j_aload_n (r := some P.mo) dX5_tell_357 rfl ?_
      refine jm_geta fM_50 rfl dX5_tell_358 ?_
      refine j_iload dX5_tell_361 rfl ?_
      refine j_iload dX5_tell_363 rfl ?_
      refine j_isub dX5_tell_365 ?_
      refine jm_ald (v := aI t1 50 (x12 - x13)) rfl h.1 rfl rfl dX5_tell_366 ?_
      replace h := h.2
      refine j_iload_n dX5_tell_367 rfl ?_
      refine j_iconst (v := iI 1) dX5_tell_368 rfl ?_
      refine j_iadd dX5_tell_369 ?_
      refine j_iload dX5_tell_370 rfl ?_
      refine j_iconst (v := iI 2) dX5_tell_372 rfl ?_
      refine jm_callv (As := [.int (aI t1 49 (x12 - x13)), .int (aI t1 50 (x12 - x13)), .int (x3 + (iI 1)), .int x4, .int (iI 2)]) (rest := []) kX5_tell rfl q2473 rfl rfl (Nat.le_of_ble_eq_true rfl) rfl dX5_tell_373 (Nat.succ_le_succ (Nat.zero_le _)) (h.mono (onV_mono (fun t3 h => ?_) (fun _ _ h => h)))
      refine j_iinc (lv' := [some (va_rf (some P.mo)), some (.int x1), some (.int x2), some (.int x3), some (.int x4), some (.int x5), some (.int x6), some (.int x7), some (.int x8), some (.int x9), some (.int x10), some (.int x11), some (.int x12), some (.int (x13 + iI 1))]) dX5_tell_376 rfl (by decide) rfl ?_
      refine j_goto 323 dX5_tell_379 (by decide) ?_
      exact h
theorem tX5_tell_382 {P : MPl} {s0 : State} {l : Launch} {X : Prop} {lev : Nat} {st0 : MSt} {Q : Outcome → MSt → Prop} {x1 x2 x3 x4 x5 x6 x7 x8 x9 x10 x11 : Int32} {st : MSt} (h : (((fI st 72) = 0 → ((x11 = 0 → Q (.returned none) (mput 51 x6 st)) ∧ (¬ x11 = 0 → (CQ (wM P s0 l X) mX5_put lev (.ref P.mo :: [.int (iI 41)]) (mput 51 x6 st) (onV (fun t1 => Q (.returned none) t1) (fun x t => Q (.threw x) t)))))) ∧ (¬ (fI st 72) = 0 → Q (.returned none) st))) : jX5_tell_382 P s0 l X lev st0 Q x1 x2 x3 x4 x5 x6 x7 x8 x9 x10 x11 st := by
  refine j_aload_n (r := some P.mo) dX5_tell_382 rfl ?_
  refine jm_get (v := fI st 72) fM_72 rfl rfl dX5_tell_383 ?_
  refine j_if_eq 390 dX5_tell_386 (by decide) (fun c4 => ?_) (fun c4 => ?_)
  · replace h := h.1 c4
    refine j_aload_n (r := some P.mo) dX5_tell_390 rfl ?_
    refine j_iload dX5_tell_391 rfl ?_
    refine jm_put fM_51 rfl dX5_tell_393 ?_
    refine j_iload dX5_tell_396 rfl ?_
    refine j_if_eq 407 dX5_tell_398 (by decide) (fun c3 => ?_) (fun c3 => ?_)
    · replace h := h.1 c3
      exact j_return rfl dX5_tell_407 h
    · replace h := h.2 c3
      refine j_aload_n (r := some P.mo) dX5_tell_401 rfl ?_
      refine j_bipush (v := iI 41) dX5_tell_402 rfl ?_
      refine jm_callv (As := [.int (iI 41)]) (rest := []) kX5_put rfl q2465 rfl rfl (Nat.le_of_ble_eq_true rfl) rfl dX5_tell_404 (Nat.succ_le_succ (Nat.zero_le _)) (h.mono (onV_mono (fun t1 h => ?_) (fun _ _ h => h)))
      exact j_return rfl dX5_tell_407 h
  · replace h := h.2 c4
    exact j_return rfl dX5_tell_389 h
abbrev jX5_number_14 (P : MPl) (s0 : State) (l : Launch) (X : Prop) (lev : Nat) (st0 : MSt) (Q : Outcome → MSt → Prop) (x1 : Int32) (st : MSt) : Prop := JQ (wM P s0 l X) mX5_number (lev + 1) st0 14 [some (va_rf (some P.mo)), some (.int x1)] [] st Q
theorem tX5_number {P : MPl} {s0 : State} {l : Launch} {X : Prop} {lev : Nat} {Q : Outcome → MSt → Prop} {x1 : Int32} {st : MSt} (h : ((x1 ≤ (iI 9) → jX5_number_14 P s0 l X lev st Q x1 st) ∧ (¬ x1 ≤ (iI 9) → (CQ (wM P s0 l X) mX5_number lev (.ref P.mo :: [.int (x1 / (iI 10))]) st (onV (fun t1 => jX5_number_14 P s0 l X lev st Q x1 t1) (fun x t => Q (.threw x) t)))))) : CQ (wM P s0 l X) mX5_number (lev + 1) [.ref P.mo, .int x1] st Q := by
  refine CQ.of2 0 (lv := [some (va_rf (some P.mo)), some (.int x1)]) (by decide) (Nat.le_of_ble_eq_true rfl) rfl rfl ?_
  refine j_iload_n dX5_number_0 rfl ?_
  refine j_bipush (v := iI 9) dX5_number_1 rfl ?_
  refine j_icmp_le 14 dX5_number_3 (by decide) (fun c3 => ?_) (fun c3 => ?_)
  · replace h := h.1 c3
    exact h
  · replace h := h.2 c3
    refine j_aload_n (r := some P.mo) dX5_number_6 rfl ?_
    refine j_iload_n dX5_number_7 rfl ?_
    refine j_bipush (v := iI 10) dX5_number_8 rfl ?_
    refine j_idiv dX5_number_10 (by decide) ?_
    refine jm_callv (As := [.int (x1 / (iI 10))]) (rest := []) kX5_number rfl q2477 rfl rfl (Nat.le_of_ble_eq_true rfl) rfl dX5_number_11 (Nat.succ_le_succ (Nat.zero_le _)) (h.mono (onV_mono (fun t1 h => ?_) (fun _ _ h => h)))
    exact h
theorem tX5_number_14 {P : MPl} {s0 : State} {l : Launch} {X : Prop} {lev : Nat} {st0 : MSt} {Q : Outcome → MSt → Prop} {x1 : Int32} {st : MSt} (h : (CQ (wM P s0 l X) mX5_put lev (.ref P.mo :: [.int ((iI 48) + (x1 - x1 / (iI 10) * (iI 10)))]) st (onV (fun t1 => Q (.returned none) t1) (fun x t => Q (.threw x) t)))) : jX5_number_14 P s0 l X lev st0 Q x1 st := by
  refine j_aload_n (r := some P.mo) dX5_number_14 rfl ?_
  refine j_bipush (v := iI 48) dX5_number_15 rfl ?_
  refine j_iload_n dX5_number_17 rfl ?_
  refine j_bipush (v := iI 10) dX5_number_18 rfl ?_
  refine j_irem dX5_number_20 (by decide) ?_
  refine j_iadd dX5_number_21 ?_
  refine jm_callv (As := [.int ((iI 48) + (x1 - x1 / (iI 10) * (iI 10)))]) (rest := []) kX5_put rfl q2465 rfl rfl (Nat.le_of_ble_eq_true rfl) rfl dX5_number_22 (Nat.succ_le_succ (Nat.zero_le _)) (h.mono (onV_mono (fun t1 h => ?_) (fun _ _ h => h)))
  exact j_return rfl dX5_number_25 h
abbrev jX5_putWord_3 (P : MPl) (s0 : State) (l : Launch) (X : Prop) (lev : Nat) (st0 : MSt) (Q : Outcome → MSt → Prop) (k2 : Nat) (x1 x3 x4 : Int32) (st : MSt) : Prop := JQ (wM P s0 l X) mX5_putWord (lev + 1) st0 3 [some (va_rf (some P.mo)), some (.int x1), some (va_rf (some (P.ad k2))), some (.int x3), some (.int x4)] [] st Q
theorem tX5_putWord {P : MPl} {s0 : State} {l : Launch} {X : Prop} {lev : Nat} {Q : Outcome → MSt → Prop} {k2 : Nat} {x1 x3 : Int32} {st : MSt} (hk2 : mK k2 = 1) (h : jX5_putWord_3 P s0 l X lev st Q k2 x1 x3 (iI 0) st) : CQ (wM P s0 l X) mX5_putWord (lev + 1) [.ref P.mo, .int x1, .ref (P.ad k2), .int x3] st Q := by
  refine CQ.of2 1 (lv := [some (va_rf (some P.mo)), some (.int x1), some (va_rf (some (P.ad k2))), some (.int x3), none]) (by decide) (Nat.le_of_ble_eq_true rfl) rfl rfl ?_
  refine j_iconst (v := iI 0) dX5_putWord_0 rfl ?_
  refine j_istore (lv' := [some (va_rf (some P.mo)), some (.int x1), some (va_rf (some (P.ad k2))), some (.int x3), some (.int (iI 0))]) dX5_putWord_1 (by decide) rfl ?_
  exact h
theorem tX5_putWord_3 {P : MPl} {s0 : State} {l : Launch} {X : Prop} {lev : Nat} {st0 : MSt} {Q : Outcome → MSt → Prop} {k2 : Nat} {x1 x3 x4 : Int32} {st : MSt} (hk2 : mK k2 = 1) (h : ((x3 ≤ x4 → Q (.returned none) st) ∧ (¬ x3 ≤ x4 → (inr (x1 + x4) (mL k2) ∧ (CQ (wM P s0 l X) mX5_put lev (.ref P.mo :: [.int (aI st k2 (x1 + x4))]) st (onV (fun t1 => jX5_putWord_3 P s0 l X lev st0 Q k2 x1 x3 (x4 + iI 1) t1) (fun x t => Q (.threw x) t))))))) : jX5_putWord_3 P s0 l X lev st0 Q k2 x1 x3 x4 st := by
  refine j_iload dX5_putWord_3 rfl ?_
  refine j_iload_n dX5_putWord_5 rfl ?_
  refine j_icmp_ge 25 dX5_putWord_6 (by decide) (fun c3 => ?_) (fun c3 => ?_)
  · replace h := h.1 c3
    exact j_return rfl dX5_putWord_25 h
  · replace h := h.2 c3
    refine j_aload_n (r := some P.mo) dX5_putWord_9 rfl ?_
    refine j_aload_n (r := some (P.ad k2)) dX5_putWord_10 rfl ?_
    refine j_iload_n dX5_putWord_11 rfl ?_
    refine j_iload dX5_putWord_12 rfl ?_
    refine j_iadd dX5_putWord_14 ?_
    refine jm_ald (v := aI st k2 (x1 + x4)) hk2 h.1 rfl rfl dX5_putWord_15 ?_
    replace h := h.2
    refine jm_callv (As := [.int (aI st k2 (x1 + x4))]) (rest := []) kX5_put rfl q2465 rfl rfl (Nat.le_of_ble_eq_true rfl) rfl dX5_putWord_16 (Nat.succ_le_succ (Nat.zero_le _)) (h.mono (onV_mono (fun t1 h => ?_) (fun _ _ h => h)))
    refine j_iinc (lv' := [some (va_rf (some P.mo)), some (.int x1), some (va_rf (some (P.ad k2))), some (.int x3), some (.int (x4 + iI 1))]) dX5_putWord_19 rfl (by decide) rfl ?_
    refine j_goto 3 dX5_putWord_22 (by decide) ?_
    exact h
abbrev jX5_tellHead_130 (P : MPl) (s0 : State) (l : Launch) (X : Prop) (lev : Nat) (st0 : MSt) (Q : Outcome → MSt → Prop) (x1 : Int32) (st : MSt) : Prop := JQ (wM P s0 l X) mX5_tellHead (lev + 1) st0 130 [some (va_rf (some P.mo)), some (.int x1)] [] st Q
theorem tX5_tellHead {P : MPl} {s0 : State} {l : Launch} {X : Prop} {lev : Nat} {Q : Outcome → MSt → Prop} {st : MSt} (h : (CQ (wM P s0 l X) mX5_head lev (.ref P.mo :: [.int (fI st 78), .int (iI 0)]) st (onV (fun t1 => (((fI t1 72) = 0 → (CQ (wM P s0 l X) mX5_kindOf lev (.ref P.mo :: [.int (fI t1 52)]) t1 (onI (fun r4 t3 => ((r4 = (iI 4) → (CQ (wM P s0 l X) mX5_put lev (.ref P.mo :: [.int (iI 92)]) t3 (onV (fun t13 => jX5_tellHead_130 P s0 l X lev st Q r4 t13) (fun x t => Q (.threw x) t)))) ∧ (¬ r4 = (iI 4) → ((r4 = (iI 5) → (CQ (wM P s0 l X) mX5_put lev (.ref P.mo :: [.int (iI 33)]) t3 (onV (fun t10 => jX5_tellHead_130 P s0 l X lev st Q r4 t10) (fun x t => Q (.threw x) t)))) ∧ (¬ r4 = (iI 5) → ((r4 = (iI 3) → (inr (fI t3 52) 140000 ∧ (inr (fI t3 52) 140000 ∧ (inr (aI t3 31 (fI t3 52)) 8 ∧ (CQ (wM P s0 l X) mX5_putWord lev (.ref P.mo :: [.int ((iI 12) * (aI t3 31 (fI t3 52))), va_rf (some (P.ad 16)), .int (aI t3 17 (aI t3 31 (fI t3 52)))]) t3 (onV (fun t7 => jX5_tellHead_130 P s0 l X lev st Q r4 t7) (fun x t => Q (.threw x) t))))))) ∧ (¬ r4 = (iI 3) → (inr (fI t3 52) 140000 ∧ (inr (fI t3 52) 140000 ∧ (inr (aI t3 31 (fI t3 52)) 100 ∧ (CQ (wM P s0 l X) mX5_putWord lev (.ref P.mo :: [.int ((iI 12) * (aI t3 31 (fI t3 52))), va_rf (some (P.ad 21)), .int (aI t3 22 (aI t3 31 (fI t3 52)))]) t3 (onV (fun t5 => jX5_tellHead_130 P s0 l X lev st Q r4 t5) (fun x t => Q (.threw x) t))))))))))))) (fun x t => Q (.threw x) t)))) ∧ (¬ (fI t1 72) = 0 → Q (.returned none) t1))) (fun x t => Q (.threw x) t)))) : CQ (wM P s0 l X) mX5_tellHead (lev + 1) [.ref P.mo] st Q := by
  refine CQ.of2 1 (lv := [some (va_rf (some P.mo)), none]) (by decide) (Nat.le_of_ble_eq_true rfl) rfl rfl ?_
  refine j_aload_n (r := some P.mo) dX5_tellHead_0 rfl ?_
  refine j_aload_n (r := some P.mo) dX5_tellHead_1 rfl ?_
  refine jm_get (v := fI st 78) fM_78 rfl rfl dX5_tellHead_2 ?_
  refine j_iconst (v := iI 0) dX5_tellHead_5 rfl ?_
  refine jm_callv (As := [.int (fI st 78), .int (iI 0)]) (rest := []) kX5_head rfl q2404 rfl rfl (Nat.le_of_ble_eq_true rfl) rfl dX5_tellHead_6 (Nat.succ_le_succ (Nat.zero_le _)) (h.mono (onV_mono (fun t1 h => ?_) (fun _ _ h => h)))
  refine j_aload_n (r := some P.mo) dX5_tellHead_9 rfl ?_
  refine jm_get (v := fI t1 72) fM_72 rfl rfl dX5_tellHead_10 ?_
  refine j_if_eq 17 dX5_tellHead_13 (by decide) (fun c16 => ?_) (fun c16 => ?_)
  · replace h := h.1 c16
    refine j_aload_n (r := some P.mo) dX5_tellHead_17 rfl ?_
    refine j_aload_n (r := some P.mo) dX5_tellHead_18 rfl ?_
    refine jm_get (v := fI t1 52) fM_52 rfl rfl dX5_tellHead_19 ?_
    refine jm_calli (As := [.int (fI t1 52)]) (rest := []) kX5_kindOf rfl q2416 rfl rfl (Nat.le_of_ble_eq_true rfl) rfl dX5_tellHead_22 (Nat.succ_le_succ (Nat.zero_le _)) (h.mono (onI_mono (fun r4 t3 h => ?_) (fun _ _ h => h)))
    refine j_istore_n (lv' := [some (va_rf (some P.mo)), some (.int r4)]) dX5_tellHead_25 (by decide) rfl ?_
    refine j_iload_n dX5_tellHead_26 rfl ?_
    refine j_iconst (v := iI 4) dX5_tellHead_27 rfl ?_
    refine j_icmp_ne 40 dX5_tellHead_28 (by decide) (fun c15 => ?_) (fun c15 => ?_)
    · replace h := h.2 c15
      refine j_iload_n dX5_tellHead_40 rfl ?_
      refine j_iconst (v := iI 5) dX5_tellHead_41 rfl ?_
      refine j_icmp_ne 54 dX5_tellHead_42 (by decide) (fun c12 => ?_) (fun c12 => ?_)
      · replace h := h.2 c12
        refine j_iload_n dX5_tellHead_54 rfl ?_
        refine j_iconst (v := iI 3) dX5_tellHead_55 rfl ?_
        refine j_icmp_ne 96 dX5_tellHead_56 (by decide) (fun c9 => ?_) (fun c9 => ?_)
        · replace h := h.2 c9
          refine j_aload_n (r := some P.mo) dX5_tellHead_96 rfl ?_
          refine j_bipush (v := iI 12) dX5_tellHead_97 rfl ?_
          refine j_aload_n (r := some P.mo) dX5_tellHead_99 rfl ?_
          refine jm_geta fM_31 rfl dX5_tellHead_100 ?_
          refine j_aload_n (r := some P.mo) dX5_tellHead_103 rfl ?_
          refine jm_get (v := fI t3 52) fM_52 rfl rfl dX5_tellHead_104 ?_
          refine jm_ald (v := aI t3 31 (fI t3 52)) rfl h.1 rfl rfl dX5_tellHead_107 ?_
          replace h := h.2
          refine j_imul dX5_tellHead_108 ?_
          refine j_aload_n (r := some P.mo) dX5_tellHead_109 rfl ?_
          refine jm_geta fM_21 rfl dX5_tellHead_110 ?_
          refine j_aload_n (r := some P.mo) dX5_tellHead_113 rfl ?_
          refine jm_geta fM_22 rfl dX5_tellHead_114 ?_
          refine j_aload_n (r := some P.mo) dX5_tellHead_117 rfl ?_
          refine jm_geta fM_31 rfl dX5_tellHead_118 ?_
          refine j_aload_n (r := some P.mo) dX5_tellHead_121 rfl ?_
          refine jm_get (v := fI t3 52) fM_52 rfl rfl dX5_tellHead_122 ?_
          refine jm_ald (v := aI t3 31 (fI t3 52)) rfl h.1 rfl rfl dX5_tellHead_125 ?_
          replace h := h.2
          refine jm_ald (v := aI t3 22 (aI t3 31 (fI t3 52))) rfl h.1 rfl rfl dX5_tellHead_126 ?_
          replace h := h.2
          refine jm_callv (As := [.int ((iI 12) * (aI t3 31 (fI t3 52))), va_rf (some (P.ad 21)), .int (aI t3 22 (aI t3 31 (fI t3 52)))]) (rest := []) kX5_putWord rfl q2482 rfl rfl (Nat.le_of_ble_eq_true rfl) rfl dX5_tellHead_127 (Nat.succ_le_succ (Nat.zero_le _)) (h.mono (onV_mono (fun t5 h => ?_) (fun _ _ h => h)))
          exact h
        · replace h := h.1 c9
          refine j_aload_n (r := some P.mo) dX5_tellHead_59 rfl ?_
          refine j_bipush (v := iI 12) dX5_tellHead_60 rfl ?_
          refine j_aload_n (r := some P.mo) dX5_tellHead_62 rfl ?_
          refine jm_geta fM_31 rfl dX5_tellHead_63 ?_
          refine j_aload_n (r := some P.mo) dX5_tellHead_66 rfl ?_
          refine jm_get (v := fI t3 52) fM_52 rfl rfl dX5_tellHead_67 ?_
          refine jm_ald (v := aI t3 31 (fI t3 52)) rfl h.1 rfl rfl dX5_tellHead_70 ?_
          replace h := h.2
          refine j_imul dX5_tellHead_71 ?_
          refine j_aload_n (r := some P.mo) dX5_tellHead_72 rfl ?_
          refine jm_geta fM_16 rfl dX5_tellHead_73 ?_
          refine j_aload_n (r := some P.mo) dX5_tellHead_76 rfl ?_
          refine jm_geta fM_17 rfl dX5_tellHead_77 ?_
          refine j_aload_n (r := some P.mo) dX5_tellHead_80 rfl ?_
          refine jm_geta fM_31 rfl dX5_tellHead_81 ?_
          refine j_aload_n (r := some P.mo) dX5_tellHead_84 rfl ?_
          refine jm_get (v := fI t3 52) fM_52 rfl rfl dX5_tellHead_85 ?_
          refine jm_ald (v := aI t3 31 (fI t3 52)) rfl h.1 rfl rfl dX5_tellHead_88 ?_
          replace h := h.2
          refine jm_ald (v := aI t3 17 (aI t3 31 (fI t3 52))) rfl h.1 rfl rfl dX5_tellHead_89 ?_
          replace h := h.2
          refine jm_callv (As := [.int ((iI 12) * (aI t3 31 (fI t3 52))), va_rf (some (P.ad 16)), .int (aI t3 17 (aI t3 31 (fI t3 52)))]) (rest := []) kX5_putWord rfl q2482 rfl rfl (Nat.le_of_ble_eq_true rfl) rfl dX5_tellHead_90 (Nat.succ_le_succ (Nat.zero_le _)) (h.mono (onV_mono (fun t7 h => ?_) (fun _ _ h => h)))
          refine j_goto 130 dX5_tellHead_93 (by decide) ?_
          exact h
      · replace h := h.1 c12
        refine j_aload_n (r := some P.mo) dX5_tellHead_45 rfl ?_
        refine j_bipush (v := iI 33) dX5_tellHead_46 rfl ?_
        refine jm_callv (As := [.int (iI 33)]) (rest := []) kX5_put rfl q2465 rfl rfl (Nat.le_of_ble_eq_true rfl) rfl dX5_tellHead_48 (Nat.succ_le_succ (Nat.zero_le _)) (h.mono (onV_mono (fun t10 h => ?_) (fun _ _ h => h)))
        refine j_goto 130 dX5_tellHead_51 (by decide) ?_
        exact h
    · replace h := h.1 c15
      refine j_aload_n (r := some P.mo) dX5_tellHead_31 rfl ?_
      refine j_bipush (v := iI 92) dX5_tellHead_32 rfl ?_
      refine jm_callv (As := [.int (iI 92)]) (rest := []) kX5_put rfl q2465 rfl rfl (Nat.le_of_ble_eq_true rfl) rfl dX5_tellHead_34 (Nat.succ_le_succ (Nat.zero_le _)) (h.mono (onV_mono (fun t13 h => ?_) (fun _ _ h => h)))
      refine j_goto 130 dX5_tellHead_37 (by decide) ?_
      exact h
  · replace h := h.2 c16
    exact j_return rfl dX5_tellHead_16 h
theorem tX5_tellHead_130 {P : MPl} {s0 : State} {l : Launch} {X : Prop} {lev : Nat} {st0 : MSt} {Q : Outcome → MSt → Prop} {x1 : Int32} {st : MSt} (h : (CQ (wM P s0 l X) mX5_put lev (.ref P.mo :: [.int (iI 32)]) st (onV (fun t1 => (CQ (wM P s0 l X) mX5_number lev (.ref P.mo :: [.int (fI t1 51)]) t1 (onV (fun t3 => (CQ (wM P s0 l X) mX5_put lev (.ref P.mo :: [.int (iI 10)]) t3 (onV (fun t5 => Q (.returned none) t5) (fun x t => Q (.threw x) t)))) (fun x t => Q (.threw x) t)))) (fun x t => Q (.threw x) t)))) : jX5_tellHead_130 P s0 l X lev st0 Q x1 st := by
  refine j_aload_n (r := some P.mo) dX5_tellHead_130 rfl ?_
  refine j_bipush (v := iI 32) dX5_tellHead_131 rfl ?_
  refine jm_callv (As := [.int (iI 32)]) (rest := []) kX5_put rfl q2465 rfl rfl (Nat.le_of_ble_eq_true rfl) rfl dX5_tellHead_133 (Nat.succ_le_succ (Nat.zero_le _)) (h.mono (onV_mono (fun t1 h => ?_) (fun _ _ h => h)))
  refine j_aload_n (r := some P.mo) dX5_tellHead_136 rfl ?_
  refine j_aload_n (r := some P.mo) dX5_tellHead_137 rfl ?_
  refine jm_get (v := fI t1 51) fM_51 rfl rfl dX5_tellHead_138 ?_
  refine jm_callv (As := [.int (fI t1 51)]) (rest := []) kX5_number rfl q2477 rfl rfl (Nat.le_of_ble_eq_true rfl) rfl dX5_tellHead_141 (Nat.succ_le_succ (Nat.zero_le _)) (h.mono (onV_mono (fun t3 h => ?_) (fun _ _ h => h)))
  refine j_aload_n (r := some P.mo) dX5_tellHead_144 rfl ?_
  refine j_bipush (v := iI 10) dX5_tellHead_145 rfl ?_
  refine jm_callv (As := [.int (iI 10)]) (rest := []) kX5_put rfl q2465 rfl rfl (Nat.le_of_ble_eq_true rfl) rfl dX5_tellHead_147 (Nat.succ_le_succ (Nat.zero_le _)) (h.mono (onV_mono (fun t5 h => ?_) (fun _ _ h => h)))
  exact j_return rfl dX5_tellHead_150 h
abbrev jX5_told_22 (P : MPl) (s0 : State) (l : Launch) (X : Prop) (lev : Nat) (st0 : MSt) (Q : Outcome → MSt → Prop) (st : MSt) : Prop := JQ (wM P s0 l X) mX5_told (lev + 1) st0 22 [some (va_rf (some P.mo)), none, none, none] [] st Q
abbrev jX5_told_62 (P : MPl) (s0 : State) (l : Launch) (X : Prop) (lev : Nat) (st0 : MSt) (Q : Outcome → MSt → Prop) (st : MSt) : Prop := JQ (wM P s0 l X) mX5_told (lev + 1) st0 62 [some (va_rf (some P.mo)), none, none, none] [] st Q
abbrev jX5_told_108 (P : MPl) (s0 : State) (l : Launch) (X : Prop) (lev : Nat) (st0 : MSt) (Q : Outcome → MSt → Prop) (x1 x2 : Int32) (st : MSt) : Prop := JQ (wM P s0 l X) mX5_told (lev + 1) st0 108 [some (va_rf (some P.mo)), some (.int x1), some (.int x2), none] [] st Q
abbrev jX5_told_175 (P : MPl) (s0 : State) (l : Launch) (X : Prop) (lev : Nat) (st0 : MSt) (Q : Outcome → MSt → Prop) (x1 x2 : Int32) (st : MSt) : Prop := JQ (wM P s0 l X) mX5_told (lev + 1) st0 175 [some (va_rf (some P.mo)), some (.int x1), some (.int x2), none] [] st Q
abbrev jX5_told_196 (P : MPl) (s0 : State) (l : Launch) (X : Prop) (lev : Nat) (st0 : MSt) (Q : Outcome → MSt → Prop) (x1 x2 : Int32) (st : MSt) : Prop := JQ (wM P s0 l X) mX5_told (lev + 1) st0 196 [some (va_rf (some P.mo)), some (.int x1), some (.int x2), none] [] st Q
abbrev jX5_told_198 (P : MPl) (s0 : State) (l : Launch) (X : Prop) (lev : Nat) (st0 : MSt) (Q : Outcome → MSt → Prop) (x1 x2 x3 : Int32) (st : MSt) : Prop := JQ (wM P s0 l X) mX5_told (lev + 1) st0 198 [some (va_rf (some P.mo)), some (.int x1), some (.int x2), some (.int x3)] [] st Q
theorem tX5_told {P : MPl} {s0 : State} {l : Launch} {X : Prop} {lev : Nat} {Q : Outcome → MSt → Prop} {st : MSt} (h : (CQ (wM P s0 l X) mX5_knownOf lev (.ref P.mo :: [.int (fI st 80)]) st (onI (fun r2 t1 => ((0 ≤ r2 → jX5_told_22 P s0 l X lev st Q t1) ∧ (¬ 0 ≤ r2 → (CQ (wM P s0 l X) mX5_sortOf lev (.ref P.mo :: [.int (fI t1 80)]) t1 (onI (fun r4 t3 => ((r4 < 0 → (((fI t3 27) = (iI 100) → (inr (fI t3 80) 140000 ∧ (CQ (wM P s0 l X) mX5_wrong lev (.ref P.mo :: [.int (iI 5), .int (aI t3 31 (fI t3 80))]) t3 (onV (fun t5 => jX5_told_62 P s0 l X lev st Q t5) (fun x t => Q (.threw x) t))))) ∧ (¬ (fI t3 27) = (iI 100) → jX5_told_62 P s0 l X lev st Q t3))) ∧ (¬ r4 < 0 → jX5_told_22 P s0 l X lev st Q t3))) (fun x t => Q (.threw x) t)))))) (fun x t => Q (.threw x) t)))) : CQ (wM P s0 l X) mX5_told (lev + 1) [.ref P.mo] st Q := by
  refine CQ.of2 3 (lv := [some (va_rf (some P.mo)), none, none, none]) (by decide) (Nat.le_of_ble_eq_true rfl) rfl rfl ?_
  refine j_aload_n (r := some P.mo) dX5_told_0 rfl ?_
  refine j_aload_n (r := some P.mo) dX5_told_1 rfl ?_
  refine jm_get (v := fI st 80) fM_80 rfl rfl dX5_told_2 ?_
  refine jm_calli (As := [.int (fI st 80)]) (rest := []) kX5_knownOf rfl q2457 rfl rfl (Nat.le_of_ble_eq_true rfl) rfl dX5_told_5 (Nat.succ_le_succ (Nat.zero_le _)) (h.mono (onI_mono (fun r2 t1 h => ?_) (fun _ _ h => h)))
  refine j_if_ge 22 dX5_told_8 (by decide) (fun c9 => ?_) (fun c9 => ?_)
  · replace h := h.1 c9
    exact h
  · replace h := h.2 c9
    refine j_aload_n (r := some P.mo) dX5_told_11 rfl ?_
    refine j_aload_n (r := some P.mo) dX5_told_12 rfl ?_
    refine jm_get (v := fI t1 80) fM_80 rfl rfl dX5_told_13 ?_
    refine jm_calli (As := [.int (fI t1 80)]) (rest := []) kX5_sortOf rfl q2371 rfl rfl (Nat.le_of_ble_eq_true rfl) rfl dX5_told_16 (Nat.succ_le_succ (Nat.zero_le _)) (h.mono (onI_mono (fun r4 t3 h => ?_) (fun _ _ h => h)))
    refine j_if_lt 39 dX5_told_19 (by decide) (fun c8 => ?_) (fun c8 => ?_)
    · replace h := h.1 c8
      refine j_aload_n (r := some P.mo) dX5_told_39 rfl ?_
      refine jm_get (v := fI t3 27) fM_27 rfl rfl dX5_told_40 ?_
      refine j_bipush (v := iI 100) dX5_told_43 rfl ?_
      refine j_icmp_ne 62 dX5_told_45 (by decide) (fun c7 => ?_) (fun c7 => ?_)
      · replace h := h.2 c7
        exact h
      · replace h := h.1 c7
        refine j_aload_n (r := some P.mo) dX5_told_48 rfl ?_
        refine j_iconst (v := iI 5) dX5_told_49 rfl ?_
        refine j_aload_n (r := some P.mo) dX5_told_50 rfl ?_
        refine jm_geta fM_31 rfl dX5_told_51 ?_
        refine j_aload_n (r := some P.mo) dX5_told_54 rfl ?_
        refine jm_get (v := fI t3 80) fM_80 rfl rfl dX5_told_55 ?_
        refine jm_ald (v := aI t3 31 (fI t3 80)) rfl h.1 rfl rfl dX5_told_58 ?_
        replace h := h.2
        refine jm_callv (As := [.int (iI 5), .int (aI t3 31 (fI t3 80))]) (rest := []) kX5_wrong rfl q2295 rfl rfl (Nat.le_of_ble_eq_true rfl) rfl dX5_told_59 (Nat.succ_le_succ (Nat.zero_le _)) (h.mono (onV_mono (fun t5 h => ?_) (fun _ _ h => h)))
        exact h
    · replace h := h.2 c8
      exact h
theorem tX5_told_22 {P : MPl} {s0 : State} {l : Launch} {X : Prop} {lev : Nat} {st0 : MSt} {Q : Outcome → MSt → Prop} {st : MSt} (h : (inr (fI st 80) 140000 ∧ (CQ (wM P s0 l X) mX5_wrong lev (.ref P.mo :: [.int (iI 4), .int (aI st 31 (fI st 80))]) st (onV (fun t1 => jX5_told_62 P s0 l X lev st0 Q t1) (fun x t => Q (.threw x) t))))) : jX5_told_22 P s0 l X lev st0 Q st := by
  refine j_aload_n (r := some P.mo) dX5_told_22 rfl ?_
  refine j_iconst (v := iI 4) dX5_told_23 rfl ?_
  refine j_aload_n (r := some P.mo) dX5_told_24 rfl ?_
  refine jm_geta fM_31 rfl dX5_told_25 ?_
  refine j_aload_n (r := some P.mo) dX5_told_28 rfl ?_
  refine jm_get (v := fI st 80) fM_80 rfl rfl dX5_told_29 ?_
  refine jm_ald (v := aI st 31 (fI st 80)) rfl h.1 rfl rfl dX5_told_32 ?_
  replace h := h.2
  refine jm_callv (As := [.int (iI 4), .int (aI st 31 (fI st 80))]) (rest := []) kX5_wrong rfl q2295 rfl rfl (Nat.le_of_ble_eq_true rfl) rfl dX5_told_33 (Nat.succ_le_succ (Nat.zero_le _)) (h.mono (onV_mono (fun t1 h => ?_) (fun _ _ h => h)))
  refine j_goto 62 dX5_told_36 (by decide) ?_
  exact h
theorem tX5_told_62 {P : MPl} {s0 : State} {l : Launch} {X : Prop} {lev : Nat} {st0 : MSt} {Q : Outcome → MSt → Prop} {st : MSt} (h : (((fI st 72) = 0 → (((fI st 79) < 0 → jX5_told_108 P s0 l X lev st0 Q (iI 0) (iI 0) st) ∧ (¬ (fI st 79) < 0 → (CQ (wM P s0 l X) mX5_judgeSort lev (.ref P.mo :: [.int (fI st 79), .int (iI 0)]) st (onI (fun r2 t1 => (((fI t1 72) = 0 → (CQ (wM P s0 l X) mX5_normal lev (.ref P.mo :: [.int (fI t1 79), .int (iI 0), .int (iI 0)]) t1 (onI (fun r4 t3 => jX5_told_108 P s0 l X lev st0 Q r2 r4 t3) (fun x t => Q (.threw x) t)))) ∧ (¬ (fI t1 72) = 0 → jX5_told_108 P s0 l X lev st0 Q r2 (iI 0) t1))) (fun x t => Q (.threw x) t)))))) ∧ (¬ (fI st 72) = 0 → jX5_told_108 P s0 l X lev st0 Q (iI 0) (iI 0) st))) : jX5_told_62 P s0 l X lev st0 Q st := by
  refine j_iconst (v := iI 0) dX5_told_62 rfl ?_
  refine j_istore_n (lv' := [some (va_rf (some P.mo)), some (.int (iI 0)), none, none]) dX5_told_63 (by decide) rfl ?_
  refine j_iconst (v := iI 0) dX5_told_64 rfl ?_
  refine j_istore_n (lv' := [some (va_rf (some P.mo)), some (.int (iI 0)), some (.int (iI 0)), none]) dX5_told_65 (by decide) rfl ?_
  refine j_aload_n (r := some P.mo) dX5_told_66 rfl ?_
  refine jm_get (v := fI st 72) fM_72 rfl rfl dX5_told_67 ?_
  refine j_if_ne 108 dX5_told_70 (by decide) (fun c7 => ?_) (fun c7 => ?_)
  · replace h := h.2 c7
    exact h
  · replace h := h.1 c7
    refine j_aload_n (r := some P.mo) dX5_told_73 rfl ?_
    refine jm_get (v := fI st 79) fM_79 rfl rfl dX5_told_74 ?_
    refine j_if_lt 108 dX5_told_77 (by decide) (fun c6 => ?_) (fun c6 => ?_)
    · replace h := h.1 c6
      exact h
    · replace h := h.2 c6
      refine j_aload_n (r := some P.mo) dX5_told_80 rfl ?_
      refine j_aload_n (r := some P.mo) dX5_told_81 rfl ?_
      refine jm_get (v := fI st 79) fM_79 rfl rfl dX5_told_82 ?_
      refine j_iconst (v := iI 0) dX5_told_85 rfl ?_
      refine jm_calli (As := [.int (fI st 79), .int (iI 0)]) (rest := []) kX5_judgeSort rfl q2379 rfl rfl (Nat.le_of_ble_eq_true rfl) rfl dX5_told_86 (Nat.succ_le_succ (Nat.zero_le _)) (h.mono (onI_mono (fun r2 t1 h => ?_) (fun _ _ h => h)))
      refine j_istore_n (lv' := [some (va_rf (some P.mo)), some (.int r2), some (.int (iI 0)), none]) dX5_told_89 (by decide) rfl ?_
      refine j_aload_n (r := some P.mo) dX5_told_90 rfl ?_
      refine jm_get (v := fI t1 72) fM_72 rfl rfl dX5_told_91 ?_
      refine j_if_ne 108 dX5_told_94 (by decide) (fun c5 => ?_) (fun c5 => ?_)
      · replace h := h.2 c5
        exact h
      · replace h := h.1 c5
        refine j_aload_n (r := some P.mo) dX5_told_97 rfl ?_
        refine j_aload_n (r := some P.mo) dX5_told_98 rfl ?_
        refine jm_get (v := fI t1 79) fM_79 rfl rfl dX5_told_99 ?_
        refine j_iconst (v := iI 0) dX5_told_102 rfl ?_
        refine j_iconst (v := iI 0) dX5_told_103 rfl ?_
        refine jm_calli (As := [.int (fI t1 79), .int (iI 0), .int (iI 0)]) (rest := []) kX5_normal rfl q2391 rfl rfl (Nat.le_of_ble_eq_true rfl) rfl dX5_told_104 (Nat.succ_le_succ (Nat.zero_le _)) (h.mono (onI_mono (fun r4 t3 h => ?_) (fun _ _ h => h)))
        refine j_istore_n (lv' := [some (va_rf (some P.mo)), some (.int r2), some (.int r4), none]) dX5_told_107 (by decide) rfl ?_
        exact h
theorem tX5_told_108 {P : MPl} {s0 : State} {l : Launch} {X : Prop} {lev : Nat} {st0 : MSt} {Q : Outcome → MSt → Prop} {x1 x2 : Int32} {st : MSt} (h : (((fI st 72) = 0 → (((fI st 78) < 0 → jX5_told_175 P s0 l X lev st0 Q x1 x2 st) ∧ (¬ (fI st 78) < 0 → (CQ (wM P s0 l X) mX5_judge lev (.ref P.mo :: [.int (fI st 78), .int (iI 0)]) st (onV (fun t1 => (((fI t1 72) = 0 → (((fI t1 79) < 0 → jX5_told_175 P s0 l X lev st0 Q x1 x2 t1) ∧ (¬ (fI t1 79) < 0 → (CQ (wM P s0 l X) mX5_compare lev (.ref P.mo :: [.int x2, .int (iI 0), .int (fI t1 60), .int (iI 0), .int (iI 0)]) t1 (onI (fun r4 t3 => ((r4 = 0 → (inr (fI t3 78) 140000 ∧ (CQ (wM P s0 l X) mX5_wrong lev (.ref P.mo :: [.int (iI 11), .int (aI t3 34 (fI t3 78))]) t3 (onV (fun t5 => jX5_told_175 P s0 l X lev st0 Q x1 x2 t5) (fun x t => Q (.threw x) t))))) ∧ (¬ r4 = 0 → jX5_told_175 P s0 l X lev st0 Q x1 x2 t3))) (fun x t => Q (.threw x) t)))))) ∧ (¬ (fI t1 72) = 0 → jX5_told_175 P s0 l X lev st0 Q x1 x2 t1))) (fun x t => Q (.threw x) t)))))) ∧ (¬ (fI st 72) = 0 → jX5_told_175 P s0 l X lev st0 Q x1 x2 st))) : jX5_told_108 P s0 l X lev st0 Q x1 x2 st := by
  refine j_aload_n (r := some P.mo) dX5_told_108 rfl ?_
  refine jm_get (v := fI st 72) fM_72 rfl rfl dX5_told_109 ?_
  refine j_if_ne 175 dX5_told_112 (by decide) (fun c11 => ?_) (fun c11 => ?_)
  · replace h := h.2 c11
    exact h
  · replace h := h.1 c11
    refine j_aload_n (r := some P.mo) dX5_told_115 rfl ?_
    refine jm_get (v := fI st 78) fM_78 rfl rfl dX5_told_116 ?_
    refine j_if_lt 175 dX5_told_119 (by decide) (fun c10 => ?_) (fun c10 => ?_)
    · replace h := h.1 c10
      exact h
    · replace h := h.2 c10
      refine j_aload_n (r := some P.mo) dX5_told_122 rfl ?_
      refine j_aload_n (r := some P.mo) dX5_told_123 rfl ?_
      refine jm_get (v := fI st 78) fM_78 rfl rfl dX5_told_124 ?_
      refine j_iconst (v := iI 0) dX5_told_127 rfl ?_
      refine jm_callv (As := [.int (fI st 78), .int (iI 0)]) (rest := []) kX5_judge rfl q2383 rfl rfl (Nat.le_of_ble_eq_true rfl) rfl dX5_told_128 (Nat.succ_le_succ (Nat.zero_le _)) (h.mono (onV_mono (fun t1 h => ?_) (fun _ _ h => h)))
      refine j_aload_n (r := some P.mo) dX5_told_131 rfl ?_
      refine jm_get (v := fI t1 72) fM_72 rfl rfl dX5_told_132 ?_
      refine j_if_ne 175 dX5_told_135 (by decide) (fun c9 => ?_) (fun c9 => ?_)
      · replace h := h.2 c9
        exact h
      · replace h := h.1 c9
        refine j_aload_n (r := some P.mo) dX5_told_138 rfl ?_
        refine jm_get (v := fI t1 79) fM_79 rfl rfl dX5_told_139 ?_
        refine j_if_lt 175 dX5_told_142 (by decide) (fun c8 => ?_) (fun c8 => ?_)
        · replace h := h.1 c8
          exact h
        · replace h := h.2 c8
          refine j_aload_n (r := some P.mo) dX5_told_145 rfl ?_
          refine j_iload_n dX5_told_146 rfl ?_
          refine j_iconst (v := iI 0) dX5_told_147 rfl ?_
          refine j_aload_n (r := some P.mo) dX5_told_148 rfl ?_
          refine jm_get (v := fI t1 60) fM_60 rfl rfl dX5_told_149 ?_
          refine j_iconst (v := iI 0) dX5_told_152 rfl ?_
          refine j_iconst (v := iI 0) dX5_told_153 rfl ?_
          refine jm_calli (As := [.int x2, .int (iI 0), .int (fI t1 60), .int (iI 0), .int (iI 0)]) (rest := []) kX5_compare rfl q2444 rfl rfl (Nat.le_of_ble_eq_true rfl) rfl dX5_told_154 (Nat.succ_le_succ (Nat.zero_le _)) (h.mono (onI_mono (fun r4 t3 h => ?_) (fun _ _ h => h)))
          refine j_if_ne 175 dX5_told_157 (by decide) (fun c7 => ?_) (fun c7 => ?_)
          · replace h := h.2 c7
            exact h
          · replace h := h.1 c7
            refine j_aload_n (r := some P.mo) dX5_told_160 rfl ?_
            refine j_bipush (v := iI 11) dX5_told_161 rfl ?_
            refine j_aload_n (r := some P.mo) dX5_told_163 rfl ?_
            refine jm_geta fM_34 rfl dX5_told_164 ?_
            refine j_aload_n (r := some P.mo) dX5_told_167 rfl ?_
            refine jm_get (v := fI t3 78) fM_78 rfl rfl dX5_told_168 ?_
            refine jm_ald (v := aI t3 34 (fI t3 78)) rfl h.1 rfl rfl dX5_told_171 ?_
            replace h := h.2
            refine jm_callv (As := [.int (iI 11), .int (aI t3 34 (fI t3 78))]) (rest := []) kX5_wrong rfl q2295 rfl rfl (Nat.le_of_ble_eq_true rfl) rfl dX5_told_172 (Nat.succ_le_succ (Nat.zero_le _)) (h.mono (onV_mono (fun t5 h => ?_) (fun _ _ h => h)))
            exact h
theorem tX5_told_175 {P : MPl} {s0 : State} {l : Launch} {X : Prop} {lev : Nat} {st0 : MSt} {Q : Outcome → MSt → Prop} {x1 x2 : Int32} {st : MSt} (h : (((fI st 72) = 0 → (((fI st 79) < 0 → jX5_told_196 P s0 l X lev st0 Q x1 x2 st) ∧ (¬ (fI st 79) < 0 → (CQ (wM P s0 l X) mX5_becomes lev (.ref P.mo :: [.int x2, .int x1]) st (onV (fun t1 => jX5_told_196 P s0 l X lev st0 Q x1 x2 t1) (fun x t => Q (.threw x) t)))))) ∧ (¬ (fI st 72) = 0 → Q (.returned none) st))) : jX5_told_175 P s0 l X lev st0 Q x1 x2 st := by
  refine j_aload_n (r := some P.mo) dX5_told_175 rfl ?_
  refine jm_get (v := fI st 72) fM_72 rfl rfl dX5_told_176 ?_
  refine j_if_eq 183 dX5_told_179 (by decide) (fun c4 => ?_) (fun c4 => ?_)
  · replace h := h.1 c4
    refine j_aload_n (r := some P.mo) dX5_told_183 rfl ?_
    refine jm_get (v := fI st 79) fM_79 rfl rfl dX5_told_184 ?_
    refine j_if_lt 196 dX5_told_187 (by decide) (fun c3 => ?_) (fun c3 => ?_)
    · replace h := h.1 c3
      exact h
    · replace h := h.2 c3
      refine j_aload_n (r := some P.mo) dX5_told_190 rfl ?_
      refine j_iload_n dX5_told_191 rfl ?_
      refine j_iload_n dX5_told_192 rfl ?_
      refine jm_callv (As := [.int x2, .int x1]) (rest := []) kX5_becomes rfl q2428 rfl rfl (Nat.le_of_ble_eq_true rfl) rfl dX5_told_193 (Nat.succ_le_succ (Nat.zero_le _)) (h.mono (onV_mono (fun t1 h => ?_) (fun _ _ h => h)))
      exact h
  · replace h := h.2 c4
    exact j_return rfl dX5_told_182 h
theorem tX5_told_196 {P : MPl} {s0 : State} {l : Launch} {X : Prop} {lev : Nat} {st0 : MSt} {Q : Outcome → MSt → Prop} {x1 x2 : Int32} {st : MSt} (h : jX5_told_198 P s0 l X lev st0 Q x1 x2 (iI 0) st) : jX5_told_196 P s0 l X lev st0 Q x1 x2 st := by
  refine j_iconst (v := iI 0) dX5_told_196 rfl ?_
  refine j_istore_n (lv' := [some (va_rf (some P.mo)), some (.int x1), some (.int x2), some (.int (iI 0))]) dX5_told_197 (by decide) rfl ?_
  exact h
theorem tX5_told_198 {P : MPl} {s0 : State} {l : Launch} {X : Prop} {lev : Nat} {st0 : MSt} {Q : Outcome → MSt → Prop} {x1 x2 x3 : Int32} {st : MSt} (h : (inr (fI st 80) 140000 ∧ (((aI st 32 (fI st 80)) ≤ x3 → (inr (fI st 80) 140000 ∧ (inr (fI st 27) 100 ∧ (inr (fI st 27) 100 ∧ (inr (fI st 27) 100 ∧ (inr (fI st 27) 100 ∧ (inr (fI st 27) 100 ∧ Q (.returned none) (mput 62 (fI st 39) (mput 27 ((fI st 27) + (iI 1)) (mst 26 (fI st 27) (fI st 39) (mst 25 (fI st 27) (fI st 78) (mst 24 (fI st 27) (fI st 61) (mst 23 (fI st 27) (fI st 60) (mst 22 (fI st 27) (aI st 32 (fI st 80)) st)))))))))))))) ∧ (¬ (aI st 32 (fI st 80)) ≤ x3 → (inr (fI st 80) 140000 ∧ (inr ((aI st 31 (fI st 80)) + x3) 4000 ∧ (inr (((iI 12) * (fI st 27)) + x3) 1200 ∧ jX5_told_198 P s0 l X lev st0 Q x1 x2 (x3 + iI 1) (mst 21 (((iI 12) * (fI st 27)) + x3) (aI st 4 ((aI st 31 (fI st 80)) + x3)) st)))))))) : jX5_told_198 P s0 l X lev st0 Q x1 x2 x3 st := by
  refine j_iload_n dX5_told_198 rfl ?_
  refine j_aload_n (r := some P.mo) dX5_told_199 rfl ?_
  refine jm_geta fM_32 rfl dX5_told_200 ?_
  refine j_aload_n (r := some P.mo) dX5_told_203 rfl ?_
  refine jm_get (v := fI st 80) fM_80 rfl rfl dX5_told_204 ?_
  refine jm_ald (v := aI st 32 (fI st 80)) rfl h.1 rfl rfl dX5_told_207 ?_
  replace h := h.2
  refine j_icmp_ge 247 dX5_told_208 (by decide) (fun c1 => ?_) (fun c1 => ?_)
  · replace h := h.1 c1
    refine j_aload_n (r := some P.mo) dX5_told_247 rfl ?_
    refine jm_geta fM_22 rfl dX5_told_248 ?_
    refine j_aload_n (r := some P.mo) dX5_told_251 rfl ?_
    refine jm_get (v := fI st 27) fM_27 rfl rfl dX5_told_252 ?_
    refine j_aload_n (r := some P.mo) dX5_told_255 rfl ?_
    refine jm_geta fM_32 rfl dX5_told_256 ?_
    refine j_aload_n (r := some P.mo) dX5_told_259 rfl ?_
    refine jm_get (v := fI st 80) fM_80 rfl rfl dX5_told_260 ?_
    refine jm_ald (v := aI st 32 (fI st 80)) rfl h.1 rfl rfl dX5_told_263 ?_
    replace h := h.2
    refine jm_ast rfl h.1 rfl dX5_told_264 ?_
    replace h := h.2
    refine j_aload_n (r := some P.mo) dX5_told_265 rfl ?_
    refine jm_geta fM_23 rfl dX5_told_266 ?_
    refine j_aload_n (r := some P.mo) dX5_told_269 rfl ?_
    refine jm_get (v := fI st 27) fM_27 rfl rfl dX5_told_270 ?_
    refine j_aload_n (r := some P.mo) dX5_told_273 rfl ?_
    refine jm_get (v := fI st 60) fM_60 rfl rfl dX5_told_274 ?_
    refine jm_ast rfl h.1 rfl dX5_told_277 ?_
    replace h := h.2
    refine j_aload_n (r := some P.mo) dX5_told_278 rfl ?_
    refine jm_geta fM_24 rfl dX5_told_279 ?_
    refine j_aload_n (r := some P.mo) dX5_told_282 rfl ?_
    refine jm_get (v := fI st 27) fM_27 rfl rfl dX5_told_283 ?_
    refine j_aload_n (r := some P.mo) dX5_told_286 rfl ?_
    refine jm_get (v := fI st 61) fM_61 rfl rfl dX5_told_287 ?_
    refine jm_ast rfl h.1 rfl dX5_told_290 ?_
    replace h := h.2
    refine j_aload_n (r := some P.mo) dX5_told_291 rfl ?_
    refine jm_geta fM_25 rfl dX5_told_292 ?_
    refine j_aload_n (r := some P.mo) dX5_told_295 rfl ?_
    refine jm_get (v := fI st 27) fM_27 rfl rfl dX5_told_296 ?_
    refine j_aload_n (r := some P.mo) dX5_told_299 rfl ?_
    refine jm_get (v := fI st 78) fM_78 rfl rfl dX5_told_300 ?_
    refine jm_ast rfl h.1 rfl dX5_told_303 ?_
    replace h := h.2
    refine j_aload_n (r := some P.mo) dX5_told_304 rfl ?_
    refine jm_geta fM_26 rfl dX5_told_305 ?_
    refine j_aload_n (r := some P.mo) dX5_told_308 rfl ?_
    refine jm_get (v := fI st 27) fM_27 rfl rfl dX5_told_309 ?_
    refine j_aload_n (r := some P.mo) dX5_told_312 rfl ?_
    refine jm_get (v := fI st 39) fM_39 rfl rfl dX5_told_313 ?_
    refine jm_ast rfl h.1 rfl dX5_told_316 ?_
    replace h := h.2
    refine j_aload_n (r := some P.mo) dX5_told_317 rfl ?_
    refine j_dup dX5_told_318 rfl ?_
    refine jm_get (v := fI st 27) fM_27 rfl rfl dX5_told_319 ?_
    refine j_iconst (v := iI 1) dX5_told_322 rfl ?_
    refine j_iadd dX5_told_323 ?_
    refine jm_put fM_27 rfl dX5_told_324 ?_
    refine j_aload_n (r := some P.mo) dX5_told_327 rfl ?_
    refine j_aload_n (r := some P.mo) dX5_told_328 rfl ?_
    refine jm_get (v := fI st 39) fM_39 rfl rfl dX5_told_329 ?_
    refine jm_put fM_62 rfl dX5_told_332 ?_
    exact j_return rfl dX5_told_335 h
  · replace h := h.2 c1
    refine j_aload_n (r := some P.mo) dX5_told_211 rfl ?_
    refine jm_geta fM_21 rfl dX5_told_212 ?_
    refine j_bipush (v := iI 12) dX5_told_215 rfl ?_
    refine j_aload_n (r := some P.mo) dX5_told_217 rfl ?_
    refine jm_get (v := fI st 27) fM_27 rfl rfl dX5_told_218 ?_
    refine j_imul dX5_told_221 ?_
    refine j_iload_n dX5_told_222 rfl ?_
    refine j_iadd dX5_told_223 ?_
    refine j_aload_n (r := some P.mo) dX5_told_224 rfl ?_
    refine jm_geta fM_4 rfl dX5_told_225 ?_
    refine j_aload_n (r := some P.mo) dX5_told_228 rfl ?_
    refine jm_geta fM_31 rfl dX5_told_229 ?_
    refine j_aload_n (r := some P.mo) dX5_told_232 rfl ?_
    refine jm_get (v := fI st 80) fM_80 rfl rfl dX5_told_233 ?_
    refine jm_ald (v := aI st 31 (fI st 80)) rfl h.1 rfl rfl dX5_told_236 ?_
    replace h := h.2
    refine j_iload_n dX5_told_237 rfl ?_
    refine j_iadd dX5_told_238 ?_
    refine jm_ald (v := aI st 4 ((aI st 31 (fI st 80)) + x3)) rfl h.1 rfl rfl dX5_told_239 ?_
    replace h := h.2
    refine jm_ast rfl h.1 rfl dX5_told_240 ?_
    replace h := h.2
    refine j_iinc (lv' := [some (va_rf (some P.mo)), some (.int x1), some (.int x2), some (.int (x3 + iI 1))]) dX5_told_241 rfl (by decide) rfl ?_
    refine j_goto 198 dX5_told_244 (by decide) ?_
    exact h
theorem tX5_drop {P : MPl} {s0 : State} {l : Launch} {X : Prop} {lev : Nat} {Q : Outcome → MSt → Prop} {st : MSt} (h : Q (.returned none) (mput 39 (fI st 62) st)) : CQ (wM P s0 l X) mX5_drop (lev + 1) [.ref P.mo] st Q := by
  refine CQ.of2 0 (lv := [some (va_rf (some P.mo))]) (by decide) (Nat.le_of_ble_eq_true rfl) rfl rfl ?_
  refine j_aload_n (r := some P.mo) dX5_drop_0 rfl ?_
  refine j_aload_n (r := some P.mo) dX5_drop_1 rfl ?_
  refine jm_get (v := fI st 62) fM_62 rfl rfl dX5_drop_2 ?_
  refine jm_put fM_39 rfl dX5_drop_5 ?_
  exact j_return rfl dX5_drop_8 h
theorem tX5_fault {P : MPl} {s0 : State} {l : Launch} {X : Prop} {lev : Nat} {Q : Outcome → MSt → Prop} {x1 : Int32} {st : MSt} (h : ((x1 = iI 0 → Q (.returned (some (.int (fI st 12)))) (mput 1 (iI 0) st)) ∧ (x1 = iI 1 → Q (.returned (some (.int (fI st 13)))) (mput 1 (iI 0) st)) ∧ (x1 = iI 2 → Q (.returned (some (.int (fI st 14)))) (mput 1 (iI 0) st)) ∧ (tout x1 0 2 → (CQ (wM P s0 l X) mX5_fail lev (.ref P.mo :: [.int (iI 1)]) (mput 1 (iI 0) st) (onI (fun r2 t1 => Q (.returned (some (.int r2))) t1) (fun x t => Q (.threw x) t)))))) : CQ (wM P s0 l X) mX5_fault (lev + 1) [.ref P.mo, .int x1] st Q := by
  refine CQ.of2 0 (lv := [some (va_rf (some P.mo)), some (.int x1)]) (by decide) (Nat.le_of_ble_eq_true rfl) rfl rfl ?_
  refine j_aload_n (r := some P.mo) dX5_fault_0 rfl ?_
  refine j_iconst (v := iI 0) dX5_fault_1 rfl ?_
  refine jm_put fM_1 rfl dX5_fault_2 ?_
  refine j_iload_n dX5_fault_5 rfl ?_
  rcases tb_case 3 0 (x1) with ⟨c3, hc3, ec3⟩ | ec3
  · match c3, hc3, ec3 with
    | 0, _, ec3 =>
      have ec3 : x1 = iI 0 := ec3
      replace h := h.1 ec3
      refine j_tableIn 32 dX5_fault_6 (by rw [ec3]; decide) (by rw [ec3]; decide) (by rw [ec3]; rfl) (by decide) ?_
      refine j_aload_n (r := some P.mo) dX5_fault_32 rfl ?_
      refine jm_get (v := fI st 12) fM_12 rfl rfl dX5_fault_33 ?_
      exact j_ireturn (ty := .int) rfl rfl dX5_fault_36 h
    | 1, _, ec3 =>
      have ec3 : x1 = iI 1 := ec3
      replace h := h.2.1 ec3
      refine j_tableIn 37 dX5_fault_6 (by rw [ec3]; decide) (by rw [ec3]; decide) (by rw [ec3]; rfl) (by decide) ?_
      refine j_aload_n (r := some P.mo) dX5_fault_37 rfl ?_
      refine jm_get (v := fI st 13) fM_13 rfl rfl dX5_fault_38 ?_
      exact j_ireturn (ty := .int) rfl rfl dX5_fault_41 h
    | 2, _, ec3 =>
      have ec3 : x1 = iI 2 := ec3
      replace h := h.2.2.1 ec3
      refine j_tableIn 42 dX5_fault_6 (by rw [ec3]; decide) (by rw [ec3]; decide) (by rw [ec3]; rfl) (by decide) ?_
      refine j_aload_n (r := some P.mo) dX5_fault_42 rfl ?_
      refine jm_get (v := fI st 14) fM_14 rfl rfl dX5_fault_43 ?_
      exact j_ireturn (ty := .int) rfl rfl dX5_fault_46 h
    | q_ + 3, hq_, _ => exact absurd hq_ (by omega)
  · replace h := h.2.2.2 ec3
    refine j_tableOut 47 dX5_fault_6 ec3 (by decide) ?_
    refine j_aload_n (r := some P.mo) dX5_fault_47 rfl ?_
    refine j_iconst (v := iI 1) dX5_fault_48 rfl ?_
    refine jm_calli (As := [.int (iI 1)]) (rest := []) kX5_fail rfl q2269 rfl rfl (Nat.le_of_ble_eq_true rfl) rfl dX5_fault_49 (Nat.succ_le_succ (Nat.zero_le _)) (h.mono (onI_mono (fun r2 t1 h => ?_) (fun _ _ h => h)))
    exact j_ireturn (ty := .int) rfl rfl dX5_fault_52 h
abbrev jX5_corner_15 (P : MPl) (s0 : State) (l : Launch) (X : Prop) (lev : Nat) (st0 : MSt) (Q : Outcome → MSt → Prop) (x1 : Int32) (st : MSt) : Prop := JQ (wM P s0 l X) mX5_corner (lev + 1) st0 15 [some (va_rf (some P.mo)), some (.int x1), none] [] st Q
theorem tX5_corner {P : MPl} {s0 : State} {l : Launch} {X : Prop} {lev : Nat} {Q : Outcome → MSt → Prop} {x1 : Int32} {st : MSt} (h : ((x1 < 0 → jX5_corner_15 P s0 l X lev st Q x1 (mput 1 (iI 0) st)) ∧ (¬ x1 < 0 → ((x1 ≤ (iI 8) → (CQ (wM P s0 l X) mX5_table lev (.ref P.mo :: [.int x1]) (mput 1 (iI 0) st) (onV (fun t1 => Q (.returned (some (.int (fI st 27)))) t1) (fun x t => Q (.threw x) t)))) ∧ (¬ x1 ≤ (iI 8) → jX5_corner_15 P s0 l X lev st Q x1 (mput 1 (iI 0) st)))))) : CQ (wM P s0 l X) mX5_corner (lev + 1) [.ref P.mo, .int x1] st Q := by
  refine CQ.of2 1 (lv := [some (va_rf (some P.mo)), some (.int x1), none]) (by decide) (Nat.le_of_ble_eq_true rfl) rfl rfl ?_
  refine j_aload_n (r := some P.mo) dX5_corner_0 rfl ?_
  refine j_iconst (v := iI 0) dX5_corner_1 rfl ?_
  refine jm_put fM_1 rfl dX5_corner_2 ?_
  refine j_iload_n dX5_corner_5 rfl ?_
  refine j_if_lt 15 dX5_corner_6 (by decide) (fun c4 => ?_) (fun c4 => ?_)
  · replace h := h.1 c4
    exact h
  · replace h := h.2 c4
    refine j_iload_n dX5_corner_9 rfl ?_
    refine j_bipush (v := iI 8) dX5_corner_10 rfl ?_
    refine j_icmp_le 21 dX5_corner_12 (by decide) (fun c3 => ?_) (fun c3 => ?_)
    · replace h := h.1 c3
      refine j_aload_n (r := some P.mo) dX5_corner_21 rfl ?_
      refine jm_get (v := fI st 27) fM_27 rfl rfl dX5_corner_22 ?_
      refine j_istore_n (lv' := [some (va_rf (some P.mo)), some (.int x1), some (.int (fI st 27))]) dX5_corner_25 (by decide) rfl ?_
      refine j_aload_n (r := some P.mo) dX5_corner_26 rfl ?_
      refine j_iload_n dX5_corner_27 rfl ?_
      refine jm_callv (As := [.int x1]) (rest := []) kX5_table rfl q1995 rfl rfl (Nat.le_of_ble_eq_true rfl) rfl dX5_corner_28 (Nat.succ_le_succ (Nat.zero_le _)) (h.mono (onV_mono (fun t1 h => ?_) (fun _ _ h => h)))
      refine j_iload_n dX5_corner_31 rfl ?_
      exact j_ireturn (ty := .int) rfl rfl dX5_corner_32 h
    · replace h := h.2 c3
      exact h
theorem tX5_corner_15 {P : MPl} {s0 : State} {l : Launch} {X : Prop} {lev : Nat} {st0 : MSt} {Q : Outcome → MSt → Prop} {x1 : Int32} {st : MSt} (h : (CQ (wM P s0 l X) mX5_fail lev (.ref P.mo :: [.int (iI 1)]) st (onI (fun r2 t1 => Q (.returned (some (.int r2))) t1) (fun x t => Q (.threw x) t)))) : jX5_corner_15 P s0 l X lev st0 Q x1 st := by
  refine j_aload_n (r := some P.mo) dX5_corner_15 rfl ?_
  refine j_iconst (v := iI 1) dX5_corner_16 rfl ?_
  refine jm_calli (As := [.int (iI 1)]) (rest := []) kX5_fail rfl q2269 rfl rfl (Nat.le_of_ble_eq_true rfl) rfl dX5_corner_17 (Nat.succ_le_succ (Nat.zero_le _)) (h.mono (onI_mono (fun r2 t1 h => ?_) (fun _ _ h => h)))
  exact j_ireturn (ty := .int) rfl rfl dX5_corner_20 h
abbrev jX5_limit_17 (P : MPl) (s0 : State) (l : Launch) (X : Prop) (lev : Nat) (st0 : MSt) (Q : Outcome → MSt → Prop) (x1 : Int32) (st : MSt) : Prop := JQ (wM P s0 l X) mX5_limit (lev + 1) st0 17 [some (va_rf (some P.mo)), some (.int x1), none] [] st Q
theorem tX5_limit {P : MPl} {s0 : State} {l : Launch} {X : Prop} {lev : Nat} {Q : Outcome → MSt → Prop} {x1 : Int32} {st : MSt} (h : ((x1 < (iI 1) → jX5_limit_17 P s0 l X lev st Q x1 (mput 1 (iI 0) st)) ∧ (¬ x1 < (iI 1) → ((x1 ≤ (iI 20000) → Q (.returned (some (.int (fI st 63)))) (mput 63 x1 (mput 1 (iI 0) st))) ∧ (¬ x1 ≤ (iI 20000) → jX5_limit_17 P s0 l X lev st Q x1 (mput 1 (iI 0) st)))))) : CQ (wM P s0 l X) mX5_limit (lev + 1) [.ref P.mo, .int x1] st Q := by
  refine CQ.of2 1 (lv := [some (va_rf (some P.mo)), some (.int x1), none]) (by decide) (Nat.le_of_ble_eq_true rfl) rfl rfl ?_
  refine j_aload_n (r := some P.mo) dX5_limit_0 rfl ?_
  refine j_iconst (v := iI 0) dX5_limit_1 rfl ?_
  refine jm_put fM_1 rfl dX5_limit_2 ?_
  refine j_iload_n dX5_limit_5 rfl ?_
  refine j_iconst (v := iI 1) dX5_limit_6 rfl ?_
  refine j_icmp_lt 17 dX5_limit_7 (by decide) (fun c2 => ?_) (fun c2 => ?_)
  · replace h := h.1 c2
    exact h
  · replace h := h.2 c2
    refine j_iload_n dX5_limit_10 rfl ?_
    refine j_sipush (v := iI 20000) dX5_limit_11 rfl ?_
    refine j_icmp_le 23 dX5_limit_14 (by decide) (fun c1 => ?_) (fun c1 => ?_)
    · replace h := h.1 c1
      refine j_aload_n (r := some P.mo) dX5_limit_23 rfl ?_
      refine jm_get (v := fI st 63) fM_63 rfl rfl dX5_limit_24 ?_
      refine j_istore_n (lv' := [some (va_rf (some P.mo)), some (.int x1), some (.int (fI st 63))]) dX5_limit_27 (by decide) rfl ?_
      refine j_aload_n (r := some P.mo) dX5_limit_28 rfl ?_
      refine j_iload_n dX5_limit_29 rfl ?_
      refine jm_put fM_63 rfl dX5_limit_30 ?_
      refine j_iload_n dX5_limit_33 rfl ?_
      exact j_ireturn (ty := .int) rfl rfl dX5_limit_34 h
    · replace h := h.2 c1
      exact h
theorem tX5_limit_17 {P : MPl} {s0 : State} {l : Launch} {X : Prop} {lev : Nat} {st0 : MSt} {Q : Outcome → MSt → Prop} {x1 : Int32} {st : MSt} (h : (CQ (wM P s0 l X) mX5_fail lev (.ref P.mo :: [.int (iI 1)]) st (onI (fun r2 t1 => Q (.returned (some (.int r2))) t1) (fun x t => Q (.threw x) t)))) : jX5_limit_17 P s0 l X lev st0 Q x1 st := by
  refine j_aload_n (r := some P.mo) dX5_limit_17 rfl ?_
  refine j_iconst (v := iI 1) dX5_limit_18 rfl ?_
  refine jm_calli (As := [.int (iI 1)]) (rest := []) kX5_fail rfl q2269 rfl rfl (Nat.le_of_ble_eq_true rfl) rfl dX5_limit_19 (Nat.succ_le_succ (Nat.zero_le _)) (h.mono (onI_mono (fun r2 t1 h => ?_) (fun _ _ h => h)))
  exact j_ireturn (ty := .int) rfl rfl dX5_limit_22 h
theorem tX5_outs {P : MPl} {s0 : State} {l : Launch} {X : Prop} {lev : Nat} {Q : Outcome → MSt → Prop} {st : MSt} (h : Q (.returned (some (.int (fI st 75)))) (mput 1 (iI 0) st)) : CQ (wM P s0 l X) mX5_outs (lev + 1) [.ref P.mo] st Q := by
  refine CQ.of2 0 (lv := [some (va_rf (some P.mo))]) (by decide) (Nat.le_of_ble_eq_true rfl) rfl rfl ?_
  refine j_aload_n (r := some P.mo) dX5_outs_0 rfl ?_
  refine j_iconst (v := iI 0) dX5_outs_1 rfl ?_
  refine jm_put fM_1 rfl dX5_outs_2 ?_
  refine j_aload_n (r := some P.mo) dX5_outs_5 rfl ?_
  refine jm_get (v := fI st 75) fM_75 rfl rfl dX5_outs_6 ?_
  exact j_ireturn (ty := .int) rfl rfl dX5_outs_9 h
abbrev jX5_out_24 (P : MPl) (s0 : State) (l : Launch) (X : Prop) (lev : Nat) (st0 : MSt) (Q : Outcome → MSt → Prop) (x1 : Int32) (st : MSt) : Prop := JQ (wM P s0 l X) mX5_out (lev + 1) st0 24 [some (va_rf (some P.mo)), some (.int x1)] [] st Q
theorem tX5_out {P : MPl} {s0 : State} {l : Launch} {X : Prop} {lev : Nat} {Q : Outcome → MSt → Prop} {x1 : Int32} {st : MSt} (h : ((x1 < 0 → jX5_out_24 P s0 l X lev st Q x1 (mput 1 (iI 0) st)) ∧ (¬ x1 < 0 → (((fI st 75) ≤ x1 → jX5_out_24 P s0 l X lev st Q x1 (mput 1 (iI 0) st)) ∧ (¬ (fI st 75) ≤ x1 → ((x1 < (iI 3000) → (inr x1 3000 ∧ Q (.returned (some (.int (aI st 74 x1)))) (mput 1 (iI 0) st))) ∧ (¬ x1 < (iI 3000) → jX5_out_24 P s0 l X lev st Q x1 (mput 1 (iI 0) st)))))))) : CQ (wM P s0 l X) mX5_out (lev + 1) [.ref P.mo, .int x1] st Q := by
  refine CQ.of2 0 (lv := [some (va_rf (some P.mo)), some (.int x1)]) (by decide) (Nat.le_of_ble_eq_true rfl) rfl rfl ?_
  refine j_aload_n (r := some P.mo) dX5_out_0 rfl ?_
  refine j_iconst (v := iI 0) dX5_out_1 rfl ?_
  refine jm_put fM_1 rfl dX5_out_2 ?_
  refine j_iload_n dX5_out_5 rfl ?_
  refine j_if_lt 24 dX5_out_6 (by decide) (fun c3 => ?_) (fun c3 => ?_)
  · replace h := h.1 c3
    exact h
  · replace h := h.2 c3
    refine j_iload_n dX5_out_9 rfl ?_
    refine j_aload_n (r := some P.mo) dX5_out_10 rfl ?_
    refine jm_get (v := fI st 75) fM_75 rfl rfl dX5_out_11 ?_
    refine j_icmp_ge 24 dX5_out_14 (by decide) (fun c2 => ?_) (fun c2 => ?_)
    · replace h := h.1 c2
      exact h
    · replace h := h.2 c2
      refine j_iload_n dX5_out_17 rfl ?_
      refine j_sipush (v := iI 3000) dX5_out_18 rfl ?_
      refine j_icmp_lt 30 dX5_out_21 (by decide) (fun c1 => ?_) (fun c1 => ?_)
      · replace h := h.1 c1
        refine j_aload_n (r := some P.mo) dX5_out_30 rfl ?_
        refine jm_geta fM_74 rfl dX5_out_31 ?_
        refine j_iload_n dX5_out_34 rfl ?_
        refine jm_ald (v := aI st 74 x1) rfl h.1 rfl rfl dX5_out_35 ?_
        replace h := h.2
        exact j_ireturn (ty := .int) rfl rfl dX5_out_36 h
      · replace h := h.2 c1
        exact h
theorem tX5_out_24 {P : MPl} {s0 : State} {l : Launch} {X : Prop} {lev : Nat} {st0 : MSt} {Q : Outcome → MSt → Prop} {x1 : Int32} {st : MSt} (h : (CQ (wM P s0 l X) mX5_fail lev (.ref P.mo :: [.int (iI 1)]) st (onI (fun r2 t1 => Q (.returned (some (.int r2))) t1) (fun x t => Q (.threw x) t)))) : jX5_out_24 P s0 l X lev st0 Q x1 st := by
  refine j_aload_n (r := some P.mo) dX5_out_24 rfl ?_
  refine j_iconst (v := iI 1) dX5_out_25 rfl ?_
  refine jm_calli (As := [.int (iI 1)]) (rest := []) kX5_fail rfl q2269 rfl rfl (Nat.le_of_ble_eq_true rfl) rfl dX5_out_26 (Nat.succ_le_succ (Nat.zero_le _)) (h.mono (onI_mono (fun r2 t1 h => ?_) (fun _ _ h => h)))
  exact j_ireturn (ty := .int) rfl rfl dX5_out_29 h
abbrev jX5_count_12 (P : MPl) (s0 : State) (l : Launch) (X : Prop) (lev : Nat) (st0 : MSt) (Q : Outcome → MSt → Prop) (x1 x2 x3 x4 : Int32) (st : MSt) : Prop := JQ (wM P s0 l X) mX5_count (lev + 1) st0 12 [some (va_rf (some P.mo)), some (.int x1), some (.int x2), some (.int x3), some (.int x4)] [] st Q
abbrev jX5_count_48 (P : MPl) (s0 : State) (l : Launch) (X : Prop) (lev : Nat) (st0 : MSt) (Q : Outcome → MSt → Prop) (x1 x2 x3 x4 : Int32) (st : MSt) : Prop := JQ (wM P s0 l X) mX5_count (lev + 1) st0 48 [some (va_rf (some P.mo)), some (.int x1), some (.int x2), some (.int x3), some (.int x4)] [] st Q
theorem tX5_count {P : MPl} {s0 : State} {l : Launch} {X : Prop} {lev : Nat} {Q : Outcome → MSt → Prop} {x1 : Int32} {st : MSt} (h : jX5_count_12 P s0 l X lev st Q x1 (iI 0) (iI 0) (iI 0) (mput 1 (iI 0) st)) : CQ (wM P s0 l X) mX5_count (lev + 1) [.ref P.mo, .int x1] st Q := by
  refine CQ.of2 3 (lv := [some (va_rf (some P.mo)), some (.int x1), none, none, none]) (by decide) (Nat.le_of_ble_eq_true rfl) rfl rfl ?_
  refine j_aload_n (r := some P.mo) dX5_count_0 rfl ?_
  refine j_iconst (v := iI 0) dX5_count_1 rfl ?_
  refine jm_put fM_1 rfl dX5_count_2 ?_
  refine j_iconst (v := iI 0) dX5_count_5 rfl ?_
  refine j_istore_n (lv' := [some (va_rf (some P.mo)), some (.int x1), some (.int (iI 0)), none, none]) dX5_count_6 (by decide) rfl ?_
  refine j_iconst (v := iI 0) dX5_count_7 rfl ?_
  refine j_istore_n (lv' := [some (va_rf (some P.mo)), some (.int x1), some (.int (iI 0)), some (.int (iI 0)), none]) dX5_count_8 (by decide) rfl ?_
  refine j_iconst (v := iI 0) dX5_count_9 rfl ?_
  refine j_istore (lv' := [some (va_rf (some P.mo)), some (.int x1), some (.int (iI 0)), some (.int (iI 0)), some (.int (iI 0))]) dX5_count_10 (by decide) rfl ?_
  exact h
theorem tX5_count_12 {P : MPl} {s0 : State} {l : Launch} {X : Prop} {lev : Nat} {st0 : MSt} {Q : Outcome → MSt → Prop} {x1 x2 x3 x4 : Int32} {st : MSt} (h : (((fI st 20) ≤ x4 → jX5_count_48 P s0 l X lev st0 Q x1 x2 x3 (iI 0) st) ∧ (¬ (fI st 20) ≤ x4 → (inr x4 8 ∧ (((aI st 18 x4) < 0 → jX5_count_12 P s0 l X lev st0 Q x1 (x2 + (iI 0)) x3 (x4 + iI 1) st) ∧ (¬ (aI st 18 x4) < 0 → jX5_count_12 P s0 l X lev st0 Q x1 (x2 + (iI 1)) x3 (x4 + iI 1) st)))))) : jX5_count_12 P s0 l X lev st0 Q x1 x2 x3 x4 st := by
  refine j_iload dX5_count_12 rfl ?_
  refine j_aload_n (r := some P.mo) dX5_count_14 rfl ?_
  refine jm_get (v := fI st 20) fM_20 rfl rfl dX5_count_15 ?_
  refine j_icmp_ge 45 dX5_count_18 (by decide) (fun c2 => ?_) (fun c2 => ?_)
  · replace h := h.1 c2
    refine j_iconst (v := iI 0) dX5_count_45 rfl ?_
    refine j_istore (lv' := [some (va_rf (some P.mo)), some (.int x1), some (.int x2), some (.int x3), some (.int (iI 0))]) dX5_count_46 (by decide) rfl ?_
    exact h
  · replace h := h.2 c2
    refine j_iload_n dX5_count_21 rfl ?_
    refine j_aload_n (r := some P.mo) dX5_count_22 rfl ?_
    refine jm_geta fM_18 rfl dX5_count_23 ?_
    refine j_iload dX5_count_26 rfl ?_
    refine jm_ald (v := aI st 18 x4) rfl h.1 rfl rfl dX5_count_28 ?_
    replace h := h.2
    refine j_if_lt 36 dX5_count_29 (by decide) (fun c1 => ?_) (fun c1 => ?_)
    · replace h := h.1 c1
      refine j_iconst (v := iI 0) dX5_count_36 rfl ?_
      refine j_iadd dX5_count_37 ?_
      refine j_istore_n (lv' := [some (va_rf (some P.mo)), some (.int x1), some (.int (x2 + (iI 0))), some (.int x3), some (.int x4)]) dX5_count_38 (by decide) rfl ?_
      refine j_iinc (lv' := [some (va_rf (some P.mo)), some (.int x1), some (.int (x2 + (iI 0))), some (.int x3), some (.int (x4 + iI 1))]) dX5_count_39 rfl (by decide) rfl ?_
      refine j_goto 12 dX5_count_42 (by decide) ?_
      exact h
    · replace h := h.2 c1
      refine j_iconst (v := iI 1) dX5_count_32 rfl ?_
      refine j_goto 37 dX5_count_33 (by decide) ?_
      refine j_iadd dX5_count_37 ?_
      refine j_istore_n (lv' := [some (va_rf (some P.mo)), some (.int x1), some (.int (x2 + (iI 1))), some (.int x3), some (.int x4)]) dX5_count_38 (by decide) rfl ?_
      refine j_iinc (lv' := [some (va_rf (some P.mo)), some (.int x1), some (.int (x2 + (iI 1))), some (.int x3), some (.int (x4 + iI 1))]) dX5_count_39 rfl (by decide) rfl ?_
      refine j_goto 12 dX5_count_42 (by decide) ?_
      exact h
theorem tX5_count_48 {P : MPl} {s0 : State} {l : Launch} {X : Prop} {lev : Nat} {st0 : MSt} {Q : Outcome → MSt → Prop} {x1 x2 x3 x4 : Int32} {st : MSt} (h : (((iI 64) ≤ x4 → ((x1 = iI 0 → Q (.returned (some (.int (fI st 64)))) st) ∧ (x1 = iI 1 → Q (.returned (some (.int (fI st 66)))) st) ∧ (x1 = iI 2 → Q (.returned (some (.int (fI st 67)))) st) ∧ (x1 = iI 3 → Q (.returned (some (.int (fI st 68)))) st) ∧ (x1 = iI 4 → Q (.returned (some (.int (fI st 69)))) st) ∧ (x1 = iI 5 → Q (.returned (some (.int (fI st 70)))) st) ∧ (x1 = iI 6 → Q (.returned (some (.int (fI st 71)))) st) ∧ (x1 = iI 7 → Q (.returned (some (.int (fI st 65)))) st) ∧ (x1 = iI 8 → Q (.returned (some (.int (fI st 27)))) st) ∧ (x1 = iI 9 → Q (.returned (some (.int (fI st 20)))) st) ∧ (x1 = iI 10 → Q (.returned (some (.int x2))) st) ∧ (x1 = iI 11 → Q (.returned (some (.int x3))) st) ∧ (x1 = iI 12 → Q (.returned (some (.int (fI st 29)))) st) ∧ (x1 = iI 13 → Q (.returned (some (.int (fI st 3)))) st) ∧ (tout x1 0 13 → (CQ (wM P s0 l X) mX5_fail lev (.ref P.mo :: [.int (iI 1)]) st (onI (fun r2 t1 => Q (.returned (some (.int r2))) t1) (fun x t => Q (.threw x) t)))))) ∧ (¬ (iI 64) ≤ x4 → (inr x4 64 ∧ (((aI st 19 x4) < 0 → jX5_count_48 P s0 l X lev st0 Q x1 x2 (x3 + (iI 0)) (x4 + iI 1) st) ∧ (¬ (aI st 19 x4) < 0 → jX5_count_48 P s0 l X lev st0 Q x1 x2 (x3 + (iI 1)) (x4 + iI 1) st)))))) : jX5_count_48 P s0 l X lev st0 Q x1 x2 x3 x4 st := by
  refine j_iload dX5_count_48 rfl ?_
  refine j_bipush (v := iI 64) dX5_count_50 rfl ?_
  refine j_icmp_ge 79 dX5_count_52 (by decide) (fun c5 => ?_) (fun c5 => ?_)
  · replace h := h.1 c5
    refine j_iload_n dX5_count_79 rfl ?_
    rcases tb_case 14 0 (x1) with ⟨c3, hc3, ec3⟩ | ec3
    · match c3, hc3, ec3 with
      | 0, _, ec3 =>
        have ec3 : x1 = iI 0 := ec3
        replace h := h.1 ec3
        refine j_tableIn 152 dX5_count_80 (by rw [ec3]; decide) (by rw [ec3]; decide) (by rw [ec3]; rfl) (by decide) ?_
        refine j_aload_n (r := some P.mo) dX5_count_152 rfl ?_
        refine jm_get (v := fI st 64) fM_64 rfl rfl dX5_count_153 ?_
        exact j_ireturn (ty := .int) rfl rfl dX5_count_156 h
      | 1, _, ec3 =>
        have ec3 : x1 = iI 1 := ec3
        replace h := h.2.1 ec3
        refine j_tableIn 157 dX5_count_80 (by rw [ec3]; decide) (by rw [ec3]; decide) (by rw [ec3]; rfl) (by decide) ?_
        refine j_aload_n (r := some P.mo) dX5_count_157 rfl ?_
        refine jm_get (v := fI st 66) fM_66 rfl rfl dX5_count_158 ?_
        exact j_ireturn (ty := .int) rfl rfl dX5_count_161 h
      | 2, _, ec3 =>
        have ec3 : x1 = iI 2 := ec3
        replace h := h.2.2.1 ec3
        refine j_tableIn 162 dX5_count_80 (by rw [ec3]; decide) (by rw [ec3]; decide) (by rw [ec3]; rfl) (by decide) ?_
        refine j_aload_n (r := some P.mo) dX5_count_162 rfl ?_
        refine jm_get (v := fI st 67) fM_67 rfl rfl dX5_count_163 ?_
        exact j_ireturn (ty := .int) rfl rfl dX5_count_166 h
      | 3, _, ec3 =>
        have ec3 : x1 = iI 3 := ec3
        replace h := h.2.2.2.1 ec3
        refine j_tableIn 167 dX5_count_80 (by rw [ec3]; decide) (by rw [ec3]; decide) (by rw [ec3]; rfl) (by decide) ?_
        refine j_aload_n (r := some P.mo) dX5_count_167 rfl ?_
        refine jm_get (v := fI st 68) fM_68 rfl rfl dX5_count_168 ?_
        exact j_ireturn (ty := .int) rfl rfl dX5_count_171 h
      | 4, _, ec3 =>
        have ec3 : x1 = iI 4 := ec3
        replace h := h.2.2.2.2.1 ec3
        refine j_tableIn 172 dX5_count_80 (by rw [ec3]; decide) (by rw [ec3]; decide) (by rw [ec3]; rfl) (by decide) ?_
        refine j_aload_n (r := some P.mo) dX5_count_172 rfl ?_
        refine jm_get (v := fI st 69) fM_69 rfl rfl dX5_count_173 ?_
        exact j_ireturn (ty := .int) rfl rfl dX5_count_176 h
      | 5, _, ec3 =>
        have ec3 : x1 = iI 5 := ec3
        replace h := h.2.2.2.2.2.1 ec3
        refine j_tableIn 177 dX5_count_80 (by rw [ec3]; decide) (by rw [ec3]; decide) (by rw [ec3]; rfl) (by decide) ?_
        refine j_aload_n (r := some P.mo) dX5_count_177 rfl ?_
        refine jm_get (v := fI st 70) fM_70 rfl rfl dX5_count_178 ?_
        exact j_ireturn (ty := .int) rfl rfl dX5_count_181 h
      | 6, _, ec3 =>
        have ec3 : x1 = iI 6 := ec3
        replace h := h.2.2.2.2.2.2.1 ec3
        refine j_tableIn 182 dX5_count_80 (by rw [ec3]; decide) (by rw [ec3]; decide) (by rw [ec3]; rfl) (by decide) ?_
        refine j_aload_n (r := some P.mo) dX5_count_182 rfl ?_
        refine jm_get (v := fI st 71) fM_71 rfl rfl dX5_count_183 ?_
        exact j_ireturn (ty := .int) rfl rfl dX5_count_186 h
      | 7, _, ec3 =>
        have ec3 : x1 = iI 7 := ec3
        replace h := h.2.2.2.2.2.2.2.1 ec3
        refine j_tableIn 187 dX5_count_80 (by rw [ec3]; decide) (by rw [ec3]; decide) (by rw [ec3]; rfl) (by decide) ?_
        refine j_aload_n (r := some P.mo) dX5_count_187 rfl ?_
        refine jm_get (v := fI st 65) fM_65 rfl rfl dX5_count_188 ?_
        exact j_ireturn (ty := .int) rfl rfl dX5_count_191 h
      | 8, _, ec3 =>
        have ec3 : x1 = iI 8 := ec3
        replace h := h.2.2.2.2.2.2.2.2.1 ec3
        refine j_tableIn 192 dX5_count_80 (by rw [ec3]; decide) (by rw [ec3]; decide) (by rw [ec3]; rfl) (by decide) ?_
        refine j_aload_n (r := some P.mo) dX5_count_192 rfl ?_
        refine jm_get (v := fI st 27) fM_27 rfl rfl dX5_count_193 ?_
        exact j_ireturn (ty := .int) rfl rfl dX5_count_196 h
      | 9, _, ec3 =>
        have ec3 : x1 = iI 9 := ec3
        replace h := h.2.2.2.2.2.2.2.2.2.1 ec3
        refine j_tableIn 197 dX5_count_80 (by rw [ec3]; decide) (by rw [ec3]; decide) (by rw [ec3]; rfl) (by decide) ?_
        refine j_aload_n (r := some P.mo) dX5_count_197 rfl ?_
        refine jm_get (v := fI st 20) fM_20 rfl rfl dX5_count_198 ?_
        exact j_ireturn (ty := .int) rfl rfl dX5_count_201 h
      | 10, _, ec3 =>
        have ec3 : x1 = iI 10 := ec3
        replace h := h.2.2.2.2.2.2.2.2.2.2.1 ec3
        refine j_tableIn 202 dX5_count_80 (by rw [ec3]; decide) (by rw [ec3]; decide) (by rw [ec3]; rfl) (by decide) ?_
        refine j_iload_n dX5_count_202 rfl ?_
        exact j_ireturn (ty := .int) rfl rfl dX5_count_203 h
      | 11, _, ec3 =>
        have ec3 : x1 = iI 11 := ec3
        replace h := h.2.2.2.2.2.2.2.2.2.2.2.1 ec3
        refine j_tableIn 204 dX5_count_80 (by rw [ec3]; decide) (by rw [ec3]; decide) (by rw [ec3]; rfl) (by decide) ?_
        refine j_iload_n dX5_count_204 rfl ?_
        exact j_ireturn (ty := .int) rfl rfl dX5_count_205 h
      | 12, _, ec3 =>
        have ec3 : x1 = iI 12 := ec3
        replace h := h.2.2.2.2.2.2.2.2.2.2.2.2.1 ec3
        refine j_tableIn 206 dX5_count_80 (by rw [ec3]; decide) (by rw [ec3]; decide) (by rw [ec3]; rfl) (by decide) ?_
        refine j_aload_n (r := some P.mo) dX5_count_206 rfl ?_
        refine jm_get (v := fI st 29) fM_29 rfl rfl dX5_count_207 ?_
        exact j_ireturn (ty := .int) rfl rfl dX5_count_210 h
      | 13, _, ec3 =>
        have ec3 : x1 = iI 13 := ec3
        replace h := h.2.2.2.2.2.2.2.2.2.2.2.2.2.1 ec3
        refine j_tableIn 211 dX5_count_80 (by rw [ec3]; decide) (by rw [ec3]; decide) (by rw [ec3]; rfl) (by decide) ?_
        refine j_aload_n (r := some P.mo) dX5_count_211 rfl ?_
        refine jm_get (v := fI st 3) fM_3 rfl rfl dX5_count_212 ?_
        exact j_ireturn (ty := .int) rfl rfl dX5_count_215 h
      | q_ + 14, hq_, _ => exact absurd hq_ (by omega)
    · replace h := h.2.2.2.2.2.2.2.2.2.2.2.2.2.2 ec3
      refine j_tableOut 216 dX5_count_80 ec3 (by decide) ?_
      refine j_aload_n (r := some P.mo) dX5_count_216 rfl ?_
      refine j_iconst (v := iI 1) dX5_count_217 rfl ?_
      refine jm_calli (As := [.int (iI 1)]) (rest := []) kX5_fail rfl q2269 rfl rfl (Nat.le_of_ble_eq_true rfl) rfl dX5_count_218 (Nat.succ_le_succ (Nat.zero_le _)) (h.mono (onI_mono (fun r2 t1 h => ?_) (fun _ _ h => h)))
      exact j_ireturn (ty := .int) rfl rfl dX5_count_221 h
  · replace h := h.2 c5
    refine j_iload_n dX5_count_55 rfl ?_
    refine j_aload_n (r := some P.mo) dX5_count_56 rfl ?_
    refine jm_geta fM_19 rfl dX5_count_57 ?_
    refine j_iload dX5_count_60 rfl ?_
    refine jm_ald (v := aI st 19 x4) rfl h.1 rfl rfl dX5_count_62 ?_
    replace h := h.2
    refine j_if_lt 70 dX5_count_63 (by decide) (fun c4 => ?_) (fun c4 => ?_)
    · replace h := h.1 c4
      refine j_iconst (v := iI 0) dX5_count_70 rfl ?_
      refine j_iadd dX5_count_71 ?_
      refine j_istore_n (lv' := [some (va_rf (some P.mo)), some (.int x1), some (.int x2), some (.int (x3 + (iI 0))), some (.int x4)]) dX5_count_72 (by decide) rfl ?_
      refine j_iinc (lv' := [some (va_rf (some P.mo)), some (.int x1), some (.int x2), some (.int (x3 + (iI 0))), some (.int (x4 + iI 1))]) dX5_count_73 rfl (by decide) rfl ?_
      refine j_goto 48 dX5_count_76 (by decide) ?_
      exact h
    · replace h := h.2 c4
      refine j_iconst (v := iI 1) dX5_count_66 rfl ?_
      refine j_goto 71 dX5_count_67 (by decide) ?_
      refine j_iadd dX5_count_71 ?_
      refine j_istore_n (lv' := [some (va_rf (some P.mo)), some (.int x1), some (.int x2), some (.int (x3 + (iI 1))), some (.int x4)]) dX5_count_72 (by decide) rfl ?_
      refine j_iinc (lv' := [some (va_rf (some P.mo)), some (.int x1), some (.int x2), some (.int (x3 + (iI 1))), some (.int (x4 + iI 1))]) dX5_count_73 rfl (by decide) rfl ?_
      refine j_goto 48 dX5_count_76 (by decide) ?_
      exact h
abbrev jX5_name_21 (P : MPl) (s0 : State) (l : Launch) (X : Prop) (lev : Nat) (st0 : MSt) (Q : Outcome → MSt → Prop) (x1 x2 : Int32) (st : MSt) : Prop := JQ (wM P s0 l X) mX5_name (lev + 1) st0 21 [some (va_rf (some P.mo)), some (.int x1), some (.int x2)] [] st Q
theorem tX5_name {P : MPl} {s0 : State} {l : Launch} {X : Prop} {lev : Nat} {Q : Outcome → MSt → Prop} {x1 x2 : Int32} {st : MSt} (h : ((x1 < 0 → jX5_name_21 P s0 l X lev st Q x1 x2 (mput 1 (iI 0) st)) ∧ (¬ x1 < 0 → (((fI st 27) ≤ x1 → jX5_name_21 P s0 l X lev st Q x1 x2 (mput 1 (iI 0) st)) ∧ (¬ (fI st 27) ≤ x1 → ((0 ≤ x2 → ((x2 = 0 → (inr x1 100 ∧ (((aI st 25 x1) < 0 → Q (.returned (some (.int (iI 0)))) (mput 1 (iI 0) st)) ∧ (¬ (aI st 25 x1) < 0 → Q (.returned (some (.int (iI 1)))) (mput 1 (iI 0) st))))) ∧ (¬ x2 = 0 → ((x2 = (iI 1) → (inr x1 100 ∧ Q (.returned (some (.int (aI st 24 x1)))) (mput 1 (iI 0) st))) ∧ (¬ x2 = (iI 1) → ((x2 = (iI 2) → (inr x1 100 ∧ Q (.returned (some (.int (aI st 22 x1)))) (mput 1 (iI 0) st))) ∧ (¬ x2 = (iI 2) → (inr x1 100 ∧ (((aI st 22 x1) ≤ (x2 - (iI 3)) → Q (.returned (some (.int (iI (-1))))) (mput 1 (iI 0) st)) ∧ (¬ (aI st 22 x1) ≤ (x2 - (iI 3)) → (inr ((((iI 12) * x1) + x2) - (iI 3)) 1200 ∧ Q (.returned (some (.int (aI st 21 ((((iI 12) * x1) + x2) - (iI 3)))))) (mput 1 (iI 0) st)))))))))))) ∧ (¬ 0 ≤ x2 → jX5_name_21 P s0 l X lev st Q x1 x2 (mput 1 (iI 0) st)))))))) : CQ (wM P s0 l X) mX5_name (lev + 1) [.ref P.mo, .int x1, .int x2] st Q := by
  refine CQ.of2 0 (lv := [some (va_rf (some P.mo)), some (.int x1), some (.int x2)]) (by decide) (Nat.le_of_ble_eq_true rfl) rfl rfl ?_
  refine j_aload_n (r := some P.mo) dX5_name_0 rfl ?_
  refine j_iconst (v := iI 0) dX5_name_1 rfl ?_
  refine jm_put fM_1 rfl dX5_name_2 ?_
  refine j_iload_n dX5_name_5 rfl ?_
  refine j_if_lt 21 dX5_name_6 (by decide) (fun c8 => ?_) (fun c8 => ?_)
  · replace h := h.1 c8
    exact h
  · replace h := h.2 c8
    refine j_iload_n dX5_name_9 rfl ?_
    refine j_aload_n (r := some P.mo) dX5_name_10 rfl ?_
    refine jm_get (v := fI st 27) fM_27 rfl rfl dX5_name_11 ?_
    refine j_icmp_ge 21 dX5_name_14 (by decide) (fun c7 => ?_) (fun c7 => ?_)
    · replace h := h.1 c7
      exact h
    · replace h := h.2 c7
      refine j_iload_n dX5_name_17 rfl ?_
      refine j_if_ge 27 dX5_name_18 (by decide) (fun c6 => ?_) (fun c6 => ?_)
      · replace h := h.1 c6
        refine j_iload_n dX5_name_27 rfl ?_
        refine j_if_ne 46 dX5_name_28 (by decide) (fun c5 => ?_) (fun c5 => ?_)
        · replace h := h.2 c5
          refine j_iload_n dX5_name_46 rfl ?_
          refine j_iconst (v := iI 1) dX5_name_47 rfl ?_
          refine j_icmp_ne 58 dX5_name_48 (by decide) (fun c3 => ?_) (fun c3 => ?_)
          · replace h := h.2 c3
            refine j_iload_n dX5_name_58 rfl ?_
            refine j_iconst (v := iI 2) dX5_name_59 rfl ?_
            refine j_icmp_ne 70 dX5_name_60 (by decide) (fun c2 => ?_) (fun c2 => ?_)
            · replace h := h.2 c2
              refine j_iload_n dX5_name_70 rfl ?_
              refine j_iconst (v := iI 3) dX5_name_71 rfl ?_
              refine j_isub dX5_name_72 ?_
              refine j_aload_n (r := some P.mo) dX5_name_73 rfl ?_
              refine jm_geta fM_22 rfl dX5_name_74 ?_
              refine j_iload_n dX5_name_77 rfl ?_
              refine jm_ald (v := aI st 22 x1) rfl h.1 rfl rfl dX5_name_78 ?_
              replace h := h.2
              refine j_icmp_ge 98 dX5_name_79 (by decide) (fun c1 => ?_) (fun c1 => ?_)
              · replace h := h.1 c1
                refine j_iconst (v := iI (-1)) dX5_name_98 rfl ?_
                exact j_ireturn (ty := .int) rfl rfl dX5_name_99 h
              · replace h := h.2 c1
                refine j_aload_n (r := some P.mo) dX5_name_82 rfl ?_
                refine jm_geta fM_21 rfl dX5_name_83 ?_
                refine j_bipush (v := iI 12) dX5_name_86 rfl ?_
                refine j_iload_n dX5_name_88 rfl ?_
                refine j_imul dX5_name_89 ?_
                refine j_iload_n dX5_name_90 rfl ?_
                refine j_iadd dX5_name_91 ?_
                refine j_iconst (v := iI 3) dX5_name_92 rfl ?_
                refine j_isub dX5_name_93 ?_
                refine jm_ald (v := aI st 21 ((((iI 12) * x1) + x2) - (iI 3))) rfl h.1 rfl rfl dX5_name_94 ?_
                replace h := h.2
                refine j_goto 99 dX5_name_95 (by decide) ?_
                exact j_ireturn (ty := .int) rfl rfl dX5_name_99 h
            · replace h := h.1 c2
              refine j_aload_n (r := some P.mo) dX5_name_63 rfl ?_
              refine jm_geta fM_22 rfl dX5_name_64 ?_
              refine j_iload_n dX5_name_67 rfl ?_
              refine jm_ald (v := aI st 22 x1) rfl h.1 rfl rfl dX5_name_68 ?_
              replace h := h.2
              exact j_ireturn (ty := .int) rfl rfl dX5_name_69 h
          · replace h := h.1 c3
            refine j_aload_n (r := some P.mo) dX5_name_51 rfl ?_
            refine jm_geta fM_24 rfl dX5_name_52 ?_
            refine j_iload_n dX5_name_55 rfl ?_
            refine jm_ald (v := aI st 24 x1) rfl h.1 rfl rfl dX5_name_56 ?_
            replace h := h.2
            exact j_ireturn (ty := .int) rfl rfl dX5_name_57 h
        · replace h := h.1 c5
          refine j_aload_n (r := some P.mo) dX5_name_31 rfl ?_
          refine jm_geta fM_25 rfl dX5_name_32 ?_
          refine j_iload_n dX5_name_35 rfl ?_
          refine jm_ald (v := aI st 25 x1) rfl h.1 rfl rfl dX5_name_36 ?_
          replace h := h.2
          refine j_if_lt 44 dX5_name_37 (by decide) (fun c4 => ?_) (fun c4 => ?_)
          · replace h := h.1 c4
            refine j_iconst (v := iI 0) dX5_name_44 rfl ?_
            exact j_ireturn (ty := .int) rfl rfl dX5_name_45 h
          · replace h := h.2 c4
            refine j_iconst (v := iI 1) dX5_name_40 rfl ?_
            refine j_goto 45 dX5_name_41 (by decide) ?_
            exact j_ireturn (ty := .int) rfl rfl dX5_name_45 h
      · replace h := h.2 c6
        exact h
theorem tX5_name_21 {P : MPl} {s0 : State} {l : Launch} {X : Prop} {lev : Nat} {st0 : MSt} {Q : Outcome → MSt → Prop} {x1 x2 : Int32} {st : MSt} (h : (CQ (wM P s0 l X) mX5_fail lev (.ref P.mo :: [.int (iI 1)]) st (onI (fun r2 t1 => Q (.returned (some (.int r2))) t1) (fun x t => Q (.threw x) t)))) : jX5_name_21 P s0 l X lev st0 Q x1 x2 st := by
  refine j_aload_n (r := some P.mo) dX5_name_21 rfl ?_
  refine j_iconst (v := iI 1) dX5_name_22 rfl ?_
  refine jm_calli (As := [.int (iI 1)]) (rest := []) kX5_fail rfl q2269 rfl rfl (Nat.le_of_ble_eq_true rfl) rfl dX5_name_23 (Nat.succ_le_succ (Nat.zero_le _)) (h.mono (onI_mono (fun r2 t1 h => ?_) (fun _ _ h => h)))
  exact j_ireturn (ty := .int) rfl rfl dX5_name_26 h
abbrev jX5_sort_21 (P : MPl) (s0 : State) (l : Launch) (X : Prop) (lev : Nat) (st0 : MSt) (Q : Outcome → MSt → Prop) (x1 x2 : Int32) (st : MSt) : Prop := JQ (wM P s0 l X) mX5_sort (lev + 1) st0 21 [some (va_rf (some P.mo)), some (.int x1), some (.int x2)] [] st Q
theorem tX5_sort {P : MPl} {s0 : State} {l : Launch} {X : Prop} {lev : Nat} {Q : Outcome → MSt → Prop} {x1 x2 : Int32} {st : MSt} (h : ((x1 < 0 → jX5_sort_21 P s0 l X lev st Q x1 x2 (mput 1 (iI 0) st)) ∧ (¬ x1 < 0 → (((fI st 20) ≤ x1 → jX5_sort_21 P s0 l X lev st Q x1 x2 (mput 1 (iI 0) st)) ∧ (¬ (fI st 20) ≤ x1 → ((0 ≤ x2 → ((x2 = 0 → (inr x1 8 ∧ Q (.returned (some (.int (aI st 18 x1)))) (mput 1 (iI 0) st))) ∧ (¬ x2 = 0 → ((x2 = (iI 1) → (inr x1 8 ∧ Q (.returned (some (.int (aI st 17 x1)))) (mput 1 (iI 0) st))) ∧ (¬ x2 = (iI 1) → (inr x1 8 ∧ (((aI st 17 x1) ≤ (x2 - (iI 2)) → Q (.returned (some (.int (iI (-1))))) (mput 1 (iI 0) st)) ∧ (¬ (aI st 17 x1) ≤ (x2 - (iI 2)) → (inr ((((iI 12) * x1) + x2) - (iI 2)) 96 ∧ Q (.returned (some (.int (aI st 16 ((((iI 12) * x1) + x2) - (iI 2)))))) (mput 1 (iI 0) st)))))))))) ∧ (¬ 0 ≤ x2 → jX5_sort_21 P s0 l X lev st Q x1 x2 (mput 1 (iI 0) st)))))))) : CQ (wM P s0 l X) mX5_sort (lev + 1) [.ref P.mo, .int x1, .int x2] st Q := by
  refine CQ.of2 0 (lv := [some (va_rf (some P.mo)), some (.int x1), some (.int x2)]) (by decide) (Nat.le_of_ble_eq_true rfl) rfl rfl ?_
  refine j_aload_n (r := some P.mo) dX5_sort_0 rfl ?_
  refine j_iconst (v := iI 0) dX5_sort_1 rfl ?_
  refine jm_put fM_1 rfl dX5_sort_2 ?_
  refine j_iload_n dX5_sort_5 rfl ?_
  refine j_if_lt 21 dX5_sort_6 (by decide) (fun c6 => ?_) (fun c6 => ?_)
  · replace h := h.1 c6
    exact h
  · replace h := h.2 c6
    refine j_iload_n dX5_sort_9 rfl ?_
    refine j_aload_n (r := some P.mo) dX5_sort_10 rfl ?_
    refine jm_get (v := fI st 20) fM_20 rfl rfl dX5_sort_11 ?_
    refine j_icmp_ge 21 dX5_sort_14 (by decide) (fun c5 => ?_) (fun c5 => ?_)
    · replace h := h.1 c5
      exact h
    · replace h := h.2 c5
      refine j_iload_n dX5_sort_17 rfl ?_
      refine j_if_ge 27 dX5_sort_18 (by decide) (fun c4 => ?_) (fun c4 => ?_)
      · replace h := h.1 c4
        refine j_iload_n dX5_sort_27 rfl ?_
        refine j_if_ne 38 dX5_sort_28 (by decide) (fun c3 => ?_) (fun c3 => ?_)
        · replace h := h.2 c3
          refine j_iload_n dX5_sort_38 rfl ?_
          refine j_iconst (v := iI 1) dX5_sort_39 rfl ?_
          refine j_icmp_ne 50 dX5_sort_40 (by decide) (fun c2 => ?_) (fun c2 => ?_)
          · replace h := h.2 c2
            refine j_iload_n dX5_sort_50 rfl ?_
            refine j_iconst (v := iI 2) dX5_sort_51 rfl ?_
            refine j_isub dX5_sort_52 ?_
            refine j_aload_n (r := some P.mo) dX5_sort_53 rfl ?_
            refine jm_geta fM_17 rfl dX5_sort_54 ?_
            refine j_iload_n dX5_sort_57 rfl ?_
            refine jm_ald (v := aI st 17 x1) rfl h.1 rfl rfl dX5_sort_58 ?_
            replace h := h.2
            refine j_icmp_ge 78 dX5_sort_59 (by decide) (fun c1 => ?_) (fun c1 => ?_)
            · replace h := h.1 c1
              refine j_iconst (v := iI (-1)) dX5_sort_78 rfl ?_
              exact j_ireturn (ty := .int) rfl rfl dX5_sort_79 h
            · replace h := h.2 c1
              refine j_aload_n (r := some P.mo) dX5_sort_62 rfl ?_
              refine jm_geta fM_16 rfl dX5_sort_63 ?_
              refine j_bipush (v := iI 12) dX5_sort_66 rfl ?_
              refine j_iload_n dX5_sort_68 rfl ?_
              refine j_imul dX5_sort_69 ?_
              refine j_iload_n dX5_sort_70 rfl ?_
              refine j_iadd dX5_sort_71 ?_
              refine j_iconst (v := iI 2) dX5_sort_72 rfl ?_
              refine j_isub dX5_sort_73 ?_
              refine jm_ald (v := aI st 16 ((((iI 12) * x1) + x2) - (iI 2))) rfl h.1 rfl rfl dX5_sort_74 ?_
              replace h := h.2
              refine j_goto 79 dX5_sort_75 (by decide) ?_
              exact j_ireturn (ty := .int) rfl rfl dX5_sort_79 h
          · replace h := h.1 c2
            refine j_aload_n (r := some P.mo) dX5_sort_43 rfl ?_
            refine jm_geta fM_17 rfl dX5_sort_44 ?_
            refine j_iload_n dX5_sort_47 rfl ?_
            refine jm_ald (v := aI st 17 x1) rfl h.1 rfl rfl dX5_sort_48 ?_
            replace h := h.2
            exact j_ireturn (ty := .int) rfl rfl dX5_sort_49 h
        · replace h := h.1 c3
          refine j_aload_n (r := some P.mo) dX5_sort_31 rfl ?_
          refine jm_geta fM_18 rfl dX5_sort_32 ?_
          refine j_iload_n dX5_sort_35 rfl ?_
          refine jm_ald (v := aI st 18 x1) rfl h.1 rfl rfl dX5_sort_36 ?_
          replace h := h.2
          exact j_ireturn (ty := .int) rfl rfl dX5_sort_37 h
      · replace h := h.2 c4
        exact h
theorem tX5_sort_21 {P : MPl} {s0 : State} {l : Launch} {X : Prop} {lev : Nat} {st0 : MSt} {Q : Outcome → MSt → Prop} {x1 x2 : Int32} {st : MSt} (h : (CQ (wM P s0 l X) mX5_fail lev (.ref P.mo :: [.int (iI 1)]) st (onI (fun r2 t1 => Q (.returned (some (.int r2))) t1) (fun x t => Q (.threw x) t)))) : jX5_sort_21 P s0 l X lev st0 Q x1 x2 st := by
  refine j_aload_n (r := some P.mo) dX5_sort_21 rfl ?_
  refine j_iconst (v := iI 1) dX5_sort_22 rfl ?_
  refine jm_calli (As := [.int (iI 1)]) (rest := []) kX5_fail rfl q2269 rfl rfl (Nat.le_of_ble_eq_true rfl) rfl dX5_sort_23 (Nat.succ_le_succ (Nat.zero_le _)) (h.mono (onI_mono (fun r2 t1 h => ?_) (fun _ _ h => h)))
  exact j_ireturn (ty := .int) rfl rfl dX5_sort_26 h
abbrev jX5_rule_29 (P : MPl) (s0 : State) (l : Launch) (X : Prop) (lev : Nat) (st0 : MSt) (Q : Outcome → MSt → Prop) (x1 x2 : Int32) (st : MSt) : Prop := JQ (wM P s0 l X) mX5_rule (lev + 1) st0 29 [some (va_rf (some P.mo)), some (.int x1), some (.int x2)] [] st Q
theorem tX5_rule {P : MPl} {s0 : State} {l : Launch} {X : Prop} {lev : Nat} {Q : Outcome → MSt → Prop} {x1 x2 : Int32} {st : MSt} (h : ((x1 < 0 → jX5_rule_29 P s0 l X lev st Q x1 x2 (mput 1 (iI 0) st)) ∧ (¬ x1 < 0 → (((fI st 20) ≤ x1 → jX5_rule_29 P s0 l X lev st Q x1 x2 (mput 1 (iI 0) st)) ∧ (¬ (fI st 20) ≤ x1 → ((x2 < 0 → jX5_rule_29 P s0 l X lev st Q x1 x2 (mput 1 (iI 0) st)) ∧ (¬ x2 < 0 → ((x2 < (fI st 20) → (inr (((iI 8) * x1) + x2) 64 ∧ Q (.returned (some (.int (aI st 19 (((iI 8) * x1) + x2))))) (mput 1 (iI 0) st))) ∧ (¬ x2 < (fI st 20) → jX5_rule_29 P s0 l X lev st Q x1 x2 (mput 1 (iI 0) st)))))))))) : CQ (wM P s0 l X) mX5_rule (lev + 1) [.ref P.mo, .int x1, .int x2] st Q := by
  refine CQ.of2 0 (lv := [some (va_rf (some P.mo)), some (.int x1), some (.int x2)]) (by decide) (Nat.le_of_ble_eq_true rfl) rfl rfl ?_
  refine j_aload_n (r := some P.mo) dX5_rule_0 rfl ?_
  refine j_iconst (v := iI 0) dX5_rule_1 rfl ?_
  refine jm_put fM_1 rfl dX5_rule_2 ?_
  refine j_iload_n dX5_rule_5 rfl ?_
  refine j_if_lt 29 dX5_rule_6 (by decide) (fun c4 => ?_) (fun c4 => ?_)
  · replace h := h.1 c4
    exact h
  · replace h := h.2 c4
    refine j_iload_n dX5_rule_9 rfl ?_
    refine j_aload_n (r := some P.mo) dX5_rule_10 rfl ?_
    refine jm_get (v := fI st 20) fM_20 rfl rfl dX5_rule_11 ?_
    refine j_icmp_ge 29 dX5_rule_14 (by decide) (fun c3 => ?_) (fun c3 => ?_)
    · replace h := h.1 c3
      exact h
    · replace h := h.2 c3
      refine j_iload_n dX5_rule_17 rfl ?_
      refine j_if_lt 29 dX5_rule_18 (by decide) (fun c2 => ?_) (fun c2 => ?_)
      · replace h := h.1 c2
        exact h
      · replace h := h.2 c2
        refine j_iload_n dX5_rule_21 rfl ?_
        refine j_aload_n (r := some P.mo) dX5_rule_22 rfl ?_
        refine jm_get (v := fI st 20) fM_20 rfl rfl dX5_rule_23 ?_
        refine j_icmp_lt 35 dX5_rule_26 (by decide) (fun c1 => ?_) (fun c1 => ?_)
        · replace h := h.1 c1
          refine j_aload_n (r := some P.mo) dX5_rule_35 rfl ?_
          refine jm_geta fM_19 rfl dX5_rule_36 ?_
          refine j_bipush (v := iI 8) dX5_rule_39 rfl ?_
          refine j_iload_n dX5_rule_41 rfl ?_
          refine j_imul dX5_rule_42 ?_
          refine j_iload_n dX5_rule_43 rfl ?_
          refine j_iadd dX5_rule_44 ?_
          refine jm_ald (v := aI st 19 (((iI 8) * x1) + x2)) rfl h.1 rfl rfl dX5_rule_45 ?_
          replace h := h.2
          exact j_ireturn (ty := .int) rfl rfl dX5_rule_46 h
        · replace h := h.2 c1
          exact h
theorem tX5_rule_29 {P : MPl} {s0 : State} {l : Launch} {X : Prop} {lev : Nat} {st0 : MSt} {Q : Outcome → MSt → Prop} {x1 x2 : Int32} {st : MSt} (h : (CQ (wM P s0 l X) mX5_fail lev (.ref P.mo :: [.int (iI 1)]) st (onI (fun r2 t1 => Q (.returned (some (.int r2))) t1) (fun x t => Q (.threw x) t)))) : jX5_rule_29 P s0 l X lev st0 Q x1 x2 st := by
  refine j_aload_n (r := some P.mo) dX5_rule_29 rfl ?_
  refine j_iconst (v := iI 1) dX5_rule_30 rfl ?_
  refine jm_calli (As := [.int (iI 1)]) (rest := []) kX5_fail rfl q2269 rfl rfl (Nat.le_of_ble_eq_true rfl) rfl dX5_rule_31 (Nat.succ_le_succ (Nat.zero_le _)) (h.mono (onI_mono (fun r2 t1 h => ?_) (fun _ _ h => h)))
  exact j_ireturn (ty := .int) rfl rfl dX5_rule_34 h
abbrev jX5_type_17 (P : MPl) (s0 : State) (l : Launch) (X : Prop) (lev : Nat) (st0 : MSt) (Q : Outcome → MSt → Prop) (x1 : Int32) (st : MSt) : Prop := JQ (wM P s0 l X) mX5_type (lev + 1) st0 17 [some (va_rf (some P.mo)), some (.int x1), none] [] st Q
theorem tX5_type {P : MPl} {s0 : State} {l : Launch} {X : Prop} {lev : Nat} {Q : Outcome → MSt → Prop} {x1 : Int32} {st : MSt} (h : ((x1 < 0 → jX5_type_17 P s0 l X lev st Q x1 (mput 1 (iI 0) st)) ∧ (¬ x1 < 0 → ((x1 < (fI st 27) → (CQ (wM P s0 l X) mX5_begin lev (.ref P.mo :: []) (mput 1 (iI 0) st) (onV (fun t1 => (inr x1 100 ∧ (CQ (wM P s0 l X) mX5_tell lev (.ref P.mo :: [.int (aI t1 23 x1), .int (iI 0), .int (iI 0), .int (iI 0), .int (iI 0)]) (mput 72 (iI 0) (mput 75 (iI 0) t1)) (onV (fun t3 => (CQ (wM P s0 l X) mX5_drop lev (.ref P.mo :: []) t3 (onV (fun t5 => (((fI t5 72) = 0 → Q (.returned (some (.int (fI t5 75)))) (mput 72 (iI 0) t5)) ∧ (¬ (fI t5 72) = 0 → Q (.returned (some (.int (-(fI t5 72))))) (mput 72 (iI 0) t5)))) (fun x t => Q (.threw x) t)))) (fun x t => Q (.threw x) t))))) (fun x t => Q (.threw x) t)))) ∧ (¬ x1 < (fI st 27) → jX5_type_17 P s0 l X lev st Q x1 (mput 1 (iI 0) st)))))) : CQ (wM P s0 l X) mX5_type (lev + 1) [.ref P.mo, .int x1] st Q := by
  refine CQ.of2 1 (lv := [some (va_rf (some P.mo)), some (.int x1), none]) (by decide) (Nat.le_of_ble_eq_true rfl) rfl rfl ?_
  refine j_aload_n (r := some P.mo) dX5_type_0 rfl ?_
  refine j_iconst (v := iI 0) dX5_type_1 rfl ?_
  refine jm_put fM_1 rfl dX5_type_2 ?_
  refine j_iload_n dX5_type_5 rfl ?_
  refine j_if_lt 17 dX5_type_6 (by decide) (fun c9 => ?_) (fun c9 => ?_)
  · replace h := h.1 c9
    exact h
  · replace h := h.2 c9
    refine j_iload_n dX5_type_9 rfl ?_
    refine j_aload_n (r := some P.mo) dX5_type_10 rfl ?_
    refine jm_get (v := fI st 27) fM_27 rfl rfl dX5_type_11 ?_
    refine j_icmp_lt 23 dX5_type_14 (by decide) (fun c8 => ?_) (fun c8 => ?_)
    · replace h := h.1 c8
      refine j_aload_n (r := some P.mo) dX5_type_23 rfl ?_
      refine jm_callv (As := []) (rest := []) kX5_begin rfl q2359 rfl rfl (Nat.le_of_ble_eq_true rfl) rfl dX5_type_24 (Nat.succ_le_succ (Nat.zero_le _)) (h.mono (onV_mono (fun t1 h => ?_) (fun _ _ h => h)))
      refine j_aload_n (r := some P.mo) dX5_type_27 rfl ?_
      refine j_iconst (v := iI 0) dX5_type_28 rfl ?_
      refine jm_put fM_75 rfl dX5_type_29 ?_
      refine j_aload_n (r := some P.mo) dX5_type_32 rfl ?_
      refine j_iconst (v := iI 0) dX5_type_33 rfl ?_
      refine jm_put fM_72 rfl dX5_type_34 ?_
      refine j_aload_n (r := some P.mo) dX5_type_37 rfl ?_
      refine j_aload_n (r := some P.mo) dX5_type_38 rfl ?_
      refine jm_geta fM_23 rfl dX5_type_39 ?_
      refine j_iload_n dX5_type_42 rfl ?_
      refine jm_ald (v := aI t1 23 x1) rfl h.1 rfl rfl dX5_type_43 ?_
      replace h := h.2
      refine j_iconst (v := iI 0) dX5_type_44 rfl ?_
      refine j_iconst (v := iI 0) dX5_type_45 rfl ?_
      refine j_iconst (v := iI 0) dX5_type_46 rfl ?_
      refine j_iconst (v := iI 0) dX5_type_47 rfl ?_
      refine jm_callv (As := [.int (aI t1 23 x1), .int (iI 0), .int (iI 0), .int (iI 0), .int (iI 0)]) (rest := []) kX5_tell rfl q2473 rfl rfl (Nat.le_of_ble_eq_true rfl) rfl dX5_type_48 (Nat.succ_le_succ (Nat.zero_le _)) (h.mono (onV_mono (fun t3 h => ?_) (fun _ _ h => h)))
      refine j_aload_n (r := some P.mo) dX5_type_51 rfl ?_
      refine jm_callv (As := []) (rest := []) kX5_drop rfl q2494 rfl rfl (Nat.le_of_ble_eq_true rfl) rfl dX5_type_52 (Nat.succ_le_succ (Nat.zero_le _)) (h.mono (onV_mono (fun t5 h => ?_) (fun _ _ h => h)))
      refine j_aload_n (r := some P.mo) dX5_type_55 rfl ?_
      refine jm_get (v := fI t5 72) fM_72 rfl rfl dX5_type_56 ?_
      refine j_istore_n (lv' := [some (va_rf (some P.mo)), some (.int x1), some (.int (fI t5 72))]) dX5_type_59 (by decide) rfl ?_
      refine j_aload_n (r := some P.mo) dX5_type_60 rfl ?_
      refine j_iconst (v := iI 0) dX5_type_61 rfl ?_
      refine jm_put fM_72 rfl dX5_type_62 ?_
      refine j_iload_n dX5_type_65 rfl ?_
      refine j_if_ne 76 dX5_type_66 (by decide) (fun c7 => ?_) (fun c7 => ?_)
      · replace h := h.2 c7
        refine j_iload_n dX5_type_76 rfl ?_
        refine j_ineg dX5_type_77 ?_
        exact j_ireturn (ty := .int) rfl rfl dX5_type_78 h
      · replace h := h.1 c7
        refine j_aload_n (r := some P.mo) dX5_type_69 rfl ?_
        refine jm_get (v := fI t5 75) fM_75 rfl rfl dX5_type_70 ?_
        refine j_goto 78 dX5_type_73 (by decide) ?_
        exact j_ireturn (ty := .int) rfl rfl dX5_type_78 h
    · replace h := h.2 c8
      exact h
theorem tX5_type_17 {P : MPl} {s0 : State} {l : Launch} {X : Prop} {lev : Nat} {st0 : MSt} {Q : Outcome → MSt → Prop} {x1 : Int32} {st : MSt} (h : (CQ (wM P s0 l X) mX5_fail lev (.ref P.mo :: [.int (iI 1)]) st (onI (fun r2 t1 => Q (.returned (some (.int r2))) t1) (fun x t => Q (.threw x) t)))) : jX5_type_17 P s0 l X lev st0 Q x1 st := by
  refine j_aload_n (r := some P.mo) dX5_type_17 rfl ?_
  refine j_iconst (v := iI 1) dX5_type_18 rfl ?_
  refine jm_calli (As := [.int (iI 1)]) (rest := []) kX5_fail rfl q2269 rfl rfl (Nat.le_of_ble_eq_true rfl) rfl dX5_type_19 (Nat.succ_le_succ (Nat.zero_le _)) (h.mono (onI_mono (fun r2 t1 h => ?_) (fun _ _ h => h)))
  exact j_ireturn (ty := .int) rfl rfl dX5_type_22 h
abbrev jX5_same_29 (P : MPl) (s0 : State) (l : Launch) (X : Prop) (lev : Nat) (st0 : MSt) (Q : Outcome → MSt → Prop) (x1 x2 : Int32) (st : MSt) : Prop := JQ (wM P s0 l X) mX5_same (lev + 1) st0 29 [some (va_rf (some P.mo)), some (.int x1), some (.int x2), none, none, none, none] [] st Q
theorem tX5_same {P : MPl} {s0 : State} {l : Launch} {X : Prop} {lev : Nat} {Q : Outcome → MSt → Prop} {x1 x2 : Int32} {st : MSt} (h : ((x1 < 0 → jX5_same_29 P s0 l X lev st Q x1 x2 (mput 1 (iI 0) st)) ∧ (¬ x1 < 0 → (((fI st 27) ≤ x1 → jX5_same_29 P s0 l X lev st Q x1 x2 (mput 1 (iI 0) st)) ∧ (¬ (fI st 27) ≤ x1 → ((x2 < 0 → jX5_same_29 P s0 l X lev st Q x1 x2 (mput 1 (iI 0) st)) ∧ (¬ x2 < 0 → ((x2 < (fI st 27) → (CQ (wM P s0 l X) mX5_begin lev (.ref P.mo :: []) (mput 1 (iI 0) st) (onV (fun t1 => (CQ (wM P s0 l X) mX5_node lev (.ref P.mo :: [.int (iI 2), .int x1, .int (iI 0), .int (iI 0), .int (iI 0)]) (mput 15 (iI 1) (mput 72 (iI 0) t1)) (onI (fun r4 t3 => (CQ (wM P s0 l X) mX5_node lev (.ref P.mo :: [.int (iI 2), .int x2, .int (iI 0), .int (iI 0), .int (iI 0)]) t3 (onI (fun r6 t5 => (CQ (wM P s0 l X) mX5_compare lev (.ref P.mo :: [.int r4, .int (iI 0), .int r6, .int (iI 0), .int (iI 0)]) (mput 15 (iI 0) t5) (onI (fun r8 t7 => (CQ (wM P s0 l X) mX5_drop lev (.ref P.mo :: []) t7 (onV (fun t9 => (((fI t9 72) = 0 → ((r8 = 0 → Q (.returned (some (.int (iI 0)))) (mput 72 (iI 0) t9)) ∧ (¬ r8 = 0 → Q (.returned (some (.int (iI 1)))) (mput 72 (iI 0) t9)))) ∧ (¬ (fI t9 72) = 0 → Q (.returned (some (.int (-(fI t9 72))))) (mput 72 (iI 0) t9)))) (fun x t => Q (.threw x) t)))) (fun x t => Q (.threw x) t)))) (fun x t => Q (.threw x) t)))) (fun x t => Q (.threw x) t)))) (fun x t => Q (.threw x) t)))) ∧ (¬ x2 < (fI st 27) → jX5_same_29 P s0 l X lev st Q x1 x2 (mput 1 (iI 0) st)))))))))) : CQ (wM P s0 l X) mX5_same (lev + 1) [.ref P.mo, .int x1, .int x2] st Q := by
  refine CQ.of2 4 (lv := [some (va_rf (some P.mo)), some (.int x1), some (.int x2), none, none, none, none]) (by decide) (Nat.le_of_ble_eq_true rfl) rfl rfl ?_
  refine j_aload_n (r := some P.mo) dX5_same_0 rfl ?_
  refine j_iconst (v := iI 0) dX5_same_1 rfl ?_
  refine jm_put fM_1 rfl dX5_same_2 ?_
  refine j_iload_n dX5_same_5 rfl ?_
  refine j_if_lt 29 dX5_same_6 (by decide) (fun c16 => ?_) (fun c16 => ?_)
  · replace h := h.1 c16
    exact h
  · replace h := h.2 c16
    refine j_iload_n dX5_same_9 rfl ?_
    refine j_aload_n (r := some P.mo) dX5_same_10 rfl ?_
    refine jm_get (v := fI st 27) fM_27 rfl rfl dX5_same_11 ?_
    refine j_icmp_ge 29 dX5_same_14 (by decide) (fun c15 => ?_) (fun c15 => ?_)
    · replace h := h.1 c15
      exact h
    · replace h := h.2 c15
      refine j_iload_n dX5_same_17 rfl ?_
      refine j_if_lt 29 dX5_same_18 (by decide) (fun c14 => ?_) (fun c14 => ?_)
      · replace h := h.1 c14
        exact h
      · replace h := h.2 c14
        refine j_iload_n dX5_same_21 rfl ?_
        refine j_aload_n (r := some P.mo) dX5_same_22 rfl ?_
        refine jm_get (v := fI st 27) fM_27 rfl rfl dX5_same_23 ?_
        refine j_icmp_lt 35 dX5_same_26 (by decide) (fun c13 => ?_) (fun c13 => ?_)
        · replace h := h.1 c13
          refine j_aload_n (r := some P.mo) dX5_same_35 rfl ?_
          refine jm_callv (As := []) (rest := []) kX5_begin rfl q2359 rfl rfl (Nat.le_of_ble_eq_true rfl) rfl dX5_same_36 (Nat.succ_le_succ (Nat.zero_le _)) (h.mono (onV_mono (fun t1 h => ?_) (fun _ _ h => h)))
          refine j_aload_n (r := some P.mo) dX5_same_39 rfl ?_
          refine j_iconst (v := iI 0) dX5_same_40 rfl ?_
          refine jm_put fM_72 rfl dX5_same_41 ?_
          refine j_aload_n (r := some P.mo) dX5_same_44 rfl ?_
          refine j_iconst (v := iI 1) dX5_same_45 rfl ?_
          refine jm_putz fM_15 isZ1 rfl dX5_same_46 ?_
          refine j_aload_n (r := some P.mo) dX5_same_49 rfl ?_
          refine j_iconst (v := iI 2) dX5_same_50 rfl ?_
          refine j_iload_n dX5_same_51 rfl ?_
          refine j_iconst (v := iI 0) dX5_same_52 rfl ?_
          refine j_iconst (v := iI 0) dX5_same_53 rfl ?_
          refine j_iconst (v := iI 0) dX5_same_54 rfl ?_
          refine jm_calli (As := [.int (iI 2), .int x1, .int (iI 0), .int (iI 0), .int (iI 0)]) (rest := []) kX5_node rfl q2315 rfl rfl (Nat.le_of_ble_eq_true rfl) rfl dX5_same_55 (Nat.succ_le_succ (Nat.zero_le _)) (h.mono (onI_mono (fun r4 t3 h => ?_) (fun _ _ h => h)))
          refine j_istore_n (lv' := [some (va_rf (some P.mo)), some (.int x1), some (.int x2), some (.int r4), none, none, none]) dX5_same_58 (by decide) rfl ?_
          refine j_aload_n (r := some P.mo) dX5_same_59 rfl ?_
          refine j_iconst (v := iI 2) dX5_same_60 rfl ?_
          refine j_iload_n dX5_same_61 rfl ?_
          refine j_iconst (v := iI 0) dX5_same_62 rfl ?_
          refine j_iconst (v := iI 0) dX5_same_63 rfl ?_
          refine j_iconst (v := iI 0) dX5_same_64 rfl ?_
          refine jm_calli (As := [.int (iI 2), .int x2, .int (iI 0), .int (iI 0), .int (iI 0)]) (rest := []) kX5_node rfl q2315 rfl rfl (Nat.le_of_ble_eq_true rfl) rfl dX5_same_65 (Nat.succ_le_succ (Nat.zero_le _)) (h.mono (onI_mono (fun r6 t5 h => ?_) (fun _ _ h => h)))
          refine j_istore (lv' := [some (va_rf (some P.mo)), some (.int x1), some (.int x2), some (.int r4), some (.int r6), none, none]) dX5_same_68 (by decide) rfl ?_
          refine j_aload_n (r := some P.mo) dX5_same_70 rfl ?_
          refine j_iconst (v := iI 0) dX5_same_71 rfl ?_
          refine jm_putz fM_15 isZ0 rfl dX5_same_72 ?_
          refine j_aload_n (r := some P.mo) dX5_same_75 rfl ?_
          refine j_iload_n dX5_same_76 rfl ?_
          refine j_iconst (v := iI 0) dX5_same_77 rfl ?_
          refine j_iload dX5_same_78 rfl ?_
          refine j_iconst (v := iI 0) dX5_same_80 rfl ?_
          refine j_iconst (v := iI 0) dX5_same_81 rfl ?_
          refine jm_calli (As := [.int r4, .int (iI 0), .int r6, .int (iI 0), .int (iI 0)]) (rest := []) kX5_compare rfl q2444 rfl rfl (Nat.le_of_ble_eq_true rfl) rfl dX5_same_82 (Nat.succ_le_succ (Nat.zero_le _)) (h.mono (onI_mono (fun r8 t7 h => ?_) (fun _ _ h => h)))
          refine j_istore (lv' := [some (va_rf (some P.mo)), some (.int x1), some (.int x2), some (.int r4), some (.int r6), some (.int r8), none]) dX5_same_85 (by decide) rfl ?_
          refine j_aload_n (r := some P.mo) dX5_same_87 rfl ?_
          refine jm_callv (As := []) (rest := []) kX5_drop rfl q2494 rfl rfl (Nat.le_of_ble_eq_true rfl) rfl dX5_same_88 (Nat.succ_le_succ (Nat.zero_le _)) (h.mono (onV_mono (fun t9 h => ?_) (fun _ _ h => h)))
          refine j_aload_n (r := some P.mo) dX5_same_91 rfl ?_
          refine jm_get (v := fI t9 72) fM_72 rfl rfl dX5_same_92 ?_
          refine j_istore (lv' := [some (va_rf (some P.mo)), some (.int x1), some (.int x2), some (.int r4), some (.int r6), some (.int r8), some (.int (fI t9 72))]) dX5_same_95 (by decide) rfl ?_
          refine j_aload_n (r := some P.mo) dX5_same_97 rfl ?_
          refine j_iconst (v := iI 0) dX5_same_98 rfl ?_
          refine jm_put fM_72 rfl dX5_same_99 ?_
          refine j_iload dX5_same_102 rfl ?_
          refine j_if_eq 113 dX5_same_104 (by decide) (fun c12 => ?_) (fun c12 => ?_)
          · replace h := h.1 c12
            refine j_iload dX5_same_113 rfl ?_
            refine j_if_eq 122 dX5_same_115 (by decide) (fun c11 => ?_) (fun c11 => ?_)
            · replace h := h.1 c11
              refine j_iconst (v := iI 0) dX5_same_122 rfl ?_
              exact j_ireturn (ty := .int) rfl rfl dX5_same_123 h
            · replace h := h.2 c11
              refine j_iconst (v := iI 1) dX5_same_118 rfl ?_
              refine j_goto 123 dX5_same_119 (by decide) ?_
              exact j_ireturn (ty := .int) rfl rfl dX5_same_123 h
          · replace h := h.2 c12
            refine j_iload dX5_same_107 rfl ?_
            refine j_ineg dX5_same_109 ?_
            refine j_goto 123 dX5_same_110 (by decide) ?_
            exact j_ireturn (ty := .int) rfl rfl dX5_same_123 h
        · replace h := h.2 c13
          exact h
theorem tX5_same_29 {P : MPl} {s0 : State} {l : Launch} {X : Prop} {lev : Nat} {st0 : MSt} {Q : Outcome → MSt → Prop} {x1 x2 : Int32} {st : MSt} (h : (CQ (wM P s0 l X) mX5_fail lev (.ref P.mo :: [.int (iI 1)]) st (onI (fun r2 t1 => Q (.returned (some (.int r2))) t1) (fun x t => Q (.threw x) t)))) : jX5_same_29 P s0 l X lev st0 Q x1 x2 st := by
  refine j_aload_n (r := some P.mo) dX5_same_29 rfl ?_
  refine j_iconst (v := iI 1) dX5_same_30 rfl ?_
  refine jm_calli (As := [.int (iI 1)]) (rest := []) kX5_fail rfl q2269 rfl rfl (Nat.le_of_ble_eq_true rfl) rfl dX5_same_31 (Nat.succ_le_succ (Nat.zero_le _)) (h.mono (onI_mono (fun r2 t1 h => ?_) (fun _ _ h => h)))
  exact j_ireturn (ty := .int) rfl rfl dX5_same_34 h
theorem tX5_mark {P : MPl} {s0 : State} {l : Launch} {X : Prop} {lev : Nat} {Q : Outcome → MSt → Prop} {st : MSt} (h : (((fI st 29) = (iI 20) → (CQ (wM P s0 l X) mX5_fail lev (.ref P.mo :: [.int (iI 1)]) (mput 1 (iI 0) st) (onI (fun r2 t1 => Q (.returned (some (.int r2))) t1) (fun x t => Q (.threw x) t)))) ∧ (¬ (fI st 29) = (iI 20) → (inr (fI st 29) 20 ∧ Q (.returned (some (.int ((fI st 29) + (iI 1))))) (mput 29 ((fI st 29) + (iI 1)) (mst 28 (fI st 29) (fI st 27) (mput 1 (iI 0) st))))))) : CQ (wM P s0 l X) mX5_mark (lev + 1) [.ref P.mo] st Q := by
  refine CQ.of2 0 (lv := [some (va_rf (some P.mo))]) (by decide) (Nat.le_of_ble_eq_true rfl) rfl rfl ?_
  refine j_aload_n (r := some P.mo) dX5_mark_0 rfl ?_
  refine j_iconst (v := iI 0) dX5_mark_1 rfl ?_
  refine jm_put fM_1 rfl dX5_mark_2 ?_
  refine j_aload_n (r := some P.mo) dX5_mark_5 rfl ?_
  refine jm_get (v := fI st 29) fM_29 rfl rfl dX5_mark_6 ?_
  refine j_bipush (v := iI 20) dX5_mark_9 rfl ?_
  refine j_icmp_ne 20 dX5_mark_11 (by decide) (fun c3 => ?_) (fun c3 => ?_)
  · replace h := h.2 c3
    refine j_aload_n (r := some P.mo) dX5_mark_20 rfl ?_
    refine jm_geta fM_28 rfl dX5_mark_21 ?_
    refine j_aload_n (r := some P.mo) dX5_mark_24 rfl ?_
    refine jm_get (v := fI st 29) fM_29 rfl rfl dX5_mark_25 ?_
    refine j_aload_n (r := some P.mo) dX5_mark_28 rfl ?_
    refine jm_get (v := fI st 27) fM_27 rfl rfl dX5_mark_29 ?_
    refine jm_ast rfl h.1 rfl dX5_mark_32 ?_
    replace h := h.2
    refine j_aload_n (r := some P.mo) dX5_mark_33 rfl ?_
    refine j_dup dX5_mark_34 rfl ?_
    refine jm_get (v := fI st 29) fM_29 rfl rfl dX5_mark_35 ?_
    refine j_iconst (v := iI 1) dX5_mark_38 rfl ?_
    refine j_iadd dX5_mark_39 ?_
    refine jm_put fM_29 rfl dX5_mark_40 ?_
    refine j_aload_n (r := some P.mo) dX5_mark_43 rfl ?_
    refine jm_get (v := (fI st 29) + (iI 1)) fM_29 rfl rfl dX5_mark_44 ?_
    exact j_ireturn (ty := .int) rfl rfl dX5_mark_47 h
  · replace h := h.1 c3
    refine j_aload_n (r := some P.mo) dX5_mark_14 rfl ?_
    refine j_iconst (v := iI 1) dX5_mark_15 rfl ?_
    refine jm_calli (As := [.int (iI 1)]) (rest := []) kX5_fail rfl q2269 rfl rfl (Nat.le_of_ble_eq_true rfl) rfl dX5_mark_16 (Nat.succ_le_succ (Nat.zero_le _)) (h.mono (onI_mono (fun r2 t1 h => ?_) (fun _ _ h => h)))
    exact j_ireturn (ty := .int) rfl rfl dX5_mark_19 h
theorem tX5_back {P : MPl} {s0 : State} {l : Launch} {X : Prop} {lev : Nat} {Q : Outcome → MSt → Prop} {st : MSt} (h : (((fI st 29) = 0 → (CQ (wM P s0 l X) mX5_fail lev (.ref P.mo :: [.int (iI 1)]) (mput 1 (iI 0) st) (onI (fun r3 t2 => Q (.returned (some (.int r3))) t2) (fun x t => Q (.threw x) t)))) ∧ (¬ (fI st 29) = 0 → (inr ((fI st 29) - (iI 1)) 20 ∧ (((aI st 28 ((fI st 29) - (iI 1))) = 0 → Q (.returned (some (.int (aI st 28 ((fI st 29) - (iI 1)))))) (mput 39 (iI 8) (mput 27 (aI st 28 ((fI st 29) - (iI 1))) (mput 29 ((fI st 29) - (iI 1)) (mput 1 (iI 0) st))))) ∧ (¬ (aI st 28 ((fI st 29) - (iI 1))) = 0 → (inr ((aI st 28 ((fI st 29) - (iI 1))) - (iI 1)) 100 ∧ Q (.returned (some (.int (aI st 28 ((fI st 29) - (iI 1)))))) (mput 39 (aI st 26 ((aI st 28 ((fI st 29) - (iI 1))) - (iI 1))) (mput 27 (aI st 28 ((fI st 29) - (iI 1))) (mput 29 ((fI st 29) - (iI 1)) (mput 1 (iI 0) st))))))))))) : CQ (wM P s0 l X) mX5_back (lev + 1) [.ref P.mo] st Q := by
  refine CQ.of2 0 (lv := [some (va_rf (some P.mo))]) (by decide) (Nat.le_of_ble_eq_true rfl) rfl rfl ?_
  refine j_aload_n (r := some P.mo) dX5_back_0 rfl ?_
  refine j_iconst (v := iI 0) dX5_back_1 rfl ?_
  refine jm_put fM_1 rfl dX5_back_2 ?_
  refine j_aload_n (r := some P.mo) dX5_back_5 rfl ?_
  refine jm_get (v := fI st 29) fM_29 rfl rfl dX5_back_6 ?_
  refine j_if_ne 18 dX5_back_9 (by decide) (fun c4 => ?_) (fun c4 => ?_)
  · replace h := h.2 c4
    refine j_aload_n (r := some P.mo) dX5_back_18 rfl ?_
    refine j_dup dX5_back_19 rfl ?_
    refine jm_get (v := fI st 29) fM_29 rfl rfl dX5_back_20 ?_
    refine j_iconst (v := iI 1) dX5_back_23 rfl ?_
    refine j_isub dX5_back_24 ?_
    refine jm_put fM_29 rfl dX5_back_25 ?_
    refine j_aload_n (r := some P.mo) dX5_back_28 rfl ?_
    refine j_aload_n (r := some P.mo) dX5_back_29 rfl ?_
    refine jm_geta fM_28 rfl dX5_back_30 ?_
    refine j_aload_n (r := some P.mo) dX5_back_33 rfl ?_
    refine jm_get (v := (fI st 29) - (iI 1)) fM_29 rfl rfl dX5_back_34 ?_
    refine jm_ald (v := aI st 28 ((fI st 29) - (iI 1))) rfl h.1 rfl rfl dX5_back_37 ?_
    replace h := h.2
    refine jm_put fM_27 rfl dX5_back_38 ?_
    refine j_aload_n (r := some P.mo) dX5_back_41 rfl ?_
    refine j_aload_n (r := some P.mo) dX5_back_42 rfl ?_
    refine jm_get (v := aI st 28 ((fI st 29) - (iI 1))) fM_27 rfl rfl dX5_back_43 ?_
    refine j_if_ne 54 dX5_back_46 (by decide) (fun c1 => ?_) (fun c1 => ?_)
    · replace h := h.2 c1
      refine j_aload_n (r := some P.mo) dX5_back_54 rfl ?_
      refine jm_geta fM_26 rfl dX5_back_55 ?_
      refine j_aload_n (r := some P.mo) dX5_back_58 rfl ?_
      refine jm_get (v := aI st 28 ((fI st 29) - (iI 1))) fM_27 rfl rfl dX5_back_59 ?_
      refine j_iconst (v := iI 1) dX5_back_62 rfl ?_
      refine j_isub dX5_back_63 ?_
      refine jm_ald (v := aI st 26 ((aI st 28 ((fI st 29) - (iI 1))) - (iI 1))) rfl h.1 rfl rfl dX5_back_64 ?_
      replace h := h.2
      refine jm_put fM_39 rfl dX5_back_65 ?_
      refine j_aload_n (r := some P.mo) dX5_back_68 rfl ?_
      refine jm_get (v := aI st 28 ((fI st 29) - (iI 1))) fM_27 rfl rfl dX5_back_69 ?_
      exact j_ireturn (ty := .int) rfl rfl dX5_back_72 h
    · replace h := h.1 c1
      refine j_bipush (v := iI 8) dX5_back_49 rfl ?_
      refine j_goto 65 dX5_back_51 (by decide) ?_
      refine jm_put fM_39 rfl dX5_back_65 ?_
      refine j_aload_n (r := some P.mo) dX5_back_68 rfl ?_
      refine jm_get (v := aI st 28 ((fI st 29) - (iI 1))) fM_27 rfl rfl dX5_back_69 ?_
      exact j_ireturn (ty := .int) rfl rfl dX5_back_72 h
  · replace h := h.1 c4
    refine j_aload_n (r := some P.mo) dX5_back_12 rfl ?_
    refine j_iconst (v := iI 1) dX5_back_13 rfl ?_
    refine jm_calli (As := [.int (iI 1)]) (rest := []) kX5_fail rfl q2269 rfl rfl (Nat.le_of_ble_eq_true rfl) rfl dX5_back_14 (Nat.succ_le_succ (Nat.zero_le _)) (h.mono (onI_mono (fun r3 t2 h => ?_) (fun _ _ h => h)))
    exact j_ireturn (ty := .int) rfl rfl dX5_back_17 h
