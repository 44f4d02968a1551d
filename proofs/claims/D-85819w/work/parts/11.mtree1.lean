/-! trees (made by gen/genm.py) -/
set_option maxRecDepth 100000
theorem tX5_thrown {P : MPl} {s0 : State} {l : Launch} {X : Prop} {lev : Nat} {Q : Outcome → MSt → Prop} {st : MSt} (h : Q (.returned (some (.int (fI st 1)))) st) : CQ (wM P s0 l X) mX5_thrown (lev + 1) [.ref P.mo] st Q := by
  refine CQ.of2 0 (lv := [some (va_rf (some P.mo))]) (by decide) (Nat.le_of_ble_eq_true rfl) rfl rfl ?_
  refine j_aload_n (r := some P.mo) dX5_thrown_0 rfl ?_
  refine jm_get (v := fI st 1) fM_1 rfl rfl dX5_thrown_1 ?_
  exact j_ireturn (ty := .int) rfl rfl dX5_thrown_4 h
abbrev jX5_feed_23 (P : MPl) (s0 : State) (l : Launch) (X : Prop) (lev : Nat) (st0 : MSt) (Q : Outcome → MSt → Prop) (x1 x2 x3 x4 x5 x6 : Int32) (st : MSt) : Prop := JQ (wM P s0 l X) mX5_feed (lev + 1) st0 23 [some (va_rf (some P.mo)), some (.int x1), some (.int x2), some (.int x3), some (.int x4), some (.int x5), some (.int x6), none] [] st Q
theorem tX5_feed {P : MPl} {s0 : State} {l : Launch} {X : Prop} {lev : Nat} {Q : Outcome → MSt → Prop} {x1 x2 x3 x4 x5 : Int32} {st : MSt} (h : ((((fI st 3) + (iI 20)) ≤ (iI 4000) → jX5_feed_23 P s0 l X lev st Q x1 x2 x3 x4 x5 (iI 0) (mput 1 (iI 0) st)) ∧ (¬ ((fI st 3) + (iI 20)) ≤ (iI 4000) → Q (.returned (some (.int (iI (-1))))) (mput 1 (iI 0) st)))) : CQ (wM P s0 l X) mX5_feed (lev + 1) [.ref P.mo, .int x1, .int x2, .int x3, .int x4, .int x5] st Q := by
  refine CQ.of2 2 (lv := [some (va_rf (some P.mo)), some (.int x1), some (.int x2), some (.int x3), some (.int x4), some (.int x5), none, none]) (by decide) (Nat.le_of_ble_eq_true rfl) rfl rfl ?_
  refine j_aload_n (r := some P.mo) dX5_feed_0 rfl ?_
  refine j_iconst (v := iI 0) dX5_feed_1 rfl ?_
  refine jm_put fM_1 rfl dX5_feed_2 ?_
  refine j_aload_n (r := some P.mo) dX5_feed_5 rfl ?_
  refine jm_get (v := fI st 3) fM_3 rfl rfl dX5_feed_6 ?_
  refine j_bipush (v := iI 20) dX5_feed_9 rfl ?_
  refine j_iadd dX5_feed_11 ?_
  refine j_sipush (v := iI 4000) dX5_feed_12 rfl ?_
  refine j_icmp_le 20 dX5_feed_15 (by decide) (fun c1 => ?_) (fun c1 => ?_)
  · replace h := h.1 c1
    refine j_iconst (v := iI 0) dX5_feed_20 rfl ?_
    refine j_istore (lv' := [some (va_rf (some P.mo)), some (.int x1), some (.int x2), some (.int x3), some (.int x4), some (.int x5), some (.int (iI 0)), none]) dX5_feed_21 (by decide) rfl ?_
    exact h
  · replace h := h.2 c1
    refine j_iconst (v := iI (-1)) dX5_feed_18 rfl ?_
    exact j_ireturn (ty := .int) rfl rfl dX5_feed_19 h
theorem tX5_feed_23 {P : MPl} {s0 : State} {l : Launch} {X : Prop} {lev : Nat} {st0 : MSt} {Q : Outcome → MSt → Prop} {x1 x2 x3 x4 x5 x6 : Int32} {st : MSt} (h : (((iI 20) ≤ x6 → Q (.returned (some (.int (fI st 3)))) st) ∧ (¬ (iI 20) ≤ x6 → (((iI 4) ≤ x6 → (((iI 8) ≤ x6 → (((iI 12) ≤ x6 → (((iI 16) ≤ x6 → (inr (fI st 3) 4000 ∧ jX5_feed_23 P s0 l X lev st0 Q x1 x2 x3 x4 x5 (x6 + iI 1) (mput 3 ((fI st 3) + (iI 1)) (mst 2 (fI st 3) ((x5 >>> (((iI 24) - ((iI 8) * (x6 - x6 / (iI 4) * (iI 4)))) &&& 31)) &&& (iI 255)) st)))) ∧ (¬ (iI 16) ≤ x6 → (inr (fI st 3) 4000 ∧ jX5_feed_23 P s0 l X lev st0 Q x1 x2 x3 x4 x5 (x6 + iI 1) (mput 3 ((fI st 3) + (iI 1)) (mst 2 (fI st 3) ((x4 >>> (((iI 24) - ((iI 8) * (x6 - x6 / (iI 4) * (iI 4)))) &&& 31)) &&& (iI 255)) st)))))) ∧ (¬ (iI 12) ≤ x6 → (inr (fI st 3) 4000 ∧ jX5_feed_23 P s0 l X lev st0 Q x1 x2 x3 x4 x5 (x6 + iI 1) (mput 3 ((fI st 3) + (iI 1)) (mst 2 (fI st 3) ((x3 >>> (((iI 24) - ((iI 8) * (x6 - x6 / (iI 4) * (iI 4)))) &&& 31)) &&& (iI 255)) st)))))) ∧ (¬ (iI 8) ≤ x6 → (inr (fI st 3) 4000 ∧ jX5_feed_23 P s0 l X lev st0 Q x1 x2 x3 x4 x5 (x6 + iI 1) (mput 3 ((fI st 3) + (iI 1)) (mst 2 (fI st 3) ((x2 >>> (((iI 24) - ((iI 8) * (x6 - x6 / (iI 4) * (iI 4)))) &&& 31)) &&& (iI 255)) st)))))) ∧ (¬ (iI 4) ≤ x6 → (inr (fI st 3) 4000 ∧ jX5_feed_23 P s0 l X lev st0 Q x1 x2 x3 x4 x5 (x6 + iI 1) (mput 3 ((fI st 3) + (iI 1)) (mst 2 (fI st 3) ((x1 >>> (((iI 24) - ((iI 8) * (x6 - x6 / (iI 4) * (iI 4)))) &&& 31)) &&& (iI 255)) st)))))))) : jX5_feed_23 P s0 l X lev st0 Q x1 x2 x3 x4 x5 x6 st := by
  refine j_iload dX5_feed_23 rfl ?_
  refine j_bipush (v := iI 20) dX5_feed_25 rfl ?_
  refine j_icmp_ge 120 dX5_feed_27 (by decide) (fun c5 => ?_) (fun c5 => ?_)
  · replace h := h.1 c5
    refine j_aload_n (r := some P.mo) dX5_feed_120 rfl ?_
    refine jm_get (v := fI st 3) fM_3 rfl rfl dX5_feed_121 ?_
    exact j_ireturn (ty := .int) rfl rfl dX5_feed_124 h
  · replace h := h.2 c5
    refine j_iload dX5_feed_30 rfl ?_
    refine j_iconst (v := iI 4) dX5_feed_32 rfl ?_
    refine j_icmp_ge 40 dX5_feed_33 (by decide) (fun c4 => ?_) (fun c4 => ?_)
    · replace h := h.1 c4
      refine j_iload dX5_feed_40 rfl ?_
      refine j_bipush (v := iI 8) dX5_feed_42 rfl ?_
      refine j_icmp_ge 51 dX5_feed_44 (by decide) (fun c3 => ?_) (fun c3 => ?_)
      · replace h := h.1 c3
        refine j_iload dX5_feed_51 rfl ?_
        refine j_bipush (v := iI 12) dX5_feed_53 rfl ?_
        refine j_icmp_ge 62 dX5_feed_55 (by decide) (fun c2 => ?_) (fun c2 => ?_)
        · replace h := h.1 c2
          refine j_iload dX5_feed_62 rfl ?_
          refine j_bipush (v := iI 16) dX5_feed_64 rfl ?_
          refine j_icmp_ge 74 dX5_feed_66 (by decide) (fun c1 => ?_) (fun c1 => ?_)
          · replace h := h.1 c1
            refine j_iload dX5_feed_74 rfl ?_
            refine j_istore (lv' := [some (va_rf (some P.mo)), some (.int x1), some (.int x2), some (.int x3), some (.int x4), some (.int x5), some (.int x6), some (.int x5)]) dX5_feed_76 (by decide) rfl ?_
            refine j_aload_n (r := some P.mo) dX5_feed_78 rfl ?_
            refine jm_geta fM_2 rfl dX5_feed_79 ?_
            refine j_aload_n (r := some P.mo) dX5_feed_82 rfl ?_
            refine jm_get (v := fI st 3) fM_3 rfl rfl dX5_feed_83 ?_
            refine j_iload dX5_feed_86 rfl ?_
            refine j_bipush (v := iI 24) dX5_feed_88 rfl ?_
            refine j_bipush (v := iI 8) dX5_feed_90 rfl ?_
            refine j_iload dX5_feed_92 rfl ?_
            refine j_iconst (v := iI 4) dX5_feed_94 rfl ?_
            refine j_irem dX5_feed_95 (by decide) ?_
            refine j_imul dX5_feed_96 ?_
            refine j_isub dX5_feed_97 ?_
            refine j_ishr dX5_feed_98 ?_
            refine j_sipush (v := iI 255) dX5_feed_99 rfl ?_
            refine j_iand dX5_feed_102 ?_
            refine jm_ast rfl h.1 rfl dX5_feed_103 ?_
            replace h := h.2
            refine j_aload_n (r := some P.mo) dX5_feed_104 rfl ?_
            refine j_dup dX5_feed_105 rfl ?_
            refine jm_get (v := fI st 3) fM_3 rfl rfl dX5_feed_106 ?_
            refine j_iconst (v := iI 1) dX5_feed_109 rfl ?_
            refine j_iadd dX5_feed_110 ?_
            refine jm_put fM_3 rfl dX5_feed_111 ?_
            refine j_iinc (lv' := [some (va_rf (some P.mo)), some (.int x1), some (.int x2), some (.int x3), some (.int x4), some (.int x5), some (.int (x6 + iI 1)), some (.int x5)]) dX5_feed_114 rfl (by decide) rfl ?_
            refine j_goto 23 dX5_feed_117 (by decide) ?_
            exact j_mask [true, true, true, true, true, true, true, false] rfl h
          · replace h := h.2 c1
            refine j_iload dX5_feed_69 rfl ?_
            refine j_goto 76 dX5_feed_71 (by decide) ?_
            refine j_istore (lv' := [some (va_rf (some P.mo)), some (.int x1), some (.int x2), some (.int x3), some (.int x4), some (.int x5), some (.int x6), some (.int x4)]) dX5_feed_76 (by decide) rfl ?_
            refine j_aload_n (r := some P.mo) dX5_feed_78 rfl ?_
            refine jm_geta fM_2 rfl dX5_feed_79 ?_
            refine j_aload_n (r := some P.mo) dX5_feed_82 rfl ?_
            refine jm_get (v := fI st 3) fM_3 rfl rfl dX5_feed_83 ?_
            refine j_iload dX5_feed_86 rfl ?_
            refine j_bipush (v := iI 24) dX5_feed_88 rfl ?_
            refine j_bipush (v := iI 8) dX5_feed_90 rfl ?_
            refine j_iload dX5_feed_92 rfl ?_
            refine j_iconst (v := iI 4) dX5_feed_94 rfl ?_
            refine j_irem dX5_feed_95 (by decide) ?_
            refine j_imul dX5_feed_96 ?_
            refine j_isub dX5_feed_97 ?_
            refine j_ishr dX5_feed_98 ?_
            refine j_sipush (v := iI 255) dX5_feed_99 rfl ?_
            refine j_iand dX5_feed_102 ?_
            refine jm_ast rfl h.1 rfl dX5_feed_103 ?_
            replace h := h.2
            refine j_aload_n (r := some P.mo) dX5_feed_104 rfl ?_
            refine j_dup dX5_feed_105 rfl ?_
            refine jm_get (v := fI st 3) fM_3 rfl rfl dX5_feed_106 ?_
            refine j_iconst (v := iI 1) dX5_feed_109 rfl ?_
            refine j_iadd dX5_feed_110 ?_
            refine jm_put fM_3 rfl dX5_feed_111 ?_
            refine j_iinc (lv' := [some (va_rf (some P.mo)), some (.int x1), some (.int x2), some (.int x3), some (.int x4), some (.int x5), some (.int (x6 + iI 1)), some (.int x4)]) dX5_feed_114 rfl (by decide) rfl ?_
            refine j_goto 23 dX5_feed_117 (by decide) ?_
            exact j_mask [true, true, true, true, true, true, true, false] rfl h
        · replace h := h.2 c2
          refine j_iload_n dX5_feed_58 rfl ?_
          refine j_goto 76 dX5_feed_59 (by decide) ?_
          refine j_istore (lv' := [some (va_rf (some P.mo)), some (.int x1), some (.int x2), some (.int x3), some (.int x4), some (.int x5), some (.int x6), some (.int x3)]) dX5_feed_76 (by decide) rfl ?_
          refine j_aload_n (r := some P.mo) dX5_feed_78 rfl ?_
          refine jm_geta fM_2 rfl dX5_feed_79 ?_
          refine j_aload_n (r := some P.mo) dX5_feed_82 rfl ?_
          refine jm_get (v := fI st 3) fM_3 rfl rfl dX5_feed_83 ?_
          refine j_iload dX5_feed_86 rfl ?_
          refine j_bipush (v := iI 24) dX5_feed_88 rfl ?_
          refine j_bipush (v := iI 8) dX5_feed_90 rfl ?_
          refine j_iload dX5_feed_92 rfl ?_
          refine j_iconst (v := iI 4) dX5_feed_94 rfl ?_
          refine j_irem dX5_feed_95 (by decide) ?_
          refine j_imul dX5_feed_96 ?_
          refine j_isub dX5_feed_97 ?_
          refine j_ishr dX5_feed_98 ?_
          refine j_sipush (v := iI 255) dX5_feed_99 rfl ?_
          refine j_iand dX5_feed_102 ?_
          refine jm_ast rfl h.1 rfl dX5_feed_103 ?_
          replace h := h.2
          refine j_aload_n (r := some P.mo) dX5_feed_104 rfl ?_
          refine j_dup dX5_feed_105 rfl ?_
          refine jm_get (v := fI st 3) fM_3 rfl rfl dX5_feed_106 ?_
          refine j_iconst (v := iI 1) dX5_feed_109 rfl ?_
          refine j_iadd dX5_feed_110 ?_
          refine jm_put fM_3 rfl dX5_feed_111 ?_
          refine j_iinc (lv' := [some (va_rf (some P.mo)), some (.int x1), some (.int x2), some (.int x3), some (.int x4), some (.int x5), some (.int (x6 + iI 1)), some (.int x3)]) dX5_feed_114 rfl (by decide) rfl ?_
          refine j_goto 23 dX5_feed_117 (by decide) ?_
          exact j_mask [true, true, true, true, true, true, true, false] rfl h
      · replace h := h.2 c3
        refine j_iload_n dX5_feed_47 rfl ?_
        refine j_goto 76 dX5_feed_48 (by decide) ?_
        refine j_istore (lv' := [some (va_rf (some P.mo)), some (.int x1), some (.int x2), some (.int x3), some (.int x4), some (.int x5), some (.int x6), some (.int x2)]) dX5_feed_76 (by decide) rfl ?_
        refine j_aload_n (r := some P.mo) dX5_feed_78 rfl ?_
        refine jm_geta fM_2 rfl dX5_feed_79 ?_
        refine j_aload_n (r := some P.mo) dX5_feed_82 rfl ?_
        refine jm_get (v := fI st 3) fM_3 rfl rfl dX5_feed_83 ?_
        refine j_iload dX5_feed_86 rfl ?_
        refine j_bipush (v := iI 24) dX5_feed_88 rfl ?_
        refine j_bipush (v := iI 8) dX5_feed_90 rfl ?_
        refine j_iload dX5_feed_92 rfl ?_
        refine j_iconst (v := iI 4) dX5_feed_94 rfl ?_
        refine j_irem dX5_feed_95 (by decide) ?_
        refine j_imul dX5_feed_96 ?_
        refine j_isub dX5_feed_97 ?_
        refine j_ishr dX5_feed_98 ?_
        refine j_sipush (v := iI 255) dX5_feed_99 rfl ?_
        refine j_iand dX5_feed_102 ?_
        refine jm_ast rfl h.1 rfl dX5_feed_103 ?_
        replace h := h.2
        refine j_aload_n (r := some P.mo) dX5_feed_104 rfl ?_
        refine j_dup dX5_feed_105 rfl ?_
        refine jm_get (v := fI st 3) fM_3 rfl rfl dX5_feed_106 ?_
        refine j_iconst (v := iI 1) dX5_feed_109 rfl ?_
        refine j_iadd dX5_feed_110 ?_
        refine jm_put fM_3 rfl dX5_feed_111 ?_
        refine j_iinc (lv' := [some (va_rf (some P.mo)), some (.int x1), some (.int x2), some (.int x3), some (.int x4), some (.int x5), some (.int (x6 + iI 1)), some (.int x2)]) dX5_feed_114 rfl (by decide) rfl ?_
        refine j_goto 23 dX5_feed_117 (by decide) ?_
        exact j_mask [true, true, true, true, true, true, true, false] rfl h
    · replace h := h.2 c4
      refine j_iload_n dX5_feed_36 rfl ?_
      refine j_goto 76 dX5_feed_37 (by decide) ?_
      refine j_istore (lv' := [some (va_rf (some P.mo)), some (.int x1), some (.int x2), some (.int x3), some (.int x4), some (.int x5), some (.int x6), some (.int x1)]) dX5_feed_76 (by decide) rfl ?_
      refine j_aload_n (r := some P.mo) dX5_feed_78 rfl ?_
      refine jm_geta fM_2 rfl dX5_feed_79 ?_
      refine j_aload_n (r := some P.mo) dX5_feed_82 rfl ?_
      refine jm_get (v := fI st 3) fM_3 rfl rfl dX5_feed_83 ?_
      refine j_iload dX5_feed_86 rfl ?_
      refine j_bipush (v := iI 24) dX5_feed_88 rfl ?_
      refine j_bipush (v := iI 8) dX5_feed_90 rfl ?_
      refine j_iload dX5_feed_92 rfl ?_
      refine j_iconst (v := iI 4) dX5_feed_94 rfl ?_
      refine j_irem dX5_feed_95 (by decide) ?_
      refine j_imul dX5_feed_96 ?_
      refine j_isub dX5_feed_97 ?_
      refine j_ishr dX5_feed_98 ?_
      refine j_sipush (v := iI 255) dX5_feed_99 rfl ?_
      refine j_iand dX5_feed_102 ?_
      refine jm_ast rfl h.1 rfl dX5_feed_103 ?_
      replace h := h.2
      refine j_aload_n (r := some P.mo) dX5_feed_104 rfl ?_
      refine j_dup dX5_feed_105 rfl ?_
      refine jm_get (v := fI st 3) fM_3 rfl rfl dX5_feed_106 ?_
      refine j_iconst (v := iI 1) dX5_feed_109 rfl ?_
      refine j_iadd dX5_feed_110 ?_
      refine jm_put fM_3 rfl dX5_feed_111 ?_
      refine j_iinc (lv' := [some (va_rf (some P.mo)), some (.int x1), some (.int x2), some (.int x3), some (.int x4), some (.int x5), some (.int (x6 + iI 1)), some (.int x1)]) dX5_feed_114 rfl (by decide) rfl ?_
      refine j_goto 23 dX5_feed_117 (by decide) ?_
      exact j_mask [true, true, true, true, true, true, true, false] rfl h
abbrev jX5_text_17 (P : MPl) (s0 : State) (l : Launch) (X : Prop) (lev : Nat) (st0 : MSt) (Q : Outcome → MSt → Prop) (x1 : Int32) (st : MSt) : Prop := JQ (wM P s0 l X) mX5_text (lev + 1) st0 17 [some (va_rf (some P.mo)), some (.int x1), none] [] st Q
abbrev jX5_text_25 (P : MPl) (s0 : State) (l : Launch) (X : Prop) (lev : Nat) (st0 : MSt) (Q : Outcome → MSt → Prop) (x1 x2 : Int32) (st : MSt) : Prop := JQ (wM P s0 l X) mX5_text (lev + 1) st0 25 [some (va_rf (some P.mo)), some (.int x1), some (.int x2)] [] st Q
abbrev jX5_text_98 (P : MPl) (s0 : State) (l : Launch) (X : Prop) (lev : Nat) (st0 : MSt) (Q : Outcome → MSt → Prop) (x1 x2 : Int32) (st : MSt) : Prop := JQ (wM P s0 l X) mX5_text (lev + 1) st0 98 [some (va_rf (some P.mo)), some (.int x1), some (.int x2)] [] st Q
abbrev jX5_text_154 (P : MPl) (s0 : State) (l : Launch) (X : Prop) (lev : Nat) (st0 : MSt) (Q : Outcome → MSt → Prop) (x1 x2 : Int32) (st : MSt) : Prop := JQ (wM P s0 l X) mX5_text (lev + 1) st0 154 [some (va_rf (some P.mo)), some (.int x1), some (.int x2)] [] st Q
abbrev jX5_text_159 (P : MPl) (s0 : State) (l : Launch) (X : Prop) (lev : Nat) (st0 : MSt) (Q : Outcome → MSt → Prop) (x1 x2 : Int32) (st : MSt) : Prop := JQ (wM P s0 l X) mX5_text (lev + 1) st0 159 [some (va_rf (some P.mo)), some (.int x1), some (.int x2)] [] st Q
theorem tX5_text {P : MPl} {s0 : State} {l : Launch} {X : Prop} {lev : Nat} {Q : Outcome → MSt → Prop} {x1 : Int32} {st : MSt} (h : ((x1 < 0 → jX5_text_17 P s0 l X lev st Q x1 (mput 1 (iI 0) st)) ∧ (¬ x1 < 0 → ((x1 ≤ (fI st 3) → jX5_text_25 P s0 l X lev st Q x1 (iI 0) (mput 1 (iI 0) st)) ∧ (¬ x1 ≤ (fI st 3) → jX5_text_17 P s0 l X lev st Q x1 (mput 1 (iI 0) st)))))) : CQ (wM P s0 l X) mX5_text (lev + 1) [.ref P.mo, .int x1] st Q := by
  refine CQ.of2 1 (lv := [some (va_rf (some P.mo)), some (.int x1), none]) (by decide) (Nat.le_of_ble_eq_true rfl) rfl rfl ?_
  refine j_aload_n (r := some P.mo) dX5_text_0 rfl ?_
  refine j_iconst (v := iI 0) dX5_text_1 rfl ?_
  refine jm_put fM_1 rfl dX5_text_2 ?_
  refine j_iload_n dX5_text_5 rfl ?_
  refine j_if_lt 17 dX5_text_6 (by decide) (fun c2 => ?_) (fun c2 => ?_)
  · replace h := h.1 c2
    exact h
  · replace h := h.2 c2
    refine j_iload_n dX5_text_9 rfl ?_
    refine j_aload_n (r := some P.mo) dX5_text_10 rfl ?_
    refine jm_get (v := fI st 3) fM_3 rfl rfl dX5_text_11 ?_
    refine j_icmp_le 23 dX5_text_14 (by decide) (fun c1 => ?_) (fun c1 => ?_)
    · replace h := h.1 c1
      refine j_iconst (v := iI 0) dX5_text_23 rfl ?_
      refine j_istore_n (lv' := [some (va_rf (some P.mo)), some (.int x1), some (.int (iI 0))]) dX5_text_24 (by decide) rfl ?_
      exact h
    · replace h := h.2 c1
      exact h
theorem tX5_text_17 {P : MPl} {s0 : State} {l : Launch} {X : Prop} {lev : Nat} {st0 : MSt} {Q : Outcome → MSt → Prop} {x1 : Int32} {st : MSt} (h : (CQ (wM P s0 l X) mX5_fail lev (.ref P.mo :: [.int (iI 1)]) st (onI (fun r2 t1 => Q (.returned (some (.int r2))) t1) (fun x t => Q (.threw x) t)))) : jX5_text_17 P s0 l X lev st0 Q x1 st := by
  refine j_aload_n (r := some P.mo) dX5_text_17 rfl ?_
  refine j_iconst (v := iI 1) dX5_text_18 rfl ?_
  refine jm_calli (As := [.int (iI 1)]) (rest := []) kX5_fail rfl q2269 rfl rfl (Nat.le_of_ble_eq_true rfl) rfl dX5_text_19 (Nat.succ_le_succ (Nat.zero_le _)) (h.mono (onI_mono (fun r2 t1 h => ?_) (fun _ _ h => h)))
  exact j_ireturn (ty := .int) rfl rfl dX5_text_22 h
theorem tX5_text_25 {P : MPl} {s0 : State} {l : Launch} {X : Prop} {lev : Nat} {st0 : MSt} {Q : Outcome → MSt → Prop} {x1 x2 : Int32} {st : MSt} (h : ((x1 ≤ x2 → (CQ (wM P s0 l X) mX5_readAll lev (.ref P.mo :: []) (mput 14 (iI 0) (mput 72 (iI 0) (mput 75 (iI 0) (mput 3 (iI 0) (mput 5 x1 st))))) (onV (fun t1 => (((fI t1 72) = 0 → (CQ (wM P s0 l X) mX5_next lev (.ref P.mo :: []) (mput 6 (iI 0) (mput 15 (iI 1) t1)) (onV (fun t3 => jX5_text_98 P s0 l X lev st0 Q x1 x2 t3) (fun x t => Q (.threw x) t)))) ∧ (¬ (fI t1 72) = 0 → jX5_text_159 P s0 l X lev st0 Q x1 x2 t1))) (fun x t => Q (.threw x) t)))) ∧ (¬ x1 ≤ x2 → (inr x2 4000 ∧ (inr x2 4000 ∧ jX5_text_25 P s0 l X lev st0 Q x1 (x2 + iI 1) (mst 4 x2 (aI st 2 x2) st)))))) : jX5_text_25 P s0 l X lev st0 Q x1 x2 st := by
  refine j_iload_n dX5_text_25 rfl ?_
  refine j_iload_n dX5_text_26 rfl ?_
  refine j_icmp_ge 48 dX5_text_27 (by decide) (fun c6 => ?_) (fun c6 => ?_)
  · replace h := h.1 c6
    refine j_aload_n (r := some P.mo) dX5_text_48 rfl ?_
    refine j_iload_n dX5_text_49 rfl ?_
    refine jm_put fM_5 rfl dX5_text_50 ?_
    refine j_aload_n (r := some P.mo) dX5_text_53 rfl ?_
    refine j_iconst (v := iI 0) dX5_text_54 rfl ?_
    refine jm_put fM_3 rfl dX5_text_55 ?_
    refine j_aload_n (r := some P.mo) dX5_text_58 rfl ?_
    refine j_iconst (v := iI 0) dX5_text_59 rfl ?_
    refine jm_put fM_75 rfl dX5_text_60 ?_
    refine j_aload_n (r := some P.mo) dX5_text_63 rfl ?_
    refine j_iconst (v := iI 0) dX5_text_64 rfl ?_
    refine jm_put fM_72 rfl dX5_text_65 ?_
    refine j_aload_n (r := some P.mo) dX5_text_68 rfl ?_
    refine j_iconst (v := iI 0) dX5_text_69 rfl ?_
    refine jm_put fM_14 rfl dX5_text_70 ?_
    refine j_aload_n (r := some P.mo) dX5_text_73 rfl ?_
    refine jm_callv (As := []) (rest := []) kX5_readAll rfl q2273 rfl rfl (Nat.le_of_ble_eq_true rfl) rfl dX5_text_74 (Nat.succ_le_succ (Nat.zero_le _)) (h.mono (onV_mono (fun t1 h => ?_) (fun _ _ h => h)))
    refine j_aload_n (r := some P.mo) dX5_text_77 rfl ?_
    refine jm_get (v := fI t1 72) fM_72 rfl rfl dX5_text_78 ?_
    refine j_if_ne 159 dX5_text_81 (by decide) (fun c5 => ?_) (fun c5 => ?_)
    · replace h := h.2 c5
      exact h
    · replace h := h.1 c5
      refine j_aload_n (r := some P.mo) dX5_text_84 rfl ?_
      refine j_iconst (v := iI 1) dX5_text_85 rfl ?_
      refine jm_putz fM_15 isZ1 rfl dX5_text_86 ?_
      refine j_aload_n (r := some P.mo) dX5_text_89 rfl ?_
      refine j_iconst (v := iI 0) dX5_text_90 rfl ?_
      refine jm_put fM_6 rfl dX5_text_91 ?_
      refine j_aload_n (r := some P.mo) dX5_text_94 rfl ?_
      refine jm_callv (As := []) (rest := []) kX5_next rfl q2277 rfl rfl (Nat.le_of_ble_eq_true rfl) rfl dX5_text_95 (Nat.succ_le_succ (Nat.zero_le _)) (h.mono (onV_mono (fun t3 h => ?_) (fun _ _ h => h)))
      exact h
  · replace h := h.2 c6
    refine j_aload_n (r := some P.mo) dX5_text_30 rfl ?_
    refine jm_geta fM_4 rfl dX5_text_31 ?_
    refine j_iload_n dX5_text_34 rfl ?_
    refine j_aload_n (r := some P.mo) dX5_text_35 rfl ?_
    refine jm_geta fM_2 rfl dX5_text_36 ?_
    refine j_iload_n dX5_text_39 rfl ?_
    refine jm_ald (v := aI st 2 x2) rfl h.1 rfl rfl dX5_text_40 ?_
    replace h := h.2
    refine jm_ast rfl h.1 rfl dX5_text_41 ?_
    replace h := h.2
    refine j_iinc (lv' := [some (va_rf (some P.mo)), some (.int x1), some (.int (x2 + iI 1))]) dX5_text_42 rfl (by decide) rfl ?_
    refine j_goto 25 dX5_text_45 (by decide) ?_
    exact h
theorem tX5_text_98 {P : MPl} {s0 : State} {l : Launch} {X : Prop} {lev : Nat} {st0 : MSt} {Q : Outcome → MSt → Prop} {x1 x2 : Int32} {st : MSt} (h : (((fI st 72) = 0 → (((fI st 7) = 0 → jX5_text_154 P s0 l X lev st0 Q x1 x2 st) ∧ (¬ (fI st 7) = 0 → (CQ (wM P s0 l X) mX5_begin lev (.ref P.mo :: []) st (onV (fun t1 => (CQ (wM P s0 l X) mX5_readStatement lev (.ref P.mo :: []) t1 (onV (fun t3 => (CQ (wM P s0 l X) mX5_doStatement lev (.ref P.mo :: []) t3 (onV (fun t5 => (CQ (wM P s0 l X) mX5_drop lev (.ref P.mo :: []) t5 (onV (fun t7 => (((fI t7 72) = 0 → (CQ (wM P s0 l X) mX5_need lev (.ref P.mo :: [.int (iI 59)]) (mput 14 ((fI t7 14) + (iI 1)) t7) (onV (fun t9 => jX5_text_98 P s0 l X lev st0 Q x1 x2 t9) (fun x t => Q (.threw x) t)))) ∧ (¬ (fI t7 72) = 0 → jX5_text_98 P s0 l X lev st0 Q x1 x2 t7))) (fun x t => Q (.threw x) t)))) (fun x t => Q (.threw x) t)))) (fun x t => Q (.threw x) t)))) (fun x t => Q (.threw x) t)))))) ∧ (¬ (fI st 72) = 0 → jX5_text_154 P s0 l X lev st0 Q x1 x2 st))) : jX5_text_98 P s0 l X lev st0 Q x1 x2 st := by
  refine j_aload_n (r := some P.mo) dX5_text_98 rfl ?_
  refine jm_get (v := fI st 72) fM_72 rfl rfl dX5_text_99 ?_
  refine j_if_ne 154 dX5_text_102 (by decide) (fun c13 => ?_) (fun c13 => ?_)
  · replace h := h.2 c13
    exact h
  · replace h := h.1 c13
    refine j_aload_n (r := some P.mo) dX5_text_105 rfl ?_
    refine jm_get (v := fI st 7) fM_7 rfl rfl dX5_text_106 ?_
    refine j_if_eq 154 dX5_text_109 (by decide) (fun c12 => ?_) (fun c12 => ?_)
    · replace h := h.1 c12
      exact h
    · replace h := h.2 c12
      refine j_aload_n (r := some P.mo) dX5_text_112 rfl ?_
      refine jm_callv (As := []) (rest := []) kX5_begin rfl q2359 rfl rfl (Nat.le_of_ble_eq_true rfl) rfl dX5_text_113 (Nat.succ_le_succ (Nat.zero_le _)) (h.mono (onV_mono (fun t1 h => ?_) (fun _ _ h => h)))
      refine j_aload_n (r := some P.mo) dX5_text_116 rfl ?_
      refine jm_callv (As := []) (rest := []) kX5_readStatement rfl q2303 rfl rfl (Nat.le_of_ble_eq_true rfl) rfl dX5_text_117 (Nat.succ_le_succ (Nat.zero_le _)) (h.mono (onV_mono (fun t3 h => ?_) (fun _ _ h => h)))
      refine j_aload_n (r := some P.mo) dX5_text_120 rfl ?_
      refine jm_callv (As := []) (rest := []) kX5_doStatement rfl q2363 rfl rfl (Nat.le_of_ble_eq_true rfl) rfl dX5_text_121 (Nat.succ_le_succ (Nat.zero_le _)) (h.mono (onV_mono (fun t5 h => ?_) (fun _ _ h => h)))
      refine j_aload_n (r := some P.mo) dX5_text_124 rfl ?_
      refine jm_callv (As := []) (rest := []) kX5_drop rfl q2494 rfl rfl (Nat.le_of_ble_eq_true rfl) rfl dX5_text_125 (Nat.succ_le_succ (Nat.zero_le _)) (h.mono (onV_mono (fun t7 h => ?_) (fun _ _ h => h)))
      refine j_aload_n (r := some P.mo) dX5_text_128 rfl ?_
      refine jm_get (v := fI t7 72) fM_72 rfl rfl dX5_text_129 ?_
      refine j_if_ne 98 dX5_text_132 (by decide) (fun c11 => ?_) (fun c11 => ?_)
      · replace h := h.2 c11
        exact h
      · replace h := h.1 c11
        refine j_aload_n (r := some P.mo) dX5_text_135 rfl ?_
        refine j_dup dX5_text_136 rfl ?_
        refine jm_get (v := fI t7 14) fM_14 rfl rfl dX5_text_137 ?_
        refine j_iconst (v := iI 1) dX5_text_140 rfl ?_
        refine j_iadd dX5_text_141 ?_
        refine jm_put fM_14 rfl dX5_text_142 ?_
        refine j_aload_n (r := some P.mo) dX5_text_145 rfl ?_
        refine j_bipush (v := iI 59) dX5_text_146 rfl ?_
        refine jm_callv (As := [.int (iI 59)]) (rest := []) kX5_need rfl q2335 rfl rfl (Nat.le_of_ble_eq_true rfl) rfl dX5_text_148 (Nat.succ_le_succ (Nat.zero_le _)) (h.mono (onV_mono (fun t9 h => ?_) (fun _ _ h => h)))
        refine j_goto 98 dX5_text_151 (by decide) ?_
        exact h
theorem tX5_text_154 {P : MPl} {s0 : State} {l : Launch} {X : Prop} {lev : Nat} {st0 : MSt} {Q : Outcome → MSt → Prop} {x1 x2 : Int32} {st : MSt} (h : jX5_text_159 P s0 l X lev st0 Q x1 x2 (mput 15 (iI 0) st)) : jX5_text_154 P s0 l X lev st0 Q x1 x2 st := by
  refine j_aload_n (r := some P.mo) dX5_text_154 rfl ?_
  refine j_iconst (v := iI 0) dX5_text_155 rfl ?_
  refine jm_putz fM_15 isZ0 rfl dX5_text_156 ?_
  exact h
theorem tX5_text_159 {P : MPl} {s0 : State} {l : Launch} {X : Prop} {lev : Nat} {st0 : MSt} {Q : Outcome → MSt → Prop} {x1 x2 : Int32} {st : MSt} (h : (((fI st 72) = 0 → Q (.returned (some (.int (fI st 72)))) (mput 72 (iI 0) (mput 13 (iI (-1)) (mput 12 (fI st 72) st)))) ∧ (¬ (fI st 72) = 0 → Q (.returned (some (.int (fI st 72)))) (mput 72 (iI 0) (mput 13 (fI st 73) (mput 12 (fI st 72) st)))))) : jX5_text_159 P s0 l X lev st0 Q x1 x2 st := by
  refine j_aload_n (r := some P.mo) dX5_text_159 rfl ?_
  refine j_aload_n (r := some P.mo) dX5_text_160 rfl ?_
  refine jm_get (v := fI st 72) fM_72 rfl rfl dX5_text_161 ?_
  refine jm_put fM_12 rfl dX5_text_164 ?_
  refine j_aload_n (r := some P.mo) dX5_text_167 rfl ?_
  refine j_aload_n (r := some P.mo) dX5_text_168 rfl ?_
  refine jm_get (v := fI st 72) fM_72 rfl rfl dX5_text_169 ?_
  refine j_if_ne 179 dX5_text_172 (by decide) (fun c1 => ?_) (fun c1 => ?_)
  · replace h := h.2 c1
    refine j_aload_n (r := some P.mo) dX5_text_179 rfl ?_
    refine jm_get (v := fI st 73) fM_73 rfl rfl dX5_text_180 ?_
    refine jm_put fM_13 rfl dX5_text_183 ?_
    refine j_aload_n (r := some P.mo) dX5_text_186 rfl ?_
    refine j_iconst (v := iI 0) dX5_text_187 rfl ?_
    refine jm_put fM_72 rfl dX5_text_188 ?_
    refine j_aload_n (r := some P.mo) dX5_text_191 rfl ?_
    refine jm_get (v := fI st 72) fM_12 rfl rfl dX5_text_192 ?_
    exact j_ireturn (ty := .int) rfl rfl dX5_text_195 h
  · replace h := h.1 c1
    refine j_iconst (v := iI (-1)) dX5_text_175 rfl ?_
    refine j_goto 183 dX5_text_176 (by decide) ?_
    refine jm_put fM_13 rfl dX5_text_183 ?_
    refine j_aload_n (r := some P.mo) dX5_text_186 rfl ?_
    refine j_iconst (v := iI 0) dX5_text_187 rfl ?_
    refine jm_put fM_72 rfl dX5_text_188 ?_
    refine j_aload_n (r := some P.mo) dX5_text_191 rfl ?_
    refine jm_get (v := fI st 72) fM_12 rfl rfl dX5_text_192 ?_
    exact j_ireturn (ty := .int) rfl rfl dX5_text_195 h
theorem tX5_fail {P : MPl} {s0 : State} {l : Launch} {X : Prop} {lev : Nat} {Q : Outcome → MSt → Prop} {x1 : Int32} {st : MSt} (h : Q (.returned (some (.int (iI 0)))) (mput 1 x1 st)) : CQ (wM P s0 l X) mX5_fail (lev + 1) [.ref P.mo, .int x1] st Q := by
  refine CQ.of2 0 (lv := [some (va_rf (some P.mo)), some (.int x1)]) (by decide) (Nat.le_of_ble_eq_true rfl) rfl rfl ?_
  refine j_aload_n (r := some P.mo) dX5_fail_0 rfl ?_
  refine j_iload_n dX5_fail_1 rfl ?_
  refine jm_put fM_1 rfl dX5_fail_2 ?_
  refine j_iconst (v := iI 0) dX5_fail_5 rfl ?_
  exact j_ireturn (ty := .int) rfl rfl dX5_fail_6 h
abbrev jX5_readAll_14 (P : MPl) (s0 : State) (l : Launch) (X : Prop) (lev : Nat) (st0 : MSt) (Q : Outcome → MSt → Prop) (st : MSt) : Prop := JQ (wM P s0 l X) mX5_readAll (lev + 1) st0 14 [some (va_rf (some P.mo))] [] st Q
theorem tX5_readAll {P : MPl} {s0 : State} {l : Launch} {X : Prop} {lev : Nat} {Q : Outcome → MSt → Prop} {st : MSt} (h : (CQ (wM P s0 l X) mX5_next lev (.ref P.mo :: []) (mput 6 (iI 0) (mput 15 (iI 0) st)) (onV (fun t1 => jX5_readAll_14 P s0 l X lev st Q t1) (fun x t => Q (.threw x) t)))) : CQ (wM P s0 l X) mX5_readAll (lev + 1) [.ref P.mo] st Q := by
  refine CQ.of2 0 (lv := [some (va_rf (some P.mo))]) (by decide) (Nat.le_of_ble_eq_true rfl) rfl rfl ?_
  refine j_aload_n (r := some P.mo) dX5_readAll_0 rfl ?_
  refine j_iconst (v := iI 0) dX5_readAll_1 rfl ?_
  refine jm_putz fM_15 isZ0 rfl dX5_readAll_2 ?_
  refine j_aload_n (r := some P.mo) dX5_readAll_5 rfl ?_
  refine j_iconst (v := iI 0) dX5_readAll_6 rfl ?_
  refine jm_put fM_6 rfl dX5_readAll_7 ?_
  refine j_aload_n (r := some P.mo) dX5_readAll_10 rfl ?_
  refine jm_callv (As := []) (rest := []) kX5_next rfl q2277 rfl rfl (Nat.le_of_ble_eq_true rfl) rfl dX5_readAll_11 (Nat.succ_le_succ (Nat.zero_le _)) (h.mono (onV_mono (fun t1 h => ?_) (fun _ _ h => h)))
  exact h
theorem tX5_readAll_14 {P : MPl} {s0 : State} {l : Launch} {X : Prop} {lev : Nat} {st0 : MSt} {Q : Outcome → MSt → Prop} {st : MSt} (h : (((fI st 72) = 0 → (((fI st 7) = 0 → Q (.returned none) st) ∧ (¬ (fI st 7) = 0 → (CQ (wM P s0 l X) mX5_readStatement lev (.ref P.mo :: []) st (onV (fun t1 => (((fI t1 72) = 0 → (CQ (wM P s0 l X) mX5_need lev (.ref P.mo :: [.int (iI 59)]) t1 (onV (fun t3 => jX5_readAll_14 P s0 l X lev st0 Q t3) (fun x t => Q (.threw x) t)))) ∧ (¬ (fI t1 72) = 0 → jX5_readAll_14 P s0 l X lev st0 Q t1))) (fun x t => Q (.threw x) t)))))) ∧ (¬ (fI st 72) = 0 → Q (.returned none) st))) : jX5_readAll_14 P s0 l X lev st0 Q st := by
  refine j_aload_n (r := some P.mo) dX5_readAll_14 rfl ?_
  refine jm_get (v := fI st 72) fM_72 rfl rfl dX5_readAll_15 ?_
  refine j_if_ne 48 dX5_readAll_18 (by decide) (fun c7 => ?_) (fun c7 => ?_)
  · replace h := h.2 c7
    exact j_return rfl dX5_readAll_48 h
  · replace h := h.1 c7
    refine j_aload_n (r := some P.mo) dX5_readAll_21 rfl ?_
    refine jm_get (v := fI st 7) fM_7 rfl rfl dX5_readAll_22 ?_
    refine j_if_eq 48 dX5_readAll_25 (by decide) (fun c6 => ?_) (fun c6 => ?_)
    · replace h := h.1 c6
      exact j_return rfl dX5_readAll_48 h
    · replace h := h.2 c6
      refine j_aload_n (r := some P.mo) dX5_readAll_28 rfl ?_
      refine jm_callv (As := []) (rest := []) kX5_readStatement rfl q2303 rfl rfl (Nat.le_of_ble_eq_true rfl) rfl dX5_readAll_29 (Nat.succ_le_succ (Nat.zero_le _)) (h.mono (onV_mono (fun t1 h => ?_) (fun _ _ h => h)))
      refine j_aload_n (r := some P.mo) dX5_readAll_32 rfl ?_
      refine jm_get (v := fI t1 72) fM_72 rfl rfl dX5_readAll_33 ?_
      refine j_if_ne 14 dX5_readAll_36 (by decide) (fun c5 => ?_) (fun c5 => ?_)
      · replace h := h.2 c5
        exact h
      · replace h := h.1 c5
        refine j_aload_n (r := some P.mo) dX5_readAll_39 rfl ?_
        refine j_bipush (v := iI 59) dX5_readAll_40 rfl ?_
        refine jm_callv (As := [.int (iI 59)]) (rest := []) kX5_need rfl q2335 rfl rfl (Nat.le_of_ble_eq_true rfl) rfl dX5_readAll_42 (Nat.succ_le_succ (Nat.zero_le _)) (h.mono (onV_mono (fun t3 h => ?_) (fun _ _ h => h)))
        refine j_goto 14 dX5_readAll_45 (by decide) ?_
        exact h
abbrev jX5_next_2 (P : MPl) (s0 : State) (l : Launch) (X : Prop) (lev : Nat) (st0 : MSt) (Q : Outcome → MSt → Prop) (x1 : Int32) (st : MSt) : Prop := JQ (wM P s0 l X) mX5_next (lev + 1) st0 2 [some (va_rf (some P.mo)), some (.int x1), none, none] [] st Q
abbrev jX5_next_6 (P : MPl) (s0 : State) (l : Launch) (X : Prop) (lev : Nat) (st0 : MSt) (Q : Outcome → MSt → Prop) (x1 : Int32) (st : MSt) : Prop := JQ (wM P s0 l X) mX5_next (lev + 1) st0 6 [some (va_rf (some P.mo)), some (.int x1), none, none] [] st Q
abbrev jX5_next_32 (P : MPl) (s0 : State) (l : Launch) (X : Prop) (lev : Nat) (st0 : MSt) (Q : Outcome → MSt → Prop) (x1 : Int32) (st : MSt) : Prop := JQ (wM P s0 l X) mX5_next (lev + 1) st0 32 [some (va_rf (some P.mo)), some (.int x1), none, none] [] st Q
abbrev jX5_next_73 (P : MPl) (s0 : State) (l : Launch) (X : Prop) (lev : Nat) (st0 : MSt) (Q : Outcome → MSt → Prop) (x1 x2 : Int32) (st : MSt) : Prop := JQ (wM P s0 l X) mX5_next (lev + 1) st0 73 [some (va_rf (some P.mo)), some (.int x1), some (.int x2), none] [] st Q
abbrev jX5_next_111 (P : MPl) (s0 : State) (l : Launch) (X : Prop) (lev : Nat) (st0 : MSt) (Q : Outcome → MSt → Prop) (x1 x2 : Int32) (st : MSt) : Prop := JQ (wM P s0 l X) mX5_next (lev + 1) st0 111 [some (va_rf (some P.mo)), some (.int x1), some (.int x2), none] [] st Q
abbrev jX5_next_193 (P : MPl) (s0 : State) (l : Launch) (X : Prop) (lev : Nat) (st0 : MSt) (Q : Outcome → MSt → Prop) (x1 x2 : Int32) (st : MSt) : Prop := JQ (wM P s0 l X) mX5_next (lev + 1) st0 193 [some (va_rf (some P.mo)), some (.int x1), some (.int x2), none] [] st Q
abbrev jX5_next_235 (P : MPl) (s0 : State) (l : Launch) (X : Prop) (lev : Nat) (st0 : MSt) (Q : Outcome → MSt → Prop) (x1 x2 x3 : Int32) (st : MSt) : Prop := JQ (wM P s0 l X) mX5_next (lev + 1) st0 235 [some (va_rf (some P.mo)), some (.int x1), some (.int x2), some (.int x3)] [] st Q
abbrev jX5_next_254 (P : MPl) (s0 : State) (l : Launch) (X : Prop) (lev : Nat) (st0 : MSt) (Q : Outcome → MSt → Prop) (x1 x2 x3 : Int32) (st : MSt) : Prop := JQ (wM P s0 l X) mX5_next (lev + 1) st0 254 [some (va_rf (some P.mo)), some (.int x1), some (.int x2), some (.int x3)] [] st Q
theorem tX5_next {P : MPl} {s0 : State} {l : Launch} {X : Prop} {lev : Nat} {Q : Outcome → MSt → Prop} {st : MSt} (h : jX5_next_2 P s0 l X lev st Q (iI 1) st) : CQ (wM P s0 l X) mX5_next (lev + 1) [.ref P.mo] st Q := by
  refine CQ.of2 3 (lv := [some (va_rf (some P.mo)), none, none, none]) (by decide) (Nat.le_of_ble_eq_true rfl) rfl rfl ?_
  refine j_iconst (v := iI 1) dX5_next_0 rfl ?_
  refine j_istore_n (lv' := [some (va_rf (some P.mo)), some (.int (iI 1)), none, none]) dX5_next_1 (by decide) rfl ?_
  exact h
theorem tX5_next_2 {P : MPl} {s0 : State} {l : Launch} {X : Prop} {lev : Nat} {st0 : MSt} {Q : Outcome → MSt → Prop} {x1 : Int32} {st : MSt} (h : ((x1 = 0 → (CQ (wM P s0 l X) mX5_byteAt lev (.ref P.mo :: [.int (fI st 6)]) (mput 9 (fI st 6) st) (onI (fun r2 t1 => ((r2 = (iI (-1)) → Q (.returned none) (mput 7 (iI 0) (mput 11 (iI (-1)) t1))) ∧ (¬ r2 = (iI (-1)) → (CQ (wM P s0 l X) mX5_isLetter lev [.int r2] (mput 11 (iI (-1)) t1) (onI (fun r4 t3 => ((r4 = 0 → (CQ (wM P s0 l X) mX5_readSign lev (.ref P.mo :: [.int r2]) t3 (onV (fun t5 => Q (.returned none) t5) (fun x t => Q (.threw x) t)))) ∧ (¬ r4 = 0 → jX5_next_193 P s0 l X lev st0 Q x1 r2 t3))) (fun x t => Q (.threw x) t)))))) (fun x t => Q (.threw x) t)))) ∧ (¬ x1 = 0 → jX5_next_6 P s0 l X lev st0 Q x1 st))) : jX5_next_2 P s0 l X lev st0 Q x1 st := by
  refine j_iload_n dX5_next_2 rfl ?_
  refine j_if_eq 151 dX5_next_3 (by decide) (fun c9 => ?_) (fun c9 => ?_)
  · replace h := h.1 c9
    refine j_aload_n (r := some P.mo) dX5_next_151 rfl ?_
    refine j_aload_n (r := some P.mo) dX5_next_152 rfl ?_
    refine jm_get (v := fI st 6) fM_6 rfl rfl dX5_next_153 ?_
    refine jm_put fM_9 rfl dX5_next_156 ?_
    refine j_aload_n (r := some P.mo) dX5_next_159 rfl ?_
    refine j_aload_n (r := some P.mo) dX5_next_160 rfl ?_
    refine jm_get (v := fI st 6) fM_6 rfl rfl dX5_next_161 ?_
    refine jm_calli (As := [.int (fI st 6)]) (rest := []) kX5_byteAt rfl q2281 rfl rfl (Nat.le_of_ble_eq_true rfl) rfl dX5_next_164 (Nat.succ_le_succ (Nat.zero_le _)) (h.mono (onI_mono (fun r2 t1 h => ?_) (fun _ _ h => h)))
    refine j_istore_n (lv' := [some (va_rf (some P.mo)), some (.int x1), some (.int r2), none]) dX5_next_167 (by decide) rfl ?_
    refine j_aload_n (r := some P.mo) dX5_next_168 rfl ?_
    refine j_iconst (v := iI (-1)) dX5_next_169 rfl ?_
    refine jm_put fM_11 rfl dX5_next_170 ?_
    refine j_iload_n dX5_next_173 rfl ?_
    refine j_iconst (v := iI (-1)) dX5_next_174 rfl ?_
    refine j_icmp_ne 186 dX5_next_175 (by decide) (fun c8 => ?_) (fun c8 => ?_)
    · replace h := h.2 c8
      refine j_iload_n dX5_next_186 rfl ?_
      refine jm_callSi (As := [.int r2]) (rest := []) kX5_isLetter rfl q2285 rfl rfl (Nat.le_of_ble_eq_true rfl) rfl dX5_next_187 (Nat.succ_le_succ (Nat.zero_le _)) (h.mono (onI_mono (fun r4 t3 h => ?_) (fun _ _ h => h)))
      refine j_if_eq 286 dX5_next_190 (by decide) (fun c7 => ?_) (fun c7 => ?_)
      · replace h := h.1 c7
        refine j_aload_n (r := some P.mo) dX5_next_286 rfl ?_
        refine j_iload_n dX5_next_287 rfl ?_
        refine jm_callv (As := [.int r2]) (rest := []) kX5_readSign rfl q2299 rfl rfl (Nat.le_of_ble_eq_true rfl) rfl dX5_next_288 (Nat.succ_le_succ (Nat.zero_le _)) (h.mono (onV_mono (fun t5 h => ?_) (fun _ _ h => h)))
        exact j_return rfl dX5_next_291 h
      · replace h := h.2 c7
        exact h
    · replace h := h.1 c8
      refine j_aload_n (r := some P.mo) dX5_next_178 rfl ?_
      refine j_iconst (v := iI 0) dX5_next_179 rfl ?_
      refine jm_put fM_7 rfl dX5_next_180 ?_
      refine j_goto 291 dX5_next_183 (by decide) ?_
      exact j_return rfl dX5_next_291 h
  · replace h := h.2 c9
    exact h
theorem tX5_next_6 {P : MPl} {s0 : State} {l : Launch} {X : Prop} {lev : Nat} {st0 : MSt} {Q : Outcome → MSt → Prop} {x1 : Int32} {st : MSt} (h : (CQ (wM P s0 l X) mX5_byteAt lev (.ref P.mo :: [.int (fI st 6)]) st (onI (fun r2 t1 => ((r2 = (iI 10) → jX5_next_32 P s0 l X lev st0 Q x1 t1) ∧ (¬ r2 = (iI 10) → (CQ (wM P s0 l X) mX5_byteAt lev (.ref P.mo :: [.int (fI t1 6)]) t1 (onI (fun r4 t3 => ((r4 = (iI 32) → jX5_next_32 P s0 l X lev st0 Q x1 t3) ∧ (¬ r4 = (iI 32) → (CQ (wM P s0 l X) mX5_byteAt lev (.ref P.mo :: [.int (fI t3 6)]) t3 (onI (fun r6 t5 => ((r6 = (iI 123) → jX5_next_73 P s0 l X lev st0 Q (iI 1) (fI t5 6) t5) ∧ (¬ r6 = (iI 123) → jX5_next_2 P s0 l X lev st0 Q (iI 0) t5))) (fun x t => Q (.threw x) t)))))) (fun x t => Q (.threw x) t)))))) (fun x t => Q (.threw x) t)))) : jX5_next_6 P s0 l X lev st0 Q x1 st := by
  refine j_aload_n (r := some P.mo) dX5_next_6 rfl ?_
  refine j_aload_n (r := some P.mo) dX5_next_7 rfl ?_
  refine jm_get (v := fI st 6) fM_6 rfl rfl dX5_next_8 ?_
  refine jm_calli (As := [.int (fI st 6)]) (rest := []) kX5_byteAt rfl q2281 rfl rfl (Nat.le_of_ble_eq_true rfl) rfl dX5_next_11 (Nat.succ_le_succ (Nat.zero_le _)) (h.mono (onI_mono (fun r2 t1 h => ?_) (fun _ _ h => h)))
  refine j_bipush (v := iI 10) dX5_next_14 rfl ?_
  refine j_icmp_eq 32 dX5_next_16 (by decide) (fun c9 => ?_) (fun c9 => ?_)
  · replace h := h.1 c9
    exact h
  · replace h := h.2 c9
    refine j_aload_n (r := some P.mo) dX5_next_19 rfl ?_
    refine j_aload_n (r := some P.mo) dX5_next_20 rfl ?_
    refine jm_get (v := fI t1 6) fM_6 rfl rfl dX5_next_21 ?_
    refine jm_calli (As := [.int (fI t1 6)]) (rest := []) kX5_byteAt rfl q2281 rfl rfl (Nat.le_of_ble_eq_true rfl) rfl dX5_next_24 (Nat.succ_le_succ (Nat.zero_le _)) (h.mono (onI_mono (fun r4 t3 h => ?_) (fun _ _ h => h)))
    refine j_bipush (v := iI 32) dX5_next_27 rfl ?_
    refine j_icmp_ne 45 dX5_next_29 (by decide) (fun c8 => ?_) (fun c8 => ?_)
    · replace h := h.2 c8
      refine j_aload_n (r := some P.mo) dX5_next_45 rfl ?_
      refine j_aload_n (r := some P.mo) dX5_next_46 rfl ?_
      refine jm_get (v := fI t3 6) fM_6 rfl rfl dX5_next_47 ?_
      refine jm_calli (As := [.int (fI t3 6)]) (rest := []) kX5_byteAt rfl q2281 rfl rfl (Nat.le_of_ble_eq_true rfl) rfl dX5_next_50 (Nat.succ_le_succ (Nat.zero_le _)) (h.mono (onI_mono (fun r6 t5 h => ?_) (fun _ _ h => h)))
      refine j_bipush (v := iI 123) dX5_next_53 rfl ?_
      refine j_icmp_ne 62 dX5_next_55 (by decide) (fun c7 => ?_) (fun c7 => ?_)
      · replace h := h.2 c7
        refine j_iconst (v := iI 0) dX5_next_62 rfl ?_
        refine j_istore_n (lv' := [some (va_rf (some P.mo)), some (.int (iI 0)), none, none]) dX5_next_63 (by decide) rfl ?_
        refine j_iload_n dX5_next_64 rfl ?_
        refine j_if_eq 2 dX5_next_65 (by decide) (fun _ => ?_) (fun q_ => absurd (by decide) q_)
        exact h
      · replace h := h.1 c7
        refine j_iconst (v := iI 1) dX5_next_58 rfl ?_
        refine j_goto 63 dX5_next_59 (by decide) ?_
        refine j_istore_n (lv' := [some (va_rf (some P.mo)), some (.int (iI 1)), none, none]) dX5_next_63 (by decide) rfl ?_
        refine j_iload_n dX5_next_64 rfl ?_
        refine j_if_eq 2 dX5_next_65 (by decide) (fun q_ => absurd q_ (by decide)) (fun _ => ?_)
        refine j_aload_n (r := some P.mo) dX5_next_68 rfl ?_
        refine jm_get (v := fI t5 6) fM_6 rfl rfl dX5_next_69 ?_
        refine j_istore_n (lv' := [some (va_rf (some P.mo)), some (.int (iI 1)), some (.int (fI t5 6)), none]) dX5_next_72 (by decide) rfl ?_
        exact h
    · replace h := h.1 c8
      exact h
theorem tX5_next_32 {P : MPl} {s0 : State} {l : Launch} {X : Prop} {lev : Nat} {st0 : MSt} {Q : Outcome → MSt → Prop} {x1 : Int32} {st : MSt} (h : jX5_next_6 P s0 l X lev st0 Q x1 (mput 6 ((fI st 6) + (iI 1)) st)) : jX5_next_32 P s0 l X lev st0 Q x1 st := by
  refine j_aload_n (r := some P.mo) dX5_next_32 rfl ?_
  refine j_dup dX5_next_33 rfl ?_
  refine jm_get (v := fI st 6) fM_6 rfl rfl dX5_next_34 ?_
  refine j_iconst (v := iI 1) dX5_next_37 rfl ?_
  refine j_iadd dX5_next_38 ?_
  refine jm_put fM_6 rfl dX5_next_39 ?_
  refine j_goto 6 dX5_next_42 (by decide) ?_
  exact h
theorem tX5_next_73 {P : MPl} {s0 : State} {l : Launch} {X : Prop} {lev : Nat} {st0 : MSt} {Q : Outcome → MSt → Prop} {x1 x2 : Int32} {st : MSt} (h : (((fI st 5) ≤ (fI st 6) → jX5_next_111 P s0 l X lev st0 Q x1 x2 st) ∧ (¬ (fI st 5) ≤ (fI st 6) → (inr (fI st 6) 4000 ∧ (((aI st 4 (fI st 6)) = (iI 125) → jX5_next_111 P s0 l X lev st0 Q x1 x2 st) ∧ (¬ (aI st 4 (fI st 6)) = (iI 125) → jX5_next_73 P s0 l X lev st0 Q x1 x2 (mput 6 ((fI st 6) + (iI 1)) st))))))) : jX5_next_73 P s0 l X lev st0 Q x1 x2 st := by
  refine j_aload_n (r := some P.mo) dX5_next_73 rfl ?_
  refine jm_get (v := fI st 6) fM_6 rfl rfl dX5_next_74 ?_
  refine j_aload_n (r := some P.mo) dX5_next_77 rfl ?_
  refine jm_get (v := fI st 5) fM_5 rfl rfl dX5_next_78 ?_
  refine j_icmp_ge 111 dX5_next_81 (by decide) (fun c2 => ?_) (fun c2 => ?_)
  · replace h := h.1 c2
    exact h
  · replace h := h.2 c2
    refine j_aload_n (r := some P.mo) dX5_next_84 rfl ?_
    refine jm_geta fM_4 rfl dX5_next_85 ?_
    refine j_aload_n (r := some P.mo) dX5_next_88 rfl ?_
    refine jm_get (v := fI st 6) fM_6 rfl rfl dX5_next_89 ?_
    refine jm_ald (v := aI st 4 (fI st 6)) rfl h.1 rfl rfl dX5_next_92 ?_
    replace h := h.2
    refine j_bipush (v := iI 125) dX5_next_93 rfl ?_
    refine j_icmp_eq 111 dX5_next_95 (by decide) (fun c1 => ?_) (fun c1 => ?_)
    · replace h := h.1 c1
      exact h
    · replace h := h.2 c1
      refine j_aload_n (r := some P.mo) dX5_next_98 rfl ?_
      refine j_dup dX5_next_99 rfl ?_
      refine jm_get (v := fI st 6) fM_6 rfl rfl dX5_next_100 ?_
      refine j_iconst (v := iI 1) dX5_next_103 rfl ?_
      refine j_iadd dX5_next_104 ?_
      refine jm_put fM_6 rfl dX5_next_105 ?_
      refine j_goto 73 dX5_next_108 (by decide) ?_
      exact h
theorem tX5_next_111 {P : MPl} {s0 : State} {l : Launch} {X : Prop} {lev : Nat} {st0 : MSt} {Q : Outcome → MSt → Prop} {x1 x2 : Int32} {st : MSt} (h : (((fI st 6) = (fI st 5) → Q (.returned none) (mput 11 (iI (-1)) (mput 7 (iI 3) (mput 9 x2 st)))) ∧ (¬ (fI st 6) = (fI st 5) → jX5_next_2 P s0 l X lev st0 Q x1 (mput 6 ((fI st 6) + (iI 1)) st)))) : jX5_next_111 P s0 l X lev st0 Q x1 x2 st := by
  refine j_aload_n (r := some P.mo) dX5_next_111 rfl ?_
  refine jm_get (v := fI st 6) fM_6 rfl rfl dX5_next_112 ?_
  refine j_aload_n (r := some P.mo) dX5_next_115 rfl ?_
  refine jm_get (v := fI st 5) fM_5 rfl rfl dX5_next_116 ?_
  refine j_icmp_ne 138 dX5_next_119 (by decide) (fun c1 => ?_) (fun c1 => ?_)
  · replace h := h.2 c1
    refine j_aload_n (r := some P.mo) dX5_next_138 rfl ?_
    refine j_dup dX5_next_139 rfl ?_
    refine jm_get (v := fI st 6) fM_6 rfl rfl dX5_next_140 ?_
    refine j_iconst (v := iI 1) dX5_next_143 rfl ?_
    refine j_iadd dX5_next_144 ?_
    refine jm_put fM_6 rfl dX5_next_145 ?_
    refine j_goto 2 dX5_next_148 (by decide) ?_
    exact j_mask [true, true, false, false] rfl h
  · replace h := h.1 c1
    refine j_aload_n (r := some P.mo) dX5_next_122 rfl ?_
    refine j_iload_n dX5_next_123 rfl ?_
    refine jm_put fM_9 rfl dX5_next_124 ?_
    refine j_aload_n (r := some P.mo) dX5_next_127 rfl ?_
    refine j_iconst (v := iI 3) dX5_next_128 rfl ?_
    refine jm_put fM_7 rfl dX5_next_129 ?_
    refine j_aload_n (r := some P.mo) dX5_next_132 rfl ?_
    refine j_iconst (v := iI (-1)) dX5_next_133 rfl ?_
    refine jm_put fM_11 rfl dX5_next_134 ?_
    exact j_return rfl dX5_next_137 h
theorem tX5_next_193 {P : MPl} {s0 : State} {l : Launch} {X : Prop} {lev : Nat} {st0 : MSt} {Q : Outcome → MSt → Prop} {x1 x2 : Int32} {st : MSt} (h : (CQ (wM P s0 l X) mX5_byteAt lev (.ref P.mo :: [.int (fI st 6)]) st (onI (fun r2 t1 => (CQ (wM P s0 l X) mX5_goesOn lev [.int r2] t1 (onI (fun r4 t3 => ((r4 = 0 → jX5_next_235 P s0 l X lev st0 Q x1 x2 (iI 0) (mput 10 (fI t3 6) (mput 7 (iI 1) t3))) ∧ (¬ r4 = 0 → jX5_next_193 P s0 l X lev st0 Q x1 x2 (mput 6 ((fI t3 6) + (iI 1)) t3)))) (fun x t => Q (.threw x) t)))) (fun x t => Q (.threw x) t)))) : jX5_next_193 P s0 l X lev st0 Q x1 x2 st := by
  refine j_aload_n (r := some P.mo) dX5_next_193 rfl ?_
  refine j_aload_n (r := some P.mo) dX5_next_194 rfl ?_
  refine jm_get (v := fI st 6) fM_6 rfl rfl dX5_next_195 ?_
  refine jm_calli (As := [.int (fI st 6)]) (rest := []) kX5_byteAt rfl q2281 rfl rfl (Nat.le_of_ble_eq_true rfl) rfl dX5_next_198 (Nat.succ_le_succ (Nat.zero_le _)) (h.mono (onI_mono (fun r2 t1 h => ?_) (fun _ _ h => h)))
  refine jm_callSi (As := [.int r2]) (rest := []) kX5_goesOn rfl q2288 rfl rfl (Nat.le_of_ble_eq_true rfl) rfl dX5_next_201 (Nat.succ_le_succ (Nat.zero_le _)) (h.mono (onI_mono (fun r4 t3 h => ?_) (fun _ _ h => h)))
  refine j_if_eq 220 dX5_next_204 (by decide) (fun c5 => ?_) (fun c5 => ?_)
  · replace h := h.1 c5
    refine j_aload_n (r := some P.mo) dX5_next_220 rfl ?_
    refine j_iconst (v := iI 1) dX5_next_221 rfl ?_
    refine jm_put fM_7 rfl dX5_next_222 ?_
    refine j_aload_n (r := some P.mo) dX5_next_225 rfl ?_
    refine j_aload_n (r := some P.mo) dX5_next_226 rfl ?_
    refine jm_get (v := fI t3 6) fM_6 rfl rfl dX5_next_227 ?_
    refine jm_put fM_10 rfl dX5_next_230 ?_
    refine j_iconst (v := iI 0) dX5_next_233 rfl ?_
    refine j_istore_n (lv' := [some (va_rf (some P.mo)), some (.int x1), some (.int x2), some (.int (iI 0))]) dX5_next_234 (by decide) rfl ?_
    exact h
  · replace h := h.2 c5
    refine j_aload_n (r := some P.mo) dX5_next_207 rfl ?_
    refine j_dup dX5_next_208 rfl ?_
    refine jm_get (v := fI t3 6) fM_6 rfl rfl dX5_next_209 ?_
    refine j_iconst (v := iI 1) dX5_next_212 rfl ?_
    refine j_iadd dX5_next_213 ?_
    refine jm_put fM_6 rfl dX5_next_214 ?_
    refine j_goto 193 dX5_next_217 (by decide) ?_
    exact h
theorem tX5_next_235 {P : MPl} {s0 : State} {l : Launch} {X : Prop} {lev : Nat} {st0 : MSt} {Q : Outcome → MSt → Prop} {x1 x2 x3 : Int32} {st : MSt} (h : (((iI 9) ≤ x3 → ((((fI st 10) - (fI st 9)) ≤ (iI 12) → Q (.returned none) st) ∧ (¬ ((fI st 10) - (fI st 9)) ≤ (iI 12) → (CQ (wM P s0 l X) mX5_wrong lev (.ref P.mo :: [.int (iI 2), .int (fI st 9)]) st (onV (fun t1 => Q (.returned none) t1) (fun x t => Q (.threw x) t)))))) ∧ (¬ (iI 9) ≤ x3 → (CQ (wM P s0 l X) mX5_isWord lev (.ref P.mo :: [.int x3]) st (onI (fun r5 t4 => ((r5 = 0 → jX5_next_254 P s0 l X lev st0 Q x1 x2 x3 t4) ∧ (¬ r5 = 0 → jX5_next_254 P s0 l X lev st0 Q x1 x2 x3 (mput 11 x3 t4)))) (fun x t => Q (.threw x) t)))))) : jX5_next_235 P s0 l X lev st0 Q x1 x2 x3 st := by
  refine j_iload_n dX5_next_235 rfl ?_
  refine j_bipush (v := iI 9) dX5_next_236 rfl ?_
  refine j_icmp_ge 260 dX5_next_238 (by decide) (fun c7 => ?_) (fun c7 => ?_)
  · replace h := h.1 c7
    refine j_aload_n (r := some P.mo) dX5_next_260 rfl ?_
    refine jm_get (v := fI st 10) fM_10 rfl rfl dX5_next_261 ?_
    refine j_aload_n (r := some P.mo) dX5_next_264 rfl ?_
    refine jm_get (v := fI st 9) fM_9 rfl rfl dX5_next_265 ?_
    refine j_isub dX5_next_268 ?_
    refine j_bipush (v := iI 12) dX5_next_269 rfl ?_
    refine j_icmp_le 291 dX5_next_271 (by decide) (fun c3 => ?_) (fun c3 => ?_)
    · replace h := h.1 c3
      exact j_return rfl dX5_next_291 h
    · replace h := h.2 c3
      refine j_aload_n (r := some P.mo) dX5_next_274 rfl ?_
      refine j_iconst (v := iI 2) dX5_next_275 rfl ?_
      refine j_aload_n (r := some P.mo) dX5_next_276 rfl ?_
      refine jm_get (v := fI st 9) fM_9 rfl rfl dX5_next_277 ?_
      refine jm_callv (As := [.int (iI 2), .int (fI st 9)]) (rest := []) kX5_wrong rfl q2295 rfl rfl (Nat.le_of_ble_eq_true rfl) rfl dX5_next_280 (Nat.succ_le_succ (Nat.zero_le _)) (h.mono (onV_mono (fun t1 h => ?_) (fun _ _ h => h)))
      refine j_goto 291 dX5_next_283 (by decide) ?_
      exact j_return rfl dX5_next_291 h
  · replace h := h.2 c7
    refine j_aload_n (r := some P.mo) dX5_next_241 rfl ?_
    refine j_iload_n dX5_next_242 rfl ?_
    refine jm_calli (As := [.int x3]) (rest := []) kX5_isWord rfl q2291 rfl rfl (Nat.le_of_ble_eq_true rfl) rfl dX5_next_243 (Nat.succ_le_succ (Nat.zero_le _)) (h.mono (onI_mono (fun r5 t4 h => ?_) (fun _ _ h => h)))
    refine j_if_eq 254 dX5_next_246 (by decide) (fun c6 => ?_) (fun c6 => ?_)
    · replace h := h.1 c6
      exact h
    · replace h := h.2 c6
      refine j_aload_n (r := some P.mo) dX5_next_249 rfl ?_
      refine j_iload_n dX5_next_250 rfl ?_
      refine jm_put fM_11 rfl dX5_next_251 ?_
      exact h
theorem tX5_next_254 {P : MPl} {s0 : State} {l : Launch} {X : Prop} {lev : Nat} {st0 : MSt} {Q : Outcome → MSt → Prop} {x1 x2 x3 : Int32} {st : MSt} (h : jX5_next_235 P s0 l X lev st0 Q x1 x2 (x3 + iI 1) st) : jX5_next_254 P s0 l X lev st0 Q x1 x2 x3 st := by
  refine j_iinc (lv' := [some (va_rf (some P.mo)), some (.int x1), some (.int x2), some (.int (x3 + iI 1))]) dX5_next_254 rfl (by decide) rfl ?_
  refine j_goto 235 dX5_next_257 (by decide) ?_
  exact h
theorem tX5_byteAt {P : MPl} {s0 : State} {l : Launch} {X : Prop} {lev : Nat} {Q : Outcome → MSt → Prop} {x1 : Int32} {st : MSt} (h : (((fI st 5) ≤ x1 → Q (.returned (some (.int (iI (-1))))) st) ∧ (¬ (fI st 5) ≤ x1 → (inr x1 4000 ∧ Q (.returned (some (.int (aI st 4 x1)))) st)))) : CQ (wM P s0 l X) mX5_byteAt (lev + 1) [.ref P.mo, .int x1] st Q := by
  refine CQ.of2 0 (lv := [some (va_rf (some P.mo)), some (.int x1)]) (by decide) (Nat.le_of_ble_eq_true rfl) rfl rfl ?_
  refine j_iload_n dX5_byteAt_0 rfl ?_
  refine j_aload_n (r := some P.mo) dX5_byteAt_1 rfl ?_
  refine jm_get (v := fI st 5) fM_5 rfl rfl dX5_byteAt_2 ?_
  refine j_icmp_ge 17 dX5_byteAt_5 (by decide) (fun c1 => ?_) (fun c1 => ?_)
  · replace h := h.1 c1
    refine j_iconst (v := iI (-1)) dX5_byteAt_17 rfl ?_
    exact j_ireturn (ty := .int) rfl rfl dX5_byteAt_18 h
  · replace h := h.2 c1
    refine j_aload_n (r := some P.mo) dX5_byteAt_8 rfl ?_
    refine jm_geta fM_4 rfl dX5_byteAt_9 ?_
    refine j_iload_n dX5_byteAt_12 rfl ?_
    refine jm_ald (v := aI st 4 x1) rfl h.1 rfl rfl dX5_byteAt_13 ?_
    replace h := h.2
    refine j_goto 18 dX5_byteAt_14 (by decide) ?_
    exact j_ireturn (ty := .int) rfl rfl dX5_byteAt_18 h
abbrev jX5_isLetter_12 (P : MPl) (s0 : State) (l : Launch) (X : Prop) (lev : Nat) (st0 : MSt) (Q : Outcome → MSt → Prop) (x0 : Int32) (st : MSt) : Prop := JQ (wM P s0 l X) mX5_isLetter (lev + 1) st0 12 [some (.int x0)] [] st Q
abbrev jX5_isLetter_24 (P : MPl) (s0 : State) (l : Launch) (X : Prop) (lev : Nat) (st0 : MSt) (Q : Outcome → MSt → Prop) (x0 : Int32) (st : MSt) : Prop := JQ (wM P s0 l X) mX5_isLetter (lev + 1) st0 24 [some (.int x0)] [] st Q
theorem tX5_isLetter {P : MPl} {s0 : State} {l : Launch} {X : Prop} {lev : Nat} {Q : Outcome → MSt → Prop} {x0 : Int32} {st : MSt} (h : ((x0 < (iI 97) → jX5_isLetter_12 P s0 l X lev st Q x0 st) ∧ (¬ x0 < (iI 97) → ((x0 ≤ (iI 122) → jX5_isLetter_24 P s0 l X lev st Q x0 st) ∧ (¬ x0 ≤ (iI 122) → jX5_isLetter_12 P s0 l X lev st Q x0 st))))) : CQ (wM P s0 l X) mX5_isLetter (lev + 1) [.int x0] st Q := by
  refine CQ.of2 0 (lv := [some (.int x0)]) (by decide) (Nat.le_of_ble_eq_true rfl) rfl rfl ?_
  refine j_iload_n dX5_isLetter_0 rfl ?_
  refine j_bipush (v := iI 97) dX5_isLetter_1 rfl ?_
  refine j_icmp_lt 12 dX5_isLetter_3 (by decide) (fun c2 => ?_) (fun c2 => ?_)
  · replace h := h.1 c2
    exact h
  · replace h := h.2 c2
    refine j_iload_n dX5_isLetter_6 rfl ?_
    refine j_bipush (v := iI 122) dX5_isLetter_7 rfl ?_
    refine j_icmp_le 24 dX5_isLetter_9 (by decide) (fun c1 => ?_) (fun c1 => ?_)
    · replace h := h.1 c1
      exact h
    · replace h := h.2 c1
      exact h
theorem tX5_isLetter_12 {P : MPl} {s0 : State} {l : Launch} {X : Prop} {lev : Nat} {st0 : MSt} {Q : Outcome → MSt → Prop} {x0 : Int32} {st : MSt} (h : ((x0 < (iI 65) → Q (.returned (some (.int (iI 0)))) st) ∧ (¬ x0 < (iI 65) → (((iI 90) < x0 → Q (.returned (some (.int (iI 0)))) st) ∧ (¬ (iI 90) < x0 → jX5_isLetter_24 P s0 l X lev st0 Q x0 st))))) : jX5_isLetter_12 P s0 l X lev st0 Q x0 st := by
  refine j_iload_n dX5_isLetter_12 rfl ?_
  refine j_bipush (v := iI 65) dX5_isLetter_13 rfl ?_
  refine j_icmp_lt 28 dX5_isLetter_15 (by decide) (fun c2 => ?_) (fun c2 => ?_)
  · replace h := h.1 c2
    refine j_iconst (v := iI 0) dX5_isLetter_28 rfl ?_
    exact j_ireturn (ty := .boolean) rfl rfl dX5_isLetter_29 h
  · replace h := h.2 c2
    refine j_iload_n dX5_isLetter_18 rfl ?_
    refine j_bipush (v := iI 90) dX5_isLetter_19 rfl ?_
    refine j_icmp_gt 28 dX5_isLetter_21 (by decide) (fun c1 => ?_) (fun c1 => ?_)
    · replace h := h.1 c1
      refine j_iconst (v := iI 0) dX5_isLetter_28 rfl ?_
      exact j_ireturn (ty := .boolean) rfl rfl dX5_isLetter_29 h
    · replace h := h.2 c1
      exact h
theorem tX5_isLetter_24 {P : MPl} {s0 : State} {l : Launch} {X : Prop} {lev : Nat} {st0 : MSt} {Q : Outcome → MSt → Prop} {x0 : Int32} {st : MSt} (h : Q (.returned (some (.int (iI 1)))) st) : jX5_isLetter_24 P s0 l X lev st0 Q x0 st := by
  refine j_iconst (v := iI 1) dX5_isLetter_24 rfl ?_
  refine j_goto 29 dX5_isLetter_25 (by decide) ?_
  exact j_ireturn (ty := .boolean) rfl rfl dX5_isLetter_29 h
abbrev jX5_goesOn_19 (P : MPl) (s0 : State) (l : Launch) (X : Prop) (lev : Nat) (st0 : MSt) (Q : Outcome → MSt → Prop) (x0 : Int32) (st : MSt) : Prop := JQ (wM P s0 l X) mX5_goesOn (lev + 1) st0 19 [some (.int x0)] [] st Q
abbrev jX5_goesOn_25 (P : MPl) (s0 : State) (l : Launch) (X : Prop) (lev : Nat) (st0 : MSt) (Q : Outcome → MSt → Prop) (x0 : Int32) (st : MSt) : Prop := JQ (wM P s0 l X) mX5_goesOn (lev + 1) st0 25 [some (.int x0)] [] st Q
theorem tX5_goesOn {P : MPl} {s0 : State} {l : Launch} {X : Prop} {lev : Nat} {Q : Outcome → MSt → Prop} {x0 : Int32} {st : MSt} (h : (CQ (wM P s0 l X) mX5_isLetter lev [.int x0] st (onI (fun r2 t1 => ((r2 = 0 → ((x0 < (iI 48) → jX5_goesOn_19 P s0 l X lev st Q x0 t1) ∧ (¬ x0 < (iI 48) → ((x0 ≤ (iI 57) → jX5_goesOn_25 P s0 l X lev st Q x0 t1) ∧ (¬ x0 ≤ (iI 57) → jX5_goesOn_19 P s0 l X lev st Q x0 t1))))) ∧ (¬ r2 = 0 → jX5_goesOn_25 P s0 l X lev st Q x0 t1))) (fun x t => Q (.threw x) t)))) : CQ (wM P s0 l X) mX5_goesOn (lev + 1) [.int x0] st Q := by
  refine CQ.of2 0 (lv := [some (.int x0)]) (by decide) (Nat.le_of_ble_eq_true rfl) rfl rfl ?_
  refine j_iload_n dX5_goesOn_0 rfl ?_
  refine jm_callSi (As := [.int x0]) (rest := []) kX5_isLetter rfl q2285 rfl rfl (Nat.le_of_ble_eq_true rfl) rfl dX5_goesOn_1 (Nat.succ_le_succ (Nat.zero_le _)) (h.mono (onI_mono (fun r2 t1 h => ?_) (fun _ _ h => h)))
  refine j_if_ne 25 dX5_goesOn_4 (by decide) (fun c5 => ?_) (fun c5 => ?_)
  · replace h := h.2 c5
    exact h
  · replace h := h.1 c5
    refine j_iload_n dX5_goesOn_7 rfl ?_
    refine j_bipush (v := iI 48) dX5_goesOn_8 rfl ?_
    refine j_icmp_lt 19 dX5_goesOn_10 (by decide) (fun c4 => ?_) (fun c4 => ?_)
    · replace h := h.1 c4
      exact h
    · replace h := h.2 c4
      refine j_iload_n dX5_goesOn_13 rfl ?_
      refine j_bipush (v := iI 57) dX5_goesOn_14 rfl ?_
      refine j_icmp_le 25 dX5_goesOn_16 (by decide) (fun c3 => ?_) (fun c3 => ?_)
      · replace h := h.1 c3
        exact h
      · replace h := h.2 c3
        exact h
theorem tX5_goesOn_19 {P : MPl} {s0 : State} {l : Launch} {X : Prop} {lev : Nat} {st0 : MSt} {Q : Outcome → MSt → Prop} {x0 : Int32} {st : MSt} (h : ((x0 = (iI 39) → jX5_goesOn_25 P s0 l X lev st0 Q x0 st) ∧ (¬ x0 = (iI 39) → Q (.returned (some (.int (iI 0)))) st))) : jX5_goesOn_19 P s0 l X lev st0 Q x0 st := by
  refine j_iload_n dX5_goesOn_19 rfl ?_
  refine j_bipush (v := iI 39) dX5_goesOn_20 rfl ?_
  refine j_icmp_ne 29 dX5_goesOn_22 (by decide) (fun c1 => ?_) (fun c1 => ?_)
  · replace h := h.2 c1
    refine j_iconst (v := iI 0) dX5_goesOn_29 rfl ?_
    exact j_ireturn (ty := .boolean) rfl rfl dX5_goesOn_30 h
  · replace h := h.1 c1
    exact h
theorem tX5_goesOn_25 {P : MPl} {s0 : State} {l : Launch} {X : Prop} {lev : Nat} {st0 : MSt} {Q : Outcome → MSt → Prop} {x0 : Int32} {st : MSt} (h : Q (.returned (some (.int (iI 1)))) st) : jX5_goesOn_25 P s0 l X lev st0 Q x0 st := by
  refine j_iconst (v := iI 1) dX5_goesOn_25 rfl ?_
  refine j_goto 30 dX5_goesOn_26 (by decide) ?_
  exact j_ireturn (ty := .boolean) rfl rfl dX5_goesOn_30 h
theorem tX5_wrong {P : MPl} {s0 : State} {l : Launch} {X : Prop} {lev : Nat} {Q : Outcome → MSt → Prop} {x1 x2 : Int32} {st : MSt} (h : (((fI st 72) = 0 → Q (.returned none) (mput 73 x2 (mput 72 x1 st))) ∧ (¬ (fI st 72) = 0 → Q (.returned none) st))) : CQ (wM P s0 l X) mX5_wrong (lev + 1) [.ref P.mo, .int x1, .int x2] st Q := by
  refine CQ.of2 0 (lv := [some (va_rf (some P.mo)), some (.int x1), some (.int x2)]) (by decide) (Nat.le_of_ble_eq_true rfl) rfl rfl ?_
  refine j_aload_n (r := some P.mo) dX5_wrong_0 rfl ?_
  refine jm_get (v := fI st 72) fM_72 rfl rfl dX5_wrong_1 ?_
  refine j_if_eq 8 dX5_wrong_4 (by decide) (fun c1 => ?_) (fun c1 => ?_)
  · replace h := h.1 c1
    refine j_aload_n (r := some P.mo) dX5_wrong_8 rfl ?_
    refine j_iload_n dX5_wrong_9 rfl ?_
    refine jm_put fM_72 rfl dX5_wrong_10 ?_
    refine j_aload_n (r := some P.mo) dX5_wrong_13 rfl ?_
    refine j_iload_n dX5_wrong_14 rfl ?_
    refine jm_put fM_73 rfl dX5_wrong_15 ?_
    exact j_return rfl dX5_wrong_18 h
  · replace h := h.2 c1
    exact j_return rfl dX5_wrong_7 h
abbrev jX5_readSign_59 (P : MPl) (s0 : State) (l : Launch) (X : Prop) (lev : Nat) (st0 : MSt) (Q : Outcome → MSt → Prop) (x1 : Int32) (st : MSt) : Prop := JQ (wM P s0 l X) mX5_readSign (lev + 1) st0 59 [some (va_rf (some P.mo)), some (.int x1)] [] st Q
abbrev jX5_readSign_98 (P : MPl) (s0 : State) (l : Launch) (X : Prop) (lev : Nat) (st0 : MSt) (Q : Outcome → MSt → Prop) (x1 : Int32) (st : MSt) : Prop := JQ (wM P s0 l X) mX5_readSign (lev + 1) st0 98 [some (va_rf (some P.mo)), some (.int x1)] [] st Q
theorem tX5_readSign {P : MPl} {s0 : State} {l : Launch} {X : Prop} {lev : Nat} {Q : Outcome → MSt → Prop} {x1 : Int32} {st : MSt} (h : ((x1 = (iI 58) → (CQ (wM P s0 l X) mX5_byteAt lev (.ref P.mo :: [.int ((fI st 6) + (iI 1))]) (mput 6 ((fI st 6) + (iI 1)) (mput 8 x1 (mput 7 (iI 2) st))) (onI (fun r2 t1 => ((r2 = (iI 61) → Q (.returned none) (mput 6 ((fI t1 6) + (iI 1)) (mput 8 (iI 256) t1))) ∧ (¬ r2 = (iI 61) → jX5_readSign_59 P s0 l X lev st Q x1 t1))) (fun x t => Q (.threw x) t)))) ∧ (¬ x1 = (iI 58) → jX5_readSign_59 P s0 l X lev st Q x1 (mput 6 ((fI st 6) + (iI 1)) (mput 8 x1 (mput 7 (iI 2) st)))))) : CQ (wM P s0 l X) mX5_readSign (lev + 1) [.ref P.mo, .int x1] st Q := by
  refine CQ.of2 0 (lv := [some (va_rf (some P.mo)), some (.int x1)]) (by decide) (Nat.le_of_ble_eq_true rfl) rfl rfl ?_
  refine j_aload_n (r := some P.mo) dX5_readSign_0 rfl ?_
  refine j_iconst (v := iI 2) dX5_readSign_1 rfl ?_
  refine jm_put fM_7 rfl dX5_readSign_2 ?_
  refine j_aload_n (r := some P.mo) dX5_readSign_5 rfl ?_
  refine j_iload_n dX5_readSign_6 rfl ?_
  refine jm_put fM_8 rfl dX5_readSign_7 ?_
  refine j_aload_n (r := some P.mo) dX5_readSign_10 rfl ?_
  refine j_dup dX5_readSign_11 rfl ?_
  refine jm_get (v := fI st 6) fM_6 rfl rfl dX5_readSign_12 ?_
  refine j_iconst (v := iI 1) dX5_readSign_15 rfl ?_
  refine j_iadd dX5_readSign_16 ?_
  refine jm_put fM_6 rfl dX5_readSign_17 ?_
  refine j_iload_n dX5_readSign_20 rfl ?_
  refine j_bipush (v := iI 58) dX5_readSign_21 rfl ?_
  refine j_icmp_ne 59 dX5_readSign_23 (by decide) (fun c4 => ?_) (fun c4 => ?_)
  · replace h := h.2 c4
    exact h
  · replace h := h.1 c4
    refine j_aload_n (r := some P.mo) dX5_readSign_26 rfl ?_
    refine j_aload_n (r := some P.mo) dX5_readSign_27 rfl ?_
    refine jm_get (v := (fI st 6) + (iI 1)) fM_6 rfl rfl dX5_readSign_28 ?_
    refine jm_calli (As := [.int ((fI st 6) + (iI 1))]) (rest := []) kX5_byteAt rfl q2281 rfl rfl (Nat.le_of_ble_eq_true rfl) rfl dX5_readSign_31 (Nat.succ_le_succ (Nat.zero_le _)) (h.mono (onI_mono (fun r2 t1 h => ?_) (fun _ _ h => h)))
    refine j_bipush (v := iI 61) dX5_readSign_34 rfl ?_
    refine j_icmp_ne 59 dX5_readSign_36 (by decide) (fun c3 => ?_) (fun c3 => ?_)
    · replace h := h.2 c3
      exact h
    · replace h := h.1 c3
      refine j_aload_n (r := some P.mo) dX5_readSign_39 rfl ?_
      refine j_sipush (v := iI 256) dX5_readSign_40 rfl ?_
      refine jm_put fM_8 rfl dX5_readSign_43 ?_
      refine j_aload_n (r := some P.mo) dX5_readSign_46 rfl ?_
      refine j_dup dX5_readSign_47 rfl ?_
      refine jm_get (v := fI t1 6) fM_6 rfl rfl dX5_readSign_48 ?_
      refine j_iconst (v := iI 1) dX5_readSign_51 rfl ?_
      refine j_iadd dX5_readSign_52 ?_
      refine jm_put fM_6 rfl dX5_readSign_53 ?_
      refine j_goto 151 dX5_readSign_56 (by decide) ?_
      exact j_return rfl dX5_readSign_151 h
theorem tX5_readSign_59 {P : MPl} {s0 : State} {l : Launch} {X : Prop} {lev : Nat} {st0 : MSt} {Q : Outcome → MSt → Prop} {x1 : Int32} {st : MSt} (h : ((x1 = (iI 45) → (CQ (wM P s0 l X) mX5_byteAt lev (.ref P.mo :: [.int (fI st 6)]) st (onI (fun r2 t1 => ((r2 = (iI 62) → Q (.returned none) (mput 6 ((fI t1 6) + (iI 1)) (mput 8 (iI 257) t1))) ∧ (¬ r2 = (iI 62) → jX5_readSign_98 P s0 l X lev st0 Q x1 t1))) (fun x t => Q (.threw x) t)))) ∧ (¬ x1 = (iI 45) → jX5_readSign_98 P s0 l X lev st0 Q x1 st))) : jX5_readSign_59 P s0 l X lev st0 Q x1 st := by
  refine j_iload_n dX5_readSign_59 rfl ?_
  refine j_bipush (v := iI 45) dX5_readSign_60 rfl ?_
  refine j_icmp_ne 98 dX5_readSign_62 (by decide) (fun c4 => ?_) (fun c4 => ?_)
  · replace h := h.2 c4
    exact h
  · replace h := h.1 c4
    refine j_aload_n (r := some P.mo) dX5_readSign_65 rfl ?_
    refine j_aload_n (r := some P.mo) dX5_readSign_66 rfl ?_
    refine jm_get (v := fI st 6) fM_6 rfl rfl dX5_readSign_67 ?_
    refine jm_calli (As := [.int (fI st 6)]) (rest := []) kX5_byteAt rfl q2281 rfl rfl (Nat.le_of_ble_eq_true rfl) rfl dX5_readSign_70 (Nat.succ_le_succ (Nat.zero_le _)) (h.mono (onI_mono (fun r2 t1 h => ?_) (fun _ _ h => h)))
    refine j_bipush (v := iI 62) dX5_readSign_73 rfl ?_
    refine j_icmp_ne 98 dX5_readSign_75 (by decide) (fun c3 => ?_) (fun c3 => ?_)
    · replace h := h.2 c3
      exact h
    · replace h := h.1 c3
      refine j_aload_n (r := some P.mo) dX5_readSign_78 rfl ?_
      refine j_sipush (v := iI 257) dX5_readSign_79 rfl ?_
      refine jm_put fM_8 rfl dX5_readSign_82 ?_
      refine j_aload_n (r := some P.mo) dX5_readSign_85 rfl ?_
      refine j_dup dX5_readSign_86 rfl ?_
      refine jm_get (v := fI t1 6) fM_6 rfl rfl dX5_readSign_87 ?_
      refine j_iconst (v := iI 1) dX5_readSign_90 rfl ?_
      refine j_iadd dX5_readSign_91 ?_
      refine jm_put fM_6 rfl dX5_readSign_92 ?_
      refine j_goto 151 dX5_readSign_95 (by decide) ?_
      exact j_return rfl dX5_readSign_151 h
theorem tX5_readSign_98 {P : MPl} {s0 : State} {l : Launch} {X : Prop} {lev : Nat} {st0 : MSt} {Q : Outcome → MSt → Prop} {x1 : Int32} {st : MSt} (h : ((x1 = (iI 92) → Q (.returned none) st) ∧ (¬ x1 = (iI 92) → ((x1 = (iI 33) → Q (.returned none) st) ∧ (¬ x1 = (iI 33) → ((x1 = (iI 58) → Q (.returned none) st) ∧ (¬ x1 = (iI 58) → ((x1 = (iI 46) → Q (.returned none) st) ∧ (¬ x1 = (iI 46) → ((x1 = (iI 59) → Q (.returned none) st) ∧ (¬ x1 = (iI 59) → ((x1 = (iI 61) → Q (.returned none) st) ∧ (¬ x1 = (iI 61) → ((x1 = (iI 40) → Q (.returned none) st) ∧ (¬ x1 = (iI 40) → ((x1 = (iI 41) → Q (.returned none) st) ∧ (¬ x1 = (iI 41) → Q (.returned none) (mput 7 (iI 3) st)))))))))))))))))) : jX5_readSign_98 P s0 l X lev st0 Q x1 st := by
  refine j_iload_n dX5_readSign_98 rfl ?_
  refine j_bipush (v := iI 92) dX5_readSign_99 rfl ?_
  refine j_icmp_eq 151 dX5_readSign_101 (by decide) (fun c8 => ?_) (fun c8 => ?_)
  · replace h := h.1 c8
    exact j_return rfl dX5_readSign_151 h
  · replace h := h.2 c8
    refine j_iload_n dX5_readSign_104 rfl ?_
    refine j_bipush (v := iI 33) dX5_readSign_105 rfl ?_
    refine j_icmp_eq 151 dX5_readSign_107 (by decide) (fun c7 => ?_) (fun c7 => ?_)
    · replace h := h.1 c7
      exact j_return rfl dX5_readSign_151 h
    · replace h := h.2 c7
      refine j_iload_n dX5_readSign_110 rfl ?_
      refine j_bipush (v := iI 58) dX5_readSign_111 rfl ?_
      refine j_icmp_eq 151 dX5_readSign_113 (by decide) (fun c6 => ?_) (fun c6 => ?_)
      · replace h := h.1 c6
        exact j_return rfl dX5_readSign_151 h
      · replace h := h.2 c6
        refine j_iload_n dX5_readSign_116 rfl ?_
        refine j_bipush (v := iI 46) dX5_readSign_117 rfl ?_
        refine j_icmp_eq 151 dX5_readSign_119 (by decide) (fun c5 => ?_) (fun c5 => ?_)
        · replace h := h.1 c5
          exact j_return rfl dX5_readSign_151 h
        · replace h := h.2 c5
          refine j_iload_n dX5_readSign_122 rfl ?_
          refine j_bipush (v := iI 59) dX5_readSign_123 rfl ?_
          refine j_icmp_eq 151 dX5_readSign_125 (by decide) (fun c4 => ?_) (fun c4 => ?_)
          · replace h := h.1 c4
            exact j_return rfl dX5_readSign_151 h
          · replace h := h.2 c4
            refine j_iload_n dX5_readSign_128 rfl ?_
            refine j_bipush (v := iI 61) dX5_readSign_129 rfl ?_
            refine j_icmp_eq 151 dX5_readSign_131 (by decide) (fun c3 => ?_) (fun c3 => ?_)
            · replace h := h.1 c3
              exact j_return rfl dX5_readSign_151 h
            · replace h := h.2 c3
              refine j_iload_n dX5_readSign_134 rfl ?_
              refine j_bipush (v := iI 40) dX5_readSign_135 rfl ?_
              refine j_icmp_eq 151 dX5_readSign_137 (by decide) (fun c2 => ?_) (fun c2 => ?_)
              · replace h := h.1 c2
                exact j_return rfl dX5_readSign_151 h
              · replace h := h.2 c2
                refine j_iload_n dX5_readSign_140 rfl ?_
                refine j_bipush (v := iI 41) dX5_readSign_141 rfl ?_
                refine j_icmp_eq 151 dX5_readSign_143 (by decide) (fun c1 => ?_) (fun c1 => ?_)
                · replace h := h.1 c1
                  exact j_return rfl dX5_readSign_151 h
                · replace h := h.2 c1
                  refine j_aload_n (r := some P.mo) dX5_readSign_146 rfl ?_
                  refine j_iconst (v := iI 3) dX5_readSign_147 rfl ?_
                  refine jm_put fM_7 rfl dX5_readSign_148 ?_
                  exact j_return rfl dX5_readSign_151 h
abbrev jX5_readStatement_159 (P : MPl) (s0 : State) (l : Launch) (X : Prop) (lev : Nat) (st0 : MSt) (Q : Outcome → MSt → Prop) (st : MSt) : Prop := JQ (wM P s0 l X) mX5_readStatement (lev + 1) st0 159 [some (va_rf (some P.mo))] [] st Q
abbrev jX5_readStatement_226 (P : MPl) (s0 : State) (l : Launch) (X : Prop) (lev : Nat) (st0 : MSt) (Q : Outcome → MSt → Prop) (st : MSt) : Prop := JQ (wM P s0 l X) mX5_readStatement (lev + 1) st0 226 [some (va_rf (some P.mo))] [] st Q
theorem tX5_readStatement {P : MPl} {s0 : State} {l : Launch} {X : Prop} {lev : Nat} {Q : Outcome → MSt → Prop} {st : MSt} (h : (((fI st 7) = (iI 1) → (((fI st 11) = (iI (-1)) → (CQ (wM P s0 l X) mX5_readTold lev (.ref P.mo :: []) (mput 79 (iI (-1)) (mput 78 (iI (-1)) (mput 76 (fI st 11) (mput 77 (fI st 9) st)))) (onV (fun t33 => Q (.returned none) t33) (fun x t => Q (.threw x) t)))) ∧ (¬ (fI st 11) = (iI (-1)) → (((fI st 11) ≤ (iI 6) → (CQ (wM P s0 l X) mX5_next lev (.ref P.mo :: []) (mput 79 (iI (-1)) (mput 78 (iI (-1)) (mput 76 (fI st 11) (mput 77 (fI st 9) st)))) (onV (fun t3 => ((fI t3 76 = iI 0 → (CQ (wM P s0 l X) mX5_nameNode lev (.ref P.mo :: []) t3 (onI (fun r6 t5 => Q (.returned none) (mput 80 r6 t5)) (fun x t => Q (.threw x) t)))) ∧ (fI t3 76 = iI 1 → (CQ (wM P s0 l X) mX5_nameNode lev (.ref P.mo :: []) t3 (onI (fun r8 t7 => (CQ (wM P s0 l X) mX5_need lev (.ref P.mo :: [.int (iI 58)]) (mput 80 r8 t7) (onV (fun t9 => (CQ (wM P s0 l X) mX5_nameNode lev (.ref P.mo :: []) t9 (onI (fun r12 t11 => Q (.returned none) (mput 81 r12 t11)) (fun x t => Q (.threw x) t)))) (fun x t => Q (.threw x) t)))) (fun x t => Q (.threw x) t)))) ∧ (fI t3 76 = iI 2 → (CQ (wM P s0 l X) mX5_nameNode lev (.ref P.mo :: []) t3 (onI (fun r14 t13 => (((fI t13 72) = 0 → (CQ (wM P s0 l X) mX5_nameNode lev (.ref P.mo :: []) (mput 80 r14 t13) (onI (fun r16 t15 => jX5_readStatement_159 P s0 l X lev st Q (mput 81 r16 t15)) (fun x t => Q (.threw x) t)))) ∧ (¬ (fI t13 72) = 0 → jX5_readStatement_159 P s0 l X lev st Q (mput 80 r14 t13)))) (fun x t => Q (.threw x) t)))) ∧ (tout (fI t3 76) 0 2 → (CQ (wM P s0 l X) mX5_readTerm lev (.ref P.mo :: [.int (iI 0)]) t3 (onI (fun r19 t18 => (((fI t18 72) = 0 → (((fI t18 76) = (iI 3) → (CQ (wM P s0 l X) mX5_isSign lev (.ref P.mo :: [.int (iI 58)]) (mput 78 r19 t18) (onI (fun r21 t20 => ((r21 = 0 → jX5_readStatement_226 P s0 l X lev st Q t20) ∧ (¬ r21 = 0 → (CQ (wM P s0 l X) mX5_next lev (.ref P.mo :: []) t20 (onV (fun t22 => (CQ (wM P s0 l X) mX5_readTerm lev (.ref P.mo :: [.int (iI 0)]) t22 (onI (fun r25 t24 => Q (.returned none) (mput 79 r25 t24)) (fun x t => Q (.threw x) t)))) (fun x t => Q (.threw x) t)))))) (fun x t => Q (.threw x) t)))) ∧ (¬ (fI t18 76) = (iI 3) → jX5_readStatement_226 P s0 l X lev st Q (mput 78 r19 t18)))) ∧ (¬ (fI t18 72) = 0 → jX5_readStatement_226 P s0 l X lev st Q (mput 78 r19 t18)))) (fun x t => Q (.threw x) t)))))) (fun x t => Q (.threw x) t)))) ∧ (¬ (fI st 11) ≤ (iI 6) → (CQ (wM P s0 l X) mX5_cant lev (.ref P.mo :: []) (mput 79 (iI (-1)) (mput 78 (iI (-1)) (mput 76 (fI st 11) (mput 77 (fI st 9) st)))) (onV (fun t30 => Q (.returned none) t30) (fun x t => Q (.threw x) t)))))))) ∧ (¬ (fI st 7) = (iI 1) → (CQ (wM P s0 l X) mX5_readTold lev (.ref P.mo :: []) (mput 79 (iI (-1)) (mput 78 (iI (-1)) (mput 76 (iI (-1)) (mput 77 (fI st 9) st)))) (onV (fun t1 => Q (.returned none) t1) (fun x t => Q (.threw x) t)))))) : CQ (wM P s0 l X) mX5_readStatement (lev + 1) [.ref P.mo] st Q := by
  refine CQ.of2 0 (lv := [some (va_rf (some P.mo))]) (by decide) (Nat.le_of_ble_eq_true rfl) rfl rfl ?_
  refine j_aload_n (r := some P.mo) dX5_readStatement_0 rfl ?_
  refine j_aload_n (r := some P.mo) dX5_readStatement_1 rfl ?_
  refine jm_get (v := fI st 9) fM_9 rfl rfl dX5_readStatement_2 ?_
  refine jm_put fM_77 rfl dX5_readStatement_5 ?_
  refine j_aload_n (r := some P.mo) dX5_readStatement_8 rfl ?_
  refine j_aload_n (r := some P.mo) dX5_readStatement_9 rfl ?_
  refine jm_get (v := fI st 7) fM_7 rfl rfl dX5_readStatement_10 ?_
  refine j_iconst (v := iI 1) dX5_readStatement_13 rfl ?_
  refine j_icmp_ne 24 dX5_readStatement_14 (by decide) (fun c36 => ?_) (fun c36 => ?_)
  · replace h := h.2 c36
    refine j_iconst (v := iI (-1)) dX5_readStatement_24 rfl ?_
    refine jm_put fM_76 rfl dX5_readStatement_25 ?_
    refine j_aload_n (r := some P.mo) dX5_readStatement_28 rfl ?_
    refine j_iconst (v := iI (-1)) dX5_readStatement_29 rfl ?_
    refine jm_put fM_78 rfl dX5_readStatement_30 ?_
    refine j_aload_n (r := some P.mo) dX5_readStatement_33 rfl ?_
    refine j_iconst (v := iI (-1)) dX5_readStatement_34 rfl ?_
    refine jm_put fM_79 rfl dX5_readStatement_35 ?_
    refine j_aload_n (r := some P.mo) dX5_readStatement_38 rfl ?_
    refine jm_get (v := iI (-1)) fM_76 rfl rfl dX5_readStatement_39 ?_
    refine j_iconst (v := iI (-1)) dX5_readStatement_42 rfl ?_
    refine j_icmp_ne 51 dX5_readStatement_43 (by decide) (fun q_ => absurd (by decide) q_) (fun _ => ?_)
    refine j_aload_n (r := some P.mo) dX5_readStatement_46 rfl ?_
    refine jm_callv (As := []) (rest := []) kX5_readTold rfl q2307 rfl rfl (Nat.le_of_ble_eq_true rfl) rfl dX5_readStatement_47 (Nat.succ_le_succ (Nat.zero_le _)) (h.mono (onV_mono (fun t1 h => ?_) (fun _ _ h => h)))
    exact j_return rfl dX5_readStatement_50 h
  · replace h := h.1 c36
    refine j_aload_n (r := some P.mo) dX5_readStatement_17 rfl ?_
    refine jm_get (v := fI st 11) fM_11 rfl rfl dX5_readStatement_18 ?_
    refine j_goto 25 dX5_readStatement_21 (by decide) ?_
    refine jm_put fM_76 rfl dX5_readStatement_25 ?_
    refine j_aload_n (r := some P.mo) dX5_readStatement_28 rfl ?_
    refine j_iconst (v := iI (-1)) dX5_readStatement_29 rfl ?_
    refine jm_put fM_78 rfl dX5_readStatement_30 ?_
    refine j_aload_n (r := some P.mo) dX5_readStatement_33 rfl ?_
    refine j_iconst (v := iI (-1)) dX5_readStatement_34 rfl ?_
    refine jm_put fM_79 rfl dX5_readStatement_35 ?_
    refine j_aload_n (r := some P.mo) dX5_readStatement_38 rfl ?_
    refine jm_get (v := fI st 11) fM_76 rfl rfl dX5_readStatement_39 ?_
    refine j_iconst (v := iI (-1)) dX5_readStatement_42 rfl ?_
    refine j_icmp_ne 51 dX5_readStatement_43 (by decide) (fun c35 => ?_) (fun c35 => ?_)
    · replace h := h.2 c35
      refine j_aload_n (r := some P.mo) dX5_readStatement_51 rfl ?_
      refine jm_get (v := fI st 11) fM_76 rfl rfl dX5_readStatement_52 ?_
      refine j_bipush (v := iI 6) dX5_readStatement_55 rfl ?_
      refine j_icmp_le 65 dX5_readStatement_57 (by decide) (fun c32 => ?_) (fun c32 => ?_)
      · replace h := h.1 c32
        refine j_aload_n (r := some P.mo) dX5_readStatement_65 rfl ?_
        refine jm_callv (As := []) (rest := []) kX5_next rfl q2277 rfl rfl (Nat.le_of_ble_eq_true rfl) rfl dX5_readStatement_66 (Nat.succ_le_succ (Nat.zero_le _)) (h.mono (onV_mono (fun t3 h => ?_) (fun _ _ h => h)))
        refine j_aload_n (r := some P.mo) dX5_readStatement_69 rfl ?_
        refine jm_get (v := fI t3 76) fM_76 rfl rfl dX5_readStatement_70 ?_
        rcases tb_case 3 0 (fI t3 76) with ⟨c29, hc29, ec29⟩ | ec29
        · match c29, hc29, ec29 with
          | 0, _, ec29 =>
            have ec29 : fI t3 76 = iI 0 := ec29
            replace h := h.1 ec29
            refine j_tableIn 100 dX5_readStatement_73 (by rw [ec29]; decide) (by rw [ec29]; decide) (by rw [ec29]; rfl) (by decide) ?_
            refine j_aload_n (r := some P.mo) dX5_readStatement_100 rfl ?_
            refine j_aload_n (r := some P.mo) dX5_readStatement_101 rfl ?_
            refine jm_calli (As := []) (rest := [va_rf (some P.mo)]) kX5_nameNode rfl q2311 rfl rfl (Nat.le_of_ble_eq_true rfl) rfl dX5_readStatement_102 (Nat.succ_le_succ (Nat.zero_le _)) (h.mono (onI_mono (fun r6 t5 h => ?_) (fun _ _ h => h)))
            refine jm_put fM_80 rfl dX5_readStatement_105 ?_
            refine j_goto 256 dX5_readStatement_108 (by decide) ?_
            exact j_return rfl dX5_readStatement_256 h
          | 1, _, ec29 =>
            have ec29 : fI t3 76 = iI 1 := ec29
            replace h := h.2.1 ec29
            refine j_tableIn 111 dX5_readStatement_73 (by rw [ec29]; decide) (by rw [ec29]; decide) (by rw [ec29]; rfl) (by decide) ?_
            refine j_aload_n (r := some P.mo) dX5_readStatement_111 rfl ?_
            refine j_aload_n (r := some P.mo) dX5_readStatement_112 rfl ?_
            refine jm_calli (As := []) (rest := [va_rf (some P.mo)]) kX5_nameNode rfl q2311 rfl rfl (Nat.le_of_ble_eq_true rfl) rfl dX5_readStatement_113 (Nat.succ_le_succ (Nat.zero_le _)) (h.mono (onI_mono (fun r8 t7 h => ?_) (fun _ _ h => h)))
            refine jm_put fM_80 rfl dX5_readStatement_116 ?_
            refine j_aload_n (r := some P.mo) dX5_readStatement_119 rfl ?_
            refine j_bipush (v := iI 58) dX5_readStatement_120 rfl ?_
            refine jm_callv (As := [.int (iI 58)]) (rest := []) kX5_need rfl q2335 rfl rfl (Nat.le_of_ble_eq_true rfl) rfl dX5_readStatement_122 (Nat.succ_le_succ (Nat.zero_le _)) (h.mono (onV_mono (fun t9 h => ?_) (fun _ _ h => h)))
            refine j_aload_n (r := some P.mo) dX5_readStatement_125 rfl ?_
            refine j_aload_n (r := some P.mo) dX5_readStatement_126 rfl ?_
            refine jm_calli (As := []) (rest := [va_rf (some P.mo)]) kX5_nameNode rfl q2311 rfl rfl (Nat.le_of_ble_eq_true rfl) rfl dX5_readStatement_127 (Nat.succ_le_succ (Nat.zero_le _)) (h.mono (onI_mono (fun r12 t11 h => ?_) (fun _ _ h => h)))
            refine jm_put fM_81 rfl dX5_readStatement_130 ?_
            refine j_goto 256 dX5_readStatement_133 (by decide) ?_
            exact j_return rfl dX5_readStatement_256 h
          | 2, _, ec29 =>
            have ec29 : fI t3 76 = iI 2 := ec29
            replace h := h.2.2.1 ec29
            refine j_tableIn 136 dX5_readStatement_73 (by rw [ec29]; decide) (by rw [ec29]; decide) (by rw [ec29]; rfl) (by decide) ?_
            refine j_aload_n (r := some P.mo) dX5_readStatement_136 rfl ?_
            refine j_aload_n (r := some P.mo) dX5_readStatement_137 rfl ?_
            refine jm_calli (As := []) (rest := [va_rf (some P.mo)]) kX5_nameNode rfl q2311 rfl rfl (Nat.le_of_ble_eq_true rfl) rfl dX5_readStatement_138 (Nat.succ_le_succ (Nat.zero_le _)) (h.mono (onI_mono (fun r14 t13 h => ?_) (fun _ _ h => h)))
            refine jm_put fM_80 rfl dX5_readStatement_141 ?_
            refine j_aload_n (r := some P.mo) dX5_readStatement_144 rfl ?_
            refine jm_get (v := fI t13 72) fM_72 rfl rfl dX5_readStatement_145 ?_
            refine j_if_ne 159 dX5_readStatement_148 (by decide) (fun c17 => ?_) (fun c17 => ?_)
            · replace h := h.2 c17
              exact h
            · replace h := h.1 c17
              refine j_aload_n (r := some P.mo) dX5_readStatement_151 rfl ?_
              refine j_aload_n (r := some P.mo) dX5_readStatement_152 rfl ?_
              refine jm_calli (As := []) (rest := [va_rf (some P.mo)]) kX5_nameNode rfl q2311 rfl rfl (Nat.le_of_ble_eq_true rfl) rfl dX5_readStatement_153 (Nat.succ_le_succ (Nat.zero_le _)) (h.mono (onI_mono (fun r16 t15 h => ?_) (fun _ _ h => h)))
              refine jm_put fM_81 rfl dX5_readStatement_156 ?_
              exact h
          | q_ + 3, hq_, _ => exact absurd hq_ (by omega)
        · replace h := h.2.2.2 ec29
          refine j_tableOut 177 dX5_readStatement_73 ec29 (by decide) ?_
          refine j_aload_n (r := some P.mo) dX5_readStatement_177 rfl ?_
          refine j_aload_n (r := some P.mo) dX5_readStatement_178 rfl ?_
          refine j_iconst (v := iI 0) dX5_readStatement_179 rfl ?_
          refine jm_calli (As := [.int (iI 0)]) (rest := [va_rf (some P.mo)]) kX5_readTerm rfl q2331 rfl rfl (Nat.le_of_ble_eq_true rfl) rfl dX5_readStatement_180 (Nat.succ_le_succ (Nat.zero_le _)) (h.mono (onI_mono (fun r19 t18 h => ?_) (fun _ _ h => h)))
          refine jm_put fM_78 rfl dX5_readStatement_183 ?_
          refine j_aload_n (r := some P.mo) dX5_readStatement_186 rfl ?_
          refine jm_get (v := fI t18 72) fM_72 rfl rfl dX5_readStatement_187 ?_
          refine j_if_ne 226 dX5_readStatement_190 (by decide) (fun c28 => ?_) (fun c28 => ?_)
          · replace h := h.2 c28
            exact h
          · replace h := h.1 c28
            refine j_aload_n (r := some P.mo) dX5_readStatement_193 rfl ?_
            refine jm_get (v := fI t18 76) fM_76 rfl rfl dX5_readStatement_194 ?_
            refine j_iconst (v := iI 3) dX5_readStatement_197 rfl ?_
            refine j_icmp_ne 226 dX5_readStatement_198 (by decide) (fun c27 => ?_) (fun c27 => ?_)
            · replace h := h.2 c27
              exact h
            · replace h := h.1 c27
              refine j_aload_n (r := some P.mo) dX5_readStatement_201 rfl ?_
              refine j_bipush (v := iI 58) dX5_readStatement_202 rfl ?_
              refine jm_calli (As := [.int (iI 58)]) (rest := []) kX5_isSign rfl q2327 rfl rfl (Nat.le_of_ble_eq_true rfl) rfl dX5_readStatement_204 (Nat.succ_le_succ (Nat.zero_le _)) (h.mono (onI_mono (fun r21 t20 h => ?_) (fun _ _ h => h)))
              refine j_if_eq 226 dX5_readStatement_207 (by decide) (fun c26 => ?_) (fun c26 => ?_)
              · replace h := h.1 c26
                exact h
              · replace h := h.2 c26
                refine j_aload_n (r := some P.mo) dX5_readStatement_210 rfl ?_
                refine jm_callv (As := []) (rest := []) kX5_next rfl q2277 rfl rfl (Nat.le_of_ble_eq_true rfl) rfl dX5_readStatement_211 (Nat.succ_le_succ (Nat.zero_le _)) (h.mono (onV_mono (fun t22 h => ?_) (fun _ _ h => h)))
                refine j_aload_n (r := some P.mo) dX5_readStatement_214 rfl ?_
                refine j_aload_n (r := some P.mo) dX5_readStatement_215 rfl ?_
                refine j_iconst (v := iI 0) dX5_readStatement_216 rfl ?_
                refine jm_calli (As := [.int (iI 0)]) (rest := [va_rf (some P.mo)]) kX5_readTerm rfl q2331 rfl rfl (Nat.le_of_ble_eq_true rfl) rfl dX5_readStatement_217 (Nat.succ_le_succ (Nat.zero_le _)) (h.mono (onI_mono (fun r25 t24 h => ?_) (fun _ _ h => h)))
                refine jm_put fM_79 rfl dX5_readStatement_220 ?_
                refine j_goto 256 dX5_readStatement_223 (by decide) ?_
                exact j_return rfl dX5_readStatement_256 h
      · replace h := h.2 c32
        refine j_aload_n (r := some P.mo) dX5_readStatement_60 rfl ?_
        refine jm_callv (As := []) (rest := []) kX5_cant rfl q2323 rfl rfl (Nat.le_of_ble_eq_true rfl) rfl dX5_readStatement_61 (Nat.succ_le_succ (Nat.zero_le _)) (h.mono (onV_mono (fun t30 h => ?_) (fun _ _ h => h)))
        exact j_return rfl dX5_readStatement_64 h
    · replace h := h.1 c35
      refine j_aload_n (r := some P.mo) dX5_readStatement_46 rfl ?_
      refine jm_callv (As := []) (rest := []) kX5_readTold rfl q2307 rfl rfl (Nat.le_of_ble_eq_true rfl) rfl dX5_readStatement_47 (Nat.succ_le_succ (Nat.zero_le _)) (h.mono (onV_mono (fun t33 h => ?_) (fun _ _ h => h)))
      exact j_return rfl dX5_readStatement_50 h
theorem tX5_readStatement_159 {P : MPl} {s0 : State} {l : Launch} {X : Prop} {lev : Nat} {st0 : MSt} {Q : Outcome → MSt → Prop} {st : MSt} (h : (((fI st 72) = 0 → (CQ (wM P s0 l X) mX5_nameNode lev (.ref P.mo :: []) st (onI (fun r2 t1 => Q (.returned none) (mput 82 r2 t1)) (fun x t => Q (.threw x) t)))) ∧ (¬ (fI st 72) = 0 → Q (.returned none) st))) : jX5_readStatement_159 P s0 l X lev st0 Q st := by
  refine j_aload_n (r := some P.mo) dX5_readStatement_159 rfl ?_
  refine jm_get (v := fI st 72) fM_72 rfl rfl dX5_readStatement_160 ?_
  refine j_if_ne 256 dX5_readStatement_163 (by decide) (fun c3 => ?_) (fun c3 => ?_)
  · replace h := h.2 c3
    exact j_return rfl dX5_readStatement_256 h
  · replace h := h.1 c3
    refine j_aload_n (r := some P.mo) dX5_readStatement_166 rfl ?_
    refine j_aload_n (r := some P.mo) dX5_readStatement_167 rfl ?_
    refine jm_calli (As := []) (rest := [va_rf (some P.mo)]) kX5_nameNode rfl q2311 rfl rfl (Nat.le_of_ble_eq_true rfl) rfl dX5_readStatement_168 (Nat.succ_le_succ (Nat.zero_le _)) (h.mono (onI_mono (fun r2 t1 h => ?_) (fun _ _ h => h)))
    refine jm_put fM_82 rfl dX5_readStatement_171 ?_
    refine j_goto 256 dX5_readStatement_174 (by decide) ?_
    exact j_return rfl dX5_readStatement_256 h
theorem tX5_readStatement_226 {P : MPl} {s0 : State} {l : Launch} {X : Prop} {lev : Nat} {st0 : MSt} {Q : Outcome → MSt → Prop} {st : MSt} (h : (((fI st 72) = 0 → (((fI st 76) = (iI 5) → (CQ (wM P s0 l X) mX5_need lev (.ref P.mo :: [.int (iI 61)]) st (onV (fun t1 => (CQ (wM P s0 l X) mX5_readTerm lev (.ref P.mo :: [.int (iI 0)]) t1 (onI (fun r4 t3 => Q (.returned none) (mput 79 r4 t3)) (fun x t => Q (.threw x) t)))) (fun x t => Q (.threw x) t)))) ∧ (¬ (fI st 76) = (iI 5) → Q (.returned none) st))) ∧ (¬ (fI st 72) = 0 → Q (.returned none) st))) : jX5_readStatement_226 P s0 l X lev st0 Q st := by
  refine j_aload_n (r := some P.mo) dX5_readStatement_226 rfl ?_
  refine jm_get (v := fI st 72) fM_72 rfl rfl dX5_readStatement_227 ?_
  refine j_if_ne 256 dX5_readStatement_230 (by decide) (fun c6 => ?_) (fun c6 => ?_)
  · replace h := h.2 c6
    exact j_return rfl dX5_readStatement_256 h
  · replace h := h.1 c6
    refine j_aload_n (r := some P.mo) dX5_readStatement_233 rfl ?_
    refine jm_get (v := fI st 76) fM_76 rfl rfl dX5_readStatement_234 ?_
    refine j_iconst (v := iI 5) dX5_readStatement_237 rfl ?_
    refine j_icmp_ne 256 dX5_readStatement_238 (by decide) (fun c5 => ?_) (fun c5 => ?_)
    · replace h := h.2 c5
      exact j_return rfl dX5_readStatement_256 h
    · replace h := h.1 c5
      refine j_aload_n (r := some P.mo) dX5_readStatement_241 rfl ?_
      refine j_bipush (v := iI 61) dX5_readStatement_242 rfl ?_
      refine jm_callv (As := [.int (iI 61)]) (rest := []) kX5_need rfl q2335 rfl rfl (Nat.le_of_ble_eq_true rfl) rfl dX5_readStatement_244 (Nat.succ_le_succ (Nat.zero_le _)) (h.mono (onV_mono (fun t1 h => ?_) (fun _ _ h => h)))
      refine j_aload_n (r := some P.mo) dX5_readStatement_247 rfl ?_
      refine j_aload_n (r := some P.mo) dX5_readStatement_248 rfl ?_
      refine j_iconst (v := iI 0) dX5_readStatement_249 rfl ?_
      refine jm_calli (As := [.int (iI 0)]) (rest := [va_rf (some P.mo)]) kX5_readTerm rfl q2331 rfl rfl (Nat.le_of_ble_eq_true rfl) rfl dX5_readStatement_250 (Nat.succ_le_succ (Nat.zero_le _)) (h.mono (onI_mono (fun r4 t3 h => ?_) (fun _ _ h => h)))
      refine jm_put fM_79 rfl dX5_readStatement_253 ?_
      exact j_return rfl dX5_readStatement_256 h
theorem tX5_readTold {P : MPl} {s0 : State} {l : Launch} {X : Prop} {lev : Nat} {Q : Outcome → MSt → Prop} {st : MSt} (h : (CQ (wM P s0 l X) mX5_nameNode lev (.ref P.mo :: []) st (onI (fun r2 t1 => (((fI t1 72) = 0 → (CQ (wM P s0 l X) mX5_isSign lev (.ref P.mo :: [.int (iI 58)]) (mput 80 r2 t1) (onI (fun r4 t3 => ((r4 = 0 → (CQ (wM P s0 l X) mX5_need lev (.ref P.mo :: [.int (iI 256)]) t3 (onV (fun t5 => (CQ (wM P s0 l X) mX5_readTerm lev (.ref P.mo :: [.int (iI 0)]) t5 (onI (fun r8 t7 => Q (.returned none) (mput 78 r8 t7)) (fun x t => Q (.threw x) t)))) (fun x t => Q (.threw x) t)))) ∧ (¬ r4 = 0 → (CQ (wM P s0 l X) mX5_next lev (.ref P.mo :: []) t3 (onV (fun t9 => (CQ (wM P s0 l X) mX5_readTerm lev (.ref P.mo :: [.int (iI 0)]) t9 (onI (fun r12 t11 => (((fI t11 72) = 0 → (CQ (wM P s0 l X) mX5_isSign lev (.ref P.mo :: [.int (iI 256)]) (mput 79 r12 t11) (onI (fun r14 t13 => ((r14 = 0 → Q (.returned none) t13) ∧ (¬ r14 = 0 → (CQ (wM P s0 l X) mX5_next lev (.ref P.mo :: []) t13 (onV (fun t15 => (CQ (wM P s0 l X) mX5_readTerm lev (.ref P.mo :: [.int (iI 0)]) t15 (onI (fun r18 t17 => Q (.returned none) (mput 78 r18 t17)) (fun x t => Q (.threw x) t)))) (fun x t => Q (.threw x) t)))))) (fun x t => Q (.threw x) t)))) ∧ (¬ (fI t11 72) = 0 → Q (.returned none) (mput 79 r12 t11)))) (fun x t => Q (.threw x) t)))) (fun x t => Q (.threw x) t)))))) (fun x t => Q (.threw x) t)))) ∧ (¬ (fI t1 72) = 0 → Q (.returned none) (mput 80 r2 t1)))) (fun x t => Q (.threw x) t)))) : CQ (wM P s0 l X) mX5_readTold (lev + 1) [.ref P.mo] st Q := by
  refine CQ.of2 0 (lv := [some (va_rf (some P.mo))]) (by decide) (Nat.le_of_ble_eq_true rfl) rfl rfl ?_
  refine j_aload_n (r := some P.mo) dX5_readTold_0 rfl ?_
  refine j_aload_n (r := some P.mo) dX5_readTold_1 rfl ?_
  refine jm_calli (As := []) (rest := [va_rf (some P.mo)]) kX5_nameNode rfl q2311 rfl rfl (Nat.le_of_ble_eq_true rfl) rfl dX5_readTold_2 (Nat.succ_le_succ (Nat.zero_le _)) (h.mono (onI_mono (fun r2 t1 h => ?_) (fun _ _ h => h)))
  refine jm_put fM_80 rfl dX5_readTold_5 ?_
  refine j_aload_n (r := some P.mo) dX5_readTold_8 rfl ?_
  refine jm_get (v := fI t1 72) fM_72 rfl rfl dX5_readTold_9 ?_
  refine j_if_eq 16 dX5_readTold_12 (by decide) (fun c22 => ?_) (fun c22 => ?_)
  · replace h := h.1 c22
    refine j_aload_n (r := some P.mo) dX5_readTold_16 rfl ?_
    refine j_bipush (v := iI 58) dX5_readTold_17 rfl ?_
    refine jm_calli (As := [.int (iI 58)]) (rest := []) kX5_isSign rfl q2327 rfl rfl (Nat.le_of_ble_eq_true rfl) rfl dX5_readTold_19 (Nat.succ_le_succ (Nat.zero_le _)) (h.mono (onI_mono (fun r4 t3 h => ?_) (fun _ _ h => h)))
    refine j_if_eq 71 dX5_readTold_22 (by decide) (fun c21 => ?_) (fun c21 => ?_)
    · replace h := h.1 c21
      refine j_aload_n (r := some P.mo) dX5_readTold_71 rfl ?_
      refine j_sipush (v := iI 256) dX5_readTold_72 rfl ?_
      refine jm_callv (As := [.int (iI 256)]) (rest := []) kX5_need rfl q2335 rfl rfl (Nat.le_of_ble_eq_true rfl) rfl dX5_readTold_75 (Nat.succ_le_succ (Nat.zero_le _)) (h.mono (onV_mono (fun t5 h => ?_) (fun _ _ h => h)))
      refine j_aload_n (r := some P.mo) dX5_readTold_78 rfl ?_
      refine j_aload_n (r := some P.mo) dX5_readTold_79 rfl ?_
      refine j_iconst (v := iI 0) dX5_readTold_80 rfl ?_
      refine jm_calli (As := [.int (iI 0)]) (rest := [va_rf (some P.mo)]) kX5_readTerm rfl q2331 rfl rfl (Nat.le_of_ble_eq_true rfl) rfl dX5_readTold_81 (Nat.succ_le_succ (Nat.zero_le _)) (h.mono (onI_mono (fun r8 t7 h => ?_) (fun _ _ h => h)))
      refine jm_put fM_78 rfl dX5_readTold_84 ?_
      exact j_return rfl dX5_readTold_87 h
    · replace h := h.2 c21
      refine j_aload_n (r := some P.mo) dX5_readTold_25 rfl ?_
      refine jm_callv (As := []) (rest := []) kX5_next rfl q2277 rfl rfl (Nat.le_of_ble_eq_true rfl) rfl dX5_readTold_26 (Nat.succ_le_succ (Nat.zero_le _)) (h.mono (onV_mono (fun t9 h => ?_) (fun _ _ h => h)))
      refine j_aload_n (r := some P.mo) dX5_readTold_29 rfl ?_
      refine j_aload_n (r := some P.mo) dX5_readTold_30 rfl ?_
      refine j_iconst (v := iI 0) dX5_readTold_31 rfl ?_
      refine jm_calli (As := [.int (iI 0)]) (rest := [va_rf (some P.mo)]) kX5_readTerm rfl q2331 rfl rfl (Nat.le_of_ble_eq_true rfl) rfl dX5_readTold_32 (Nat.succ_le_succ (Nat.zero_le _)) (h.mono (onI_mono (fun r12 t11 h => ?_) (fun _ _ h => h)))
      refine jm_put fM_79 rfl dX5_readTold_35 ?_
      refine j_aload_n (r := some P.mo) dX5_readTold_38 rfl ?_
      refine jm_get (v := fI t11 72) fM_72 rfl rfl dX5_readTold_39 ?_
      refine j_if_ne 87 dX5_readTold_42 (by decide) (fun c20 => ?_) (fun c20 => ?_)
      · replace h := h.2 c20
        exact j_return rfl dX5_readTold_87 h
      · replace h := h.1 c20
        refine j_aload_n (r := some P.mo) dX5_readTold_45 rfl ?_
        refine j_sipush (v := iI 256) dX5_readTold_46 rfl ?_
        refine jm_calli (As := [.int (iI 256)]) (rest := []) kX5_isSign rfl q2327 rfl rfl (Nat.le_of_ble_eq_true rfl) rfl dX5_readTold_49 (Nat.succ_le_succ (Nat.zero_le _)) (h.mono (onI_mono (fun r14 t13 h => ?_) (fun _ _ h => h)))
        refine j_if_eq 87 dX5_readTold_52 (by decide) (fun c19 => ?_) (fun c19 => ?_)
        · replace h := h.1 c19
          exact j_return rfl dX5_readTold_87 h
        · replace h := h.2 c19
          refine j_aload_n (r := some P.mo) dX5_readTold_55 rfl ?_
          refine jm_callv (As := []) (rest := []) kX5_next rfl q2277 rfl rfl (Nat.le_of_ble_eq_true rfl) rfl dX5_readTold_56 (Nat.succ_le_succ (Nat.zero_le _)) (h.mono (onV_mono (fun t15 h => ?_) (fun _ _ h => h)))
          refine j_aload_n (r := some P.mo) dX5_readTold_59 rfl ?_
          refine j_aload_n (r := some P.mo) dX5_readTold_60 rfl ?_
          refine j_iconst (v := iI 0) dX5_readTold_61 rfl ?_
          refine jm_calli (As := [.int (iI 0)]) (rest := [va_rf (some P.mo)]) kX5_readTerm rfl q2331 rfl rfl (Nat.le_of_ble_eq_true rfl) rfl dX5_readTold_62 (Nat.succ_le_succ (Nat.zero_le _)) (h.mono (onI_mono (fun r18 t17 h => ?_) (fun _ _ h => h)))
          refine jm_put fM_78 rfl dX5_readTold_65 ?_
          refine j_goto 87 dX5_readTold_68 (by decide) ?_
          exact j_return rfl dX5_readTold_87 h
  · replace h := h.2 c22
    exact j_return rfl dX5_readTold_15 h
theorem tX5_nameNode {P : MPl} {s0 : State} {l : Launch} {X : Prop} {lev : Nat} {Q : Outcome → MSt → Prop} {st : MSt} (h : (CQ (wM P s0 l X) mX5_node lev (.ref P.mo :: [.int (iI 0), .int (fI st 9), .int ((fI st 10) - (fI st 9)), .int (iI 0), .int (fI st 9)]) st (onI (fun r2 t1 => (CQ (wM P s0 l X) mX5_isName lev (.ref P.mo :: []) t1 (onI (fun r4 t3 => ((r4 = 0 → (CQ (wM P s0 l X) mX5_cant lev (.ref P.mo :: []) t3 (onV (fun t5 => Q (.returned (some (.int r2))) t5) (fun x t => Q (.threw x) t)))) ∧ (¬ r4 = 0 → (CQ (wM P s0 l X) mX5_next lev (.ref P.mo :: []) t3 (onV (fun t7 => Q (.returned (some (.int r2))) t7) (fun x t => Q (.threw x) t)))))) (fun x t => Q (.threw x) t)))) (fun x t => Q (.threw x) t)))) : CQ (wM P s0 l X) mX5_nameNode (lev + 1) [.ref P.mo] st Q := by
  refine CQ.of2 1 (lv := [some (va_rf (some P.mo)), none]) (by decide) (Nat.le_of_ble_eq_true rfl) rfl rfl ?_
  refine j_aload_n (r := some P.mo) dX5_nameNode_0 rfl ?_
  refine j_iconst (v := iI 0) dX5_nameNode_1 rfl ?_
  refine j_aload_n (r := some P.mo) dX5_nameNode_2 rfl ?_
  refine jm_get (v := fI st 9) fM_9 rfl rfl dX5_nameNode_3 ?_
  refine j_aload_n (r := some P.mo) dX5_nameNode_6 rfl ?_
  refine jm_get (v := fI st 10) fM_10 rfl rfl dX5_nameNode_7 ?_
  refine j_aload_n (r := some P.mo) dX5_nameNode_10 rfl ?_
  refine jm_get (v := fI st 9) fM_9 rfl rfl dX5_nameNode_11 ?_
  refine j_isub dX5_nameNode_14 ?_
  refine j_iconst (v := iI 0) dX5_nameNode_15 rfl ?_
  refine j_aload_n (r := some P.mo) dX5_nameNode_16 rfl ?_
  refine jm_get (v := fI st 9) fM_9 rfl rfl dX5_nameNode_17 ?_
  refine jm_calli (As := [.int (iI 0), .int (fI st 9), .int ((fI st 10) - (fI st 9)), .int (iI 0), .int (fI st 9)]) (rest := []) kX5_node rfl q2315 rfl rfl (Nat.le_of_ble_eq_true rfl) rfl dX5_nameNode_20 (Nat.succ_le_succ (Nat.zero_le _)) (h.mono (onI_mono (fun r2 t1 h => ?_) (fun _ _ h => h)))
  refine j_istore_n (lv' := [some (va_rf (some P.mo)), some (.int r2)]) dX5_nameNode_23 (by decide) rfl ?_
  refine j_aload_n (r := some P.mo) dX5_nameNode_24 rfl ?_
  refine jm_calli (As := []) (rest := []) kX5_isName rfl q2319 rfl rfl (Nat.le_of_ble_eq_true rfl) rfl dX5_nameNode_25 (Nat.succ_le_succ (Nat.zero_le _)) (h.mono (onI_mono (fun r4 t3 h => ?_) (fun _ _ h => h)))
  refine j_if_eq 38 dX5_nameNode_28 (by decide) (fun c9 => ?_) (fun c9 => ?_)
  · replace h := h.1 c9
    refine j_aload_n (r := some P.mo) dX5_nameNode_38 rfl ?_
    refine jm_callv (As := []) (rest := []) kX5_cant rfl q2323 rfl rfl (Nat.le_of_ble_eq_true rfl) rfl dX5_nameNode_39 (Nat.succ_le_succ (Nat.zero_le _)) (h.mono (onV_mono (fun t5 h => ?_) (fun _ _ h => h)))
    refine j_iload_n dX5_nameNode_42 rfl ?_
    exact j_ireturn (ty := .int) rfl rfl dX5_nameNode_43 h
  · replace h := h.2 c9
    refine j_aload_n (r := some P.mo) dX5_nameNode_31 rfl ?_
    refine jm_callv (As := []) (rest := []) kX5_next rfl q2277 rfl rfl (Nat.le_of_ble_eq_true rfl) rfl dX5_nameNode_32 (Nat.succ_le_succ (Nat.zero_le _)) (h.mono (onV_mono (fun t7 h => ?_) (fun _ _ h => h)))
    refine j_goto 42 dX5_nameNode_35 (by decide) ?_
    refine j_iload_n dX5_nameNode_42 rfl ?_
    exact j_ireturn (ty := .int) rfl rfl dX5_nameNode_43 h
theorem tX5_node {P : MPl} {s0 : State} {l : Launch} {X : Prop} {lev : Nat} {Q : Outcome → MSt → Prop} {x1 x2 x3 x4 x5 : Int32} {st : MSt} (h : (((fI st 15) = 0 → Q (.returned (some (.int (iI 0)))) st) ∧ (¬ (fI st 15) = 0 → (inr (fI st 39) 140000 ∧ (inr (fI st 39) 140000 ∧ (inr (fI st 39) 140000 ∧ (inr (fI st 39) 140000 ∧ (inr (fI st 39) 140000 ∧ (inr (fI st 39) 140000 ∧ (inr (fI st 39) 140000 ∧ Q (.returned (some (.int (((fI st 39) + (iI 1)) - (iI 1))))) (mput 39 ((fI st 39) + (iI 1)) (mst 38 (fI st 39) (fI st 39) (mst 35 (fI st 39) x5 (mst 34 (fI st 39) x5 (mst 33 (fI st 39) x4 (mst 32 (fI st 39) x3 (mst 31 (fI st 39) x2 (mst 30 (fI st 39) x1 st)))))))))))))))))) : CQ (wM P s0 l X) mX5_node (lev + 1) [.ref P.mo, .int x1, .int x2, .int x3, .int x4, .int x5] st Q := by
  refine CQ.of2 0 (lv := [some (va_rf (some P.mo)), some (.int x1), some (.int x2), some (.int x3), some (.int x4), some (.int x5)]) (by decide) (Nat.le_of_ble_eq_true rfl) rfl rfl ?_
  refine j_aload_n (r := some P.mo) dX5_node_0 rfl ?_
  refine jm_getz (v := fI st 15) fM_15 rfl rfl dX5_node_1 ?_
  refine j_if_ne 9 dX5_node_4 (by decide) (fun c1 => ?_) (fun c1 => ?_)
  · replace h := h.2 c1
    refine j_aload_n (r := some P.mo) dX5_node_9 rfl ?_
    refine jm_geta fM_30 rfl dX5_node_10 ?_
    refine j_aload_n (r := some P.mo) dX5_node_13 rfl ?_
    refine jm_get (v := fI st 39) fM_39 rfl rfl dX5_node_14 ?_
    refine j_iload_n dX5_node_17 rfl ?_
    refine jm_ast rfl h.1 rfl dX5_node_18 ?_
    replace h := h.2
    refine j_aload_n (r := some P.mo) dX5_node_19 rfl ?_
    refine jm_geta fM_31 rfl dX5_node_20 ?_
    refine j_aload_n (r := some P.mo) dX5_node_23 rfl ?_
    refine jm_get (v := fI st 39) fM_39 rfl rfl dX5_node_24 ?_
    refine j_iload_n dX5_node_27 rfl ?_
    refine jm_ast rfl h.1 rfl dX5_node_28 ?_
    replace h := h.2
    refine j_aload_n (r := some P.mo) dX5_node_29 rfl ?_
    refine jm_geta fM_32 rfl dX5_node_30 ?_
    refine j_aload_n (r := some P.mo) dX5_node_33 rfl ?_
    refine jm_get (v := fI st 39) fM_39 rfl rfl dX5_node_34 ?_
    refine j_iload_n dX5_node_37 rfl ?_
    refine jm_ast rfl h.1 rfl dX5_node_38 ?_
    replace h := h.2
    refine j_aload_n (r := some P.mo) dX5_node_39 rfl ?_
    refine jm_geta fM_33 rfl dX5_node_40 ?_
    refine j_aload_n (r := some P.mo) dX5_node_43 rfl ?_
    refine jm_get (v := fI st 39) fM_39 rfl rfl dX5_node_44 ?_
    refine j_iload dX5_node_47 rfl ?_
    refine jm_ast rfl h.1 rfl dX5_node_49 ?_
    replace h := h.2
    refine j_aload_n (r := some P.mo) dX5_node_50 rfl ?_
    refine jm_geta fM_34 rfl dX5_node_51 ?_
    refine j_aload_n (r := some P.mo) dX5_node_54 rfl ?_
    refine jm_get (v := fI st 39) fM_39 rfl rfl dX5_node_55 ?_
    refine j_iload dX5_node_58 rfl ?_
    refine jm_ast rfl h.1 rfl dX5_node_60 ?_
    replace h := h.2
    refine j_aload_n (r := some P.mo) dX5_node_61 rfl ?_
    refine jm_geta fM_35 rfl dX5_node_62 ?_
    refine j_aload_n (r := some P.mo) dX5_node_65 rfl ?_
    refine jm_get (v := fI st 39) fM_39 rfl rfl dX5_node_66 ?_
    refine j_iload dX5_node_69 rfl ?_
    refine jm_ast rfl h.1 rfl dX5_node_71 ?_
    replace h := h.2
    refine j_aload_n (r := some P.mo) dX5_node_72 rfl ?_
    refine jm_geta fM_38 rfl dX5_node_73 ?_
    refine j_aload_n (r := some P.mo) dX5_node_76 rfl ?_
    refine jm_get (v := fI st 39) fM_39 rfl rfl dX5_node_77 ?_
    refine j_aload_n (r := some P.mo) dX5_node_80 rfl ?_
    refine jm_get (v := fI st 39) fM_39 rfl rfl dX5_node_81 ?_
    refine jm_ast rfl h.1 rfl dX5_node_84 ?_
    replace h := h.2
    refine j_aload_n (r := some P.mo) dX5_node_85 rfl ?_
    refine j_dup dX5_node_86 rfl ?_
    refine jm_get (v := fI st 39) fM_39 rfl rfl dX5_node_87 ?_
    refine j_iconst (v := iI 1) dX5_node_90 rfl ?_
    refine j_iadd dX5_node_91 ?_
    refine jm_put fM_39 rfl dX5_node_92 ?_
    refine j_aload_n (r := some P.mo) dX5_node_95 rfl ?_
    refine jm_get (v := (fI st 39) + (iI 1)) fM_39 rfl rfl dX5_node_96 ?_
    refine j_iconst (v := iI 1) dX5_node_99 rfl ?_
    refine j_isub dX5_node_100 ?_
    exact j_ireturn (ty := .int) rfl rfl dX5_node_101 h
  · replace h := h.1 c1
    refine j_iconst (v := iI 0) dX5_node_7 rfl ?_
    exact j_ireturn (ty := .int) rfl rfl dX5_node_8 h
theorem tX5_isName {P : MPl} {s0 : State} {l : Launch} {X : Prop} {lev : Nat} {Q : Outcome → MSt → Prop} {st : MSt} (h : (((fI st 7) = (iI 1) → (((fI st 11) = (iI (-1)) → Q (.returned (some (.int (iI 1)))) st) ∧ (¬ (fI st 11) = (iI (-1)) → Q (.returned (some (.int (iI 0)))) st))) ∧ (¬ (fI st 7) = (iI 1) → Q (.returned (some (.int (iI 0)))) st))) : CQ (wM P s0 l X) mX5_isName (lev + 1) [.ref P.mo] st Q := by
  refine CQ.of2 0 (lv := [some (va_rf (some P.mo))]) (by decide) (Nat.le_of_ble_eq_true rfl) rfl rfl ?_
  refine j_aload_n (r := some P.mo) dX5_isName_0 rfl ?_
  refine jm_get (v := fI st 7) fM_7 rfl rfl dX5_isName_1 ?_
  refine j_iconst (v := iI 1) dX5_isName_4 rfl ?_
  refine j_icmp_ne 20 dX5_isName_5 (by decide) (fun c2 => ?_) (fun c2 => ?_)
  · replace h := h.2 c2
    refine j_iconst (v := iI 0) dX5_isName_20 rfl ?_
    exact j_ireturn (ty := .boolean) rfl rfl dX5_isName_21 h
  · replace h := h.1 c2
    refine j_aload_n (r := some P.mo) dX5_isName_8 rfl ?_
    refine jm_get (v := fI st 11) fM_11 rfl rfl dX5_isName_9 ?_
    refine j_iconst (v := iI (-1)) dX5_isName_12 rfl ?_
    refine j_icmp_ne 20 dX5_isName_13 (by decide) (fun c1 => ?_) (fun c1 => ?_)
    · replace h := h.2 c1
      refine j_iconst (v := iI 0) dX5_isName_20 rfl ?_
      exact j_ireturn (ty := .boolean) rfl rfl dX5_isName_21 h
    · replace h := h.1 c1
      refine j_iconst (v := iI 1) dX5_isName_16 rfl ?_
      refine j_goto 21 dX5_isName_17 (by decide) ?_
      exact j_ireturn (ty := .boolean) rfl rfl dX5_isName_21 h
theorem tX5_cant {P : MPl} {s0 : State} {l : Launch} {X : Prop} {lev : Nat} {Q : Outcome → MSt → Prop} {st : MSt} (h : (CQ (wM P s0 l X) mX5_wrong lev (.ref P.mo :: [.int (iI 1), .int (fI st 9)]) st (onV (fun t1 => Q (.returned none) t1) (fun x t => Q (.threw x) t)))) : CQ (wM P s0 l X) mX5_cant (lev + 1) [.ref P.mo] st Q := by
  refine CQ.of2 0 (lv := [some (va_rf (some P.mo))]) (by decide) (Nat.le_of_ble_eq_true rfl) rfl rfl ?_
  refine j_aload_n (r := some P.mo) dX5_cant_0 rfl ?_
  refine j_iconst (v := iI 1) dX5_cant_1 rfl ?_
  refine j_aload_n (r := some P.mo) dX5_cant_2 rfl ?_
  refine jm_get (v := fI st 9) fM_9 rfl rfl dX5_cant_3 ?_
  refine jm_callv (As := [.int (iI 1), .int (fI st 9)]) (rest := []) kX5_wrong rfl q2295 rfl rfl (Nat.le_of_ble_eq_true rfl) rfl dX5_cant_6 (Nat.succ_le_succ (Nat.zero_le _)) (h.mono (onV_mono (fun t1 h => ?_) (fun _ _ h => h)))
  exact j_return rfl dX5_cant_9 h
theorem tX5_isSign {P : MPl} {s0 : State} {l : Launch} {X : Prop} {lev : Nat} {Q : Outcome → MSt → Prop} {x1 : Int32} {st : MSt} (h : (((fI st 7) = (iI 2) → (((fI st 8) = x1 → Q (.returned (some (.int (iI 1)))) st) ∧ (¬ (fI st 8) = x1 → Q (.returned (some (.int (iI 0)))) st))) ∧ (¬ (fI st 7) = (iI 2) → Q (.returned (some (.int (iI 0)))) st))) : CQ (wM P s0 l X) mX5_isSign (lev + 1) [.ref P.mo, .int x1] st Q := by
  refine CQ.of2 0 (lv := [some (va_rf (some P.mo)), some (.int x1)]) (by decide) (Nat.le_of_ble_eq_true rfl) rfl rfl ?_
  refine j_aload_n (r := some P.mo) dX5_isSign_0 rfl ?_
  refine jm_get (v := fI st 7) fM_7 rfl rfl dX5_isSign_1 ?_
  refine j_iconst (v := iI 2) dX5_isSign_4 rfl ?_
  refine j_icmp_ne 20 dX5_isSign_5 (by decide) (fun c2 => ?_) (fun c2 => ?_)
  · replace h := h.2 c2
    refine j_iconst (v := iI 0) dX5_isSign_20 rfl ?_
    exact j_ireturn (ty := .boolean) rfl rfl dX5_isSign_21 h
  · replace h := h.1 c2
    refine j_aload_n (r := some P.mo) dX5_isSign_8 rfl ?_
    refine jm_get (v := fI st 8) fM_8 rfl rfl dX5_isSign_9 ?_
    refine j_iload_n dX5_isSign_12 rfl ?_
    refine j_icmp_ne 20 dX5_isSign_13 (by decide) (fun c1 => ?_) (fun c1 => ?_)
    · replace h := h.2 c1
      refine j_iconst (v := iI 0) dX5_isSign_20 rfl ?_
      exact j_ireturn (ty := .boolean) rfl rfl dX5_isSign_21 h
    · replace h := h.1 c1
      refine j_iconst (v := iI 1) dX5_isSign_16 rfl ?_
      refine j_goto 21 dX5_isSign_17 (by decide) ?_
      exact j_ireturn (ty := .boolean) rfl rfl dX5_isSign_21 h
abbrev jX5_readTerm_29 (P : MPl) (s0 : State) (l : Launch) (X : Prop) (lev : Nat) (st0 : MSt) (Q : Outcome → MSt → Prop) (x1 : Int32) (st : MSt) : Prop := JQ (wM P s0 l X) mX5_readTerm (lev + 1) st0 29 [some (va_rf (some P.mo)), some (.int x1), none, none, none, none, none] [] st Q
abbrev jX5_readTerm_61 (P : MPl) (s0 : State) (l : Launch) (X : Prop) (lev : Nat) (st0 : MSt) (Q : Outcome → MSt → Prop) (x1 x2 : Int32) (st : MSt) : Prop := JQ (wM P s0 l X) mX5_readTerm (lev + 1) st0 61 [some (va_rf (some P.mo)), some (.int x1), some (.int x2), none, none, none, none] [] st Q
abbrev jX5_readTerm_217 (P : MPl) (s0 : State) (l : Launch) (X : Prop) (lev : Nat) (st0 : MSt) (Q : Outcome → MSt → Prop) (x1 x2 : Int32) (st : MSt) : Prop := JQ (wM P s0 l X) mX5_readTerm (lev + 1) st0 217 [some (va_rf (some P.mo)), some (.int x1), some (.int x2), none, none, none, none] [] st Q
theorem tX5_readTerm {P : MPl} {s0 : State} {l : Launch} {X : Prop} {lev : Nat} {Q : Outcome → MSt → Prop} {x1 : Int32} {st : MSt} (h : ((x1 = (iI 40) → (((fI st 7) = 0 → (CQ (wM P s0 l X) mX5_cant lev (.ref P.mo :: []) st (onV (fun t3 => jX5_readTerm_29 P s0 l X lev st Q x1 t3) (fun x t => Q (.threw x) t)))) ∧ (¬ (fI st 7) = 0 → (CQ (wM P s0 l X) mX5_wrong lev (.ref P.mo :: [.int (iI 2), .int (fI st 9)]) st (onV (fun t1 => jX5_readTerm_29 P s0 l X lev st Q x1 t1) (fun x t => Q (.threw x) t)))))) ∧ (¬ x1 = (iI 40) → jX5_readTerm_29 P s0 l X lev st Q x1 st))) : CQ (wM P s0 l X) mX5_readTerm (lev + 1) [.ref P.mo, .int x1] st Q := by
  refine CQ.of2 5 (lv := [some (va_rf (some P.mo)), some (.int x1), none, none, none, none, none]) (by decide) (Nat.le_of_ble_eq_true rfl) rfl rfl ?_
  refine j_iload_n dX5_readTerm_0 rfl ?_
  refine j_bipush (v := iI 40) dX5_readTerm_1 rfl ?_
  refine j_icmp_ne 29 dX5_readTerm_3 (by decide) (fun c6 => ?_) (fun c6 => ?_)
  · replace h := h.2 c6
    exact h
  · replace h := h.1 c6
    refine j_aload_n (r := some P.mo) dX5_readTerm_6 rfl ?_
    refine jm_get (v := fI st 7) fM_7 rfl rfl dX5_readTerm_7 ?_
    refine j_if_ne 20 dX5_readTerm_10 (by decide) (fun c5 => ?_) (fun c5 => ?_)
    · replace h := h.2 c5
      refine j_aload_n (r := some P.mo) dX5_readTerm_20 rfl ?_
      refine j_iconst (v := iI 2) dX5_readTerm_21 rfl ?_
      refine j_aload_n (r := some P.mo) dX5_readTerm_22 rfl ?_
      refine jm_get (v := fI st 9) fM_9 rfl rfl dX5_readTerm_23 ?_
      refine jm_callv (As := [.int (iI 2), .int (fI st 9)]) (rest := []) kX5_wrong rfl q2295 rfl rfl (Nat.le_of_ble_eq_true rfl) rfl dX5_readTerm_26 (Nat.succ_le_succ (Nat.zero_le _)) (h.mono (onV_mono (fun t1 h => ?_) (fun _ _ h => h)))
      exact h
    · replace h := h.1 c5
      refine j_aload_n (r := some P.mo) dX5_readTerm_13 rfl ?_
      refine jm_callv (As := []) (rest := []) kX5_cant rfl q2323 rfl rfl (Nat.le_of_ble_eq_true rfl) rfl dX5_readTerm_14 (Nat.succ_le_succ (Nat.zero_le _)) (h.mono (onV_mono (fun t3 h => ?_) (fun _ _ h => h)))
      refine j_goto 29 dX5_readTerm_17 (by decide) ?_
      exact h
theorem tX5_readTerm_29 {P : MPl} {s0 : State} {l : Launch} {X : Prop} {lev : Nat} {st0 : MSt} {Q : Outcome → MSt → Prop} {x1 : Int32} {st : MSt} (h : (((fI st 72) = 0 → (CQ (wM P s0 l X) mX5_isSign lev (.ref P.mo :: [.int (iI 92)]) st (onI (fun r2 t1 => ((r2 = 0 → (CQ (wM P s0 l X) mX5_isSign lev (.ref P.mo :: [.int (iI 33)]) t1 (onI (fun r4 t3 => ((r4 = 0 → (((fI t3 7) = (iI 1) → (((fI t3 11) = (iI 7) → (CQ (wM P s0 l X) mX5_node lev (.ref P.mo :: [.int (iI 6), .int (iI 0), .int (iI 0), .int (iI 0), .int (fI st 9)]) t3 (onI (fun r6 t5 => (CQ (wM P s0 l X) mX5_next lev (.ref P.mo :: []) t5 (onV (fun t7 => (CQ (wM P s0 l X) mX5_nameNode lev (.ref P.mo :: []) t7 (onI (fun r10 t9 => (CQ (wM P s0 l X) mX5_need lev (.ref P.mo :: [.int (iI 256)]) t9 (onV (fun t11 => (CQ (wM P s0 l X) mX5_readTerm lev (.ref P.mo :: [.int (x1 + (iI 1))]) t11 (onI (fun r14 t13 => (CQ (wM P s0 l X) mX5_needWord lev (.ref P.mo :: [.int (iI 8)]) t13 (onV (fun t15 => (CQ (wM P s0 l X) mX5_readTerm lev (.ref P.mo :: [.int (x1 + (iI 1))]) t15 (onI (fun r18 t17 => (CQ (wM P s0 l X) mX5_parts lev (.ref P.mo :: [.int r6, .int r10, .int r14, .int r18]) t17 (onI (fun r20 t19 => Q (.returned (some (.int r20))) t19) (fun x t => Q (.threw x) t)))) (fun x t => Q (.threw x) t)))) (fun x t => Q (.threw x) t)))) (fun x t => Q (.threw x) t)))) (fun x t => Q (.threw x) t)))) (fun x t => Q (.threw x) t)))) (fun x t => Q (.threw x) t)))) (fun x t => Q (.threw x) t)))) ∧ (¬ (fI t3 11) = (iI 7) → jX5_readTerm_217 P s0 l X lev st0 Q x1 (fI st 9) t3))) ∧ (¬ (fI t3 7) = (iI 1) → jX5_readTerm_217 P s0 l X lev st0 Q x1 (fI st 9) t3))) ∧ (¬ r4 = 0 → jX5_readTerm_61 P s0 l X lev st0 Q x1 (fI st 9) t3))) (fun x t => Q (.threw x) t)))) ∧ (¬ r2 = 0 → jX5_readTerm_61 P s0 l X lev st0 Q x1 (fI st 9) t1))) (fun x t => Q (.threw x) t)))) ∧ (¬ (fI st 72) = 0 → Q (.returned (some (.int (iI 0)))) st))) : jX5_readTerm_29 P s0 l X lev st0 Q x1 st := by
  refine j_aload_n (r := some P.mo) dX5_readTerm_29 rfl ?_
  refine jm_get (v := fI st 72) fM_72 rfl rfl dX5_readTerm_30 ?_
  refine j_if_eq 38 dX5_readTerm_33 (by decide) (fun c25 => ?_) (fun c25 => ?_)
  · replace h := h.1 c25
    refine j_aload_n (r := some P.mo) dX5_readTerm_38 rfl ?_
    refine jm_get (v := fI st 9) fM_9 rfl rfl dX5_readTerm_39 ?_
    refine j_istore_n (lv' := [some (va_rf (some P.mo)), some (.int x1), some (.int (fI st 9)), none, none, none, none]) dX5_readTerm_42 (by decide) rfl ?_
    refine j_aload_n (r := some P.mo) dX5_readTerm_43 rfl ?_
    refine j_bipush (v := iI 92) dX5_readTerm_44 rfl ?_
    refine jm_calli (As := [.int (iI 92)]) (rest := []) kX5_isSign rfl q2327 rfl rfl (Nat.le_of_ble_eq_true rfl) rfl dX5_readTerm_46 (Nat.succ_le_succ (Nat.zero_le _)) (h.mono (onI_mono (fun r2 t1 h => ?_) (fun _ _ h => h)))
    refine j_if_ne 61 dX5_readTerm_49 (by decide) (fun c24 => ?_) (fun c24 => ?_)
    · replace h := h.2 c24
      exact h
    · replace h := h.1 c24
      refine j_aload_n (r := some P.mo) dX5_readTerm_52 rfl ?_
      refine j_bipush (v := iI 33) dX5_readTerm_53 rfl ?_
      refine jm_calli (As := [.int (iI 33)]) (rest := []) kX5_isSign rfl q2327 rfl rfl (Nat.le_of_ble_eq_true rfl) rfl dX5_readTerm_55 (Nat.succ_le_succ (Nat.zero_le _)) (h.mono (onI_mono (fun r4 t3 h => ?_) (fun _ _ h => h)))
      refine j_if_eq 136 dX5_readTerm_58 (by decide) (fun c23 => ?_) (fun c23 => ?_)
      · replace h := h.1 c23
        refine j_aload_n (r := some P.mo) dX5_readTerm_136 rfl ?_
        refine jm_get (v := fI t3 7) fM_7 rfl rfl dX5_readTerm_137 ?_
        refine j_iconst (v := iI 1) dX5_readTerm_140 rfl ?_
        refine j_icmp_ne 217 dX5_readTerm_141 (by decide) (fun c22 => ?_) (fun c22 => ?_)
        · replace h := h.2 c22
          exact h
        · replace h := h.1 c22
          refine j_aload_n (r := some P.mo) dX5_readTerm_144 rfl ?_
          refine jm_get (v := fI t3 11) fM_11 rfl rfl dX5_readTerm_145 ?_
          refine j_bipush (v := iI 7) dX5_readTerm_148 rfl ?_
          refine j_icmp_ne 217 dX5_readTerm_150 (by decide) (fun c21 => ?_) (fun c21 => ?_)
          · replace h := h.2 c21
            exact h
          · replace h := h.1 c21
            refine j_aload_n (r := some P.mo) dX5_readTerm_153 rfl ?_
            refine j_bipush (v := iI 6) dX5_readTerm_154 rfl ?_
            refine j_iconst (v := iI 0) dX5_readTerm_156 rfl ?_
            refine j_iconst (v := iI 0) dX5_readTerm_157 rfl ?_
            refine j_iconst (v := iI 0) dX5_readTerm_158 rfl ?_
            refine j_iload_n dX5_readTerm_159 rfl ?_
            refine jm_calli (As := [.int (iI 6), .int (iI 0), .int (iI 0), .int (iI 0), .int (fI st 9)]) (rest := []) kX5_node rfl q2315 rfl rfl (Nat.le_of_ble_eq_true rfl) rfl dX5_readTerm_160 (Nat.succ_le_succ (Nat.zero_le _)) (h.mono (onI_mono (fun r6 t5 h => ?_) (fun _ _ h => h)))
            refine j_istore_n (lv' := [some (va_rf (some P.mo)), some (.int x1), some (.int (fI st 9)), some (.int r6), none, none, none]) dX5_readTerm_163 (by decide) rfl ?_
            refine j_aload_n (r := some P.mo) dX5_readTerm_164 rfl ?_
            refine jm_callv (As := []) (rest := []) kX5_next rfl q2277 rfl rfl (Nat.le_of_ble_eq_true rfl) rfl dX5_readTerm_165 (Nat.succ_le_succ (Nat.zero_le _)) (h.mono (onV_mono (fun t7 h => ?_) (fun _ _ h => h)))
            refine j_aload_n (r := some P.mo) dX5_readTerm_168 rfl ?_
            refine jm_calli (As := []) (rest := []) kX5_nameNode rfl q2311 rfl rfl (Nat.le_of_ble_eq_true rfl) rfl dX5_readTerm_169 (Nat.succ_le_succ (Nat.zero_le _)) (h.mono (onI_mono (fun r10 t9 h => ?_) (fun _ _ h => h)))
            refine j_istore (lv' := [some (va_rf (some P.mo)), some (.int x1), some (.int (fI st 9)), some (.int r6), some (.int r10), none, none]) dX5_readTerm_172 (by decide) rfl ?_
            refine j_aload_n (r := some P.mo) dX5_readTerm_174 rfl ?_
            refine j_sipush (v := iI 256) dX5_readTerm_175 rfl ?_
            refine jm_callv (As := [.int (iI 256)]) (rest := []) kX5_need rfl q2335 rfl rfl (Nat.le_of_ble_eq_true rfl) rfl dX5_readTerm_178 (Nat.succ_le_succ (Nat.zero_le _)) (h.mono (onV_mono (fun t11 h => ?_) (fun _ _ h => h)))
            refine j_aload_n (r := some P.mo) dX5_readTerm_181 rfl ?_
            refine j_iload_n dX5_readTerm_182 rfl ?_
            refine j_iconst (v := iI 1) dX5_readTerm_183 rfl ?_
            refine j_iadd dX5_readTerm_184 ?_
            refine jm_calli (As := [.int (x1 + (iI 1))]) (rest := []) kX5_readTerm rfl q2331 rfl rfl (Nat.le_of_ble_eq_true rfl) rfl dX5_readTerm_185 (Nat.succ_le_succ (Nat.zero_le _)) (h.mono (onI_mono (fun r14 t13 h => ?_) (fun _ _ h => h)))
            refine j_istore (lv' := [some (va_rf (some P.mo)), some (.int x1), some (.int (fI st 9)), some (.int r6), some (.int r10), some (.int r14), none]) dX5_readTerm_188 (by decide) rfl ?_
            refine j_aload_n (r := some P.mo) dX5_readTerm_190 rfl ?_
            refine j_bipush (v := iI 8) dX5_readTerm_191 rfl ?_
            refine jm_callv (As := [.int (iI 8)]) (rest := []) kX5_needWord rfl q2343 rfl rfl (Nat.le_of_ble_eq_true rfl) rfl dX5_readTerm_193 (Nat.succ_le_succ (Nat.zero_le _)) (h.mono (onV_mono (fun t15 h => ?_) (fun _ _ h => h)))
            refine j_aload_n (r := some P.mo) dX5_readTerm_196 rfl ?_
            refine j_iload_n dX5_readTerm_197 rfl ?_
            refine j_iconst (v := iI 1) dX5_readTerm_198 rfl ?_
            refine j_iadd dX5_readTerm_199 ?_
            refine jm_calli (As := [.int (x1 + (iI 1))]) (rest := []) kX5_readTerm rfl q2331 rfl rfl (Nat.le_of_ble_eq_true rfl) rfl dX5_readTerm_200 (Nat.succ_le_succ (Nat.zero_le _)) (h.mono (onI_mono (fun r18 t17 h => ?_) (fun _ _ h => h)))
            refine j_istore (lv' := [some (va_rf (some P.mo)), some (.int x1), some (.int (fI st 9)), some (.int r6), some (.int r10), some (.int r14), some (.int r18)]) dX5_readTerm_203 (by decide) rfl ?_
            refine j_aload_n (r := some P.mo) dX5_readTerm_205 rfl ?_
            refine j_iload_n dX5_readTerm_206 rfl ?_
            refine j_iload dX5_readTerm_207 rfl ?_
            refine j_iload dX5_readTerm_209 rfl ?_
            refine j_iload dX5_readTerm_211 rfl ?_
            refine jm_calli (As := [.int r6, .int r10, .int r14, .int r18]) (rest := []) kX5_parts rfl q2339 rfl rfl (Nat.le_of_ble_eq_true rfl) rfl dX5_readTerm_213 (Nat.succ_le_succ (Nat.zero_le _)) (h.mono (onI_mono (fun r20 t19 h => ?_) (fun _ _ h => h)))
            exact j_ireturn (ty := .int) rfl rfl dX5_readTerm_216 h
      · replace h := h.2 c23
        exact h
  · replace h := h.2 c25
    refine j_iconst (v := iI 0) dX5_readTerm_36 rfl ?_
    exact j_ireturn (ty := .int) rfl rfl dX5_readTerm_37 h
theorem tX5_readTerm_61 {P : MPl} {s0 : State} {l : Launch} {X : Prop} {lev : Nat} {st0 : MSt} {Q : Outcome → MSt → Prop} {x1 x2 : Int32} {st : MSt} (h : (CQ (wM P s0 l X) mX5_isSign lev (.ref P.mo :: [.int (iI 92)]) st (onI (fun r2 t1 => ((r2 = 0 → (CQ (wM P s0 l X) mX5_node lev (.ref P.mo :: [.int (iI 5), .int (iI 0), .int (iI 0), .int (iI 0), .int x2]) t1 (onI (fun r4 t3 => (CQ (wM P s0 l X) mX5_next lev (.ref P.mo :: []) t3 (onV (fun t5 => (CQ (wM P s0 l X) mX5_nameNode lev (.ref P.mo :: []) t5 (onI (fun r8 t7 => (CQ (wM P s0 l X) mX5_need lev (.ref P.mo :: [.int (iI 58)]) t7 (onV (fun t9 => (CQ (wM P s0 l X) mX5_readTerm lev (.ref P.mo :: [.int (x1 + (iI 1))]) t9 (onI (fun r12 t11 => (CQ (wM P s0 l X) mX5_need lev (.ref P.mo :: [.int (iI 46)]) t11 (onV (fun t13 => (CQ (wM P s0 l X) mX5_readTerm lev (.ref P.mo :: [.int (x1 + (iI 1))]) t13 (onI (fun r16 t15 => (CQ (wM P s0 l X) mX5_parts lev (.ref P.mo :: [.int r4, .int r8, .int r12, .int r16]) t15 (onI (fun r18 t17 => Q (.returned (some (.int r18))) t17) (fun x t => Q (.threw x) t)))) (fun x t => Q (.threw x) t)))) (fun x t => Q (.threw x) t)))) (fun x t => Q (.threw x) t)))) (fun x t => Q (.threw x) t)))) (fun x t => Q (.threw x) t)))) (fun x t => Q (.threw x) t)))) (fun x t => Q (.threw x) t)))) ∧ (¬ r2 = 0 → (CQ (wM P s0 l X) mX5_node lev (.ref P.mo :: [.int (iI 4), .int (iI 0), .int (iI 0), .int (iI 0), .int x2]) t1 (onI (fun r20 t19 => (CQ (wM P s0 l X) mX5_next lev (.ref P.mo :: []) t19 (onV (fun t21 => (CQ (wM P s0 l X) mX5_nameNode lev (.ref P.mo :: []) t21 (onI (fun r24 t23 => (CQ (wM P s0 l X) mX5_need lev (.ref P.mo :: [.int (iI 58)]) t23 (onV (fun t25 => (CQ (wM P s0 l X) mX5_readTerm lev (.ref P.mo :: [.int (x1 + (iI 1))]) t25 (onI (fun r28 t27 => (CQ (wM P s0 l X) mX5_need lev (.ref P.mo :: [.int (iI 46)]) t27 (onV (fun t29 => (CQ (wM P s0 l X) mX5_readTerm lev (.ref P.mo :: [.int (x1 + (iI 1))]) t29 (onI (fun r32 t31 => (CQ (wM P s0 l X) mX5_parts lev (.ref P.mo :: [.int r20, .int r24, .int r28, .int r32]) t31 (onI (fun r34 t33 => Q (.returned (some (.int r34))) t33) (fun x t => Q (.threw x) t)))) (fun x t => Q (.threw x) t)))) (fun x t => Q (.threw x) t)))) (fun x t => Q (.threw x) t)))) (fun x t => Q (.threw x) t)))) (fun x t => Q (.threw x) t)))) (fun x t => Q (.threw x) t)))) (fun x t => Q (.threw x) t)))))) (fun x t => Q (.threw x) t)))) : jX5_readTerm_61 P s0 l X lev st0 Q x1 x2 st := by
  refine j_aload_n (r := some P.mo) dX5_readTerm_61 rfl ?_
  refine j_aload_n (r := some P.mo) dX5_readTerm_62 rfl ?_
  refine j_bipush (v := iI 92) dX5_readTerm_63 rfl ?_
  refine jm_calli (As := [.int (iI 92)]) (rest := [va_rf (some P.mo)]) kX5_isSign rfl q2327 rfl rfl (Nat.le_of_ble_eq_true rfl) rfl dX5_readTerm_65 (Nat.succ_le_succ (Nat.zero_le _)) (h.mono (onI_mono (fun r2 t1 h => ?_) (fun _ _ h => h)))
  refine j_if_eq 75 dX5_readTerm_68 (by decide) (fun c35 => ?_) (fun c35 => ?_)
  · replace h := h.1 c35
    refine j_iconst (v := iI 5) dX5_readTerm_75 rfl ?_
    refine j_iconst (v := iI 0) dX5_readTerm_76 rfl ?_
    refine j_iconst (v := iI 0) dX5_readTerm_77 rfl ?_
    refine j_iconst (v := iI 0) dX5_readTerm_78 rfl ?_
    refine j_iload_n dX5_readTerm_79 rfl ?_
    refine jm_calli (As := [.int (iI 5), .int (iI 0), .int (iI 0), .int (iI 0), .int x2]) (rest := []) kX5_node rfl q2315 rfl rfl (Nat.le_of_ble_eq_true rfl) rfl dX5_readTerm_80 (Nat.succ_le_succ (Nat.zero_le _)) (h.mono (onI_mono (fun r4 t3 h => ?_) (fun _ _ h => h)))
    refine j_istore_n (lv' := [some (va_rf (some P.mo)), some (.int x1), some (.int x2), some (.int r4), none, none, none]) dX5_readTerm_83 (by decide) rfl ?_
    refine j_aload_n (r := some P.mo) dX5_readTerm_84 rfl ?_
    refine jm_callv (As := []) (rest := []) kX5_next rfl q2277 rfl rfl (Nat.le_of_ble_eq_true rfl) rfl dX5_readTerm_85 (Nat.succ_le_succ (Nat.zero_le _)) (h.mono (onV_mono (fun t5 h => ?_) (fun _ _ h => h)))
    refine j_aload_n (r := some P.mo) dX5_readTerm_88 rfl ?_
    refine jm_calli (As := []) (rest := []) kX5_nameNode rfl q2311 rfl rfl (Nat.le_of_ble_eq_true rfl) rfl dX5_readTerm_89 (Nat.succ_le_succ (Nat.zero_le _)) (h.mono (onI_mono (fun r8 t7 h => ?_) (fun _ _ h => h)))
    refine j_istore (lv' := [some (va_rf (some P.mo)), some (.int x1), some (.int x2), some (.int r4), some (.int r8), none, none]) dX5_readTerm_92 (by decide) rfl ?_
    refine j_aload_n (r := some P.mo) dX5_readTerm_94 rfl ?_
    refine j_bipush (v := iI 58) dX5_readTerm_95 rfl ?_
    refine jm_callv (As := [.int (iI 58)]) (rest := []) kX5_need rfl q2335 rfl rfl (Nat.le_of_ble_eq_true rfl) rfl dX5_readTerm_97 (Nat.succ_le_succ (Nat.zero_le _)) (h.mono (onV_mono (fun t9 h => ?_) (fun _ _ h => h)))
    refine j_aload_n (r := some P.mo) dX5_readTerm_100 rfl ?_
    refine j_iload_n dX5_readTerm_101 rfl ?_
    refine j_iconst (v := iI 1) dX5_readTerm_102 rfl ?_
    refine j_iadd dX5_readTerm_103 ?_
    refine jm_calli (As := [.int (x1 + (iI 1))]) (rest := []) kX5_readTerm rfl q2331 rfl rfl (Nat.le_of_ble_eq_true rfl) rfl dX5_readTerm_104 (Nat.succ_le_succ (Nat.zero_le _)) (h.mono (onI_mono (fun r12 t11 h => ?_) (fun _ _ h => h)))
    refine j_istore (lv' := [some (va_rf (some P.mo)), some (.int x1), some (.int x2), some (.int r4), some (.int r8), some (.int r12), none]) dX5_readTerm_107 (by decide) rfl ?_
    refine j_aload_n (r := some P.mo) dX5_readTerm_109 rfl ?_
    refine j_bipush (v := iI 46) dX5_readTerm_110 rfl ?_
    refine jm_callv (As := [.int (iI 46)]) (rest := []) kX5_need rfl q2335 rfl rfl (Nat.le_of_ble_eq_true rfl) rfl dX5_readTerm_112 (Nat.succ_le_succ (Nat.zero_le _)) (h.mono (onV_mono (fun t13 h => ?_) (fun _ _ h => h)))
    refine j_aload_n (r := some P.mo) dX5_readTerm_115 rfl ?_
    refine j_iload_n dX5_readTerm_116 rfl ?_
    refine j_iconst (v := iI 1) dX5_readTerm_117 rfl ?_
    refine j_iadd dX5_readTerm_118 ?_
    refine jm_calli (As := [.int (x1 + (iI 1))]) (rest := []) kX5_readTerm rfl q2331 rfl rfl (Nat.le_of_ble_eq_true rfl) rfl dX5_readTerm_119 (Nat.succ_le_succ (Nat.zero_le _)) (h.mono (onI_mono (fun r16 t15 h => ?_) (fun _ _ h => h)))
    refine j_istore (lv' := [some (va_rf (some P.mo)), some (.int x1), some (.int x2), some (.int r4), some (.int r8), some (.int r12), some (.int r16)]) dX5_readTerm_122 (by decide) rfl ?_
    refine j_aload_n (r := some P.mo) dX5_readTerm_124 rfl ?_
    refine j_iload_n dX5_readTerm_125 rfl ?_
    refine j_iload dX5_readTerm_126 rfl ?_
    refine j_iload dX5_readTerm_128 rfl ?_
    refine j_iload dX5_readTerm_130 rfl ?_
    refine jm_calli (As := [.int r4, .int r8, .int r12, .int r16]) (rest := []) kX5_parts rfl q2339 rfl rfl (Nat.le_of_ble_eq_true rfl) rfl dX5_readTerm_132 (Nat.succ_le_succ (Nat.zero_le _)) (h.mono (onI_mono (fun r18 t17 h => ?_) (fun _ _ h => h)))
    exact j_ireturn (ty := .int) rfl rfl dX5_readTerm_135 h
  · replace h := h.2 c35
    refine j_iconst (v := iI 4) dX5_readTerm_71 rfl ?_
    refine j_goto 76 dX5_readTerm_72 (by decide) ?_
    refine j_iconst (v := iI 0) dX5_readTerm_76 rfl ?_
    refine j_iconst (v := iI 0) dX5_readTerm_77 rfl ?_
    refine j_iconst (v := iI 0) dX5_readTerm_78 rfl ?_
    refine j_iload_n dX5_readTerm_79 rfl ?_
    refine jm_calli (As := [.int (iI 4), .int (iI 0), .int (iI 0), .int (iI 0), .int x2]) (rest := []) kX5_node rfl q2315 rfl rfl (Nat.le_of_ble_eq_true rfl) rfl dX5_readTerm_80 (Nat.succ_le_succ (Nat.zero_le _)) (h.mono (onI_mono (fun r20 t19 h => ?_) (fun _ _ h => h)))
    refine j_istore_n (lv' := [some (va_rf (some P.mo)), some (.int x1), some (.int x2), some (.int r20), none, none, none]) dX5_readTerm_83 (by decide) rfl ?_
    refine j_aload_n (r := some P.mo) dX5_readTerm_84 rfl ?_
    refine jm_callv (As := []) (rest := []) kX5_next rfl q2277 rfl rfl (Nat.le_of_ble_eq_true rfl) rfl dX5_readTerm_85 (Nat.succ_le_succ (Nat.zero_le _)) (h.mono (onV_mono (fun t21 h => ?_) (fun _ _ h => h)))
    refine j_aload_n (r := some P.mo) dX5_readTerm_88 rfl ?_
    refine jm_calli (As := []) (rest := []) kX5_nameNode rfl q2311 rfl rfl (Nat.le_of_ble_eq_true rfl) rfl dX5_readTerm_89 (Nat.succ_le_succ (Nat.zero_le _)) (h.mono (onI_mono (fun r24 t23 h => ?_) (fun _ _ h => h)))
    refine j_istore (lv' := [some (va_rf (some P.mo)), some (.int x1), some (.int x2), some (.int r20), some (.int r24), none, none]) dX5_readTerm_92 (by decide) rfl ?_
    refine j_aload_n (r := some P.mo) dX5_readTerm_94 rfl ?_
    refine j_bipush (v := iI 58) dX5_readTerm_95 rfl ?_
    refine jm_callv (As := [.int (iI 58)]) (rest := []) kX5_need rfl q2335 rfl rfl (Nat.le_of_ble_eq_true rfl) rfl dX5_readTerm_97 (Nat.succ_le_succ (Nat.zero_le _)) (h.mono (onV_mono (fun t25 h => ?_) (fun _ _ h => h)))
    refine j_aload_n (r := some P.mo) dX5_readTerm_100 rfl ?_
    refine j_iload_n dX5_readTerm_101 rfl ?_
    refine j_iconst (v := iI 1) dX5_readTerm_102 rfl ?_
    refine j_iadd dX5_readTerm_103 ?_
    refine jm_calli (As := [.int (x1 + (iI 1))]) (rest := []) kX5_readTerm rfl q2331 rfl rfl (Nat.le_of_ble_eq_true rfl) rfl dX5_readTerm_104 (Nat.succ_le_succ (Nat.zero_le _)) (h.mono (onI_mono (fun r28 t27 h => ?_) (fun _ _ h => h)))
    refine j_istore (lv' := [some (va_rf (some P.mo)), some (.int x1), some (.int x2), some (.int r20), some (.int r24), some (.int r28), none]) dX5_readTerm_107 (by decide) rfl ?_
    refine j_aload_n (r := some P.mo) dX5_readTerm_109 rfl ?_
    refine j_bipush (v := iI 46) dX5_readTerm_110 rfl ?_
    refine jm_callv (As := [.int (iI 46)]) (rest := []) kX5_need rfl q2335 rfl rfl (Nat.le_of_ble_eq_true rfl) rfl dX5_readTerm_112 (Nat.succ_le_succ (Nat.zero_le _)) (h.mono (onV_mono (fun t29 h => ?_) (fun _ _ h => h)))
    refine j_aload_n (r := some P.mo) dX5_readTerm_115 rfl ?_
    refine j_iload_n dX5_readTerm_116 rfl ?_
    refine j_iconst (v := iI 1) dX5_readTerm_117 rfl ?_
    refine j_iadd dX5_readTerm_118 ?_
    refine jm_calli (As := [.int (x1 + (iI 1))]) (rest := []) kX5_readTerm rfl q2331 rfl rfl (Nat.le_of_ble_eq_true rfl) rfl dX5_readTerm_119 (Nat.succ_le_succ (Nat.zero_le _)) (h.mono (onI_mono (fun r32 t31 h => ?_) (fun _ _ h => h)))
    refine j_istore (lv' := [some (va_rf (some P.mo)), some (.int x1), some (.int x2), some (.int r20), some (.int r24), some (.int r28), some (.int r32)]) dX5_readTerm_122 (by decide) rfl ?_
    refine j_aload_n (r := some P.mo) dX5_readTerm_124 rfl ?_
    refine j_iload_n dX5_readTerm_125 rfl ?_
    refine j_iload dX5_readTerm_126 rfl ?_
    refine j_iload dX5_readTerm_128 rfl ?_
    refine j_iload dX5_readTerm_130 rfl ?_
    refine jm_calli (As := [.int r20, .int r24, .int r28, .int r32]) (rest := []) kX5_parts rfl q2339 rfl rfl (Nat.le_of_ble_eq_true rfl) rfl dX5_readTerm_132 (Nat.succ_le_succ (Nat.zero_le _)) (h.mono (onI_mono (fun r34 t33 h => ?_) (fun _ _ h => h)))
    exact j_ireturn (ty := .int) rfl rfl dX5_readTerm_135 h
theorem tX5_readTerm_217 {P : MPl} {s0 : State} {l : Launch} {X : Prop} {lev : Nat} {st0 : MSt} {Q : Outcome → MSt → Prop} {x1 x2 : Int32} {st : MSt} (h : (CQ (wM P s0 l X) mX5_readUse lev (.ref P.mo :: [.int x1, .int x2]) st (onI (fun r2 t1 => Q (.returned (some (.int r2))) t1) (fun x t => Q (.threw x) t)))) : jX5_readTerm_217 P s0 l X lev st0 Q x1 x2 st := by
  refine j_aload_n (r := some P.mo) dX5_readTerm_217 rfl ?_
  refine j_iload_n dX5_readTerm_218 rfl ?_
  refine j_iload_n dX5_readTerm_219 rfl ?_
  refine jm_calli (As := [.int x1, .int x2]) (rest := []) kX5_readUse rfl q2347 rfl rfl (Nat.le_of_ble_eq_true rfl) rfl dX5_readTerm_220 (Nat.succ_le_succ (Nat.zero_le _)) (h.mono (onI_mono (fun r2 t1 h => ?_) (fun _ _ h => h)))
  exact j_ireturn (ty := .int) rfl rfl dX5_readTerm_223 h
theorem tX5_need {P : MPl} {s0 : State} {l : Launch} {X : Prop} {lev : Nat} {Q : Outcome → MSt → Prop} {x1 : Int32} {st : MSt} (h : (CQ (wM P s0 l X) mX5_isSign lev (.ref P.mo :: [.int x1]) st (onI (fun r2 t1 => ((r2 = 0 → (CQ (wM P s0 l X) mX5_cant lev (.ref P.mo :: []) t1 (onV (fun t3 => Q (.returned none) t3) (fun x t => Q (.threw x) t)))) ∧ (¬ r2 = 0 → (CQ (wM P s0 l X) mX5_next lev (.ref P.mo :: []) t1 (onV (fun t5 => Q (.returned none) t5) (fun x t => Q (.threw x) t)))))) (fun x t => Q (.threw x) t)))) : CQ (wM P s0 l X) mX5_need (lev + 1) [.ref P.mo, .int x1] st Q := by
  refine CQ.of2 0 (lv := [some (va_rf (some P.mo)), some (.int x1)]) (by decide) (Nat.le_of_ble_eq_true rfl) rfl rfl ?_
  refine j_aload_n (r := some P.mo) dX5_need_0 rfl ?_
  refine j_iload_n dX5_need_1 rfl ?_
  refine jm_calli (As := [.int x1]) (rest := []) kX5_isSign rfl q2327 rfl rfl (Nat.le_of_ble_eq_true rfl) rfl dX5_need_2 (Nat.succ_le_succ (Nat.zero_le _)) (h.mono (onI_mono (fun r2 t1 h => ?_) (fun _ _ h => h)))
  refine j_if_eq 15 dX5_need_5 (by decide) (fun c7 => ?_) (fun c7 => ?_)
  · replace h := h.1 c7
    refine j_aload_n (r := some P.mo) dX5_need_15 rfl ?_
    refine jm_callv (As := []) (rest := []) kX5_cant rfl q2323 rfl rfl (Nat.le_of_ble_eq_true rfl) rfl dX5_need_16 (Nat.succ_le_succ (Nat.zero_le _)) (h.mono (onV_mono (fun t3 h => ?_) (fun _ _ h => h)))
    exact j_return rfl dX5_need_19 h
  · replace h := h.2 c7
    refine j_aload_n (r := some P.mo) dX5_need_8 rfl ?_
    refine jm_callv (As := []) (rest := []) kX5_next rfl q2277 rfl rfl (Nat.le_of_ble_eq_true rfl) rfl dX5_need_9 (Nat.succ_le_succ (Nat.zero_le _)) (h.mono (onV_mono (fun t5 h => ?_) (fun _ _ h => h)))
    refine j_goto 19 dX5_need_12 (by decide) ?_
    exact j_return rfl dX5_need_19 h
theorem tX5_parts {P : MPl} {s0 : State} {l : Launch} {X : Prop} {lev : Nat} {Q : Outcome → MSt → Prop} {x1 x2 x3 x4 : Int32} {st : MSt} (h : (((fI st 15) = 0 → Q (.returned (some (.int x1))) st) ∧ (¬ (fI st 15) = 0 → (inr x1 140000 ∧ (inr x1 140000 ∧ (inr x1 140000 ∧ Q (.returned (some (.int x1))) (mst 33 x1 x4 (mst 32 x1 x3 (mst 31 x1 x2 st))))))))) : CQ (wM P s0 l X) mX5_parts (lev + 1) [.ref P.mo, .int x1, .int x2, .int x3, .int x4] st Q := by
  refine CQ.of2 0 (lv := [some (va_rf (some P.mo)), some (.int x1), some (.int x2), some (.int x3), some (.int x4)]) (by decide) (Nat.le_of_ble_eq_true rfl) rfl rfl ?_
  refine j_aload_n (r := some P.mo) dX5_parts_0 rfl ?_
  refine jm_getz (v := fI st 15) fM_15 rfl rfl dX5_parts_1 ?_
  refine j_if_eq 29 dX5_parts_4 (by decide) (fun c1 => ?_) (fun c1 => ?_)
  · replace h := h.1 c1
    refine j_iload_n dX5_parts_29 rfl ?_
    exact j_ireturn (ty := .int) rfl rfl dX5_parts_30 h
  · replace h := h.2 c1
    refine j_aload_n (r := some P.mo) dX5_parts_7 rfl ?_
    refine jm_geta fM_31 rfl dX5_parts_8 ?_
    refine j_iload_n dX5_parts_11 rfl ?_
    refine j_iload_n dX5_parts_12 rfl ?_
    refine jm_ast rfl h.1 rfl dX5_parts_13 ?_
    replace h := h.2
    refine j_aload_n (r := some P.mo) dX5_parts_14 rfl ?_
    refine jm_geta fM_32 rfl dX5_parts_15 ?_
    refine j_iload_n dX5_parts_18 rfl ?_
    refine j_iload_n dX5_parts_19 rfl ?_
    refine jm_ast rfl h.1 rfl dX5_parts_20 ?_
    replace h := h.2
    refine j_aload_n (r := some P.mo) dX5_parts_21 rfl ?_
    refine jm_geta fM_33 rfl dX5_parts_22 ?_
    refine j_iload_n dX5_parts_25 rfl ?_
    refine j_iload dX5_parts_26 rfl ?_
    refine jm_ast rfl h.1 rfl dX5_parts_28 ?_
    replace h := h.2
    refine j_iload_n dX5_parts_29 rfl ?_
    exact j_ireturn (ty := .int) rfl rfl dX5_parts_30 h
abbrev jX5_needWord_23 (P : MPl) (s0 : State) (l : Launch) (X : Prop) (lev : Nat) (st0 : MSt) (Q : Outcome → MSt → Prop) (x1 : Int32) (st : MSt) : Prop := JQ (wM P s0 l X) mX5_needWord (lev + 1) st0 23 [some (va_rf (some P.mo)), some (.int x1)] [] st Q
theorem tX5_needWord {P : MPl} {s0 : State} {l : Launch} {X : Prop} {lev : Nat} {Q : Outcome → MSt → Prop} {x1 : Int32} {st : MSt} (h : (((fI st 7) = (iI 1) → (((fI st 11) = x1 → (CQ (wM P s0 l X) mX5_next lev (.ref P.mo :: []) st (onV (fun t1 => Q (.returned none) t1) (fun x t => Q (.threw x) t)))) ∧ (¬ (fI st 11) = x1 → jX5_needWord_23 P s0 l X lev st Q x1 st))) ∧ (¬ (fI st 7) = (iI 1) → jX5_needWord_23 P s0 l X lev st Q x1 st))) : CQ (wM P s0 l X) mX5_needWord (lev + 1) [.ref P.mo, .int x1] st Q := by
  refine CQ.of2 0 (lv := [some (va_rf (some P.mo)), some (.int x1)]) (by decide) (Nat.le_of_ble_eq_true rfl) rfl rfl ?_
  refine j_aload_n (r := some P.mo) dX5_needWord_0 rfl ?_
  refine jm_get (v := fI st 7) fM_7 rfl rfl dX5_needWord_1 ?_
  refine j_iconst (v := iI 1) dX5_needWord_4 rfl ?_
  refine j_icmp_ne 23 dX5_needWord_5 (by decide) (fun c4 => ?_) (fun c4 => ?_)
  · replace h := h.2 c4
    exact h
  · replace h := h.1 c4
    refine j_aload_n (r := some P.mo) dX5_needWord_8 rfl ?_
    refine jm_get (v := fI st 11) fM_11 rfl rfl dX5_needWord_9 ?_
    refine j_iload_n dX5_needWord_12 rfl ?_
    refine j_icmp_ne 23 dX5_needWord_13 (by decide) (fun c3 => ?_) (fun c3 => ?_)
    · replace h := h.2 c3
      exact h
    · replace h := h.1 c3
      refine j_aload_n (r := some P.mo) dX5_needWord_16 rfl ?_
      refine jm_callv (As := []) (rest := []) kX5_next rfl q2277 rfl rfl (Nat.le_of_ble_eq_true rfl) rfl dX5_needWord_17 (Nat.succ_le_succ (Nat.zero_le _)) (h.mono (onV_mono (fun t1 h => ?_) (fun _ _ h => h)))
      refine j_goto 27 dX5_needWord_20 (by decide) ?_
      exact j_return rfl dX5_needWord_27 h
theorem tX5_needWord_23 {P : MPl} {s0 : State} {l : Launch} {X : Prop} {lev : Nat} {st0 : MSt} {Q : Outcome → MSt → Prop} {x1 : Int32} {st : MSt} (h : (CQ (wM P s0 l X) mX5_cant lev (.ref P.mo :: []) st (onV (fun t1 => Q (.returned none) t1) (fun x t => Q (.threw x) t)))) : jX5_needWord_23 P s0 l X lev st0 Q x1 st := by
  refine j_aload_n (r := some P.mo) dX5_needWord_23 rfl ?_
  refine jm_callv (As := []) (rest := []) kX5_cant rfl q2323 rfl rfl (Nat.le_of_ble_eq_true rfl) rfl dX5_needWord_24 (Nat.succ_le_succ (Nat.zero_le _)) (h.mono (onV_mono (fun t1 h => ?_) (fun _ _ h => h)))
  exact j_return rfl dX5_needWord_27 h
abbrev jX5_readUse_6 (P : MPl) (s0 : State) (l : Launch) (X : Prop) (lev : Nat) (st0 : MSt) (Q : Outcome → MSt → Prop) (x1 x2 x3 : Int32) (st : MSt) : Prop := JQ (wM P s0 l X) mX5_readUse (lev + 1) st0 6 [some (va_rf (some P.mo)), some (.int x1), some (.int x2), some (.int x3), none, none] [] st Q
abbrev jX5_readUse_42 (P : MPl) (s0 : State) (l : Launch) (X : Prop) (lev : Nat) (st0 : MSt) (Q : Outcome → MSt → Prop) (x1 x2 x3 : Int32) (st : MSt) : Prop := JQ (wM P s0 l X) mX5_readUse (lev + 1) st0 42 [some (va_rf (some P.mo)), some (.int x1), some (.int x2), some (.int x3), none, none] [] st Q
theorem tX5_readUse {P : MPl} {s0 : State} {l : Launch} {X : Prop} {lev : Nat} {Q : Outcome → MSt → Prop} {x1 x2 : Int32} {st : MSt} (h : (CQ (wM P s0 l X) mX5_readAtom lev (.ref P.mo :: [.int x1]) st (onI (fun r2 t1 => jX5_readUse_6 P s0 l X lev st Q x1 x2 r2 t1) (fun x t => Q (.threw x) t)))) : CQ (wM P s0 l X) mX5_readUse (lev + 1) [.ref P.mo, .int x1, .int x2] st Q := by
  refine CQ.of2 3 (lv := [some (va_rf (some P.mo)), some (.int x1), some (.int x2), none, none, none]) (by decide) (Nat.le_of_ble_eq_true rfl) rfl rfl ?_
  refine j_aload_n (r := some P.mo) dX5_readUse_0 rfl ?_
  refine j_iload_n dX5_readUse_1 rfl ?_
  refine jm_calli (As := [.int x1]) (rest := []) kX5_readAtom rfl q2351 rfl rfl (Nat.le_of_ble_eq_true rfl) rfl dX5_readUse_2 (Nat.succ_le_succ (Nat.zero_le _)) (h.mono (onI_mono (fun r2 t1 h => ?_) (fun _ _ h => h)))
  refine j_istore_n (lv' := [some (va_rf (some P.mo)), some (.int x1), some (.int x2), some (.int r2), none, none]) dX5_readUse_5 (by decide) rfl ?_
  exact h
theorem tX5_readUse_6 {P : MPl} {s0 : State} {l : Launch} {X : Prop} {lev : Nat} {st0 : MSt} {Q : Outcome → MSt → Prop} {x1 x2 x3 : Int32} {st : MSt} (h : (((fI st 72) = 0 → (CQ (wM P s0 l X) mX5_beginsAtom lev (.ref P.mo :: []) st (onI (fun r2 t1 => ((r2 = 0 → jX5_readUse_42 P s0 l X lev st0 Q x1 x2 x3 t1) ∧ (¬ r2 = 0 → (CQ (wM P s0 l X) mX5_readAtom lev (.ref P.mo :: [.int x1]) t1 (onI (fun r4 t3 => (CQ (wM P s0 l X) mX5_node lev (.ref P.mo :: [.int (iI 7), .int (iI 0), .int x3, .int r4, .int x2]) t3 (onI (fun r6 t5 => jX5_readUse_6 P s0 l X lev st0 Q x1 x2 r6 t5) (fun x t => Q (.threw x) t)))) (fun x t => Q (.threw x) t)))))) (fun x t => Q (.threw x) t)))) ∧ (¬ (fI st 72) = 0 → jX5_readUse_42 P s0 l X lev st0 Q x1 x2 x3 st))) : jX5_readUse_6 P s0 l X lev st0 Q x1 x2 x3 st := by
  refine j_aload_n (r := some P.mo) dX5_readUse_6 rfl ?_
  refine jm_get (v := fI st 72) fM_72 rfl rfl dX5_readUse_7 ?_
  refine j_if_ne 42 dX5_readUse_10 (by decide) (fun c8 => ?_) (fun c8 => ?_)
  · replace h := h.2 c8
    exact h
  · replace h := h.1 c8
    refine j_aload_n (r := some P.mo) dX5_readUse_13 rfl ?_
    refine jm_calli (As := []) (rest := []) kX5_beginsAtom rfl q2355 rfl rfl (Nat.le_of_ble_eq_true rfl) rfl dX5_readUse_14 (Nat.succ_le_succ (Nat.zero_le _)) (h.mono (onI_mono (fun r2 t1 h => ?_) (fun _ _ h => h)))
    refine j_if_eq 42 dX5_readUse_17 (by decide) (fun c7 => ?_) (fun c7 => ?_)
    · replace h := h.1 c7
      exact h
    · replace h := h.2 c7
      refine j_aload_n (r := some P.mo) dX5_readUse_20 rfl ?_
      refine j_iload_n dX5_readUse_21 rfl ?_
      refine jm_calli (As := [.int x1]) (rest := []) kX5_readAtom rfl q2351 rfl rfl (Nat.le_of_ble_eq_true rfl) rfl dX5_readUse_22 (Nat.succ_le_succ (Nat.zero_le _)) (h.mono (onI_mono (fun r4 t3 h => ?_) (fun _ _ h => h)))
      refine j_istore (lv' := [some (va_rf (some P.mo)), some (.int x1), some (.int x2), some (.int x3), some (.int r4), none]) dX5_readUse_25 (by decide) rfl ?_
      refine j_aload_n (r := some P.mo) dX5_readUse_27 rfl ?_
      refine j_bipush (v := iI 7) dX5_readUse_28 rfl ?_
      refine j_iconst (v := iI 0) dX5_readUse_30 rfl ?_
      refine j_iload_n dX5_readUse_31 rfl ?_
      refine j_iload dX5_readUse_32 rfl ?_
      refine j_iload_n dX5_readUse_34 rfl ?_
      refine jm_calli (As := [.int (iI 7), .int (iI 0), .int x3, .int r4, .int x2]) (rest := []) kX5_node rfl q2315 rfl rfl (Nat.le_of_ble_eq_true rfl) rfl dX5_readUse_35 (Nat.succ_le_succ (Nat.zero_le _)) (h.mono (onI_mono (fun r6 t5 h => ?_) (fun _ _ h => h)))
      refine j_istore_n (lv' := [some (va_rf (some P.mo)), some (.int x1), some (.int x2), some (.int r6), some (.int r4), none]) dX5_readUse_38 (by decide) rfl ?_
      refine j_goto 6 dX5_readUse_39 (by decide) ?_
      exact j_mask [true, true, true, true, false, false] rfl h
theorem tX5_readUse_42 {P : MPl} {s0 : State} {l : Launch} {X : Prop} {lev : Nat} {st0 : MSt} {Q : Outcome → MSt → Prop} {x1 x2 x3 : Int32} {st : MSt} (h : (((fI st 72) = 0 → (CQ (wM P s0 l X) mX5_isSign lev (.ref P.mo :: [.int (iI 257)]) st (onI (fun r2 t1 => ((r2 = 0 → Q (.returned (some (.int x3))) t1) ∧ (¬ r2 = 0 → (CQ (wM P s0 l X) mX5_next lev (.ref P.mo :: []) t1 (onV (fun t3 => (CQ (wM P s0 l X) mX5_readTerm lev (.ref P.mo :: [.int (x1 + (iI 1))]) t3 (onI (fun r6 t5 => (CQ (wM P s0 l X) mX5_node lev (.ref P.mo :: [.int (iI 5), .int (iI (-1)), .int x3, .int r6, .int x2]) t5 (onI (fun r8 t7 => (((fI t7 15) = 0 → Q (.returned (some (.int r8))) t7) ∧ (¬ (fI t7 15) = 0 → (inr r8 140000 ∧ Q (.returned (some (.int r8))) (mst 35 r8 (fI t1 9) t7))))) (fun x t => Q (.threw x) t)))) (fun x t => Q (.threw x) t)))) (fun x t => Q (.threw x) t)))))) (fun x t => Q (.threw x) t)))) ∧ (¬ (fI st 72) = 0 → Q (.returned (some (.int x3))) st))) : jX5_readUse_42 P s0 l X lev st0 Q x1 x2 x3 st := by
  refine j_aload_n (r := some P.mo) dX5_readUse_42 rfl ?_
  refine jm_get (v := fI st 72) fM_72 rfl rfl dX5_readUse_43 ?_
  refine j_if_ne 104 dX5_readUse_46 (by decide) (fun c11 => ?_) (fun c11 => ?_)
  · replace h := h.2 c11
    refine j_iload_n dX5_readUse_104 rfl ?_
    exact j_ireturn (ty := .int) rfl rfl dX5_readUse_105 h
  · replace h := h.1 c11
    refine j_aload_n (r := some P.mo) dX5_readUse_49 rfl ?_
    refine j_sipush (v := iI 257) dX5_readUse_50 rfl ?_
    refine jm_calli (As := [.int (iI 257)]) (rest := []) kX5_isSign rfl q2327 rfl rfl (Nat.le_of_ble_eq_true rfl) rfl dX5_readUse_53 (Nat.succ_le_succ (Nat.zero_le _)) (h.mono (onI_mono (fun r2 t1 h => ?_) (fun _ _ h => h)))
    refine j_if_eq 104 dX5_readUse_56 (by decide) (fun c10 => ?_) (fun c10 => ?_)
    · replace h := h.1 c10
      refine j_iload_n dX5_readUse_104 rfl ?_
      exact j_ireturn (ty := .int) rfl rfl dX5_readUse_105 h
    · replace h := h.2 c10
      refine j_aload_n (r := some P.mo) dX5_readUse_59 rfl ?_
      refine jm_get (v := fI t1 9) fM_9 rfl rfl dX5_readUse_60 ?_
      refine j_istore (lv' := [some (va_rf (some P.mo)), some (.int x1), some (.int x2), some (.int x3), some (.int (fI t1 9)), none]) dX5_readUse_63 (by decide) rfl ?_
      refine j_aload_n (r := some P.mo) dX5_readUse_65 rfl ?_
      refine jm_callv (As := []) (rest := []) kX5_next rfl q2277 rfl rfl (Nat.le_of_ble_eq_true rfl) rfl dX5_readUse_66 (Nat.succ_le_succ (Nat.zero_le _)) (h.mono (onV_mono (fun t3 h => ?_) (fun _ _ h => h)))
      refine j_aload_n (r := some P.mo) dX5_readUse_69 rfl ?_
      refine j_iload_n dX5_readUse_70 rfl ?_
      refine j_iconst (v := iI 1) dX5_readUse_71 rfl ?_
      refine j_iadd dX5_readUse_72 ?_
      refine jm_calli (As := [.int (x1 + (iI 1))]) (rest := []) kX5_readTerm rfl q2331 rfl rfl (Nat.le_of_ble_eq_true rfl) rfl dX5_readUse_73 (Nat.succ_le_succ (Nat.zero_le _)) (h.mono (onI_mono (fun r6 t5 h => ?_) (fun _ _ h => h)))
      refine j_istore (lv' := [some (va_rf (some P.mo)), some (.int x1), some (.int x2), some (.int x3), some (.int (fI t1 9)), some (.int r6)]) dX5_readUse_76 (by decide) rfl ?_
      refine j_aload_n (r := some P.mo) dX5_readUse_78 rfl ?_
      refine j_iconst (v := iI 5) dX5_readUse_79 rfl ?_
      refine j_iconst (v := iI (-1)) dX5_readUse_80 rfl ?_
      refine j_iload_n dX5_readUse_81 rfl ?_
      refine j_iload dX5_readUse_82 rfl ?_
      refine j_iload_n dX5_readUse_84 rfl ?_
      refine jm_calli (As := [.int (iI 5), .int (iI (-1)), .int x3, .int r6, .int x2]) (rest := []) kX5_node rfl q2315 rfl rfl (Nat.le_of_ble_eq_true rfl) rfl dX5_readUse_85 (Nat.succ_le_succ (Nat.zero_le _)) (h.mono (onI_mono (fun r8 t7 h => ?_) (fun _ _ h => h)))
      refine j_istore_n (lv' := [some (va_rf (some P.mo)), some (.int x1), some (.int x2), some (.int r8), some (.int (fI t1 9)), some (.int r6)]) dX5_readUse_88 (by decide) rfl ?_
      refine j_aload_n (r := some P.mo) dX5_readUse_89 rfl ?_
      refine jm_getz (v := fI t7 15) fM_15 rfl rfl dX5_readUse_90 ?_
      refine j_if_eq 104 dX5_readUse_93 (by decide) (fun c9 => ?_) (fun c9 => ?_)
      · replace h := h.1 c9
        refine j_iload_n dX5_readUse_104 rfl ?_
        exact j_ireturn (ty := .int) rfl rfl dX5_readUse_105 h
      · replace h := h.2 c9
        refine j_aload_n (r := some P.mo) dX5_readUse_96 rfl ?_
        refine jm_geta fM_35 rfl dX5_readUse_97 ?_
        refine j_iload_n dX5_readUse_100 rfl ?_
        refine j_iload dX5_readUse_101 rfl ?_
        refine jm_ast rfl h.1 rfl dX5_readUse_103 ?_
        replace h := h.2
        refine j_iload_n dX5_readUse_104 rfl ?_
        exact j_ireturn (ty := .int) rfl rfl dX5_readUse_105 h
theorem tX5_readAtom {P : MPl} {s0 : State} {l : Launch} {X : Prop} {lev : Nat} {Q : Outcome → MSt → Prop} {x1 : Int32} {st : MSt} (h : (CQ (wM P s0 l X) mX5_isSign lev (.ref P.mo :: [.int (iI 40)]) st (onI (fun r2 t1 => ((r2 = 0 → (CQ (wM P s0 l X) mX5_nameNode lev (.ref P.mo :: []) t1 (onI (fun r11 t10 => Q (.returned (some (.int r11))) t10) (fun x t => Q (.threw x) t)))) ∧ (¬ r2 = 0 → (CQ (wM P s0 l X) mX5_next lev (.ref P.mo :: []) t1 (onV (fun t3 => (CQ (wM P s0 l X) mX5_readTerm lev (.ref P.mo :: [.int (x1 + (iI 1))]) t3 (onI (fun r6 t5 => (CQ (wM P s0 l X) mX5_need lev (.ref P.mo :: [.int (iI 41)]) t5 (onV (fun t7 => (((fI t7 15) = 0 → Q (.returned (some (.int r6))) t7) ∧ (¬ (fI t7 15) = 0 → (inr r6 140000 ∧ Q (.returned (some (.int r6))) (mst 34 r6 (fI t1 9) t7))))) (fun x t => Q (.threw x) t)))) (fun x t => Q (.threw x) t)))) (fun x t => Q (.threw x) t)))))) (fun x t => Q (.threw x) t)))) : CQ (wM P s0 l X) mX5_readAtom (lev + 1) [.ref P.mo, .int x1] st Q := by
  refine CQ.of2 2 (lv := [some (va_rf (some P.mo)), some (.int x1), none, none]) (by decide) (Nat.le_of_ble_eq_true rfl) rfl rfl ?_
  refine j_aload_n (r := some P.mo) dX5_readAtom_0 rfl ?_
  refine j_bipush (v := iI 40) dX5_readAtom_1 rfl ?_
  refine jm_calli (As := [.int (iI 40)]) (rest := []) kX5_isSign rfl q2327 rfl rfl (Nat.le_of_ble_eq_true rfl) rfl dX5_readAtom_3 (Nat.succ_le_succ (Nat.zero_le _)) (h.mono (onI_mono (fun r2 t1 h => ?_) (fun _ _ h => h)))
  refine j_if_ne 14 dX5_readAtom_6 (by decide) (fun c12 => ?_) (fun c12 => ?_)
  · replace h := h.2 c12
    refine j_aload_n (r := some P.mo) dX5_readAtom_14 rfl ?_
    refine jm_get (v := fI t1 9) fM_9 rfl rfl dX5_readAtom_15 ?_
    refine j_istore_n (lv' := [some (va_rf (some P.mo)), some (.int x1), some (.int (fI t1 9)), none]) dX5_readAtom_18 (by decide) rfl ?_
    refine j_aload_n (r := some P.mo) dX5_readAtom_19 rfl ?_
    refine jm_callv (As := []) (rest := []) kX5_next rfl q2277 rfl rfl (Nat.le_of_ble_eq_true rfl) rfl dX5_readAtom_20 (Nat.succ_le_succ (Nat.zero_le _)) (h.mono (onV_mono (fun t3 h => ?_) (fun _ _ h => h)))
    refine j_aload_n (r := some P.mo) dX5_readAtom_23 rfl ?_
    refine j_iload_n dX5_readAtom_24 rfl ?_
    refine j_iconst (v := iI 1) dX5_readAtom_25 rfl ?_
    refine j_iadd dX5_readAtom_26 ?_
    refine jm_calli (As := [.int (x1 + (iI 1))]) (rest := []) kX5_readTerm rfl q2331 rfl rfl (Nat.le_of_ble_eq_true rfl) rfl dX5_readAtom_27 (Nat.succ_le_succ (Nat.zero_le _)) (h.mono (onI_mono (fun r6 t5 h => ?_) (fun _ _ h => h)))
    refine j_istore_n (lv' := [some (va_rf (some P.mo)), some (.int x1), some (.int (fI t1 9)), some (.int r6)]) dX5_readAtom_30 (by decide) rfl ?_
    refine j_aload_n (r := some P.mo) dX5_readAtom_31 rfl ?_
    refine j_bipush (v := iI 41) dX5_readAtom_32 rfl ?_
    refine jm_callv (As := [.int (iI 41)]) (rest := []) kX5_need rfl q2335 rfl rfl (Nat.le_of_ble_eq_true rfl) rfl dX5_readAtom_34 (Nat.succ_le_succ (Nat.zero_le _)) (h.mono (onV_mono (fun t7 h => ?_) (fun _ _ h => h)))
    refine j_aload_n (r := some P.mo) dX5_readAtom_37 rfl ?_
    refine jm_getz (v := fI t7 15) fM_15 rfl rfl dX5_readAtom_38 ?_
    refine j_if_eq 51 dX5_readAtom_41 (by decide) (fun c9 => ?_) (fun c9 => ?_)
    · replace h := h.1 c9
      refine j_iload_n dX5_readAtom_51 rfl ?_
      exact j_ireturn (ty := .int) rfl rfl dX5_readAtom_52 h
    · replace h := h.2 c9
      refine j_aload_n (r := some P.mo) dX5_readAtom_44 rfl ?_
      refine jm_geta fM_34 rfl dX5_readAtom_45 ?_
      refine j_iload_n dX5_readAtom_48 rfl ?_
      refine j_iload_n dX5_readAtom_49 rfl ?_
      refine jm_ast rfl h.1 rfl dX5_readAtom_50 ?_
      replace h := h.2
      refine j_iload_n dX5_readAtom_51 rfl ?_
      exact j_ireturn (ty := .int) rfl rfl dX5_readAtom_52 h
  · replace h := h.1 c12
    refine j_aload_n (r := some P.mo) dX5_readAtom_9 rfl ?_
    refine jm_calli (As := []) (rest := []) kX5_nameNode rfl q2311 rfl rfl (Nat.le_of_ble_eq_true rfl) rfl dX5_readAtom_10 (Nat.succ_le_succ (Nat.zero_le _)) (h.mono (onI_mono (fun r11 t10 h => ?_) (fun _ _ h => h)))
    exact j_ireturn (ty := .int) rfl rfl dX5_readAtom_13 h
abbrev jX5_beginsAtom_16 (P : MPl) (s0 : State) (l : Launch) (X : Prop) (lev : Nat) (st0 : MSt) (Q : Outcome → MSt → Prop) (st : MSt) : Prop := JQ (wM P s0 l X) mX5_beginsAtom (lev + 1) st0 16 [some (va_rf (some P.mo))] [] st Q
theorem tX5_beginsAtom {P : MPl} {s0 : State} {l : Launch} {X : Prop} {lev : Nat} {Q : Outcome → MSt → Prop} {st : MSt} (h : (CQ (wM P s0 l X) mX5_isName lev (.ref P.mo :: []) st (onI (fun r2 t1 => ((r2 = 0 → (CQ (wM P s0 l X) mX5_isSign lev (.ref P.mo :: [.int (iI 40)]) t1 (onI (fun r4 t3 => ((r4 = 0 → Q (.returned (some (.int (iI 0)))) t3) ∧ (¬ r4 = 0 → jX5_beginsAtom_16 P s0 l X lev st Q t3))) (fun x t => Q (.threw x) t)))) ∧ (¬ r2 = 0 → jX5_beginsAtom_16 P s0 l X lev st Q t1))) (fun x t => Q (.threw x) t)))) : CQ (wM P s0 l X) mX5_beginsAtom (lev + 1) [.ref P.mo] st Q := by
  refine CQ.of2 0 (lv := [some (va_rf (some P.mo))]) (by decide) (Nat.le_of_ble_eq_true rfl) rfl rfl ?_
  refine j_aload_n (r := some P.mo) dX5_beginsAtom_0 rfl ?_
  refine jm_calli (As := []) (rest := []) kX5_isName rfl q2319 rfl rfl (Nat.le_of_ble_eq_true rfl) rfl dX5_beginsAtom_1 (Nat.succ_le_succ (Nat.zero_le _)) (h.mono (onI_mono (fun r2 t1 h => ?_) (fun _ _ h => h)))
  refine j_if_ne 16 dX5_beginsAtom_4 (by decide) (fun c6 => ?_) (fun c6 => ?_)
  · replace h := h.2 c6
    exact h
  · replace h := h.1 c6
    refine j_aload_n (r := some P.mo) dX5_beginsAtom_7 rfl ?_
    refine j_bipush (v := iI 40) dX5_beginsAtom_8 rfl ?_
    refine jm_calli (As := [.int (iI 40)]) (rest := []) kX5_isSign rfl q2327 rfl rfl (Nat.le_of_ble_eq_true rfl) rfl dX5_beginsAtom_10 (Nat.succ_le_succ (Nat.zero_le _)) (h.mono (onI_mono (fun r4 t3 h => ?_) (fun _ _ h => h)))
    refine j_if_eq 20 dX5_beginsAtom_13 (by decide) (fun c5 => ?_) (fun c5 => ?_)
    · replace h := h.1 c5
      refine j_iconst (v := iI 0) dX5_beginsAtom_20 rfl ?_
      exact j_ireturn (ty := .boolean) rfl rfl dX5_beginsAtom_21 h
    · replace h := h.2 c5
      exact h
theorem tX5_beginsAtom_16 {P : MPl} {s0 : State} {l : Launch} {X : Prop} {lev : Nat} {st0 : MSt} {Q : Outcome → MSt → Prop} {st : MSt} (h : Q (.returned (some (.int (iI 1)))) st) : jX5_beginsAtom_16 P s0 l X lev st0 Q st := by
  refine j_iconst (v := iI 1) dX5_beginsAtom_16 rfl ?_
  refine j_goto 21 dX5_beginsAtom_17 (by decide) ?_
  exact j_ireturn (ty := .boolean) rfl rfl dX5_beginsAtom_21 h
