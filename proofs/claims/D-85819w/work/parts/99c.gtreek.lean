/-! trees (made by gen/extra.py) -/
set_option maxRecDepth 100000
theorem cwJ16_checkLength : Cw mJ16_checkLength := ⟨q678, q136, by decide⟩
theorem ktJ16_checkLength : McT mJ16_checkLength 2 := ⟨cwJ16_checkLength, q677, parLen_of (by decide +kernel), ⟨by decide, by decide⟩⟩
abbrev jJ14_signedHashCode_8 (G : GPl) (s0 : State) (l : Launch) (K : Nat → Option Nat) (T : Nat → Nat) (lev : Nat) (st0 : GSt) (Q : Outcome → GSt → Prop) (x0 : Int32) (x1 : Option Nat) (x2 : Int32) (x3 : Int32) (x4 : Int32) (x5 : Int32) (σ : GSt) : Prop := JQ (wP G s0 l K T) mJ14_signedHashCode (lev + 1) st0 8 [some (.int x0), some (va_rf x1), some (.int x2), some (.int x3), some (.int x4), some (.int x5)] [] σ Q
theorem tJ14_signedHashCode {G : GPl} {s0 : State} {l : Launch} {K : Nat → Option Nat} {T : Nat → Nat} {lev : Nat} {Q : Outcome → GSt → Prop} {x0 : Int32} {x1 : Option Nat} {x2 : Int32} {x3 : Int32} {σ : GSt} (h : jJ14_signedHashCode_8 G s0 l K T lev σ Q x0 x1 x2 x3 (x2 + x3) x2 σ) : CQ (wP G s0 l K T) mJ14_signedHashCode (lev + 1) [.int x0, va_rf x1, .int x2, .int x3] σ Q := by
  refine CQ.of3 2 (lv := [some (.int x0), some (va_rf x1), some (.int x2), some (.int x3), none, none]) (by decide) (Nat.le_of_ble_eq_true rfl) (cat1_cons rfl (cat1_cons (rf_cat _) (cat1_cons rfl (cat1_cons rfl cat1_nil)))) rfl ?_
  refine j_iload_n dJ14_signedHashCode_0 rfl ?_
  refine j_iload_n dJ14_signedHashCode_1 rfl ?_
  refine j_iadd dJ14_signedHashCode_2 ?_
  refine j_istore (lv' := [some (.int x0), some (va_rf x1), some (.int x2), some (.int x3), some (.int (x2 + x3)), none]) dJ14_signedHashCode_3 (by decide) rfl ?_
  refine j_iload_n dJ14_signedHashCode_5 rfl ?_
  refine j_istore (lv' := [some (.int x0), some (va_rf x1), some (.int x2), some (.int x3), some (.int (x2 + x3)), some (.int x2)]) dJ14_signedHashCode_6 (by decide) rfl ?_
  exact h
theorem tJ14_signedHashCode_8 {G : GPl} {s0 : State} {l : Launch} {K : Nat → Option Nat} {T : Nat → Nat} {lev : Nat} {st0 : GSt} {Q : Outcome → GSt → Prop} {x0 : Int32} {x1 : Option Nat} {x2 : Int32} {x3 : Int32} {x4 : Int32} {x5 : Int32} {σ : GSt} (h : ((x4 ≤ x5 → Q (.returned (some (.int x0))) σ) ∧ (¬ x4 ≤ x5 → (∃ a1, x1 = some a1 ∧ (gk σ a1 = 102 ∧ (inr x5 (gl σ a1) ∧ jJ14_signedHashCode_8 G s0 l K T lev st0 Q (((iI 31) * x0) + ((gi σ a1 (ix x5)) &&& (iI 255))) x1 x2 x3 x4 (x5 + iI 1) σ)))))) : jJ14_signedHashCode_8 G s0 l K T lev st0 Q x0 x1 x2 x3 x4 x5 σ := by
  refine j_iload dJ14_signedHashCode_8 rfl ?_
  refine j_iload dJ14_signedHashCode_10 rfl ?_
  refine j_icmp_ge 35 dJ14_signedHashCode_12 (by decide) (fun c4 => ?_) (fun c4 => ?_)
  · replace h := h.1 c4
    refine j_iload_n dJ14_signedHashCode_35 rfl ?_
    exact j_ireturn (ty := .int) rfl rfl dJ14_signedHashCode_36 h
  · replace h := h.2 c4
    refine j_bipush (v := iI 31) dJ14_signedHashCode_15 rfl ?_
    refine j_iload_n dJ14_signedHashCode_17 rfl ?_
    refine j_imul dJ14_signedHashCode_18 ?_
    refine j_aload_n (r := x1) dJ14_signedHashCode_19 rfl ?_
    refine j_iload dJ14_signedHashCode_20 rfl ?_
    obtain ⟨a1, ea1, hk2, hi3, h⟩ := h
    refine kg_bald (a := a1) ea1 hk2 hi3 dJ14_signedHashCode_22 ?_
    refine j_sipush (v := iI 255) dJ14_signedHashCode_23 rfl ?_
    refine j_iand dJ14_signedHashCode_26 ?_
    refine j_iadd dJ14_signedHashCode_27 ?_
    refine j_istore_n (lv' := [some (.int (((iI 31) * x0) + ((gi σ a1 (ix x5)) &&& (iI 255)))), some (va_rf x1), some (.int x2), some (.int x3), some (.int x4), some (.int x5)]) dJ14_signedHashCode_28 (by decide) rfl ?_
    refine j_iinc (lv' := [some (.int (((iI 31) * x0) + ((gi σ a1 (ix x5)) &&& (iI 255)))), some (va_rf x1), some (.int x2), some (.int x3), some (.int x4), some (.int (x5 + iI 1))]) dJ14_signedHashCode_29 rfl (by decide) rfl ?_
    refine j_goto 8 dJ14_signedHashCode_32 (by decide) ?_
    exact h
theorem tJ16_copyOfRangeByte {G : GPl} {s0 : State} {l : Launch} {K : Nat → Option Nat} {T : Nat → Nat} {lev : Nat} {Q : Outcome → GSt → Prop} {x0 : Option Nat} {x1 : Int32} {x2 : Int32} {σ : GSt} (h : (CQ (wP G s0 l K T) mJ16_checkLength lev [.int x1, .int x2] σ (onV (fun t1 => gle σ t1 → (inr (x2 - x1) 200000 ∧ (groom G ((x2 - x1).toInt.toNat) t1 ∧ (∃ a6, x0 = some a6 ∧ (gk (gmk 102 ((x2 - x1).toInt.toNat) t1) a6 = 102 ∧ (G.h0.size ≤ (gn t1) ∧ (cpok (gmk 102 ((x2 - x1).toInt.toNat) t1) a6 (gn t1) x1 (iI 0) (if x2 - x1 < (iI (gl (gmk 102 ((x2 - x1).toInt.toNat) t1) a6 : Int)) - x1 then x2 - x1 else (iI (gl (gmk 102 ((x2 - x1).toInt.toNat) t1) a6 : Int)) - x1) ∧ Q (.returned (some (va_rf (some (gn t1))))) (gci (gn t1) a6 (ix x1) (ix (iI 0)) (ix (if x2 - x1 < (iI (gl (gmk 102 ((x2 - x1).toInt.toNat) t1) a6 : Int)) - x1 then x2 - x1 else (iI (gl (gmk 102 ((x2 - x1).toInt.toNat) t1) a6 : Int)) - x1)) (gmk 102 ((x2 - x1).toInt.toNat) t1))))))))) (fun x t => gle σ t → Q (.threw x) t)))) : CQ (wP G s0 l K T) mJ16_copyOfRangeByte (lev + 1) [va_rf x0, .int x1, .int x2] σ Q := by
  refine CQ.of3 2 (lv := [some (va_rf x0), some (.int x1), some (.int x2), none, none]) (by decide) (Nat.le_of_ble_eq_true rfl) (cat1_cons (rf_cat _) (cat1_cons rfl (cat1_cons rfl cat1_nil))) rfl ?_
  refine j_iload_n dJ16_copyOfRangeByte_0 rfl ?_
  refine j_iload_n dJ16_copyOfRangeByte_1 rfl ?_
  refine jg_callv (rest := []) (kg_lkS (As := [.int x1, .int x2]) ktJ16_checkLength q676 rfl rfl dJ16_copyOfRangeByte_2) cwJ16_checkLength (Nat.le_of_ble_eq_true rfl) rfl dJ16_copyOfRangeByte_2 (Nat.succ_le_succ (Nat.zero_le _)) (h.mono (onV_mono (fun t1 h hlt1 => ?_) (fun _ _ h => h)))
  replace h := h hlt1
  refine j_iload_n dJ16_copyOfRangeByte_5 rfl ?_
  refine j_iload_n dJ16_copyOfRangeByte_6 rfl ?_
  refine j_isub dJ16_copyOfRangeByte_7 ?_
  refine j_istore_n (lv' := [some (va_rf x0), some (.int x1), some (.int x2), some (.int (x2 - x1)), none]) dJ16_copyOfRangeByte_8 (by decide) rfl ?_
  refine j_iload_n dJ16_copyOfRangeByte_9 rfl ?_
  obtain ⟨hn3, hg4, h⟩ := h
  refine jg_newarr (n0 := (x2 - x1).toInt.toNat) (Or.inr ⟨rfl, rfl, rfl⟩) q197 hn3 rfl hg4 dJ16_copyOfRangeByte_10 ?_
  have hk5 := gk_new (t := 102) (n := ((x2 - x1).toInt.toNat)) hg4.2.2
  refine j_astore (r := some (gn t1)) (lv' := [some (va_rf x0), some (.int x1), some (.int x2), some (.int (x2 - x1)), some (va_rf (some (gn t1)))]) dJ16_copyOfRangeByte_12 (by decide) rfl ?_
  refine j_aload_n (r := x0) dJ16_copyOfRangeByte_14 rfl ?_
  refine j_iload_n dJ16_copyOfRangeByte_15 rfl ?_
  refine j_aload (r := some (gn t1)) dJ16_copyOfRangeByte_16 rfl ?_
  refine j_iconst (v := iI 0) dJ16_copyOfRangeByte_18 rfl ?_
  refine j_aload_n (r := x0) dJ16_copyOfRangeByte_19 rfl ?_
  obtain ⟨a6, ea6, hk7, h⟩ := h
  refine kg_alen (a := a6) ea6 hk7 (by decide) dJ16_copyOfRangeByte_20 ?_
  refine j_iload_n dJ16_copyOfRangeByte_21 rfl ?_
  refine j_isub dJ16_copyOfRangeByte_22 ?_
  refine j_iload_n dJ16_copyOfRangeByte_23 rfl ?_
  refine jg_mmin (x := (iI (gl (gmk 102 ((x2 - x1).toInt.toNat) t1) a6 : Int)) - x1) (y := x2 - x1) (stk := [.int (iI 0), va_rf (some (gn t1)), .int x1, va_rf x0]) (Nat.succ_le_succ (Nat.zero_le _)) q587 q588 q135 q589 (rm_ok (cat1_cons rfl (cat1_cons rfl (cat1_cons rfl (cat1_cons (rf_cat _) cat1_nil)))) (Nat.le_of_ble_eq_true rfl)) dJ16_copyOfRangeByte_24 ?_
  obtain ⟨hb8, hc9, h⟩ := h
  refine jg_copyb (r := some (gn t1)) (r2 := x0) (a := (gn t1)) (b := a6) (stk := []) (Nat.succ_le_succ (Nat.zero_le _)) rfl ea6 hk5 hk7 hb8 hc9 q590 (Nat.le_of_ble_eq_true rfl) dJ16_copyOfRangeByte_27 ?_
  refine j_aload (r := some (gn t1)) dJ16_copyOfRangeByte_30 rfl ?_
  exact j_areturn (r := some (gn t1)) rfl (Or.inr ⟨_, rfl⟩) dJ16_copyOfRangeByte_32 h
