/-! a tree (made by gen/extra2.py) -/
set_option maxRecDepth 100000
theorem tX6_skips_0 {G : GPl} {s0 : State} {l : Launch} {K : Nat → Option Nat} {T : Nat → Nat} {lev : Nat} {st0 : GSt} {Q : Outcome → GSt → Prop} {a0 : Nat} {σ : GSt} (h : (gk σ a0 = 5 ∧ (((gi σ a0 1) ≤ (gi σ a0 2) → Q (.returned (some (.int (iI 0)))) σ) ∧ (¬ (gi σ a0 1) ≤ (gi σ a0 2) → (CQ (wP G s0 l K T) mX6_byteAt lev (.ref a0 :: [.int (gi σ a0 2)]) σ (onI (fun r3 t2 => gle σ t2 → ((r3 = (iI 10) → jX6_skips_40 G s0 l K T lev st0 Q a0 r3 t2) ∧ (¬ r3 = (iI 10) → ((r3 = (iI 32) → jX6_skips_40 G s0 l K T lev st0 Q a0 r3 t2) ∧ (¬ r3 = (iI 32) → ((r3 = (iI 123) → jX6_skips_40 G s0 l K T lev st0 Q a0 r3 t2) ∧ (¬ r3 = (iI 123) → Q (.returned (some (.int (iI 0)))) t2))))))) (fun x t => gle σ t → Q (.threw x) t))))))) : jX6_skips_0 G s0 l K T lev st0 Q a0 σ := by
  refine j_aload_n (r := some a0) dX6_skips_0 rfl ?_
  obtain ⟨hk1, h⟩ := h
  refine kg_geti (a := a0) (j := 2) rfl gfX6_33 (by decide) hk1 dX6_skips_1 ?_
  refine j_aload_n (r := some a0) dX6_skips_4 rfl ?_
  refine kg_geti (a := a0) (j := 1) rfl gfX6_25 (by decide) hk1 dX6_skips_5 ?_
  refine j_icmp_ge 113 dX6_skips_8 (by decide) (fun c7 => ?_) (fun c7 => ?_)
  · replace h := h.1 c7
    refine j_iconst (v := iI 0) dX6_skips_113 rfl ?_
    exact j_ireturn (ty := .boolean) rfl rfl dX6_skips_114 h
  · replace h := h.2 c7
    refine j_aload_n (r := some a0) dX6_skips_11 rfl ?_
    refine j_aload_n (r := some a0) dX6_skips_12 rfl ?_
    refine kg_geti (a := a0) (j := 2) rfl gfX6_33 (by decide) hk1 dX6_skips_13 ?_
    refine jg_calli (rest := []) (kg_lkV (As := [.int (gi σ a0 2)]) (a := a0) (c := 4) kgX6_byteAt_4 (by decide) rfl hk1 q495 rfl rfl dX6_skips_16) cwX6_byteAt (Nat.le_of_ble_eq_true rfl) rfl dX6_skips_16 (Nat.succ_le_succ (Nat.zero_le _)) (h.mono (onI_mono (fun r3 t2 h hlt2 => ?_) (fun _ _ h => h)))
    replace h := h hlt2
    replace hk1 := hlt2.tag hk1 (by decide)
    refine j_istore_n (lv' := [some (va_rf (some a0)), some (.int r3), none]) dX6_skips_19 (by decide) rfl ?_
    refine j_iload_n dX6_skips_20 rfl ?_
    refine j_bipush (v := iI 10) dX6_skips_21 rfl ?_
    refine j_icmp_eq 40 dX6_skips_23 (by decide) (fun c6 => ?_) (fun c6 => ?_)
    · replace h := h.1 c6
      exact h
    · replace h := h.2 c6
      refine j_iload_n dX6_skips_26 rfl ?_
      refine j_bipush (v := iI 32) dX6_skips_27 rfl ?_
      refine j_icmp_eq 40 dX6_skips_29 (by decide) (fun c5 => ?_) (fun c5 => ?_)
      · replace h := h.1 c5
        exact h
      · replace h := h.2 c5
        refine j_iload_n dX6_skips_32 rfl ?_
        refine j_bipush (v := iI 123) dX6_skips_33 rfl ?_
        refine j_icmp_eq 40 dX6_skips_35 (by decide) (fun c4 => ?_) (fun c4 => ?_)
        · replace h := h.1 c4
          exact h
        · replace h := h.2 c4
          refine j_iconst (v := iI 0) dX6_skips_38 rfl ?_
          exact j_ireturn (ty := .boolean) rfl rfl dX6_skips_39 h
