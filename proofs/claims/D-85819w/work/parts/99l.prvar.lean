/-! P OVER S (39): reading: variables -/
section PRV
variable {G : GPl} {s0 : State} {l : Launch} {KK : Nat → Option Nat} {T : Nat → Nat} {lev : Nat} {Q : Outcome → GSt → Prop} {R : Nat → Nat} {σ τ υ st0 : GSt} {X : SX} {K : KS} {w n s o a tp bl sl : Nat} {W : Nat → Prop} {t : TX} {bs : List (Option Nat)} {m : Int} {k : TK}
theorem rFind_lt {nm : List Nat} : ∀ (bs : List (Option Nat)) (i j : Nat), rFind t nm bs i = some j → i ≤ j ∧ j < i + bs.length := by
  intro bs
  induction bs with
  | nil => intro i j h; cases h
  | cons p r ih =>
    intro i j h
    rw [List.length_cons]
    cases p with
    | none =>
      have := ih (i + 1) j h
      omega
    | some p =>
      unfold rFind at h
      split at h
      · cases h; omega
      · have := ih (i + 1) j h
        omega
theorem c_vloop {nm : List Nat} (hl : 6 ≤ lev) (hd : pRd t σ a tp bl sl) (hB : pBl R KK t σ bl bs) (hlen : bs.length ≤ 41) (hM : MB G R σ X K w (n + 1) (s + 5)) (hn : nm ≠ []) (ho : pS σ (R 5) o nm)
    (ok : ∀ τ, keep nil0 σ τ → gle σ τ → MB G R τ X K w n s → gn τ = gn σ + 1 → nV τ (gn σ) o (rFind t nm bs 0) → Q (.returned (some (va_rf (some (gn σ))))) τ) : ∀ (d : Nat), d ≤ bs.length → rFind t nm (bs.drop (bs.length - d)) (bs.length - d) = rFind t nm bs 0 → jX6_variable_10 G s0 l KK T lev st0 Q a (some o) (iI ((d : Int) - 1)) σ := by
  have hz := hM.1
  have n0 : gk σ (gn σ) = 0 := hz.at
  have la := hz.ne (show gk σ a ≠ 0 by rw [hd.1]; omega)
  have fr : ¬ isM R (gn σ) := hM.2.1.fr hz (Nat.le_refl _)
  have hB0 := hB
  obtain ⟨h1, h2, z, h3, h4, h5, h6, h7⟩ := hB
  have lb := hz.ne (show gk σ bl ≠ 0 by omega)
  obtain ⟨l', rfl⟩ : ∃ l', lev = l' + 3 := ⟨lev - 3, by omega⟩
  have no0 : gk σ (gn σ) ≠ 0 → nil0 (gn σ) := fun q => absurd n0 q
  intro d
  induction d with
  | zero =>
    intro _ he
    rw [show bs.length - 0 = bs.length by omega, List.drop_eq_nil_of_le (by omega)] at he
    have he' : none = rFind t nm bs 0 := he
    rw [← he'] at ok
    refine tX6_variable_10 ⟨fun _ => ⟨⟨by have := hM.2.2.2.1; omega, by have := hM.2.2.2.2; omega, n0⟩, ?_⟩, fun q => absurd (by decide) q⟩
    have k12 : gk (gmk 12 5 σ) (gn σ) = 12 := gk_new n0
    refine tX14_init (tX9_init ⟨⟨11, by decide, k12⟩, fun _ => ⟨k12, fun hle => ok _ ?_ ((gle_mk hz).tr hle) ?_ rfl ⟨k12, ?_, ?_, ?_⟩⟩⟩)
    · exact (((((keep.rf.mk n0).pi no0).pi no0).pi no0).pr no0)
    · exact ((((hM.mk.pi' fr).pi' fr).pi' fr).pr' fr)
    · rw [gr_pr, if_pos ⟨rfl, rfl⟩]
    · rw [gr_pr, if_neg (by omega), gr_pi, gr_pi, gr_pi]; exact gr_nw
    · rw [gi_pr, gi_pi, if_pos ⟨rfl, rfl⟩]
  | succ d ih =>
    intro hdl he
    have e1 : ((d + 1 : Nat) : Int) - 1 = (d : Int) := by omega
    rw [e1]
    obtain ⟨p, hp⟩ : ∃ p, bs[bs.length - (d + 1)]? = some p := ⟨_, List.getElem?_eq_getElem (by omega)⟩
    obtain ⟨o', g1, g2⟩ := h7 _ p hp
    rw [show bs.length - 1 - (bs.length - (d + 1)) = d by omega] at g1
    have ed : bs.drop (bs.length - (d + 1)) = p :: bs.drop (bs.length - d) := by
      rw [List.drop_eq_getElem_cons (by omega), show bs.length - (d + 1) + 1 = bs.length - d by omega]
      congr 1
      rw [List.getElem?_eq_getElem (by omega)] at hp
      exact Option.some.inj hp
    rw [ed] at he
    have hii : bs.length - (d + 1) + 1 = bs.length - d := by omega
    refine tX6_variable_10 ⟨fun q => ?_, fun _ => ⟨hd.1, bl, hd.2.2.2.1, h1, c_get (by omega) h1 h3 h4 h2 (by omega) h5 (by omega) (onR_ret (fun _ => ?_))⟩⟩
    · rw [iI_z, iI_lt (by omega) (by omega) (by omega) (by omega)] at q; omega
    rw [g1]
    refine ⟨Or.inr ⟨o', rfl, by rw [g2.1]; decide⟩, o', rfl, g2.1, c_eq (by omega) g2 ho (fun _ => ?_)⟩
    by_cases hc : bnm t p = nm
    · rw [decide_eq_true hc]
      refine ⟨fun q => absurd q (by decide), fun _ => ⟨⟨by have := hM.2.2.2.1; omega, by have := hM.2.2.2.2; omega, n0⟩, bl, by rw [gr_mk la]; exact hd.2.2.2.1, by rw [gk_old lb]; exact h1, tJ2_size ⟨by rw [gk_old lb]; exact h1, fun _ => ?_⟩⟩⟩
      rw [gi_mk lb, h2, iI_sub, iI_sub, show ((bs.length : Int) - 1 - (d : Int)) = ((bs.length - (d + 1) : Nat) : Int) by omega]
      cases p with
      | none => exact absurd hc.symm hn
      | some p =>
        have he' : some (bs.length - (d + 1)) = rFind t nm bs 0 := by
          rw [← he]
          unfold rFind
          have hc' : tname t p = nm := hc
          rw [if_pos hc']
        rw [← he'] at ok
        have k11 : gk (gmk 11 3 σ) (gn σ) = 11 := gk_new n0
        refine tX13_init (tX9_init ⟨⟨10, by decide, k11⟩, fun _ => ⟨k11, fun hle => ok _ ?_ ((gle_mk hz).tr hle) ?_ rfl ⟨k11, ?_⟩⟩⟩)
        · exact ((((keep.rf.mk n0).pi no0).pi no0).pi no0)
        · exact ((((hM.le (n' := n + 1) (s' := s + 3) (by omega) (by omega)).mk.pi' fr).pi' fr).pi' fr)
        · rw [gi_pi, if_pos ⟨rfl, rfl⟩]
    · rw [decide_eq_false hc]
      refine ⟨fun _ => ?_, fun q => absurd rfl q⟩
      rw [show iI (-1) = iI (0 - 1) from rfl, iI_add]
      rw [show (d : Int) + (0 - 1) = (d : Int) - 1 by omega]
      refine ih (by omega) ?_
      rw [← he]
      cases p with
      | none =>
        show _ = rFind t nm (bs.drop (bs.length - d)) (bs.length - (d + 1) + 1)
        rw [hii]
      | some p =>
        have hc' : ¬ tname t p = nm := hc
        conv => rhs; unfold rFind
        rw [if_neg hc', hii]
theorem c_var {nm : List Nat} (hl : 7 ≤ lev) (hd : pRd t σ a tp bl sl) (hB : pBl R KK t σ bl bs) (hlen : bs.length ≤ 41) (hM : MB G R σ X K w (n + 1) (s + 5)) (hn : nm ≠ []) (ho : pS σ (R 5) o nm)
    (ok : ∀ τ, keep nil0 σ τ → gle σ τ → MB G R τ X K w n s → gn τ = gn σ + 1 → nV τ (gn σ) o (rFind t nm bs 0) → Q (.returned (some (va_rf (some (gn σ))))) τ) : CQ (wP G s0 l KK T) mX6_variable lev (.ref a :: [va_rf (some o)]) σ Q := by
  obtain ⟨l', rfl⟩ : ∃ l', lev = l' + 2 := ⟨lev - 2, by omega⟩
  refine tX6_variable ⟨hd.1, bl, hd.2.2.2.1, hB.1, tJ2_size ⟨hB.1, fun _ => ?_⟩⟩
  rw [hB.2.1, iI_sub]
  refine c_vloop (by omega) hd hB hlen hM hn ho ok bs.length (Nat.le_refl _) ?_
  rw [show bs.length - bs.length = 0 by omega]
  rfl
end PRV
