/-! P OVER S (36): reading: the next token -/
section PRI
variable {G : GPl} {s0 : State} {l : Launch} {KK : Nat → Option Nat} {T : Nat → Nat} {lev : Nat} {Q : Outcome → GSt → Prop} {R : Nat → Nat} {σ τ υ st0 : GSt} {X : SX} {K : KS} {w n s o a tp bl sl : Nat} {W : Nat → Prop} {t : TX}
theorem c_go {nx : Nat} (hl : 10 ≤ lev) (h : pRd t σ a tp bl sl) (hT : TT R σ T) (hK : KI KK) (hn : nx ≤ t.2) (h2 : gi σ a 2 = iI (nx : Int)) (hM : MB G R σ X K w (n + 4) (s + 32))
    (ok : ∀ τ, rk a σ τ → MB G R τ X K w n s → pTk KK R t τ a (sGo t nx) → Q (.returned none) τ) : CQ (wP G s0 l KK T) mX6_go lev (.ref a :: []) σ Q := by
  obtain ⟨l', rfl⟩ : ∃ l', lev = l' + 2 := ⟨lev - 2, by omega⟩
  have h8 := h.2.2.2.2.2.2.2.1
  have na : ¬ isM R a := hM.2.1.no h.1 (by omega) (by omega) (Or.inl (by omega))
  refine tX6_go ⟨h.1, CQ.of3 2 (lv := [some (va_rf (some a)), none, none]) (by decide) (Nat.le_of_ble_eq_true rfl) (cat1_cons rfl cat1_nil) rfl (c_skips (by omega) (t.2 + 1) nx σ h (by omega) hn h2 (fun p b hs hp τ hτ h2' => fun _ => ?_))⟩
  have f1 : rk a σ τ ∧ MB G R τ X K w (n + 4) (s + 32) := by
    rcases hτ with rfl | ⟨v, rfl⟩
    · exact ⟨rk.rf, hM⟩
    · exact ⟨rk.pi (Or.inl rfl), hM.pi' na⟩
  obtain ⟨f1, f2⟩ := f1
  rw [h2']
  have f3 : rk a σ (gpi a 3 (iI (p : Int)) τ) := f1.tr (rk.pi (Or.inr (Or.inl rfl)))
  have f4 : MB G R (gpi a 3 (iI (p : Int)) τ) X K w (n + 4) (s + 32) := f2.pi' na
  have f5 : gi (gpi a 3 (iI (p : Int)) τ) a 2 = iI (p : Int) := by rw [gi_pi, if_neg (by omega)]; exact h2'
  have f6 : gi (gpi a 3 (iI (p : Int)) τ) a 3 = iI (p : Int) := by rw [gi_pi, if_pos ⟨rfl, rfl⟩]
  generalize gpi a 3 (iI (p : Int)) τ = τ1 at *
  have hd : pRd t τ1 a tp bl sl := h.mv f3
  have hT1 : TT R τ1 T := hT.mv f3.1 (f3.S h.1)
  rw [f5]
  refine c_byte (by omega) hd (by omega) (fun hb => fun _ => ?_)
  rw [f5, hd.2.2.1]
  have sg : sGo t nx = if b then (4, p, 0, p) else if t.2 ≤ p then (5, p, 0, p)
    else if isLet (tbyte t p) then
      (if 12 < sRun t isMor t.2 p - p then 3 else if kept.contains (tname t p) then 1 else 0, p, 0, sRun t isMor t.2 p)
    else (if (tbyte t p == 45 && tbyte t (p + 1) == 62) || [92, 33, 58, 46, 59, 61, 40, 41].contains (tbyte t p) then 2 else 4, p, if (tbyte t p == 45 && tbyte t (p + 1) == 62) then 256 else if (tbyte t p == 58 && tbyte t (p + 1) == 61) then 257 else tbyte t p, p + if (tbyte t p == 45 && tbyte t (p + 1) == 62) || (tbyte t p == 58 && tbyte t (p + 1) == 61) then 2 else 1) := by
    unfold sGo
    simp only [hs]
  rw [sg] at ok
  refine ⟨fun q => ?_, fun q => ?_⟩
  · have hb0 : b = false := by cases b with
      | false => rfl
      | true => exact absurd q (by decide)
    subst hb0
    rw [if_neg (by decide)] at ok
    refine ⟨fun q2 => ?_, fun q2 => ?_⟩
    · rw [iI_lt (by omega) (by omega) (by omega) (by omega)] at q2
      rw [if_neg (by omega)] at ok
      refine c_letter (by omega) hb (fun _ => ⟨fun q3 => ?_, fun q3 => ?_⟩)
      · have hL : isLet (tbyte t p) = false := by
          cases hL : isLet (tbyte t p) with
          | false => rfl
          | true => rw [hL] at q3; exact absurd q3 (by decide)
        rw [hL, if_neg (by decide)] at ok
        refine c_sign (by omega) hd hT1 (by omega) f5 rfl hb (fun _ => ok _ ((f3.tr (rk.pr (Or.inr rfl))).tr ((rk.pi (Or.inr (Or.inr rfl))).tr (rk.pi (Or.inl rfl)))) ((((f4.pr' na).pi' na).pi' na).le (by omega) (by omega)) ⟨?_, ?_, ?_, fun q => ?_, fun _ => ?_, ?_, ?_, ?_⟩)
        · rw [gi_pi, if_neg (by omega), gi_pi, if_neg (by omega), gi_pr]; exact f6
        · rw [gr_pi, gr_pi, gr_pr, if_pos ⟨rfl, rfl⟩]
        · rw [gi_pi, if_pos ⟨rfl, rfl⟩]
        · exfalso
          revert q
          show ¬ (if _ then 2 else 4) ≤ 1
          split <;> omega
        · rw [gi_pi, if_neg (by omega), gi_pi, if_pos ⟨rfl, rfl⟩]
        · show (if _ then 2 else 4) ≤ 5
          split <;> omega
        · show p ≤ t.2; omega
        · show p + (if _ then 2 else 1) ≤ t.2
          split
          · rename_i hh
            simp only [Bool.and_eq_true, Bool.or_eq_true, beq_iff_eq] at hh
            have : p + 1 < t.2 := by
              apply Classical.byContradiction
              intro z
              have e0 : tbyte t (p + 1) = 0 := by unfold tbyte; rw [if_neg z]
              omega
            omega
          · omega
      · have hL : isLet (tbyte t p) = true := by
          cases hL : isLet (tbyte t p) with
          | true => rfl
          | false => rw [hL] at q3; exact absurd rfl q3
        rw [if_pos hL] at ok
        exact c_rname (by omega) hd hT1 hK (by omega) f5 f6 rfl f4 (fun υ u1 u2 u3 => fun _ => ok υ (f3.tr u1) u2 u3)
    · have hge : t.2 ≤ p := by
        apply Classical.byContradiction
        intro z
        exact q2 (by rw [iI_lt (by omega) (by omega) (by omega) (by omega)]; omega)
      rw [if_pos hge] at ok
      exact ok _ (f3.tr (rk.pr (Or.inr rfl))) ((f4.pr' na).le (by omega) (by omega)) ⟨by rw [gi_pr]; exact f6, by rw [gr_pr, if_pos ⟨rfl, rfl⟩], by rw [gi_pr]; exact f5, fun q => absurd q (by show ¬ (5 : Nat) ≤ 1; decide), fun q => absurd q (by show ¬ (5 : Nat) = 2; decide), by show 5 ≤ 5; omega, hp, hp⟩
  · have hb1 : b = true := by cases b with
      | true => rfl
      | false => exact absurd rfl q
    subst hb1
    rw [if_pos rfl] at ok
    exact ok _ (f3.tr (rk.pr (Or.inr rfl))) ((f4.pr' na).le (by omega) (by omega)) ⟨by rw [gi_pr]; exact f6, by rw [gr_pr, if_pos ⟨rfl, rfl⟩], by rw [gi_pr]; exact f5, fun q => absurd q (by show ¬ (4 : Nat) ≤ 1; decide), fun q => absurd q (by show ¬ (4 : Nat) = 2; decide), by show 4 ≤ 5; omega, hp, hp⟩
end PRI
