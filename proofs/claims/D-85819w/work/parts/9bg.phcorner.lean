/-! THE HOUSE OVER S, P (29): corner -/
section PHBG
variable {G : GPl} {s0 : State} {l : Launch} {KK : Nat → Option Nat} {T : Nat → Nat} {lev : Nat} {Q : Outcome → GSt → Prop} {R : Nat → Nat} {σ τ υ st0 ρ σ0 : GSt} {X : SX} {J : JX} {K K' : KS} {n s m u n' s' u' z w w' k a b p : Nat} {x1 x2 : Int32} {H H' : HO} {N : Nat → Nat} {lim : Nat} {tb : HT} {cx : List CN} {t : TX}
/-- a list becomes empty -/
theorem c_clr {al zz ln : Nat} (hz : gz σ0) (h1 : gk σ0 al = 22) (h2 : gr σ0 al 1 = some zz) (h3 : gk σ0 zz = 103) (hl : ln ≤ gl σ0 zz) (hln : ln ≤ 1000) (ok : ∀ τ, keep (fun q => q = al ∨ (q = zz ∧ 0 < gl σ0 zz)) σ0 τ → gle σ0 τ → gz τ ∧ gn τ = gn σ0 ∧ gm τ = gm σ0 ∧ gr τ al 1 = some zz ∧ gi τ al 2 = iI 0 ∧ gl τ zz = gl σ0 zz ∧ (0 < ln → gr τ zz 0 = none) ∧ (ln = 0 → gr τ zz 0 = gr σ0 zz 0) → Q (.returned none) τ) : ∀ (d i : Nat) (σ : GSt), i + d = ln → keep (fun q => q = al ∨ (q = zz ∧ 0 < gl σ0 zz)) σ0 σ → gle σ0 σ → gz σ ∧ gn σ = gn σ0 ∧ gm σ = gm σ0 ∧ gr σ al 1 = some zz ∧ gi σ al 2 = iI 0 ∧ gl σ zz = gl σ0 zz ∧ (0 < i → gr σ zz 0 = none) ∧ (i = 0 → gr σ zz 0 = gr σ0 zz 0) → jJ2_clear_27 G s0 l KK T lev st0 Q al (some zz) (iI (ln : Int)) (iI (i : Int)) σ := by
  have nz : al ≠ zz := fun q => by rw [q] at h1; omega
  intro d
  induction d with
  | zero =>
    intro i σ e hk hg h
    have hi : i = ln := by omega
    subst hi
    exact tJ2_clear_27 ⟨fun _ => ok σ hk hg h, fun q => absurd (by rw [iI_le (by omega) (by omega) (by omega) (by omega)]; omega) q⟩
  | succ d ih =>
    intro i σ e hk hg h
    obtain ⟨a1, a2, a3, a4, a5, a6, a7, a8⟩ := h
    have hi : i < ln := by omega
    refine tJ2_clear_27 ⟨fun q => ?_, fun _ => ⟨zz, rfl, hg.tag h3 (by omega), by rw [a6]; exact iI_in (by omega) (by omega), ?_⟩⟩
    · rw [iI_le (by omega) (by omega) (by omega) (by omega)] at q; omega
    · rw [iI_ix (by omega), iI_suc]
      refine ih (i + 1) _ (by omega) (hk.pr (fun _ => Or.inr ⟨rfl, by omega⟩)) hg ⟨a1, a2, a3, ?_, a5, a6, fun _ => ?_, fun q => by omega⟩
      · rw [gr_pr, if_neg (fun q => nz q.1)]; exact a4
      · rw [gr_pr]
        by_cases h0 : i = 0
        · rw [if_pos ⟨rfl, h0.symm⟩]
        · rw [if_neg (fun q => h0 q.2.symm)]; exact a7 (by omega)
theorem c_lclear {al zz ln : Nat} (hl0 : 1 ≤ lev) (hz : gz σ) (h1 : gk σ al = 22) (h2 : gr σ al 1 = some zz) (h3 : gk σ zz = 103) (h4 : gi σ al 2 = iI (ln : Int)) (hl : ln ≤ gl σ zz) (hln : ln ≤ 1000) (ok : ∀ τ, keep (fun q => q = al ∨ (q = zz ∧ 0 < gl σ zz)) σ τ → gle σ τ → gz τ ∧ gn τ = gn σ ∧ gm τ = gm σ ∧ gr τ al 1 = some zz ∧ gi τ al 2 = iI 0 ∧ gl τ zz = gl σ zz ∧ (0 < ln → gr τ zz 0 = none) ∧ (ln = 0 → gr τ zz 0 = gr σ zz 0) → Q (.returned none) τ) : CQ (wP G s0 l KK T) mJ2_clear lev (.ref al :: []) σ Q := by
  obtain ⟨l', rfl⟩ : ∃ l', lev = l' + 1 := ⟨lev - 1, by omega⟩
  refine tJ2_clear ⟨h1, ?_⟩
  rw [gr_pi, h2, gi_pi, if_neg (by omega), h4]
  have nz : zz ≠ al := fun q => by rw [q] at h3; omega
  exact c_clr hz h1 h2 h3 hl hln ok ln 0 _ (Nat.zero_add _) (((keep.rf (W := fun q => q = al ∨ (q = zz ∧ 0 < gl σ zz))).pi (fun _ => Or.inl rfl)).pi (fun _ => Or.inl rfl)) ⟨⟨Nat.le_refl _, Nat.le_refl _⟩, fun _ _ => rfl⟩ ⟨hz, rfl, rfl, h2, by rw [gi_pi, if_pos ⟨rfl, rfl⟩], rfl, fun q => by omega, fun _ => rfl⟩
/-- a row of ints is filled with -1 -/
theorem c_clr7 (h1 : gk σ0 (R 1) = 2) (h2 : gr σ0 (R 1) 1 = some (R 6)) (h2' : gr σ0 (R 1) 2 = some (R 7)) (h3 : gk σ0 (R 6) = 101) (h4 : gl σ0 (R 6) = 8) (h5 : gk σ0 (R 7) = 101) (h6 : gl σ0 (R 7) = 64) (n67 : R 6 ≠ R 7)
    (ok : ∀ τ, keep (fun q => q = R 6 ∨ q = R 7) σ0 τ → (∀ a j, gr τ a j = gr σ0 a j) ∧ (∀ a, gk τ a = gk σ0 a) ∧ (∀ a, gl τ a = gl σ0 a) ∧ gn τ = gn σ0 ∧ gm τ = gm σ0 ∧ (∀ i, i < 8 → gi τ (R 6) i = iI (-1)) ∧ (∀ i, i < 64 → gi τ (R 7) i = iI (-1)) → Q (.returned none) τ) : ∀ (d i : Nat) (σ : GSt), i + d = 8 → keep (fun q => q = R 6 ∨ q = R 7) σ0 σ → (∀ a j, gr σ a j = gr σ0 a j) → (∀ a, gk σ a = gk σ0 a) → (∀ a, gl σ a = gl σ0 a) → gn σ = gn σ0 → gm σ = gm σ0 → (∀ j, j < i → gi σ (R 6) j = iI (-1)) → jX2_clear_7 G s0 l KK T lev st0 Q (R 1) (iI (i : Int)) σ := by
  have second : ∀ (d i : Nat) (σ : GSt), i + d = 64 → keep (fun q => q = R 6 ∨ q = R 7) σ0 σ → (∀ a j, gr σ a j = gr σ0 a j) → (∀ a, gk σ a = gk σ0 a) → (∀ a, gl σ a = gl σ0 a) → gn σ = gn σ0 → gm σ = gm σ0 → (∀ j, j < 8 → gi σ (R 6) j = iI (-1)) → (∀ j, j < i → gi σ (R 7) j = iI (-1)) → jX2_clear_28 G s0 l KK T lev st0 Q (R 1) (iI (i : Int)) σ := by
    intro d
    induction d with
    | zero =>
      intro i σ e hk g1 g2 g3 g4 g5 g6 g7
      have hi : i = 64 := by omega
      subst hi
      exact tX2_clear_28 ⟨fun _ => ok σ hk ⟨g1, g2, g3, g4, g5, g6, g7⟩, fun q => absurd (by decide) q⟩
    | succ d ih =>
      intro i σ e hk g1 g2 g3 g4 g5 g6 g7
      refine tX2_clear_28 ⟨fun q => ?_, fun _ => ⟨by rw [g2]; exact h1, R 7, by rw [g1]; exact h2', by rw [g2]; exact h5, by rw [g3, h6]; exact iI_in (by omega) (by omega), ?_⟩⟩
      · rw [iI_le (by omega) (by omega) (by omega) (by omega)] at q; omega
      · rw [iI_ix (by omega), iI_suc]
        refine ih (i + 1) _ (by omega) (hk.pi (fun _ => Or.inr rfl)) g1 g2 g3 g4 g5 (fun j hj => ?_) (fun j hj => ?_)
        · rw [gi_pi, if_neg (fun q => n67 q.1)]; exact g6 j hj
        · rw [gi_pi]
          by_cases hji : j = i
          · rw [if_pos ⟨rfl, hji⟩]
          · rw [if_neg (fun q => hji q.2)]; exact g7 j (by omega)
  intro d
  induction d with
  | zero =>
    intro i σ e hk g1 g2 g3 g4 g5 g6
    have hi : i = 8 := by omega
    subst hi
    exact tX2_clear_7 ⟨fun _ => second 64 0 σ rfl hk g1 g2 g3 g4 g5 g6 (fun j hj => by omega), fun q => absurd (by decide) q⟩
  | succ d ih =>
    intro i σ e hk g1 g2 g3 g4 g5 g6
    refine tX2_clear_7 ⟨fun q => ?_, fun _ => ⟨by rw [g2]; exact h1, R 6, by rw [g1]; exact h2, by rw [g2]; exact h3, by rw [g3, h4]; exact iI_in (by omega) (by omega), ?_⟩⟩
    · rw [iI_le (by omega) (by omega) (by omega) (by omega)] at q; omega
    · rw [iI_ix (by omega), iI_suc]
      refine ih (i + 1) _ (by omega) (hk.pi (fun _ => Or.inl rfl)) g1 g2 g3 g4 g5 (fun j hj => ?_)
      rw [gi_pi]
      by_cases hji : j = i
      · rw [if_pos ⟨rfl, hji⟩]
      · rw [if_neg (fun q => hji q.2)]; exact g6 j (by omega)
end PHBG
