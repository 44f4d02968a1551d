/-! THE HOUSE OVER S, P (14): all statements of a text -/
def inE (m : Nat) (I1 I2 : Nat → Nat → Prop) (k : Nat) : Nat → Prop := fun q => ∃ i, k ≤ i ∧ i < m ∧ (I1 i q ∨ I2 i q)
/-- what a text leaves of all that was there before -/
def hfr (R : Nat → Nat) (σ0 σ : GSt) : Prop := keep (fun q => isM R q ∨ q = R 3 ∨ q = R 9 ∨ (gr σ0 (R 9) 1 = some q ∧ 0 < gl σ0 q) ∨ q = R 1 ∨ q = R 6 ∨ q = R 7 ∨ q = R 8 ∨ q = R 0) σ0 σ ∧ gle σ0 σ ∧ (∀ q, gr σ (R 9) 1 = some q → gr σ0 (R 9) 1 = some q ∨ gk σ0 q = 0) ∧ (∀ j, gr σ (R 0) j = gr σ0 (R 0) j) ∧ gi σ (R 0) 9 = gi σ0 (R 0) 9 ∧ gi σ (R 0) 1 = gi σ0 (R 0) 1
section PHR
variable {G : GPl} {s0 : State} {l : Launch} {KK : Nat → Option Nat} {T : Nat → Nat} {lev : Nat} {Q : Outcome → GSt → Prop} {R : Nat → Nat} {σ τ υ st0 ρ σ0 : GSt} {X : SX} {J : JX} {K K' : KS} {w n s o z m a y tp lo kd pl lim sl zr : Nat} {W I : Nat → Prop} {t : TX} {ns : List Nat} {ss : List ST} {Y : Nat → Nat} {I1 I2 : Nat → Nat → Prop} {c : PC} {L : Nat → Nat → Prop} {sc : SC} {x : Option Nat} {tb : HT} {cx : List CN} {N : Nat → Nat}
theorem pS1.k2 (h : pS1 KK R t lo σ y kd pl ns) (hk : keep W σ τ) (hW : ∀ q, W q → gk σ q ≠ 6 ∧ (gk σ q = 104 → q < lo) ∧ (gk σ q = 101 → q < lo) ∧ gk σ q ≠ 23 ∧ (gk σ q = 102 → q = R 5)) : pS1 KK R t lo τ y kd pl ns := by
  obtain ⟨h1, h2, h3, h4, nm, ps, h5, h6, h7, h8, h9, h10, h11, h12, h13⟩ := h
  obtain ⟨a1, a2, a3, a4⟩ := hk y (by omega) (fun q => (hW y q).1 h1)
  obtain ⟨b1, b2, b3, b4⟩ := hk nm (by omega) (fun q => by have := (hW nm q).2.1 h6; omega)
  obtain ⟨c1, c2, c3, c4⟩ := hk ps (by omega) (fun q => by have := (hW ps q).2.2.1 h10; omega)
  refine ⟨a1.trans h1, by rw [a3]; exact h2, by rw [a2]; exact h3, h4, nm, ps, by rw [a3]; exact h5, b1.trans h6, by rw [b4]; exact h7, h8, by rw [a3]; exact h9, c1.trans h10, by rw [c4]; exact h11, h12, fun i p hp => ?_⟩
  obtain ⟨d1, o', d2, d3⟩ := h13 i p hp
  exact ⟨by rw [c2]; exact d1, o', by rw [b3]; exact d2, d3.kpW hk (fun q hq => ⟨(hW q hq).2.2.2.1, (hW q hq).2.2.2.2⟩)⟩
/-- the cells that a statement writes -/
theorem sfr_tg (h : JB R c L σ X J sc x) (hm : MS G R σ X K w) (hI : ∀ q, I q → c.E q) (hlo : ∀ q, gk σ q ≠ 0 → (gk σ q = 104 ∧ q = R 8) ∨ (q = R 4 ∨ q = R 6 ∨ q = R 7) → q < lo) : ∀ q, (isJ R I q ∨ q = R 9 ∨ (gr σ (R 9) 1 = some q ∧ 0 < gl σ q) ∨ q = R 1 ∨ q = R 6 ∨ q = R 7 ∨ q = R 8) → gk σ q ≠ 1 ∧ gk σ q ≠ 6 ∧ (gk σ q = 104 → q < lo) ∧ (gk σ q = 101 → q < lo) ∧ gk σ q ≠ 23 ∧ (gk σ q = 102 → q = R 5) ∧ (tmt (gk σ q) = true → I q ∨ q = R 9 ∨ gr σ (R 9) 1 = some q) := by
  obtain ⟨⟨m1, m2, m3⟩, -⟩ := hm
  obtain ⟨⟨j1, -⟩, -, ⟨d1, d2, d3, d4, d5, d6⟩, e1, e2, ⟨f1, f2, f3, z0, f4, f5, f6, f7, f8⟩, -⟩ := h.1
  have i2 := h.2.1.2.1
  have i4 := h.2.1.2.2.2.1
  intro q hq
  rcases hq with ((rfl | rfl | rfl) | rfl | hq) | rfl | ⟨hq, -⟩ | rfl | rfl | rfl | rfl
  · exact ⟨by omega, by omega, fun w => by omega, fun w => by omega, by omega, fun w => by omega, fun w => by rw [m1] at w; cases w⟩
  · exact ⟨by omega, by omega, fun w => by omega, fun _ => hlo _ (by omega) (Or.inr (Or.inl rfl)), by omega, fun w => by omega, fun w => by rw [m2] at w; cases w⟩
  · exact ⟨by omega, by omega, fun w => by omega, fun w => by omega, by omega, fun _ => rfl, fun w => by rw [m3] at w; cases w⟩
  · exact ⟨by omega, by omega, fun w => by omega, fun w => by omega, by omega, fun w => by omega, fun w => by rw [j1] at w; cases w⟩
  · have ht := h.2.2.2.2.2 q (hI q hq)
    have h2 := ht
    unfold tmt at h2
    simp at h2
    exact ⟨by omega, by omega, fun w => by omega, fun w => by omega, by omega, fun w => by omega, fun _ => Or.inl hq⟩
  · exact ⟨by omega, by omega, fun w => by omega, fun w => by omega, by omega, fun w => by omega, fun _ => Or.inr (Or.inl rfl)⟩
  · have ez : z0 = q := by rw [hq] at f4; cases f4; rfl
    subst ez
    exact ⟨by omega, by omega, fun w => by omega, fun w => by omega, by omega, fun w => by omega, fun _ => Or.inr (Or.inr hq)⟩
  · exact ⟨by omega, by omega, fun w => by omega, fun w => by omega, by omega, fun w => by omega, fun w => by rw [i2] at w; cases w⟩
  · exact ⟨by omega, by omega, fun w => by omega, fun _ => hlo _ (by omega) (Or.inr (Or.inr (Or.inl rfl))), by omega, fun w => by omega, fun w => by rw [d1] at w; cases w⟩
  · exact ⟨by omega, by omega, fun w => by omega, fun _ => hlo _ (by omega) (Or.inr (Or.inr (Or.inr rfl))), by omega, fun w => by omega, fun w => by rw [d3] at w; cases w⟩
  · exact ⟨by omega, by omega, fun _ => hlo _ (by omega) (Or.inl ⟨i4, rfl⟩), fun w => by omega, by omega, fun w => by omega, fun w => by rw [i4] at w; cases w⟩
theorem hfr.go (h : hfr R σ0 σ) (hs : sfr R I σ τ) (hI : ∀ q, I q → gk σ0 q = 0) (h0 : gk σ (R 0) ≠ 0) (n0 : ¬ (isJ R I (R 0) ∨ R 0 = R 9 ∨ (gr σ (R 9) 1 = some (R 0) ∧ 0 < gl σ (R 0)) ∨ R 0 = R 1 ∨ R 0 = R 6 ∨ R 0 = R 7 ∨ R 0 = R 8)) : hfr R σ0 τ := by
  obtain ⟨h1, h2, h3, h4, h5, h6⟩ := h
  obtain ⟨s1, s2, s3⟩ := hs
  obtain ⟨e1, e2, e3, e4⟩ := s1 (R 0) h0 n0
  refine ⟨h1.tr s1 (fun q hq hw => ?_), h2.tr s2, fun q hq => ?_, fun j => (e3 j).trans (h4 j), (e2 9).trans h5, (e2 1).trans h6⟩
  · rcases hw with (hw | hw | hw) | hw | ⟨hw, hp⟩ | hw | hw | hw | hw
    · exact Or.inl hw
    · exact Or.inr (Or.inl hw)
    · exact absurd (hI q hw) hq
    · exact Or.inr (Or.inr (Or.inl hw))
    · refine Classical.byContradiction fun hn => ?_
      obtain ⟨-, -, -, k4⟩ := h1 q hq hn
      rcases h3 q hw with w | w
      · exact hn (Or.inr (Or.inr (Or.inr (Or.inl ⟨w, by rw [← k4]; exact hp⟩))))
      · exact hq w
    · exact Or.inr (Or.inr (Or.inr (Or.inr (Or.inl hw))))
    · exact Or.inr (Or.inr (Or.inr (Or.inr (Or.inr (Or.inl hw)))))
    · exact Or.inr (Or.inr (Or.inr (Or.inr (Or.inr (Or.inr (Or.inl hw))))))
    · exact Or.inr (Or.inr (Or.inr (Or.inr (Or.inr (Or.inr (Or.inr (Or.inl hw)))))))
  · rcases s3 q hq with w | w
    · exact h3 q w
    · refine Or.inr (Classical.byContradiction fun hq0 => ?_)
      rw [h2.2 q hq0] at w
      exact hq0 w
theorem hfr.pi {j : Nat} {v : Int32} (h : hfr R σ0 σ) (hj : j ≠ 9 ∧ j ≠ 1) : hfr R σ0 (gpi (R 0) j v σ) := by
  obtain ⟨h1, h2, h3, h4, h5, h6⟩ := h
  exact ⟨h1.pi (fun _ => Or.inr (Or.inr (Or.inr (Or.inr (Or.inr (Or.inr (Or.inr (Or.inr rfl)))))))), h2, h3, h4, by rw [gi_pi, if_neg (by omega)]; exact h5, by rw [gi_pi, if_neg (by omega)]; exact h6⟩
end PHR
