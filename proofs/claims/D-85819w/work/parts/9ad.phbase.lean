/-! THE HOUSE OVER S, P (1): terms stand apart from the context's list; room -/
def mxR (f : Nat → Nat) : Nat → Nat
  | 0 => f 0
  | n + 1 => max (mxR f n) (f (n + 1))
theorem mxR_le {f : Nat → Nat} : ∀ {n k : Nat}, k ≤ n → f k ≤ mxR f n := by
  intro n
  induction n with
  | zero => intro k h; obtain rfl : k = 0 := by omega
            exact Nat.le_refl _
  | succ n ih =>
    intro k h
    by_cases hk : k = n + 1
    · subst hk; exact Nat.le_max_right _ _
    · exact Nat.le_trans (ih (by omega)) (Nat.le_max_left _ _)
theorem mxR_ex {f : Nat → Nat} : ∀ (n : Nat), ∃ k, k ≤ n ∧ mxR f n = f k := by
  intro n
  induction n with
  | zero => exact ⟨0, Nat.le_refl _, rfl⟩
  | succ n ih =>
    obtain ⟨k, h1, h2⟩ := ih
    by_cases h : mxR f n ≤ f (n + 1)
    · exact ⟨n + 1, Nat.le_refl _, by show max _ _ = _; omega⟩
    · exact ⟨k, by omega, by show max _ _ = _; omega⟩
/-- what u units of text to come may cost at most, z lets being there: a a node, b a node and let -/
def fR (a b u z : Nat) : Nat := mxR (fun L => (u - 15 * L) * (a + b * (z + L))) (u / 15)
theorem fR_step {a b v l u z : Nat} : v * (a + b * (z + l)) + fR a b u (z + l) ≤ fR a b (v + 15 * l + u) z := by
  obtain ⟨k, h1, h2⟩ := mxR_ex (f := fun L => (u - 15 * L) * (a + b * (z + l + L))) (u / 15)
  have h3 : fR a b u (z + l) = (u - 15 * k) * (a + b * (z + l + k)) := h2
  rw [h3]
  have hk : 15 * k ≤ u := by have := Nat.div_mul_le_self u 15; omega
  have h4 := mxR_le (f := fun L => (v + 15 * l + u - 15 * L) * (a + b * (z + L))) (n := (v + 15 * l + u) / 15) (k := l + k) ((Nat.le_div_iff_mul_le (by omega)).mpr (by omega))
  refine Nat.le_trans ?_ h4
  show _ ≤ (v + 15 * l + u - 15 * (l + k)) * (a + b * (z + (l + k)))
  have e1 : v + 15 * l + u - 15 * (l + k) = v + (u - 15 * k) := by omega
  have e2 : z + (l + k) = z + l + k := by omega
  rw [e1, e2, Nat.add_mul]
  exact Nat.add_le_add_right (Nat.mul_le_mul_left _ (Nat.add_le_add_left (Nat.mul_le_mul_left _ (by omega)) _)) _
theorem fR_mono {a b u u' z : Nat} (h : u ≤ u') : fR a b u z ≤ fR a b u' z := by
  have := fR_step (a := a) (b := b) (v := u' - u) (l := 0) (u := u) (z := z)
  have e : u' - u + 15 * 0 + u = u' := by omega
  rw [e] at this
  exact Nat.le_trans (Nat.le_add_left _ _) this
abbrev fC (u z : Nat) : Nat := fR 12 4 u z
abbrev fS (u z : Nat) : Nat := fR 64 12 u z
theorem fC_0 : fC 2560 0 ≤ 455000 := by decide +kernel
theorem fS_0 : fS 2560 0 ≤ 1400000 := by decide +kernel
section PHB
variable {G : GPl} {s0 : State} {l : Launch} {KK : Nat → Option Nat} {T : Nat → Nat} {lev : Nat} {Q : Outcome → GSt → Prop} {R : Nat → Nat} {σ τ υ st0 : GSt} {X : SX} {J : JX} {K K' : KS} {w n s o z : Nat} {c c' : PC} {L L' : Nat → Nat → Prop} {W I I' I1 I2 D : Nat → Prop}
theorem tmA_t {b : Nat} (h : isTmA σ b) : gk σ b ≠ 21 := by
  obtain ⟨k, h1, h2⟩ := h
  intro q
  rw [q] at h2
  have : k = 20 := by omega
  subst this
  exact absurd h1 (by decide)
/-- terms are copied where their cells stay; D: cells of lists whose first is a name, which no term is made of -/
theorem pT_dx (hD : ∀ al z b, gk σ al = 22 → gr σ al 1 = some z → gk σ z = 103 → D al ∨ D z → gr σ z 0 = some b → gk σ b = 21)
    (hD2 : ∀ a, D a → gk σ a = 22 ∨ gk σ a = 103) (h : ∀ a, tmt (gk σ a) = true → ¬ c.E a → ¬ D a → ¬ c'.E a ∧ gk τ a = gk σ a ∧ (∀ j, gi τ a j = gi σ a j) ∧ (∀ j, gr τ a j = gr σ a j) ∧ gl τ a = gl σ a)
    (hnc : c.nc ≤ c'.nc) (hns : c.ns ≤ c'.ns) (hN : ∀ k, k < c.nc → c'.N k = c.N k) : ∀ (t : V) (a i : Nat), pT c σ t a i → ∀ (y : Bool) (g : List Bool), gT t y g → (i ≠ 0 → ¬ D a) → pT c' τ t a i := by
  have ct : ∀ {a t : Nat}, gk σ a = t → t ≠ 22 → t ≠ 103 → ¬ c.E a → tmt t = true → gk τ a = t ∧ (∀ j, gi τ a j = gi σ a j) ∧ (∀ j, gr τ a j = gr σ a j) ∧ gl τ a = gl σ a ∧ ¬ c'.E a := fun {a t} ha h1 h2 hE ht => by
    obtain ⟨b1, b2, b3, b4, b5⟩ := h a (by rw [ha]; exact ht) hE (fun q => by rcases hD2 a q with q | q <;> omega)
    exact ⟨b2.trans ha, b3, b4, b5, b1⟩
  intro t a i
  fun_induction pT c σ t a i with
  | case1 k a =>
    rintro ⟨h0, h1, hE, h2⟩ y g - -
    obtain ⟨e1, e2, e3, e4, e5⟩ := ct h1 (by omega) (by omega) hE rfl
    exact ⟨h0, e1, e5, by rw [e2]; exact h2⟩
  | case2 k a =>
    rintro ⟨h0, h1, h2, h3, h4⟩ y g - -
    obtain ⟨e1, e2, e3, e4, e5⟩ := ct h1 (by omega) (by omega) h2 rfl
    exact ⟨Nat.lt_of_lt_of_le h0 hnc, e1, e5, by rw [e3, hN k h0]; exact h3, by rw [e2]; exact h4⟩
  | case3 s a =>
    rintro ⟨h0, h1, h2, h3, h4⟩ y g - -
    obtain ⟨e1, e2, e3, e4, e5⟩ := ct h1 (by omega) (by omega) h2 rfl
    exact ⟨Nat.lt_of_lt_of_le h0 hns, e1, e5, by rw [e3]; exact h3, by rw [e2]; exact h4⟩
  | case4 d b a i1 i2 =>
    rintro ⟨h1, hE, x, y, h2, h3, h4, h5⟩ y' g ⟨g1, g2⟩ -
    obtain ⟨e1, e2, e3, e4, e5⟩ := ct h1 (by omega) (by omega) hE rfl
    exact ⟨e1, e5, x, y, by rw [e3]; exact h2, by rw [e3]; exact h3, i1 x h4 _ _ g1 (fun q => absurd rfl q), i2 y h5 _ _ g2 (fun q => absurd rfl q)⟩
  | case5 d b a i1 i2 =>
    rintro ⟨h1, hE, x, y, h2, h3, h4, h5⟩ y' g ⟨g1, g2⟩ -
    obtain ⟨e1, e2, e3, e4, e5⟩ := ct h1 (by omega) (by omega) hE rfl
    exact ⟨e1, e5, x, y, by rw [e3]; exact h2, by rw [e3]; exact h3, i1 x h4 _ _ g1 (fun q => absurd rfl q), i2 y h5 _ _ g2 (fun q => absurd rfl q)⟩
  | case6 f ps a i1 i2 =>
    rintro ⟨h1, hE, x, y, z, h2, h3, h4, hE2, h5, h6, hE3, h7, h8, h9, h10, h11⟩ y' g ⟨g1, g2, g3⟩ -
    obtain ⟨e1, e2, e3, e4, e5⟩ := ct h1 (by omega) (by omega) hE rfl
    have nD : ¬ (D y ∨ D z) := fun q => by
      obtain ⟨-, b, b1, b2⟩ := pT_get (c := c) (σ := σ) (ps := ps) ps 0 h11 0 (by omega)
      exact tmA_t (pT_tm b2) (hD y z b h4 h5 h6 q b1)
    obtain ⟨f0, f1, f2, f3, f4⟩ := h y (by rw [h4]; rfl) hE2 (fun q => nD (Or.inl q))
    obtain ⟨k0, k1, k2, k3, k4⟩ := h z (by rw [h6]; rfl) hE3 (fun q => nD (Or.inr q))
    exact ⟨e1, e5, x, y, z, by rw [e3]; exact h2, by rw [e3]; exact h3, f1.trans h4, f0, by rw [f3]; exact h5, k1.trans h6, k0, by rw [f2]; exact h7, h8, by rw [k4]; exact h9, i1 x h10 _ _ g1 (fun q => absurd rfl q), i2 z h11 _ _ g2 (fun _ q => nD (Or.inr q))⟩
  | case7 p d b a i1 i2 =>
    rintro ⟨h1, hE, h6, h7, x, y, h2, h3, h4, h5⟩ y' g hg -
    obtain ⟨e1, e2, e3, e4, e5⟩ := ct h1 (by omega) (by omega) hE rfl
    rw [gT_prod] at hg
    rw [pT_prod]
    exact ⟨e1, e5, by rw [e2]; exact h6, by rw [e2]; exact h7, x, y, by rw [e3]; exact h2, by rw [e3]; exact h3, i1 x h4 _ _ hg.1 (fun q => absurd rfl q), i2 y h5 _ _ hg.2 (fun q => absurd rfl q)⟩
  | case8 m t a i1 =>
    rintro ⟨h0, h1, hE, h2, x, h3, h4⟩ y' g hg -
    obtain ⟨e1, e2, e3, e4, e5⟩ := ct h1 (by omega) (by omega) hE rfl
    exact ⟨h0, e1, e5, by rw [e2]; exact h2, x, by rw [e3]; exact h3, i1 x h4 _ _ hg.2.2 (fun q => absurd rfl q)⟩
  | case9 t a i1 =>
    rintro ⟨h1, hE, x, h3, h4⟩ y' g hg -
    obtain ⟨e1, e2, e3, e4, e5⟩ := ct h1 (by omega) (by omega) hE rfl
    rw [pT_snk]
    rw [gT_snk] at hg
    exact ⟨e1, e5, x, by rw [e3]; exact h3, i1 x h4 _ _ hg.2 (fun q => absurd rfl q)⟩
  | case10 x xs z i i1 i2 =>
    rintro ⟨h1, hE, b, h2, h3, h4⟩ y' g ⟨g1, g2⟩ hi
    obtain ⟨k0, k1, k2, k3, k4⟩ := h z (by rw [h1]; rfl) hE (hi (by omega))
    exact ⟨k1.trans h1, k0, b, by rw [k3]; exact h2, i1 b h3 _ _ g1 (fun q => absurd rfl q), i2 h4 _ _ g2 (fun _ => hi (by omega))⟩
  | case11 => intros; trivial
  | case12 => intro q; exact q.elim
end PHB
