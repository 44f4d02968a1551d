/-! THE HOUSE OVER S, P (15): all statements of a text (2) -/
section PHR2
variable {G : GPl} {s0 : State} {l : Launch} {KK : Nat → Option Nat} {T : Nat → Nat} {lev : Nat} {Q : Outcome → GSt → Prop} {R : Nat → Nat} {σ τ υ st0 ρ σ0 : GSt} {X : SX} {J : JX} {K K' : KS} {w n s o z m a y tp lo kd pl lim sl zr u0 : Nat} {W I : Nat → Prop} {t : TX} {ns : List Nat} {ss : List ST} {Y : Nat → Nat} {I1 I2 : Nat → Nat → Prop} {c : PC} {L : Nat → Nat → Prop} {sc : SC} {x : Option Nat} {tb : HT} {cx : List CN} {N : Nat → Nat}
/-- the house's own cell is written -/
theorem JB.pv (h : JB R c nilL σ X J [] none) (hW : ∀ q, W q → gk σ q = 1 ∨ gk σ q = 102 ∨ (gk σ q = 101 ∧ q ≠ R 6 ∧ q ≠ R 7)) (kS : ∀ {sa : Nat} {bs : List Nat}, pS σ (R 5) sa bs → pS τ (R 5) sa bs) (hk : keep W σ τ) (hl : gle σ τ) : JB R c nilL τ X J [] none := by
  obtain ⟨⟨a1, a2, a3, a4⟩, ⟨b1, b2, b3⟩, ⟨d1, d2, d3, d4, d5, d6⟩, e1, e2, ⟨f1, f2, f3, z0, f4, f5, f6, f7, f8⟩, g1⟩ := h.1
  obtain ⟨i1, i2, i3, i4, i5, i6, i7⟩ := h.2.1
  obtain ⟨p1, p2, p3, p4⟩ := h.2.2.1
  have kp : ∀ q, gk σ q ≠ 0 → gk σ q ≠ 1 → gk σ q ≠ 102 → (gk σ q = 101 → q = R 6 ∨ q = R 7) → gk τ q = gk σ q ∧ (∀ j, gi τ q j = gi σ q j) ∧ (∀ j, gr τ q j = gr σ q j) ∧ gl τ q = gl σ q := fun q w1 w2 w2' w3 => hk q w1 (fun w => by
    rcases hW q w with v | v | v
    · exact w2 v
    · exact w2' v
    · rcases w3 v.1 with e | e
      · exact v.2.1 e
      · exact v.2.2 e)
  have mvT : ∀ {v : V} {b : Nat} {yy : Bool} {g : List Bool}, pT c σ v b 0 → gT v yy g → pT c τ v b 0 := fun {v b yy g} w1 w2 =>
    pT_dx (D := nil0) (fun _ _ _ _ _ _ q _ => by rcases q with q | q <;> exact q.elim) (fun _ q => q.elim) (fun q h1 h2 _ => ⟨h2, kp q (tmt_ne h1).1 (fun w => by rw [w] at h1; cases h1) (fun w => by rw [w] at h1; cases h1) (fun w => by rw [w] at h1; cases h1)⟩) (Nat.le_refl _) (Nat.le_refl _) (fun _ _ => rfl) v b 0 w1 yy g w2 (fun q => absurd rfl q)
  obtain ⟨r1, r2, r3, r4⟩ := kp (R 3) (by omega) (by omega) (by omega) (fun w => by omega)
  obtain ⟨t1, t2, t3, t4⟩ := kp (R 1) (by omega) (by omega) (by omega) (fun w => by omega)
  obtain ⟨u1, u2, u3, u4⟩ := kp (R 6) (by omega) (by omega) (by omega) (fun _ => Or.inl rfl)
  obtain ⟨v1, v2, v3, v4⟩ := kp (R 7) (by omega) (by omega) (by omega) (fun _ => Or.inr rfl)
  obtain ⟨w1, w2, w3, w4⟩ := kp (R 8) (by omega) (by omega) (by omega) (fun w => by omega)
  obtain ⟨x1, x2, x3, x4⟩ := kp (R 9) (by omega) (by omega) (by omega) (fun w => by omega)
  obtain ⟨y1, y2, y3, y4⟩ := kp z0 (by omega) (by omega) (by omega) (fun w => by omega)
  refine ⟨⟨⟨r1.trans a1, by rw [r3]; exact a2, by rw [r3]; exact a3, by rw [r3]; exact a4⟩, ⟨by rw [t3]; exact b1, by rw [t3]; exact b2, by rw [t2]; exact b3⟩, ⟨u1.trans d1, by rw [u4]; exact d2, v1.trans d3, by rw [v4]; exact d4, d5, d6⟩, fun k hk => by rw [u2]; exact e1 k hk, fun a b ha hb => by rw [v2]; exact e2 a b ha hb, ⟨x1.trans f1, f2, by rw [x2]; exact f3, z0, by rw [x3]; exact f4, y1.trans f5, f6, by rw [y4]; exact f7, fun k hk => by rw [y3]; exact f8 k hk⟩, fun k hk => ?_⟩, ⟨fun k hk => ?_, t1.trans i2, by rw [t3]; exact i3, w1.trans i4, by rw [w4]; exact i5, i6, fun i hi => ?_⟩, ⟨fun k hk => ?_, p2, p3, p4⟩, trivial, ⟨fun _ _ z => z.elim, fun _ _ _ z => z.elim, fun _ _ _ z => z.elim⟩, fun q hq => ?_⟩
  · obtain ⟨q1, q2, q3, q4, q5, b, q6, q7⟩ := g1 k hk
    obtain ⟨o1, o2, o3, o4⟩ := kp (c.N k) (by omega) (by omega) (by omega) (fun w => by omega)
    exact ⟨o1.trans q1, by rw [o2]; exact q2, q3, q4, q5, b, by rw [o3]; exact q6, mvT q7 q5⟩
  · obtain ⟨q1, b, q6, q7⟩ := i1 k hk
    obtain ⟨o1, o2, o3, o4⟩ := kp (c.N k) (by omega) (by omega) (by omega) (fun w => by omega)
    exact ⟨o1.trans q1, b, by rw [o3]; exact q6, kS q7⟩
  · obtain ⟨b, q6, q7⟩ := i7 i hi
    exact ⟨b, by rw [w3]; exact q6, kS q7⟩
  · obtain ⟨q1, q2, q3⟩ := p1 k hk
    obtain ⟨o1, o2, o3, o4⟩ := kp (c.N k) (by omega) (by omega) (by omega) (fun w => by omega)
    refine ⟨o1.trans q1, fun q => by rw [o3]; exact q2 q, fun t q => ?_⟩
    obtain ⟨q4, b, q5, q6⟩ := q3 t q
    exact ⟨q4, b, by rw [o3]; exact q5, mvT q6 q4⟩
  · have h3 := h.2.2.2.2.2 q hq
    rw [hl.2 q (tmt_ne h3).1]
    exact h3
theorem JB.pw (h : JB R c nilL σ X J [] none) (hW : ∀ q, W q → gk σ q = 1 ∨ (gk σ q = 101 ∧ q ≠ R 6 ∧ q ≠ R 7)) (hk : keep W σ τ) (hl : gle σ τ) : JB R c nilL τ X J [] none :=
  h.pv (fun q hq => (hW q hq).imp id Or.inr) (fun w1 => w1.kpW hk (fun q w => by rcases hW q w with v | v <;> exact ⟨by omega, fun w => by omega⟩)) hk hl
theorem JB.p0 (h : JB R c nilL σ X J [] none) (h0 : gk σ a = 1) (hk : keep (fun q => q = a) σ τ) (hl : gle σ τ) : JB R c nilL τ X J [] none := h.pw (fun q hq => Or.inl (by rw [hq]; exact h0)) hk hl
theorem CxR.p0 {nc : Nat} (h : CxR KK R σ nc) (h0 : gk σ a = 1) (h9 : gk σ (R 9) = 22) (hk : keep (fun q => q = a) σ τ) : CxR KK R τ nc := by
  obtain ⟨z, c1, c2, c3, c4⟩ := h
  obtain ⟨e1, e2, e3, e4⟩ := hk (R 9) (by omega) (fun w => by rw [w] at h9; omega)
  obtain ⟨g1, g2, g3, g4⟩ := hk z (by omega) (fun w => by rw [w] at c2; omega)
  exact ⟨z, by rw [e3]; exact c1, g1.trans c2, fun q => by rw [g3]; exact c3 q, by rw [g4]; exact c4⟩
/-- statements to come, their list -/
def TR (KK : Nat → Option Nat) (R : Nat → Nat) (t : TX) (ss : List ST) (Y : Nat → Nat) (I1 I2 : Nat → Nat → Prop) (sl zr lo k : Nat) (σ : GSt) : Prop :=
  (∀ (i : Nat) (st : ST), k ≤ i → ss[i]? = some st → pS1 KK R t lo σ (Y i) st.1 st.2.1 st.2.2.1 ∧ pOp R t σ (gr σ (Y i) 4) st.2.2.2.1 (I1 i) ∧ pOp R t σ (gr σ (Y i) 5) st.2.2.2.2 (I2 i) ∧ (∀ q, I2 i q → ¬ I1 i q)) ∧
  (gk σ sl = 22 ∧ gr σ sl 1 = some zr ∧ gk σ zr = 103 ∧ gi σ sl 2 = iI (ss.length : Int) ∧ ss.length ≤ gl σ zr ∧ (∀ i, i < ss.length → gr σ zr i = some (Y i)))
/-- the house in the midst of a text: k statements are done -/
def TL (G : GPl) (KK : Nat → Option Nat) (T : Nat → Nat) (R : Nat → Nat) (t : TX) (ss : List ST) (Y : Nat → Nat) (I1 I2 : Nat → Nat → Prop) (sl zr lo : Nat) (σ0 : GSt) (lim k : Nat) (tb : HT) (cx : List CN) (N : Nat → Nat) (K : KS) (w z n s o u0 : Nat) (σ : GSt) : Prop :=
  (hcl R σ ∧ gi σ (R 0) 4 = iI (k : Int) ∧ gi σ (R 0) 2 = iI 0 ∧ gi σ (R 0) 3 = iI (-1)) ∧ (pS σ (R 5) (T 0) [121, 101, 115] ∧ pS σ (R 5) (T 1) [110, 111]) ∧
  JB R (inE ss.length I1 I2 k, N, cx.length, tb.1.length) nilL σ (hX lim tb cx) (hJ t tb cx) [] none ∧ CxR KK R σ cx.length ∧
  TR KK R t ss Y I1 I2 sl zr lo k σ ∧ (0 < ss.length → gr σ (R 9) 1 ≠ some zr) ∧
  hfr R σ0 σ ∧ (∀ j, j < cx.length → sw (cAt cx j).ty ≤ z) ∧ OB K (o + 60 * (ss.length - k)) ∧ MB G R σ (hX lim tb cx) K w (n + fC (ssZ (ss.drop k) + u0) z) (s + fS (ssZ (ss.drop k) + u0) z) ∧ 15 * z + (ssZ (ss.drop k) + u0) ≤ 2600
/-- what does not change meanwhile -/
def TS (R : Nat → Nat) (ss : List ST) (I1 I2 : Nat → Nat → Prop) (sl zr lo : Nat) (σ0 : GSt) : Prop :=
  (∀ i, i < ss.length → ∀ q, I1 i q ∨ I2 i q → gk σ0 q = 0 ∧ q ≠ sl ∧ q ≠ zr) ∧ (∀ i j, i < j → j < ss.length → ∀ q, I1 j q ∨ I2 j q → ¬ (I1 i q ∨ I2 i q)) ∧ gk σ0 sl = 0 ∧ (0 < ss.length → gk σ0 zr = 0) ∧ gk σ0 (R 9) = 22 ∧ gk σ0 (R 0) = 1 ∧ ss.length ≤ 4000 ∧ (∀ q, q = R 4 ∨ q = R 6 ∨ q = R 7 ∨ q = R 8 → q < lo) ∧ ∀ st ∈ ss, stGd st
/-- how a text ends -/
def TE (G : GPl) (KK : Nat → Option Nat) (T : Nat → Nat) (R : Nat → Nat) (t : TX) (σ0 : GSt) (lim : Nat) (r : HT × List CN × KS × Nat × Option (Nat × Int)) (n s u0 : Nat) (τ : GSt) : Prop := ∃ N z w,
  (hcl R τ ∧ gi τ (R 0) 4 = iI (r.2.2.2.1 : Int) ∧ gi τ (R 0) 2 = iI (match r.2.2.2.2 with | none => 0 | some e => (e.1 : Int)) ∧ gi τ (R 0) 3 = iI (match r.2.2.2.2 with | none => -1 | some e => e.2)) ∧
  JB R ((fun _ => False), N, r.2.1.length, r.1.1.length) nilL τ (hX lim r.1 r.2.1) (hJ t r.1 r.2.1) [] none ∧ CxR KK R τ r.2.1.length ∧ hfr R σ0 τ ∧ (∀ j, j < r.2.1.length → sw (cAt r.2.1 j).ty ≤ z) ∧ MB G R τ (hX lim r.1 r.2.1) r.2.2.1 w (n + fC u0 z) (s + fS u0 z) ∧ 15 * z + u0 ≤ 2600
end PHR2
