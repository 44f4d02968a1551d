/-! P OVER S (42): reading: uses -/
/-- a use that is being read: j parts stand in the row z -/
def pU (bl : Nat) (σ : GSt) (u al z j cap : Nat) : Prop := gk σ u = 13 ∧ gr σ u 3 = some al ∧ gk σ al = 22 ∧ gr σ al 1 = some z ∧ gk σ z = 103 ∧ gl σ z = cap ∧ gi σ al 2 = iI (j : Int) ∧ j ≤ cap ∧ 2 ≤ cap ∧ 2 * cap ≤ 3 * j + 4 ∧ al ≠ bl ∧ gr σ bl 1 ≠ some z ∧ ∀ i, i < j → ∃ b, gr σ z i = some b ∧ 8 ≤ gk σ b ∧ gk σ b ≤ 13
def uF (a bl al z : Nat) (σ τ : GSt) : Prop := keep (fun q => rW a bl σ q ∨ q = al ∨ q = z) σ τ ∧ (∀ q, gr τ bl 1 = some q → gr σ bl 1 = some q ∨ gk σ q = 0) ∧ gle σ τ
def CU (G : GPl) (s0 : State) (l : Launch) (KK : Nat → Option Nat) (T : Nat → Nat) (R : Nat → Nat) (X : SX) (K : KS) (w : Nat) (t : TX) (a tp bl sl lev d : Nat) (bs : List (Option Nat)) (u al : Nat) (x1 : Int32) (Q : Outcome → GSt → Prop) (m : Nat) (C : TK → Prop) (J : GSt → Prop) : Prop :=
  ∀ (k : TK) (n s S : Nat) (σ : GSt) (j z cap : Nat), C k → t.2 - k.pl ≤ m → j + (t.2 - k.pl) ≤ 4000 → RS G KK T R X K w t a tp bl sl bs (40 - (d : Int)) k n S σ → pU bl σ u al z j cap → s + 12 * j + 8 ≤ S + 4 * cap →
    (∀ τ ps k' z' I, rParts t (rTerm t d) bs m k = .ok (ps, k') → RS G KK T R X K w t a tp bl sl bs (40 - (d : Int)) k' n s τ → uF a bl al z σ τ → gr τ al 1 = some z' → gk τ z' = 103 → gi τ al 2 = iI ((j + vlen ps : Nat) : Int) → j + vlen ps ≤ gl τ z' → j + vlen ps ≤ 4000 → (z' = z ∨ gn σ ≤ z') → gr τ bl 1 ≠ some z' → (∀ i, i < j → gr τ z' i = gr σ z i) → rT R (tname t) τ ps z' (j + 1) I → oI bl σ τ I → (∀ q, I q → q ≠ z') → k.pl ≤ k'.pl → Q (.returned (some (va_rf (some u)))) (gpi u 1 x1 (gpi u 0 x1 τ))) →
    (∀ x τ (e : Nat) p, rParts t (rTerm t d) bs m k = .error (e, p) → flt τ x (e : Int) p → uF a bl al z σ τ → MB G R τ X K w n s → Q (.threw x) τ) → J σ
section PRU
variable {G : GPl} {s0 : State} {l : Launch} {KK : Nat → Option Nat} {T : Nat → Nat} {lev d : Nat} {Q : Outcome → GSt → Prop} {R : Nat → Nat} {σ τ υ st0 : GSt} {X : SX} {K : KS} {w n s n' s' o a tp bl sl u al z z2 : Nat} {W I I1 I2 : Nat → Prop} {t : TX} {bs : List (Option Nat)} {m : Int} {k : TK} {TN : Nat → List Nat} {x1 : Int32} {x2 : Option Nat}
theorem rF.U (h : rF a bl σ τ) : uF a bl al z σ τ := ⟨h.1.wk (fun _ q => Or.inl q), h.2⟩
theorem uF.tr (h : uF a bl al z σ τ) (k : uF a bl al z2 τ υ) (hz : z2 = z ∨ gk σ z2 = 0) : uF a bl al z σ υ := by
  refine ⟨h.1.tr k.1 (fun q hq hw => ?_), fun q hq => ?_, h.2.2.tr k.2.2⟩
  · apply Classical.byContradiction
    intro hn
    obtain ⟨y1, y2, y3, y4⟩ := h.1 q hq hn
    rcases hw with (hw | hw | ⟨h1, h2⟩) | hw | hw
    · exact hn (Or.inl (Or.inl hw))
    · exact hn (Or.inl (Or.inr (Or.inl hw)))
    · rcases h.2.1 q h1 with h3 | h3
      · exact hn (Or.inl (Or.inr (Or.inr ⟨h3, by omega⟩)))
      · exact hq h3
    · exact hn (Or.inr (Or.inl hw))
    · rcases hz with hz | hz
      · exact hn (Or.inr (Or.inr (hw.trans hz)))
      · rw [← hw] at hz; exact hq hz
  · rcases k.2.1 q hq with h1 | h1
    · exact h.2.1 q h1
    · right
      apply Classical.byContradiction
      intro hn
      exact hn ((h.2.2.2 q hn).symm.trans h1)
/-- one part more -/
theorem c_u44 {m : Nat} (iha : CRa G s0 l KK T R X K w t a tp bl sl lev d) (hl : 7 ≤ lev) (hd : bs.length + d ≤ 40) (ih : CU G s0 l KK T R X K w t a tp bl sl lev d bs u al x1 Q m (fun _ => True) (fun σ => jX6_use_12 G s0 l KK T lev st0 Q a x1 x2 (some u) σ)) :
    CU G s0 l KK T R X K w t a tp bl sl lev d bs u al x1 Q (m + 1) (fun k => k.ki = 0 ∨ isSg k 40 = true) (fun σ => jX6_use_44 G s0 l KK T lev st0 Q a x1 x2 (some u) σ) := by
  intro k n s S σ j z cap hc hm hj h hU hS ok er
  obtain ⟨p1, p2, p3, p4, p5, p6, p7, p8, p9, p10, p11, p12, p13⟩ := hU
  have eP : rParts t (rTerm t d) bs (m + 1) k = rBind (rAtom t (rTerm t d) bs k) fun p k1 => rBind (rParts t (rTerm t d) bs m k1) fun ps k2 => .ok (.append p ps, k2) := by rw [rParts, if_pos hc]
  refine tX6_use_44 ⟨u, rfl, p1, h.1.1, iha bs k n S σ _ h hd (fun τ1 y v k1 I1 e1 e2 e3 e4 e5 e6 e7 => fun _ => ⟨al, p2, ?_⟩) (fun x τ1 e p e1 e2 e3 e4 => fun _ => er x τ1 e p (by rw [eP, e1]; rfl) e2 e3.U (e4.le (by omega) (by omega)))⟩
  -- the list is as it was
  have hB := h.2.2.2.2.1
  have nW : ∀ q, gk σ q = 13 ∨ (gk σ q = 22 ∧ q ≠ bl) ∨ (gk σ q = 103 ∧ gr σ bl 1 ≠ some q) → ¬ rW a bl σ q := fun q hq hw => by
    rcases hw with hw | hw | hw
    · have := h.1.1; rw [hw] at hq; omega
    · have := hB.1; rw [← hw] at this
      rcases hq with hq | hq | hq
      · omega
      · exact hq.2 hw
      · omega
    · obtain ⟨-, -, z', b1, b2, -⟩ := hB
      rw [hw.1] at b1; cases b1
      rcases hq with hq | hq | hq
      · omega
      · omega
      · exact hq.2 hw.1
  obtain ⟨a1, a2, a3, a4⟩ := e3.1 al (by omega) (nW al (Or.inr (Or.inl ⟨p3, p11⟩)))
  obtain ⟨b1, b2, b3, b4⟩ := e3.1 z (by omega) (nW z (Or.inr (Or.inr ⟨p5, p12⟩)))
  obtain ⟨c1, c2, c3, c4⟩ := e3.1 u (by omega) (nW u (Or.inl p1))
  have q3 : gk τ1 al = 22 := a1.trans p3
  have q5 : gk τ1 z = 103 := b1.trans p5
  have q12 : gr τ1 bl 1 ≠ some z := fun q => by
    rcases e3.2.1 z q with q | q
    · exact p12 q
    · omega
  have hz1 := e2.z
  have hty := rT_tm v y 0 I1 e4 rfl
  have so : stOK τ1 (some y) "java/lang/Object" := by
    rcases hty.2.2 with q | q | q | q | q | q
    · exact stO (t := 7) q (by decide)
    · exact stO (t := 8) q (by decide)
    · exact stO (t := 9) q (by decide)
    · exact stO (t := 10) q (by decide)
    · exact stO (t := 11) q (by decide)
    · exact stO (t := 12) q (by decide)
  have hB1 := e2.2.2.2.2.1
  have hM1 := e2.2.2.2.2.2.1
  refine ⟨q3, c_add (k := j) (cap := cap) (by omega) hz1 (hM1.2.1.h0 hz1) q3 ((a3 1).trans p4) q5 (b4.trans p6) ((a2 2).trans p7) p8 p9 (by omega) so (fun i hi => ?_) (fun q => ⟨by have := hM1.2.2.2.1; omega, by have := hM1.2.2.2.2; omega⟩) (fun τ2 z' f1 f2 f3 f4 f5 f6 f7 f8 f9 => fun hle => ?_)⟩
  · obtain ⟨b, g1, g2, g3⟩ := p13 i hi
    rw [b3, g1]
    have gb : gk τ1 b = gk σ b := e3.2.2.2 b (by omega)
    have : gk σ b = 8 ∨ gk σ b = 9 ∨ gk σ b = 10 ∨ gk σ b = 11 ∨ gk σ b = 12 ∨ gk σ b = 13 := by omega
    rcases this with q | q | q | q | q | q
    · exact stO (t := 7) (gb.trans q) (by decide)
    · exact stO (t := 8) (gb.trans q) (by decide)
    · exact stO (t := 9) (gb.trans q) (by decide)
    · exact stO (t := 10) (gb.trans q) (by decide)
    · exact stO (t := 11) (gb.trans q) (by decide)
    · exact stO (t := 12) (gb.trans q) (by decide)
  have nb1 : gr τ1 bl 1 ≠ some al := fun q => by
    obtain ⟨-, -, z', w1, w2, -⟩ := hB1
    rw [q] at w1; cases w1; omega
  have zb : z ≠ bl := fun q => by rw [q] at q5; have := hB1.1; omega
  have hW2 : ∀ q, (q = al ∨ q = z) → gk τ1 q ≠ 5 ∧ gk τ1 q ≠ 23 ∧ gk τ1 q ≠ 102 ∧ q ≠ bl ∧ gr τ1 bl 1 ≠ some q := fun q hq => by
    rcases hq with rfl | rfl
    · exact ⟨by omega, by omega, by omega, p11, nb1⟩
    · exact ⟨by omega, by omega, by omega, zb, q12⟩
  have nM : ∀ q, isM R q → ¬ (q = al ∨ q = z) := fun q hq w => by
    obtain ⟨⟨m1, m2, m3⟩, -⟩ := hM1.2.1
    have : gk τ1 q = 22 ∨ gk τ1 q = 103 := by rcases w with rfl | rfl <;> omega
    rcases hq with rfl | rfl | rfl <;> omega
  obtain ⟨v1, v2, v3, v4⟩ := f1 bl (by rw [hB1.1]; omega) (fun q => by rcases q with q | q; exact p11 q.symm; exact zb q.symm)
  obtain ⟨w1, w2, w3, w4⟩ := f1 u (by rw [c1]; omega) (fun q => by rcases q with q | q; rw [q] at c1 p1; omega; rw [q] at c1 p1; omega)
  have z2b : gr τ2 bl 1 ≠ some z' := fun q => by
    rw [v3] at q
    rcases f9 with f9 | f9
    · rw [f9.2.1] at q; exact q12 q
    · rw [f9.2.1] at q
      obtain ⟨-, -, z'', x1, x2, -⟩ := hB1
      rw [q] at x1; cases x1
      have := hz1.at; omega
  have hzz0 : z' = z ∨ gn σ ≤ z' := by
    rcases f9 with f9 | f9
    · exact Or.inl f9.2.1
    · right
      rw [f9.2.1]
      exact e3.2.2.1.1
  have hzz : z' = z ∨ gk σ z' = 0 := hzz0.imp id (h.z _)
  -- room
  obtain ⟨S2, r1, r2⟩ : ∃ S2, RS G KK T R X K w t a tp bl sl bs (40 - (d : Int)) k1 n S2 τ2 ∧ s + 12 * (j + 1) + 8 ≤ S2 + 4 * gl τ2 z' := by
    rcases f9 with ⟨g1, g2, g3, g4, g5⟩ | ⟨g1, g2, g3, g4, g5⟩
    · refine ⟨S + 84, e2.fr f1 hW2 ⟨f2, hM1.2.1.kp f1 nM, hM1.2.2.1, ⟨by have := hM1.2.2.2.1; omega, by have := hM1.2.2.2.2; omega⟩⟩, by omega⟩
    · refine ⟨S + 84 - (cap + cap / 2), e2.fr f1 hW2 ⟨f2, hM1.2.1.kp f1 nM, hM1.2.2.1, ⟨by have := hM1.2.2.2.1; omega, by have := hM1.2.2.2.2; omega⟩⟩, by omega⟩
  have kU : keep (fun q => rW a bl τ1 q ∨ q = al ∨ q = z) τ1 τ2 := f1.wk (fun _ q => Or.inr q)
  have F2 : uF a bl al z σ τ2 := (rF.U e3).tr (z2 := z) ⟨kU, fun q hq => by rw [v3] at hq; exact Or.inl hq, hle⟩ (Or.inl rfl)
  have hk1t : k1.pl ≤ t.2 := e2.2.2.2.2.2.2.1.1
  refine ih k1 n s S2 τ2 (j + 1) z' (gl τ2 z') trivial (by omega) (by omega) r1 ⟨w1.trans (c1.trans p1), (w3 3).trans ((c3 3).trans p2), f3, f4, f5, rfl, f6, by omega, by omega, by omega, p11, z2b, fun i hi => ?_⟩ r2 (fun τ ps k' zf I g1 g2 g3 g4 g5 g6 g7 g8 g9 g10 g11 g12 g13 g14 g15 => ?_) (fun x τ e p g1 g2 g3 g4 => er x τ e p (by rw [eP, e1]; show rBind (rParts t (rTerm t d) bs m k1) _ = _; rw [g1]; rfl) g2 (F2.tr g3 hzz) g4)
  · by_cases hij : i = j
    · subst hij
      exact ⟨y, f8, by rw [hle.2 y (by omega)]; omega, by rw [hle.2 y (by omega)]; omega⟩
    · obtain ⟨b, g1, g2, g3⟩ := p13 i (by omega)
      have gb : gk τ1 b = gk σ b := e3.2.2.2 b (by omega)
      exact ⟨b, by rw [f7 i (by omega), b3]; exact g1, by rw [hle.2 b (by omega), gb]; exact g2, by rw [hle.2 b (by omega), gb]; exact g3⟩
  · -- the part that was read is as it was
    have la1 := h.la
    have lb1 := h.lb
    have lal : al < gn σ := h.z.lt (by omega)
    have lz : z < gn σ := h.z.lt (by omega)
    have no1 : ∀ q, I1 q → ¬ (q = al ∨ q = z) := fun q hq w => by
      have := (e5 q hq).1
      rcases w with w | w <;> omega
    have r4 : rT R (tname t) τ2 v y 0 I1 := rT_keep f1 (fun q hq => by have := hW2 q hq; exact ⟨this.2.1, fun z => absurd z this.2.2.1⟩) v y 0 I1 e4 no1 (fun z => absurd rfl z)
    have o4 : oI bl σ τ2 I1 := fun q hq => by
      obtain ⟨h1, h2, h3, h4⟩ := e5 q hq
      exact ⟨h1, Nat.lt_of_lt_of_le h2 hle.1.1, by rw [hle.2 q (tmt_ne h3).1]; exact h3, by rw [v3]; exact h4⟩
    have nz' : ∀ q, I1 q → q ≠ z' := fun q hq w => by
      rcases f9 with f9 | f9
      · rw [f9.2.1] at w; exact no1 q hq (Or.inr w)
      · rw [f9.2.1] at w; have := (e5 q hq).2.1; omega
    have no2 : ∀ q, I1 q → ¬ (rW a bl τ2 q ∨ q = al ∨ q = z') := fun q hq w => by
      obtain ⟨h1, h2, h3, h4⟩ := o4 q hq
      rcases w with (w | w | w) | w | w
      · omega
      · omega
      · exact h4 w.1
      · omega
      · exact nz' q hq w
    have tg2 : ∀ q, (rW a bl τ2 q ∨ q = al ∨ q = z') → gk τ2 q ≠ 23 ∧ (gk τ2 q = 102 → q = R 5) := fun q w => by
      rcases w with w | w | w
      · exact r1.S q w
      · rw [w]; omega
      · rw [w]; omega
    have r5 : rT R (tname t) τ v y 0 I1 := rT_keep g3.1 tg2 v y 0 I1 r4 no2 (fun z => absurd rfl z)
    have o5 : ∀ q, I1 q → gn σ ≤ q ∧ q < gn τ ∧ tmt (gk τ q) = true ∧ gr τ bl 1 ≠ some q ∧ q ≠ zf ∧ gk τ2 q ≠ 0 := fun q hq => by
      obtain ⟨h1, h2, h3, h4⟩ := o4 q hq
      have h0 := (tmt_ne h3).1
      refine ⟨h1, Nat.lt_of_lt_of_le h2 g3.2.2.1.1, by rw [g3.2.2.2 q h0]; exact h3, fun z => ?_, fun z => ?_, h0⟩
      · rcases g3.2.1 q z with z | z
        · exact h4 z
        · exact h0 z
      · rcases g9 with g9 | g9
        · exact nz' q hq (z.trans g9)
        · omega
    have lo2 : gn σ ≤ gn τ2 := F2.2.2.1.1
    have hbj : gr τ zf j = some y := by rw [g11 j (by omega)]; exact f8
    refine ok τ (.append v ps) k' zf (fun q => I1 q ∨ I q) (by rw [eP, e1]; show rBind (rParts t (rTerm t d) bs m k1) _ = _; rw [g1]; rfl) g2 (F2.tr g3 hzz) g4 g5 ?_ ?_ ?_ ?_ g10 (fun i hi => ?_) ⟨y, I1, I, hbj, fun q hq => Or.inl hq, fun q hq => ⟨Or.inr hq, fun w => ?_⟩, r5, g12⟩ (fun q hq => ?_) (fun q hq => ?_) (by omega)
    · rw [g6]; show _ = iI ((j + (vlen ps + 1) : Nat) : Int); congr 2; omega
    · show j + (vlen ps + 1) ≤ _; omega
    · show j + (vlen ps + 1) ≤ _; omega
    · rcases g9 with g9 | g9
      · rw [g9]; exact hzz0
      · right; omega
    · rw [g11 i (by omega), f7 i hi, b3]
    · have h1 := (o4 q w).2.1
      have h2 := (g13 q hq).1
      omega
    · rcases hq with hq | hq
      · exact ⟨(o5 q hq).1, (o5 q hq).2.1, (o5 q hq).2.2.1, (o5 q hq).2.2.2.1⟩
      · obtain ⟨h1, h2⟩ := g13 q hq
        exact ⟨by omega, h2⟩
    · rcases hq with hq | hq
      · exact (o5 q hq).2.2.2.2.1
      · exact g14 q hq
theorem rParts_no {m : Nat} (hc : ¬ (k.ki = 0 ∨ isSg k 40 = true)) : rParts t (rTerm t d) bs m k = .ok (.nil, k) := by
  cases m with
  | zero => rfl
  | succ m => rw [rParts, if_neg hc]
/-- the parts -/
theorem c_u12 (iha : CRa G s0 l KK T R X K w t a tp bl sl lev d) (hK : KI KK) (hl : 7 ≤ lev) (hd : bs.length + d ≤ 40) : ∀ m, CU G s0 l KK T R X K w t a tp bl sl lev d bs u al x1 Q m (fun _ => True) (fun σ => jX6_use_12 G s0 l KK T lev st0 Q a x1 x2 (some u) σ) := by
  intro m
  induction m with
  | zero =>
    intro k n s S σ j z cap hc hm hj h hU hS ok er
    have hpl := h.2.2.2.2.2.2.1
    have hk : ¬ k.ki ≤ 2 := fun w => by have := hpl.2 w; omega
    have hcc : ¬ (k.ki = 0 ∨ isSg k 40 = true) := by
      rintro (q | q)
      · omega
      · unfold isSg at q
        simp only [Bool.and_eq_true, beq_iff_eq] at q
        omega
    have h40 : isSg k 40 = false := Bool.eq_false_iff.mpr (fun q => hcc (Or.inr q))
    have hU' := hU
    obtain ⟨p1, p2, p3, p4, p5, p6, p7, p8, p9, p10, p11, p12, p13⟩ := hU
    refine tX6_use_12 ⟨h.1.1, fun q => ?_, fun _ => c_isSg (x := 40) (by omega) hK h (by omega) (fun _ => ?_)⟩
    · rw [h.2.2.1.2.1] at q
      exact absurd (hK _ _ h.2.2.1.2.2.2.2.2.1 (by omega) q) (by omega)
    · rw [h40]
      refine ⟨fun _ => ⟨fun q => (by cases q), fun a4 ha => ?_⟩, fun q => absurd rfl q⟩
      cases ha
      refine ⟨p1, ok σ .nil k z (fun _ => False) rfl (h.le (Nat.le_refl _) (by omega)) rF.rf.U p4 p5 (by rw [p7]; rfl) (by show j + 0 ≤ _; omega) (by show j + 0 ≤ _; omega) (Or.inl rfl) p12 (fun _ _ => rfl) trivial (fun q hq => hq.elim) (fun q hq => hq.elim) (Nat.le_refl _)⟩
  | succ m ih =>
    intro k n s S σ j z cap hc hm hj h hU hS ok er
    have hU' := hU
    obtain ⟨p1, p2, p3, p4, p5, p6, p7, p8, p9, p10, p11, p12, p13⟩ := hU
    have go : (k.ki = 0 ∨ isSg k 40 = true) → jX6_use_31 G s0 l KK T lev st0 Q a x1 x2 (some u) σ := fun hcc =>
      tX6_use_31 ⟨fun q => (by cases q), fun a1 _ => c_u44 iha hl hd ih k n s S σ j z cap hcc hm hj h hU' hS ok er⟩
    refine tX6_use_12 ⟨h.1.1, fun q => ?_, fun q => c_isSg (x := 40) (by omega) hK h (by omega) (fun _ => ?_)⟩
    · rw [h.2.2.1.2.1] at q
      exact go (Or.inl (hK _ _ h.2.2.1.2.2.2.2.2.1 (by omega) q))
    · cases h40 : isSg k 40 with
      | true => exact ⟨fun q => absurd q (by decide), fun _ => go (Or.inr h40)⟩
      | false =>
        have hcc : ¬ (k.ki = 0 ∨ isSg k 40 = true) := by
          rintro (w | w)
          · exact q (by rw [h.2.2.1.2.1, w])
          · rw [h40] at w; cases w
        refine ⟨fun _ => ⟨fun q => (by cases q), fun a4 ha => ?_⟩, fun q => absurd rfl q⟩
        cases ha
        refine ⟨p1, ok σ .nil k z (fun _ => False) (rParts_no hcc) (h.le (Nat.le_refl _) (by omega)) rF.rf.U p4 p5 (by rw [p7]; rfl) (by show j + 0 ≤ _; omega) (by show j + 0 ≤ _; omega) (Or.inl rfl) p12 (fun _ _ => rfl) trivial (fun q hq => hq.elim) (fun q hq => hq.elim) (Nat.le_refl _)⟩
end PRU
