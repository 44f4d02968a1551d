/-! P OVER S (51): reading: statement after statement -/
def LPr (KK : Nat → Option Nat) (R : Nat → Nat) (t : TX) (a bl sl lo : Nat) (σ0 σ : GSt) (ss : List ST) (Y : Nat → Nat) (I1 I2 : Nat → Nat → Prop) (z cap : Nat) : Prop :=
  nFr bl σ0 σ ∧ lo ≤ gn σ ∧ pLs KK σ sl z ss.length cap ∧ (0 < cap → gr σ bl 1 ≠ some z ∧ gk σ0 z = 0) ∧ pSs KK R t lo σ ss Y I1 I2 ∧ (∀ i, i < ss.length → gr σ z i = some (Y i)) ∧ noI ss.length I1 I2 z ∧ (∀ q, gr σ bl 1 = some q → noI ss.length I1 I2 q) ∧ (sl ≠ bl ∧ sl < lo ∧ bl < lo ∧ a < lo ∧ gk σ0 a = 0 ∧ gk σ0 bl = 0 ∧ gk σ0 sl = 0)
section PRX2
variable {G : GPl} {s0 : State} {l : Launch} {KK : Nat → Option Nat} {T : Nat → Nat} {lev d : Nat} {Q : Outcome → GSt → Prop} {R : Nat → Nat} {σ τ υ st0 σ0 : GSt} {X : SX} {K : KS} {w n s n' s' o a tp bl sl y kd pl lo z cap : Nat} {W I : Nat → Prop} {t : TX} {bs : List (Option Nat)} {m m' : Int} {k k' : TK} {ns : List Nat} {ty tm : Option V} {ss : List ST} {Y : Nat → Nat} {I1 I2 : Nat → Nat → Prop}
theorem LPr.go (h : LPr KK R t a bl sl lo σ0 σ ss Y I1 I2 z cap) (hR : RS G KK T R X K w t a tp bl sl bs m k n s σ) (hF : rF a bl σ τ) : LPr KK R t a bl sl lo σ0 τ ss Y I1 I2 z cap := by
  obtain ⟨h1, h2, h3, h4, h5, h6, h7, h8, h9⟩ := h
  obtain ⟨n1, n2, n3, n4, n5, n6, n7⟩ := h9
  obtain ⟨p1, p2, p3, p4, p5, p6, p7, p8⟩ := h3
  have hB := hR.2.2.2.2.1
  have nsl : ¬ rW a bl σ sl := fun w => by
    rcases w with w | w | w
    · rw [w] at p1; have := hR.1.1; omega
    · exact n1 w
    · obtain ⟨-, -, z', y1, y2, -⟩ := hB
      rw [w.1] at y1; cases y1; omega
  have nz : ¬ rW a bl σ z := fun w => by
    rcases w with w | w | w
    · rw [w] at p3; have := hR.1.1; omega
    · rw [w] at p3; have := hB.1; omega
    · exact (h4 (by omega)).1 w.1
  obtain ⟨a1, a2, a3, a4⟩ := hF.1 sl (by omega) nsl
  obtain ⟨b1, b2, b3, b4⟩ := hF.1 z (by omega) nz
  refine ⟨h1.go hR hF n5 n6, Nat.le_trans h2 hF.2.2.1.1, ⟨a1.trans p1, (a3 1).trans p2, b1.trans p3, b4.trans p4, (a2 2).trans p5, p6, p7, p8⟩, fun hc => ⟨fun w => ?_, (h4 hc).2⟩, h5.kp hF.1 (rW_tg hR) hF.2.2 (fun q w => ?_), fun i hi => by rw [b3]; exact h6 i hi, h7, fun q hq => ?_, n1, n2, n3, n4, n5, n6, n7⟩
  · rcases hF.2.1 z w with w | w
    · exact (h4 hc).1 w
    · omega
  · rcases w with w | w | w
    · exact fun i hi hq => by have := (h5.2.1 i hi q hq).1; omega
    · exact fun i hi hq => by have := (h5.2.1 i hi q hq).1; omega
    · exact h8 q w.1
  · rcases hF.2.1 q hq with w | w
    · exact h8 q w
    · exact fun i hi hh => (tmt_ne (h5.2.1 i hi q hh).2.2).1 w
/-- a statement comes to the list -/
theorem c_slad {J1 J2 : Nat → Prop} {st : ST} {S : Nat} (hl : 7 ≤ lev) (h : LPr KK R t a bl sl lo σ0 σ ss Y I1 I2 z cap) (hR : RS G KK T R X K w t a tp bl sl bs m k (n + 1) S σ) (hcap : cap ≤ 9000) (hS : s + 12 * ss.length + 48 ≤ S + 4 * cap) (lo2 : Nat) (hlo : lo ≤ lo2) (g1 : pS1 KK R t lo2 σ y st.1 st.2.1 st.2.2.1) (g2 : pOp R t σ (gr σ y 4) st.2.2.2.1 J1) (g3 : pOp R t σ (gr σ y 5) st.2.2.2.2 J2) (g4 : ∀ q, J2 q → ¬ J1 q) (g5 : ∀ q, J1 q ∨ J2 q → lo2 ≤ q ∧ q < gn σ ∧ tmt (gk σ q) = true ∧ gr σ bl 1 ≠ some q) (g6 : ∀ i, i < ss.length → ∀ q, I1 i q ∨ I2 i q → q < lo2) (g7 : z < lo2)
    (ok : ∀ τ z' cap' S' Y' I1' I2', LPr KK R t a bl sl lo σ0 τ (ss ++ [st]) Y' I1' I2' z' cap' → RS G KK T R X K w t a tp bl sl bs m k n S' τ → s + 12 * (ss.length + 1) + 60 ≤ S' + 96 + 4 * cap' → 2 * cap' ≤ 3 * (ss.length + 1) + 20 → s ≤ S' → Q (.returned (some (.int (iI 1)))) τ) : CQ (wP G s0 l KK T) mJ2_add lev (.ref sl :: [va_rf (some y)]) σ Q := by
  obtain ⟨h1, h2, h3, h4, h5, h6, h7, h8, h9⟩ := h
  obtain ⟨n1, n2, n3, n4, n5, n6, n7⟩ := h9
  obtain ⟨p1, p2, p3, p4, p5, p6, p7, p8⟩ := h3
  have hz := hR.z
  have hM := hR.2.2.2.2.2.1
  have hB := hR.2.2.2.2.1
  have hbn : gk σ bl = 22 := hB.1
  have b103 : ∀ q, gr σ bl 1 = some q → gk σ q = 103 := fun q hq => by
    obtain ⟨-, -, z', y1, y2, -⟩ := hB
    rw [hq] at y1; cases y1; exact y2
  have lz : z < gn σ := hz.lt (by omega)
  -- what comes after the list was written
  have fin : ∀ τ z' cap', keep (fun q => q = sl ∨ (q = z ∧ 0 < cap)) σ τ → gle σ τ → gz τ → gk τ sl = 22 → gr τ sl 1 = some z' → gk τ z' = 103 → gl τ z' = cap' → gi τ sl 2 = iI ((ss.length + 1 : Nat) : Int) → ss.length + 1 ≤ cap' → 10 ≤ cap' → 2 * cap' ≤ 3 * (ss.length + 1) + 20 → (∀ i, i < ss.length → gr τ z' i = gr σ z i) → gr τ z' ss.length = some y → ((z' = z ∧ 0 < cap ∧ cap' = cap ∧ gn τ = gn σ ∧ gm τ = gm σ) ∨ (z' = gn σ ∧ gn τ = gn σ + 1 ∧ gm τ = gm σ + cap' ∧ ((cap = 0 ∧ cap' = 10) ∨ (10 ≤ cap ∧ cap = ss.length ∧ cap' = cap + cap / 2)))) → Q (.returned (some (.int (iI 1)))) τ := fun τ z' cap' k1 k2 k3 k4 k5 k6 k7 k8 k9 k10 k11 k12 k13 k14 => by
    have nz1 : 0 < cap → gr σ bl 1 ≠ some z := fun hc => (h4 hc).1
    have hW : ∀ q, (q = sl ∨ (q = z ∧ 0 < cap)) → gk σ q ≠ 5 ∧ gk σ q ≠ 23 ∧ gk σ q ≠ 102 ∧ q ≠ bl ∧ gr σ bl 1 ≠ some q := fun q hq => by
      rcases hq with rfl | ⟨rfl, hc⟩
      · exact ⟨by omega, by omega, by omega, n1, fun w => by have := b103 _ w; omega⟩
      · exact ⟨by omega, by omega, by omega, fun w => by rw [w] at p3; omega, nz1 hc⟩
    have nM : ∀ q, isM R q → ¬ (q = sl ∨ (q = z ∧ 0 < cap)) := fun q hq w => by
      obtain ⟨⟨m1, m2, m3⟩, -⟩ := hM.2.1
      have : gk σ q = 22 ∨ gk σ q = 103 := by rcases w with rfl | ⟨rfl, -⟩ <;> omega
      rcases hq with rfl | rfl | rfl <;> omega
    obtain ⟨v1, v2, v3, v4⟩ := k1 bl (by omega) (fun q => by
      rcases q with q | ⟨q, hc⟩
      · exact n1 q.symm
      · rw [← q] at p3; omega)
    have hz0 : gk σ0 z' = 0 := by
      rcases k14 with k14 | k14
      · rw [k14.1]; exact (h4 k14.2.1).2
      · rw [k14.1]
        apply Classical.byContradiction
        intro hn
        have := h1.2.1.2 _ hn
        have := hz.at
        omega
    have kc : pSs KK R t lo τ ss Y I1 I2 := h5.kp k1 (fun q hq => by
      rcases hq with rfl | ⟨rfl, hc⟩
      · exact ⟨by omega, by omega, fun w => by omega, by omega, fun w => by omega⟩
      · exact ⟨by omega, by omega, fun w => by omega, by omega, fun w => by omega⟩) k2 (fun q hq => by
      rcases hq with rfl | ⟨rfl, hc⟩
      · exact fun i hi hh => by have := (h5.2.1 i hi _ hh).1; omega
      · exact h7)
    have tg2 : ∀ q, (q = sl ∨ (q = z ∧ 0 < cap)) → gk σ q ≠ 6 ∧ gk σ q ≠ 104 ∧ (gk σ q = 101 → q < lo2) ∧ gk σ q ≠ 23 ∧ (gk σ q = 102 → q = R 5) := fun q hq => by
      rcases hq with rfl | ⟨rfl, hc⟩
      · exact ⟨by omega, by omega, fun w => by omega, by omega, fun w => by omega⟩
      · exact ⟨by omega, by omega, fun w => by omega, by omega, fun w => by omega⟩
    have jn : ∀ q, J1 q ∨ J2 q → ¬ (q = sl ∨ (q = z ∧ 0 < cap)) := fun q hq w => by
      have := (g5 q hq).1
      rcases w with w | ⟨w, -⟩ <;> omega
    obtain ⟨y1, y2, y3, y4⟩ := k1 y (by rw [g1.1]; omega) (fun w => by have := g1.1; rcases w with w | ⟨w, -⟩ <;> (rw [w] at this; omega))
    have kn := kc.snoc (y := y) (J1 := J1) (J2 := J2) (st := st) (lo2 := lo2) ((g1.kp k1 tg2).dn hlo) (by rw [y3]; exact g2.kp k1 (fun q hq => (tg2 q hq).2.2.2) (fun q hq => jn q (Or.inl hq))) (by rw [y3]; exact g3.kp k1 (fun q hq => (tg2 q hq).2.2.2) (fun q hq => jn q (Or.inr hq))) g4 (fun q hq => by
      obtain ⟨u1, u2, u3, -⟩ := g5 q hq
      exact ⟨u1, Nat.lt_of_lt_of_le u2 k2.1.1, by rw [k2.2 q (tmt_ne u3).1]; exact u3⟩) hlo g6
    have el : (ss ++ [st]).length = ss.length + 1 := by simp
    have nI : ∀ q, noI ss.length I1 I2 q → ¬ (J1 q ∨ J2 q) → noI (ss.length + 1) (fun i => if i = ss.length then J1 else I1 i) (fun i => if i = ss.length then J2 else I2 i) q := fun q u1 u2 i hi w => by
      by_cases hil : i = ss.length
      · simp only [if_pos hil] at w; exact u2 w
      · simp only [if_neg hil] at w; exact u1 i (by omega) w
    have zn : noI ss.length I1 I2 z' ∧ ¬ (J1 z' ∨ J2 z') := by
      rcases k14 with k14 | k14
      · rw [k14.1]; exact ⟨h7, fun w => by have := (g5 z w).1; omega⟩
      · rw [k14.1]
        exact ⟨fun i hi w => by have := (h5.2.1 i hi _ w).2.1; omega, fun w => by have := (g5 _ w).2.1; omega⟩
    have room : ∃ S', RS G KK T R X K w t a tp bl sl bs m k n S' τ ∧ s + 12 * (ss.length + 1) + 60 ≤ S' + 96 + 4 * cap' ∧ s ≤ S' := by
      rcases k14 with ⟨e1, e2, e3, e4, e5⟩ | ⟨e1, e2, e3, e4⟩
      · exact ⟨S, hR.fr k1 hW ⟨k3, hM.2.1.kp k1 nM, hM.2.2.1, ⟨by have := hM.2.2.2.1; omega, by have := hM.2.2.2.2; omega⟩⟩, by omega, by omega⟩
      · rcases e4 with ⟨e4, e5⟩ | ⟨e4, e5, e6⟩
        · exact ⟨S - 10, hR.fr k1 hW ⟨k3, hM.2.1.kp k1 nM, hM.2.2.1, ⟨by have := hM.2.2.2.1; omega, by have := hM.2.2.2.2; omega⟩⟩, by omega, by omega⟩
        · exact ⟨S - cap', hR.fr k1 hW ⟨k3, hM.2.1.kp k1 nM, hM.2.2.1, ⟨by have := hM.2.2.2.1; omega, by have := hM.2.2.2.2; omega⟩⟩, by omega, by omega⟩
    obtain ⟨S', r1, r2, r3⟩ := room
    refine ok τ z' cap' S' _ _ _ ⟨⟨h1.1.tr k1 (fun q hq w => ?_), h1.2.1.tr k2, fun q hq hg => ?_⟩, Nat.le_trans h2 k2.1.1, ⟨k4, k5, k6, k7, by rw [el]; exact k8, by rw [el]; exact k9, Or.inr k10, by rw [el]; exact k11⟩, fun _ => ⟨fun w => ?_, hz0⟩, kn, fun i hi => ?_, by rw [el]; exact nI z' zn.1 zn.2, fun q hq => ?_, n1, n2, n3, n4, n5, n6, n7⟩ r1 r2 k11 r3
    · rcases w with w | ⟨w, hc⟩
      · rw [w] at hq; exact hq n7
      · rw [w] at hq; exact hq (h4 hc).2
    · rw [v3] at hq
      obtain ⟨u1, u2, u3, u4⟩ := k1 q (by have := b103 q hq; omega) (fun w => (hW q w).2.2.2.2 hq)
      exact h1.2.2 q hq (by omega)
    · rw [v3] at w
      rcases k14 with k14 | k14
      · rw [k14.1] at w; exact nz1 k14.2.1 w
      · rw [k14.1] at w; have := b103 _ w; have := hz.at; omega
    · rw [el] at hi
      by_cases hil : i = ss.length
      · simp only [if_pos hil]; rw [hil]; exact k13
      · simp only [if_neg hil]; rw [k12 i (by omega)]; exact h6 i (by omega)
    · rw [v3] at hq
      rw [el]
      exact nI q (h8 q hq) (fun w => (g5 q w).2.2.2 hq)
  rcases p7 with ⟨p7, p9⟩ | p7
  · have e0 : ss.length = 0 := by omega
    refine c_add0 hl hz p1 p2 p3 (by omega) (by rw [p5, e0]) p7 (Or.inl g1.1) ⟨by have := hM.2.2.2.1; omega, by have := hM.2.2.2.2; omega⟩ (fun τ k1 k2 k3 k4 k5 k6 k7 k8 k9 k10 k11 => ?_)
    exact fin τ (gn σ) 10 (k1.wk (fun _ q => Or.inl q)) k11 k2 k3 k4 k5 k6 (by rw [k7, e0]) (by omega) (by omega) (by omega) (fun i hi => by omega) (by rw [e0]; exact k8) (Or.inr ⟨rfl, k9, k10, Or.inl ⟨p9, rfl⟩⟩)
  · refine (c_add (Q := fun o τ => gle σ τ → Q o τ) (k := ss.length) (cap := cap) hl hz (hM.2.1.h0 hz) p1 p2 p3 p4 p5 p6 (by omega) (by omega) (stO (t := 5) g1.1 (by decide)) (fun i hi => ?_) (fun q => ⟨by have := hM.2.2.2.1; omega, by have := hM.2.2.2.2; omega⟩) (fun τ z' u1 u2 u3 u4 u5 u6 u7 u8 u9 hle => ?_)).gl
    · rw [h6 i hi]
      obtain ⟨st', hst⟩ : ∃ st', ss[i]? = some st' := ⟨_, List.getElem?_eq_getElem hi⟩
      exact stO (t := 5) (h5.1 i st' hst).1.1 (by decide)
    · refine fin τ z' (gl τ z') (u1.wk (fun q hq => hq.imp id (fun w => ⟨w, by omega⟩))) hle u2 u3 u4 u5 rfl u6 (by omega) (by omega) (by omega) u7 u8 ?_
      rcases u9 with ⟨e1, e2, e3, e4, e5⟩ | ⟨e1, e2, e3, e4, e5⟩
      · exact Or.inl ⟨e2, by omega, e3, e4, e5⟩
      · exact Or.inr ⟨e2, e4, by rw [e3]; exact e5, Or.inr ⟨by omega, e1.symm, e3⟩⟩
end PRX2
