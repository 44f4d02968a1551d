/-! P OVER S (50): reading: the whole text -/
/-- the statements that were read: at Y i, with own cells I1 i, I2 i -/
def pSs (KK : Nat → Option Nat) (R : Nat → Nat) (t : TX) (lo : Nat) (σ : GSt) (ss : List ST) (Y : Nat → Nat) (I1 I2 : Nat → Nat → Prop) : Prop :=
  (∀ (i : Nat) (st : ST), ss[i]? = some st → pS1 KK R t lo σ (Y i) st.1 st.2.1 st.2.2.1 ∧ pOp R t σ (gr σ (Y i) 4) st.2.2.2.1 (I1 i) ∧ pOp R t σ (gr σ (Y i) 5) st.2.2.2.2 (I2 i) ∧ (∀ q, I2 i q → ¬ I1 i q)) ∧
  (∀ i, i < ss.length → ∀ q, I1 i q ∨ I2 i q → lo ≤ q ∧ q < gn σ ∧ tmt (gk σ q) = true) ∧
  (∀ i j, i < j → j < ss.length → ∀ q, I1 j q ∨ I2 j q → ¬ (I1 i q ∨ I2 i q))
def noI (j : Nat) (I1 I2 : Nat → Nat → Prop) (q : Nat) : Prop := ∀ i, i < j → ¬ (I1 i q ∨ I2 i q)
/-- the list of statements -/
def pLs (KK : Nat → Option Nat) (σ : GSt) (sl z j cap : Nat) : Prop := gk σ sl = 22 ∧ gr σ sl 1 = some z ∧ gk σ z = 103 ∧ gl σ z = cap ∧ gi σ sl 2 = iI (j : Int) ∧ j ≤ cap ∧ ((KK 14 = some z ∧ cap = 0) ∨ 10 ≤ cap) ∧ 2 * cap ≤ 3 * j + 20
/-- from before the reading on: nothing that was there is changed -/
def nFr (bl : Nat) (σ0 σ : GSt) : Prop := keep nil0 σ0 σ ∧ gle σ0 σ ∧ ∀ q, gr σ bl 1 = some q → 0 < gl σ q → gk σ0 q = 0
section PRW2
variable {G : GPl} {s0 : State} {l : Launch} {KK : Nat → Option Nat} {T : Nat → Nat} {lev d : Nat} {Q : Outcome → GSt → Prop} {R : Nat → Nat} {σ τ υ st0 σ0 : GSt} {X : SX} {K : KS} {w n s n' s' o a tp bl sl y kd pl lo : Nat} {W I : Nat → Prop} {t : TX} {bs : List (Option Nat)} {m m' : Int} {k k' : TK} {ns : List Nat} {ty tm : Option V}
theorem nFr.go (h : nFr bl σ0 σ) (hR : RS G KK T R X K w t a tp bl sl bs m k n s σ) (hF : rF a bl σ τ) (ha : gk σ0 a = 0) (hb : gk σ0 bl = 0) : nFr bl σ0 τ := by
  refine ⟨h.1.tr hF.1 (fun q hq hw => ?_), h.2.1.tr hF.2.2, fun q hq hg => ?_⟩
  · rcases hw with hw | hw | hw
    · rw [hw] at hq; exact hq ha
    · rw [hw] at hq; exact hq hb
    · exact hq (h.2.2 q hw.1 hw.2)
  · rcases hF.2.1 q hq with z | z
    · by_cases hp : 0 < gl σ q
      · exact h.2.2 q z hp
      · exfalso
        obtain ⟨-, -, z', y1, y2, -⟩ := hR.2.2.2.2.1
        rw [z] at y1; cases y1
        have := hF.1 q (by omega) (fun w => by
          rcases w with w | w | w
          · rw [w] at y2; have := hR.1.1; omega
          · rw [w] at y2; have := hR.2.2.2.2.1.1; omega
          · exact hp w.2)
        omega
    · apply Classical.byContradiction
      intro hn
      exact hn ((h.2.1.2 q hn).symm.trans z)
/-- the first in a list -/
theorem c_add0 {al z b : Nat} (hl : 7 ≤ lev) (hz : gz σ) (h1 : gk σ al = 22) (h2 : gr σ al 1 = some z) (h3 : gk σ z = 103) (h4 : gl σ z = 0) (h5 : gi σ al 2 = iI ((0 : Nat) : Int)) (hKz : KK 14 = some z) (hb : gk σ b = 6 ∨ gk σ b = 21 ∨ gk σ b = 23) (hro : gn σ + 1 ≤ G.cc ∧ gm σ + 10 ≤ G.cs)
    (ok : ∀ τ, keep (fun q => q = al) σ τ → gz τ → gk τ al = 22 → gr τ al 1 = some (gn σ) → gk τ (gn σ) = 103 → gl τ (gn σ) = 10 → gi τ al 2 = iI ((1 : Nat) : Int) → gr τ (gn σ) 0 = some b → gn τ = gn σ + 1 → gm τ = gm σ + 10 → gle σ τ → Q (.returned (some (.int (iI 1)))) τ) : CQ (wP G s0 l KK T) mJ2_add lev (.ref al :: [va_rf (some b)]) σ Q := by
  obtain ⟨l', rfl⟩ : ∃ l', lev = l' + 4 := ⟨lev - 4, by omega⟩
  have lb := hz.ne (show gk σ al ≠ 0 by omega)
  refine tJ2_add ⟨h1, ?_⟩
  rw [gr_pi, h2, gi_pi, if_neg (by omega), h5]
  have q0 : gr (gpi al 0 (gi σ al 0 + iI 1) σ) al 1 = some z := h2
  have q1 : gi (gpi al 0 (gi σ al 0 + iI 1) σ) al 2 = iI ((0 : Nat) : Int) := by rw [gi_pi, if_neg (by omega)]; exact h5
  have q2 : keep (fun q => q = al) σ (gpi al 0 (gi σ al 0 + iI 1) σ) := keep.rf.pi (fun _ => rfl)
  have q4 : gk (gpi al 0 (gi σ al 0 + iI 1) σ) al = 22 := h1
  have q5 : gk (gpi al 0 (gi σ al 0 + iI 1) σ) z = 103 := h3
  have q6 : gl (gpi al 0 (gi σ al 0 + iI 1) σ) z = 0 := h4
  have q7 : gn (gpi al 0 (gi σ al 0 + iI 1) σ) = gn σ := rfl
  have q8 : ∀ b, gk (gpi al 0 (gi σ al 0 + iI 1) σ) b = gk σ b := fun _ => rfl
  have q9 : gm (gpi al 0 (gi σ al 0 + iI 1) σ) = gm σ := rfl
  have qz : gz (gpi al 0 (gi σ al 0 + iI 1) σ) := hz
  generalize gpi al 0 (gi σ al 0 + iI 1) σ = τ1 at *
  have e10 : (if iI 10 < iI ((1 : Nat) : Int) then iI ((1 : Nat) : Int) else iI 10) = iI 10 := by decide
  have e11 : (iI 10).toInt.toNat = 10 := by decide
  have e12 : iI ((0 : Nat) : Int) + iI 1 = iI ((1 : Nat) : Int) := iI_suc 0
  have lb1 : al ≠ gn τ1 := by rw [q7]; exact lb
  have n1 : gk τ1 (gn τ1) = 0 := qz.at
  refine tJ2_add_2 ⟨z, rfl, q5, fun _ => ⟨q4, tJ2_grow ⟨q4, ?_⟩⟩, fun q => absurd (by rw [q6]) q⟩
  rw [q1, e12]
  refine tJ2_grow_2 ⟨q4, z, q0, q5, fun q => ?_, fun _ => ⟨fun _ => ?_, fun q => absurd (by rw [q0, hKz]) q⟩⟩
  · rw [q6] at q; exact absurd q (by decide)
  rw [e10, e11]
  refine ⟨iI_in (a := 10) (by omega) (by omega), ⟨by omega, by omega, n1⟩, onR_ret (fun _ => onR_ret (fun _ => ?_))⟩
  have z1 : gk (gpr al 1 (some (gn τ1)) (gmk 103 10 τ1)) (gn τ1) = 103 := gk_new (n := 10) n1
  have z2 : gl (gpr al 1 (some (gn τ1)) (gmk 103 10 τ1)) (gn τ1) = 10 := gl_nw (t := 103)
  have so1 : gk (gpr al 1 (some (gn τ1)) (gmk 103 10 τ1)) b = gk σ b := by
    rw [gk_pr, gk_old (show b ≠ gn τ1 from qz.ne (by rw [q8]; omega)), q8]
  have so : stOK (gpr al 1 (some (gn τ1)) (gmk 103 10 τ1)) (some b) "java/lang/Object" := by
    rcases hb with hb | hb | hb
    · exact stO (t := 5) (so1.trans hb) (by decide)
    · exact stO (t := 20) (so1.trans hb) (by decide)
    · exact stO (t := 22) (so1.trans hb) (by decide)
  refine tJ2_add_2_11 ⟨gn τ1, rfl, z1, ?_, so, ?_, fun hle => ?_⟩
  · rw [z2]; exact iI_in (a := 0) (by omega) (by omega)
  · rw [gk_pr, gk_pr, gk_old lb1]; exact q4
  rw [e12, show ix (iI ((0 : Nat) : Int)) = 0 from rfl] at *
  refine ok _ ((((q2.mk (by rw [q7]; exact hz.at)).pr (fun _ => rfl)).pr (fun q => absurd (by rw [q7]; exact hz.at) q)).pi (fun _ => rfl)) (gz.mk (σ := τ1) (t := 103) (n := 10) qz) ?_ ?_ ?_ ?_ ?_ ?_ ?_ ?_ ?_
  · show gk (gmk 103 10 τ1) al = 22
    rw [gk_old lb1]; exact q4
  · rw [gr_pi, gr_pr, if_neg (fun q => lb1 q.1), gr_pr, if_pos ⟨rfl, rfl⟩, q7]
  · rw [← q7]; exact z1
  · rw [← q7]; exact z2
  · rw [gi_pi, if_pos ⟨rfl, rfl⟩]
  · rw [gr_pi, ← q7, gr_pr, if_pos ⟨rfl, rfl⟩]
  · show gn τ1 + 1 = _; omega
  · show gm τ1 + 10 = _; omega
  · refine ⟨⟨by show gn σ ≤ gn τ1 + 1; omega, by show gm σ ≤ gm τ1 + 10; omega⟩, fun x hx => ?_⟩
    show gk (gmk 103 10 τ1) x = gk σ x
    rw [gk_old (fun q => hx (by rw [q, q7]; exact hz.at)), q8]
theorem pS1.dn {lo' : Nat} (h : pS1 KK R t lo σ y kd pl ns) (hl : lo' ≤ lo) : pS1 KK R t lo' σ y kd pl ns := by
  obtain ⟨b1, b2, b3, b4, nm, ps, b5, b6, b7, b8, b9, b10, b11, b12, b13⟩ := h
  exact ⟨b1, b2, b3, by omega, nm, ps, b5, b6, b7, by omega, b9, b10, b11, by omega, b13⟩
/-- what was read stays -/
theorem pSs.kp {ss : List ST} {Y : Nat → Nat} {I1 I2 : Nat → Nat → Prop} (h : pSs KK R t lo σ ss Y I1 I2) (hk : keep W σ τ) (hW : ∀ q, W q → gk σ q ≠ 6 ∧ gk σ q ≠ 104 ∧ (gk σ q = 101 → q < lo) ∧ gk σ q ≠ 23 ∧ (gk σ q = 102 → q = R 5)) (hl : gle σ τ) (hI : ∀ q, W q → noI ss.length I1 I2 q) : pSs KK R t lo τ ss Y I1 I2 := by
  refine ⟨fun i st hi => ?_, fun i hi q hq => ?_, h.2.2⟩
  · obtain ⟨g2, g3, g4, g5⟩ := h.1 i st hi
    have hil := (List.getElem?_eq_some_iff.mp hi).1
    obtain ⟨a1, a2, a3, a4⟩ := hk (Y i) (by rw [g2.1]; omega) (fun q => (hW _ q).1 g2.1)
    exact ⟨g2.kp hk hW, by rw [a3]; exact g3.kp hk (fun q hq => (hW q hq).2.2.2) (fun q hq w => hI q w i hil (Or.inl hq)), by rw [a3]; exact g4.kp hk (fun q hq => (hW q hq).2.2.2) (fun q hq w => hI q w i hil (Or.inr hq)), g5⟩
  · obtain ⟨g1, g2, g3⟩ := h.2.1 i hi q hq
    exact ⟨g1, Nat.lt_of_lt_of_le g2 hl.1.1, by rw [hl.2 q (tmt_ne g3).1]; exact g3⟩
/-- one more -/
theorem pSs.snoc {ss : List ST} {Y : Nat → Nat} {I1 I2 : Nat → Nat → Prop} {st : ST} {J1 J2 : Nat → Prop} {lo2 : Nat} (h : pSs KK R t lo σ ss Y I1 I2) (h1 : pS1 KK R t lo σ y st.1 st.2.1 st.2.2.1) (h2 : pOp R t σ (gr σ y 4) st.2.2.2.1 J1) (h3 : pOp R t σ (gr σ y 5) st.2.2.2.2 J2) (h4 : ∀ q, J2 q → ¬ J1 q) (h5 : ∀ q, J1 q ∨ J2 q → lo2 ≤ q ∧ q < gn σ ∧ tmt (gk σ q) = true) (hl : lo ≤ lo2) (h6 : ∀ i, i < ss.length → ∀ q, I1 i q ∨ I2 i q → q < lo2) :
    pSs KK R t lo σ (ss ++ [st]) (fun i => if i = ss.length then y else Y i) (fun i => if i = ss.length then J1 else I1 i) (fun i => if i = ss.length then J2 else I2 i) := by
  refine ⟨fun i st' hi => ?_, fun i hi q hq => ?_, fun i j hij hj q hq => ?_⟩
  · by_cases hil : i < ss.length
    · rw [List.getElem?_append_left hil] at hi
      have hne : ¬ i = ss.length := by omega
      simp only [if_neg hne]
      exact h.1 i st' hi
    · rw [List.getElem?_append_right (by omega)] at hi
      have hi0 : i = ss.length := by
        have := (List.getElem?_eq_some_iff.mp hi).1
        simp at this
        omega
      subst hi0
      have : st = st' := by simpa using hi
      subst this
      simp only [if_true]
      exact ⟨h1, h2, h3, h4⟩
  · rw [List.length_append] at hi
    have hi' : i < ss.length + 1 := hi
    by_cases hil : i = ss.length
    · simp only [if_pos hil] at hq
      obtain ⟨a, b, c⟩ := h5 q hq
      exact ⟨by omega, b, c⟩
    · simp only [if_neg hil] at hq
      exact h.2.1 i (by omega) q hq
  · rw [List.length_append] at hj
    have hj' : j < ss.length + 1 := hj
    have hi : ¬ i = ss.length := by omega
    simp only [if_neg hi]
    by_cases hjl : j = ss.length
    · simp only [if_pos hjl] at hq
      have := (h5 q hq).1
      exact fun w => by have := h6 i (by omega) q w; omega
    · simp only [if_neg hjl] at hq
      exact h.2.2 i j hij (by omega) q hq
end PRW2
