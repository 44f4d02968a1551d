/-! P OVER S (47): reading: statements -/
/-- a statement's own: kind, place, names; its cells are not below lo -/
def pS1 (KK : Nat → Option Nat) (R : Nat → Nat) (t : TX) (lo : Nat) (σ : GSt) (y kd pl : Nat) (ns : List Nat) : Prop :=
  gk σ y = 6 ∧ gr σ y 0 = KK (6 + kd) ∧ gi σ y 1 = iI (pl : Int) ∧ lo ≤ y ∧ ∃ nm ps, gr σ y 2 = some nm ∧ gk σ nm = 104 ∧ gl σ nm = 3 ∧ lo ≤ nm ∧ gr σ y 3 = some ps ∧ gk σ ps = 101 ∧ gl σ ps = 3 ∧ lo ≤ ps ∧ ∀ (i p : Nat), ns[i]? = some p → gi σ ps i = iI (p : Int) ∧ ∃ o, gr σ nm i = some o ∧ pS σ (R 5) o (tname t p)
/-- a term of it, if there is one -/
def pOp (R : Nat → Nat) (t : TX) (σ : GSt) (r : Option Nat) (v : Option V) (I : Nat → Prop) : Prop := match v with
  | some v => ∃ x, r = some x ∧ rT R (tname t) σ v x 0 I
  | none => r = none
/-- a statement that is being read -/
def SP (G : GPl) (KK : Nat → Option Nat) (T : Nat → Nat) (R : Nat → Nat) (X : SX) (K : KS) (w : Nat) (t : TX) (a tp bl sl : Nat) (σ0 τ : GSt) (k : TK) (n s y kd pl : Nat) (ns : List Nat) (ty tm : Option V) (I1 I2 : Nat → Prop) : Prop :=
  RS G KK T R X K w t a tp bl sl [] 0 k n s τ ∧ rF a bl σ0 τ ∧ pS1 KK R t (gn σ0) τ y kd pl ns ∧ pOp R t τ (gr τ y 4) ty I1 ∧ oI bl σ0 τ I1 ∧ pOp R t τ (gr τ y 5) tm I2 ∧ oI bl σ0 τ I2 ∧ (∀ q, I2 q → ¬ I1 q) ∧ (gz σ0 ∧ a < gn σ0 ∧ bl < gn σ0 ∧ gk σ0 bl ≠ 0 ∧ ∀ q, isM R q → q < gn σ0)
section PRT
variable {G : GPl} {s0 : State} {l : Launch} {KK : Nat → Option Nat} {T : Nat → Nat} {lev d : Nat} {Q : Outcome → GSt → Prop} {R : Nat → Nat} {σ τ υ st0 σ0 : GSt} {X : SX} {K : KS} {w n s n' s' o a tp bl sl y kd pl lo : Nat} {W I I1 I2 : Nat → Prop} {t : TX} {bs : List (Option Nat)} {m m' : Int} {k k' : TK} {ns : List Nat} {ty tm : Option V}
theorem pS1.kp (h : pS1 KK R t lo σ y kd pl ns) (hk : keep W σ τ) (hW : ∀ q, W q → gk σ q ≠ 6 ∧ gk σ q ≠ 104 ∧ (gk σ q = 101 → q < lo) ∧ gk σ q ≠ 23 ∧ (gk σ q = 102 → q = R 5)) : pS1 KK R t lo τ y kd pl ns := by
  obtain ⟨h1, h2, h3, h4, nm, ps, h5, h6, h7, h8, h9, h10, h11, h12, h13⟩ := h
  obtain ⟨a1, a2, a3, a4⟩ := hk y (by omega) (fun q => (hW y q).1 h1)
  obtain ⟨b1, b2, b3, b4⟩ := hk nm (by omega) (fun q => (hW nm q).2.1 h6)
  obtain ⟨c1, c2, c3, c4⟩ := hk ps (by omega) (fun q => by have := (hW ps q).2.2.1 h10; omega)
  refine ⟨a1.trans h1, (a3 0).trans h2, (a2 1).trans h3, h4, nm, ps, (a3 2).trans h5, b1.trans h6, by rw [b4]; exact h7, h8, (a3 3).trans h9, c1.trans h10, by rw [c4]; exact h11, h12, fun i p hp => ?_⟩
  obtain ⟨g1, o, g2, g3⟩ := h13 i p hp
  exact ⟨by rw [c2]; exact g1, o, by rw [b3]; exact g2, g3.kpW hk (fun q hq => (hW q hq).2.2.2)⟩
theorem pOp.kp {r : Option Nat} {v : Option V} (h : pOp R t σ r v I) (hk : keep W σ τ) (hS : ∀ q, W q → gk σ q ≠ 23 ∧ (gk σ q = 102 → q = R 5)) (hn : ∀ q, I q → ¬ W q) : pOp R t τ r v I := by
  cases v with
  | none => exact h
  | some v =>
    obtain ⟨x, h1, h2⟩ := h
    exact ⟨x, h1, rT_keep hk hS v x 0 I h2 hn (fun z => absurd rfl z)⟩
theorem rW_tg (h : RS G KK T R X K w t a tp bl sl bs m k n s σ) : ∀ q, rW a bl σ q → gk σ q ≠ 6 ∧ gk σ q ≠ 104 ∧ (gk σ q = 101 → q < lo) ∧ gk σ q ≠ 23 ∧ (gk σ q = 102 → q = R 5) := fun q hq => by
  have := h.tg q hq
  exact ⟨by omega, by omega, fun z => by omega, by omega, fun z => by omega⟩
/-- reading goes on -/
theorem SP.go (h : SP G KK T R X K w t a tp bl sl σ0 τ k n s y kd pl ns ty tm I1 I2) (hF : rF a bl τ υ) (hR : RS G KK T R X K w t a tp bl sl [] 0 k' n' s' υ) : SP G KK T R X K w t a tp bl sl σ0 υ k' n' s' y kd pl ns ty tm I1 I2 := by
  obtain ⟨h1, h2, h3, h4, h5, h6, h7, h8, h9⟩ := h
  obtain ⟨z0, la, lb, kb, hm⟩ := h9
  obtain ⟨a1, a2, a3, a4⟩ := hF.1 y (by have := h3.1; omega) (fun q => by have := h1.tg y q; have := h3.1; omega)
  have o1 := h5.F la lb hF
  have o2 := h7.F la lb hF
  refine ⟨hR, h2.tr hF, h3.kp hF.1 (rW_tg h1), ?_, o1.1, ?_, o2.1, h8, z0, la, lb, kb, hm⟩
  · rw [a3]; exact h4.kp hF.1 h1.S o1.2
  · rw [a3]; exact h6.kp hF.1 h1.S o2.2
theorem SP.le (h : SP G KK T R X K w t a tp bl sl σ0 τ k n s y kd pl ns ty tm I1 I2) (hn : n' ≤ n) (hs : s' ≤ s) : SP G KK T R X K w t a tp bl sl σ0 τ k n' s' y kd pl ns ty tm I1 I2 := ⟨h.1.le hn hs, h.2⟩
/-- a cell of the statement's own is written -/
theorem RS.wr {x : Nat} (h : RS G KK T R X K w t a tp bl sl bs m k n s σ) (hk : keep (fun q => q = x) σ τ) (hx : gk σ x = 6 ∨ gk σ x = 104 ∨ gk σ x = 101) (hm : ¬ isM R x) (hz : gz τ) (h1 : gn τ = gn σ) (h2 : gm τ = gm σ) : RS G KK T R X K w t a tp bl sl bs m k n s τ := by
  have hB := h.2.2.2.2.1
  refine h.fr hk (fun q hq => ?_) (h.2.2.2.2.2.1.kp hk (fun q hq z => ?_) hz h1 h2)
  · subst hq
    refine ⟨by omega, by omega, by omega, fun z => ?_, fun z => ?_⟩
    · have := hB.1; rw [← z] at this; omega
    · obtain ⟨-, -, z', y1, y2, -⟩ := hB
      rw [z] at y1; cases y1; omega
  · subst z
    exact hm hq
theorem SP.noM (h : SP G KK T R X K w t a tp bl sl σ0 τ k n s y kd pl ns ty tm I1 I2) {x : Nat} (hx : gn σ0 ≤ x) : ¬ isM R x := fun q => by have := h.2.2.2.2.2.2.2.2.2.2.2.2 x q; omega
/-- a new statement -/
theorem c_st0 {x : Option Nat} (hl : 2 ≤ lev) (hM : MB G R σ X K w (n + 3) (s + 12))
    (ok : ∀ τ, keep nil0 σ τ → gle σ τ → MB G R τ X K w n s → gn τ = gn σ + 3 → gk τ (gn σ) = 6 → gr τ (gn σ) 0 = x → gi τ (gn σ) 1 = iI (pl : Int) → gr τ (gn σ) 2 = some (gn σ + 1) → gr τ (gn σ) 3 = some (gn σ + 2) → gr τ (gn σ) 4 = none → gr τ (gn σ) 5 = none → gk τ (gn σ + 1) = 104 → gl τ (gn σ + 1) = 3 → gk τ (gn σ + 2) = 101 → gl τ (gn σ + 2) = 3 → Q (.returned none) τ) : CQ (wP G s0 l KK T) mX7_init lev (.ref (gn σ) :: [va_rf x, .int (iI (pl : Int))]) (gmk 6 6 σ) Q := by
  obtain ⟨l', rfl⟩ : ∃ l', lev = l' + 1 := ⟨lev - 1, by omega⟩
  have hz := hM.1
  have n0 : gk σ (gn σ) = 0 := hz.at
  have n1 : gk σ (gn σ + 1) = 0 := hz _ (by omega)
  have n2 : gk σ (gn σ + 2) = 0 := hz _ (by omega)
  have fr : ∀ q, gn σ ≤ q → ¬ isM R q := fun q hq => hM.2.1.fr hz hq
  have m1 : MB G R (gmk 6 6 σ) X K w (n + 2) (s + 6) := (hM.le (n' := n + 2 + 1) (s' := s + 6 + 6) (by omega) (by omega)).mk
  have k6 : gk (gmk 6 6 σ) (gn σ) = 6 := gk_new n0
  have g1 : gn (gmk 6 6 σ) = gn σ + 1 := rfl
  have ne1 : gn σ ≠ gn (gmk 6 6 σ) := by omega
  have m2 : MB G R (gpr (gn σ) 2 (some (gn (gmk 6 6 σ))) (gmk 104 3 (gmk 6 6 σ))) X K w (n + 1) (s + 3) := ((m1.le (n' := n + 1 + 1) (s' := s + 3 + 3) (by omega) (by omega)).mk).pr' (fr _ (Nat.le_refl _))
  have ne2 : gn σ ≠ gn (gpr (gn σ) 2 (some (gn (gmk 6 6 σ))) (gmk 104 3 (gmk 6 6 σ))) := by show gn σ ≠ gn σ + 1 + 1; omega
  have ne3 : gn σ + 1 ≠ gn (gpr (gn σ) 2 (some (gn (gmk 6 6 σ))) (gmk 104 3 (gmk 6 6 σ))) := by show gn σ + 1 ≠ gn σ + 1 + 1; omega
  have k62 : gk (gpr (gn σ) 2 (some (gn (gmk 6 6 σ))) (gmk 104 3 (gmk 6 6 σ))) (gn σ) = 6 := by rw [gk_pr, gk_old ne1]; exact k6
  have k104 : gk (gpr (gn σ) 2 (some (gn (gmk 6 6 σ))) (gmk 104 3 (gmk 6 6 σ))) (gn σ + 1) = 104 := gk_new (σ := gmk 6 6 σ) (n := 3) m1.1.at
  refine tX7_init ⟨⟨by have := m1.2.2.2.1; omega, by have := m1.2.2.2.2; omega, m1.1.at⟩, by rw [gk_old ne1]; exact k6, ⟨by have := m2.2.2.2.1; omega, by have := m2.2.2.2.2; omega, m2.1.at⟩, ?_⟩
  refine ok _ ?_ (show gle σ (gmk 101 3 (gpr (gn σ) 2 (some (gn (gmk 6 6 σ))) (gmk 104 3 (gmk 6 6 σ)))) from ((gle_mk hz).tr (gle_mk (i := 104) (j := 3) m1.1)).tr (gle_mk (i := 101) (j := 3) m2.1)) ((((m2.mk (k := 3)).pr' (fr _ (Nat.le_refl _))).pr' (fr _ (Nat.le_refl _))).pi' (fr _ (Nat.le_refl _))) rfl ?_ ?_ ?_ ?_ ?_ ?_ ?_ ?_ ?_ ?_ ?_
  · exact ((((((keep.rf.mk n0).mk n1).pr (fun q => absurd n0 q)).mk n2).pr (fun q => absurd n0 q)).pr (fun q => absurd n0 q)).pi (fun q => absurd n0 q)
  · show gk (gmk 101 3 (gpr (gn σ) 2 (some (gn (gmk 6 6 σ))) (gmk 104 3 (gmk 6 6 σ)))) (gn σ) = 6
    rw [gk_old ne2]; exact k62
  · rw [gr_pi, gr_pr, if_pos ⟨rfl, rfl⟩]
  · rw [gi_pi, if_pos ⟨rfl, rfl⟩]
  · rw [gr_pi, gr_pr, if_neg (by omega), gr_pr, if_neg (by omega), gr_mk ne2, gr_pr, if_pos ⟨rfl, rfl⟩]; rfl
  · rw [gr_pi, gr_pr, if_neg (by omega), gr_pr, if_pos ⟨rfl, rfl⟩]; rfl
  · rw [gr_pi, gr_pr, if_neg (by omega), gr_pr, if_neg (by omega), gr_mk ne2, gr_pr, if_neg (by omega), gr_mk ne1]; exact gr_nw
  · rw [gr_pi, gr_pr, if_neg (by omega), gr_pr, if_neg (by omega), gr_mk ne2, gr_pr, if_neg (by omega), gr_mk ne1]; exact gr_nw
  · show gk (gmk 101 3 (gpr (gn σ) 2 (some (gn (gmk 6 6 σ))) (gmk 104 3 (gmk 6 6 σ)))) (gn σ + 1) = 104
    rw [gk_old ne3]; exact k104
  · show gl (gmk 101 3 (gpr (gn σ) 2 (some (gn (gmk 6 6 σ))) (gmk 104 3 (gmk 6 6 σ)))) (gn σ + 1) = 3
    rw [gl_mk ne3]
    exact gl_nw (σ := gmk 6 6 σ) (t := 104)
  · exact gk_new (σ := gpr (gn σ) 2 (some (gn (gmk 6 6 σ))) (gmk 104 3 (gmk 6 6 σ))) (n := 3) m2.1.at
  · exact gl_nw (σ := gpr (gn σ) 2 (some (gn (gmk 6 6 σ))) (gmk 104 3 (gmk 6 6 σ))) (t := 101)
theorem c_stR (hl : 2 ≤ lev) (h : RS G KK T R X K w t a tp bl sl [] 0 k (n + 3) (s + 12) σ)
    (ok : ∀ τ, SP G KK T R X K w t a tp bl sl σ τ k n s (gn σ) kd pl [] none none (fun _ => False) (fun _ => False) → Q (.returned none) τ) : CQ (wP G s0 l KK T) mX7_init lev (.ref (gn σ) :: [va_rf (KK (6 + kd)), .int (iI (pl : Int))]) (gmk 6 6 σ) Q := by
  have hM := h.2.2.2.2.2.1
  refine c_st0 (n := n + 1 + 12 * (t.2 - k.pl)) (s := s + 8 + 128 * (t.2 - k.pl)) hl (hM.le (by omega) (by omega)) (fun τ k1 k2 k3 k4 k5 k6 k7 k8 k9 k10 k11 k12 k13 k14 k15 => ok τ ⟨h.fr k1 (fun q z => z.elim) k3, rF.nl k1 h.2.2.2.2.1.1 k2, ⟨k5, k6, k7, Nat.le_refl _, gn σ + 1, gn σ + 2, k8, k12, k13, by omega, k9, k14, k15, by omega, fun i p hp => ?_⟩, k10, fun q hq => hq.elim, k11, fun q hq => hq.elim, fun q hq => hq.elim, h.z, h.la, h.lb, by rw [h.2.2.2.2.1.1]; omega, fun q hq => h.z.lt (hM.2.1.tg hq)⟩)
  simp at hp
/-- a name of the statement -/
theorem c_name2 (hl : 12 ≤ lev) (hK : KI KK) (h : SP G KK T R X K w t a tp bl sl σ0 σ k n s y kd pl ns ty tm I1 I2) (hi : ns.length ≤ 2)
    (ok : ∀ τ, rName t k = .ok (k.pl, sGo t k.nx) → SP G KK T R X K w t a tp bl sl σ0 τ (sGo t k.nx) (n + 8) (s + 96) y kd pl (ns ++ [k.pl]) ty tm I1 I2 → k.pl < (sGo t k.nx).pl → Q (.returned none) τ)
    (er : ∀ x τ (e : Nat) p, rName t k = .error (e, p) → flt τ x (e : Int) p → rF a bl σ0 τ → MB G R τ X K w n s → Q (.threw x) τ) : CQ (wP G s0 l KK T) mX6_name_2 lev (.ref a :: [va_rf (some y), .int (iI (ns.length : Int))]) σ Q := by
  obtain ⟨l', rfl⟩ : ∃ l', lev = l' + 1 := ⟨lev - 1, by omega⟩
  have h' := h
  obtain ⟨h1, h2, h3, h4, h5, h6, h7, h8, h9⟩ := h
  obtain ⟨z0, la, lb, kb, hm⟩ := h9
  obtain ⟨b1, b2, b3, b4, nm, ps, b5, b6, b7, b8, b9, b10, b11, b12, b13⟩ := h3
  have k3 := h1.2.2.1.1
  refine tX6_name_2 ⟨y, rfl, b1, h1.1.1, ps, b9, b10, by rw [b11]; exact iI_in (by omega) (by omega), ?_⟩
  rw [iI_ix (by omega), k3]
  have kp : keep (fun q => q = ps) σ (gpi ps ns.length (iI (k.pl : Int)) σ) := keep.rf.pi (fun _ => rfl)
  have r1 : RS G KK T R X K w t a tp bl sl [] 0 k n s (gpi ps ns.length (iI (k.pl : Int)) σ) := h1.wr kp (by omega) (h'.noM b12) h1.z rfl rfl
  have f1 : rF a bl σ0 (gpi ps ns.length (iI (k.pl : Int)) σ) := rF.nd kp gle.rf h2 b12 z0 lb kb
  have nb : gr (gpi ps ns.length (iI (k.pl : Int)) σ) bl 1 = gr σ bl 1 := rfl
  have g1 : ∀ j, gr (gpi ps ns.length (iI (k.pl : Int)) σ) y j = gr σ y j := fun _ => rfl
  have kS : ∀ q, q = ps → gk σ q ≠ 23 ∧ (gk σ q = 102 → q = R 5) := fun q hq => by subst hq; omega
  have hps : gi (gpi ps ns.length (iI (k.pl : Int)) σ) ps ns.length = iI (k.pl : Int) := by rw [gi_pi, if_pos ⟨rfl, rfl⟩]
  -- the statement, with the place
  have s1 : pS1 KK R t (gn σ0) (gpi ps ns.length (iI (k.pl : Int)) σ) y kd pl ns := by
    refine ⟨b1, b2, by rw [gi_pi, if_neg (fun q => by rw [← q.1] at b10; omega)]; exact b3, b4, nm, ps, b5, b6, b7, b8, b9, b10, b11, b12, fun i p hp => ?_⟩
    obtain ⟨v1, o, v2, v3⟩ := b13 i p hp
    have hil := (List.getElem?_eq_some_iff.mp hp).1
    exact ⟨by rw [gi_pi, if_neg (by omega)]; exact v1, o, v2, v3.kpW kp kS⟩
  have I1n : ∀ q, I1 q → ¬ q = ps := fun q hq w => by have := (h5 q hq).2.2.1; rw [w, b10] at this; cases this
  have I2n : ∀ q, I2 q → ¬ q = ps := fun q hq w => by have := (h7 q hq).2.2.1; rw [w, b10] at this; cases this
  have sp1 : SP G KK T R X K w t a tp bl sl σ0 (gpi ps ns.length (iI (k.pl : Int)) σ) k n s y kd pl ns ty tm I1 I2 := ⟨r1, f1, s1, h4.kp kp kS I1n, h5, h6.kp kp kS I2n, h7, h8, z0, la, lb, kb, hm⟩
  have e9 : gr (gpi ps ns.length (iI (k.pl : Int)) σ) y 2 = some nm := b5
  have e10 : gk (gpi ps ns.length (iI (k.pl : Int)) σ) nm = 104 := b6
  have e11 : gl (gpi ps ns.length (iI (k.pl : Int)) σ) nm = 3 := b7
  have e12 : gr (gpi ps ns.length (iI (k.pl : Int)) σ) y 3 = some ps := b9
  have e13 : gk (gpi ps ns.length (iI (k.pl : Int)) σ) ps = 101 := b10
  rw [e9]
  generalize gpi ps ns.length (iI (k.pl : Int)) σ = σ1 at *
  refine c_needN (by omega) hK r1 (fun τ o e1 e2 e3 e4 => fun _ => ⟨nm, rfl, ?_⟩) (fun x τ e p e1 e2 e3 e4 => fun _ => er x τ e p e1 e2 (f1.tr e3) e4)
  have sp2 := sp1.go e3 e2
  obtain ⟨c1, c2, c3, c4, nm', ps', c5, c6, c7, c8, c9, c10, c11, c12, c13⟩ := sp2.2.2.1
  obtain ⟨a1, a2, a3, a4⟩ := e3.1 y (by rw [s1.1]; omega) (fun q => by have := r1.tg y q; have := s1.1; omega)
  have en : nm' = nm := by rw [a3, e9] at c5; cases c5; rfl
  have ep : ps' = ps := by rw [a3, e12] at c9; cases c9; rfl
  subst en ep
  obtain ⟨d1, d2, d3, d4⟩ := e3.1 ps' (by omega) (fun q => by have := r1.tg ps' q; omega)
  refine ⟨c6, by rw [c7]; exact iI_in (by omega) (by omega), Or.inr ⟨o, 22, rfl, e4.1, by decide, Or.inr rfl⟩, ?_⟩
  have kp2 : keep (fun q => q = nm') τ (gpr nm' ns.length (some o) τ) := keep.rf.pr (fun _ => rfl)
  have kS2 : ∀ q, q = nm' → gk τ q ≠ 23 ∧ (gk τ q = 102 → q = R 5) := fun q hq => by subst hq; omega
  obtain ⟨w1, w2, w3, w4, w5, w6, w7, w8, w9⟩ := sp2
  have yn : y ≠ nm' := fun q => by rw [q] at c1; omega
  have bn : bl ≠ nm' := fun q => by have := w1.2.2.2.2.1.1; rw [q] at this; omega
  have J1n : ∀ q, I1 q → ¬ q = nm' := fun q hq w => by have := (w5 q hq).2.2.1; rw [w, c6] at this; cases this
  have J2n : ∀ q, I2 q → ¬ q = nm' := fun q hq w => by have := (w7 q hq).2.2.1; rw [w, c6] at this; cases this
  have ob : gr (gpr nm' ns.length (some o) τ) bl 1 = gr τ bl 1 := by rw [gr_pr, if_neg (fun q => bn q.1)]
  have k0 := rName_ki e1
  refine ok _ e1 ⟨w1.wr kp2 (by omega) (h'.noM c8) w1.z rfl rfl, rF.nd kp2 gle.rf w2 c8 z0 lb kb, ⟨c1, by rw [gr_pr, if_neg (fun q => yn q.1)]; exact c2, c3, c4, nm', ps', by rw [gr_pr, if_neg (fun q => yn q.1)]; exact c5, c6, c7, c8, by rw [gr_pr, if_neg (fun q => yn q.1)]; exact c9, c10, c11, c12, fun i p hp => ?_⟩, ?_, fun q hq => by rw [ob]; exact w5 q hq, ?_, fun q hq => by rw [ob]; exact w7 q hq, w8, z0, la, lb, kb, hm⟩ (r1.pl (by omega))
  · by_cases hil : i < ns.length
    · rw [List.getElem?_append_left hil] at hp
      obtain ⟨v1, o', v2, v3⟩ := c13 i p hp
      exact ⟨v1, o', by rw [gr_pr, if_neg (by omega)]; exact v2, v3.kpW kp2 kS2⟩
    · rw [List.getElem?_append_right (by omega)] at hp
      have hi0 : i = ns.length := by
        have := (List.getElem?_eq_some_iff.mp hp).1
        simp at this
        omega
      subst hi0
      have : k.pl = p := by simpa using hp
      subst this
      exact ⟨by rw [gi_pr, d2]; exact hps, o, by rw [gr_pr, if_pos ⟨rfl, rfl⟩], e4.kpW kp2 kS2⟩
  · rw [gr_pr, if_neg (fun q => yn q.1)]; exact w4.kp kp2 kS2 J1n
  · rw [gr_pr, if_neg (fun q => yn q.1)]; exact w6.kp kp2 kS2 J2n
end PRT
