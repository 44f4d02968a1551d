/-! P OVER S (44): reading: arrows, binders, lets -/
/-- the three that bind -/
def bnk (tg : Nat) (v d b : V) : Prop := (tg = 8 ∧ v = .append d b) ∨ (tg = 9 ∧ v = .group (.append d b) .fill) ∨ (tg = 10 ∧ v = .group (.append d b) .allOrNone)
section PRQ
variable {G : GPl} {s0 : State} {l : Launch} {KK : Nat → Option Nat} {T : Nat → Nat} {lev d : Nat} {Q : Outcome → GSt → Prop} {R : Nat → Nat} {σ τ υ st0 : GSt} {X : SX} {K : KS} {w n s n' s' o a tp bl sl u al z z2 : Nat} {W I I1 I2 : Nat → Prop} {t : TX} {bs : List (Option Nat)} {m : Int} {k : TK} {TN : Nat → List Nat} {x1 : Int32} {x2 : Option Nat}
theorem nd_rT {tg f p x yb y : Nat} {v vd vb : V} (hv : bnk tg v vd vb) (hk : keep (fun q => q = y) τ υ) (h0 : gk τ y = tg) (h1 : gk υ y = tg) (h2 : gi υ y 1 = iI (f : Int)) (h3 : gi υ y 0 = iI (p : Int)) (h4 : gr υ y 2 = some x) (h5 : gr υ y 3 = some yb) (r1 : rT R TN τ vd x 0 I1) (r2 : rT R TN τ vb yb 0 I2) (n1 : ¬ I1 y) (n2 : ¬ I2 y) (hd : ∀ q, I2 q → ¬ I1 q) : rT R TN υ (.tag f (.tag p v)) y 0 (fun q => q = y ∨ I1 q ∨ I2 q) := by
  have hS : ∀ q, q = y → gk τ q ≠ 23 ∧ (gk τ q = 102 → q = R 5) := fun q hq => by
    subst hq
    rcases hv with ⟨hv, -⟩ | ⟨hv, -⟩ | ⟨hv, -⟩ <;> omega
  have r1' := rT_keep hk hS _ _ _ _ r1 (fun q hq w => n1 (w ▸ hq)) (fun z => absurd rfl z)
  have r2' := rT_keep hk hS _ _ _ _ r2 (fun q hq w => n2 (w ▸ hq)) (fun z => absurd rfl z)
  have c1 : ∀ q, I1 q → (q = y ∨ I1 q ∨ I2 q) ∧ q ≠ y := fun q hq => ⟨Or.inr (Or.inl hq), fun w => n1 (w ▸ hq)⟩
  have c2 : ∀ q, I2 q → (q = y ∨ I1 q ∨ I2 q) ∧ q ≠ y ∧ ¬ I1 q := fun q hq => ⟨Or.inr (Or.inr hq), fun w => n2 (w ▸ hq), hd q hq⟩
  rcases hv with ⟨rfl, rfl⟩ | ⟨rfl, rfl⟩ | ⟨rfl, rfl⟩
  · exact ⟨h1, Or.inl rfl, h2, h3, x, yb, I1, I2, h4, h5, c1, c2, r1', r2'⟩
  · exact ⟨h1, Or.inl rfl, h2, h3, x, yb, I1, I2, h4, h5, c1, c2, r1', r2'⟩
  · exact ⟨h1, Or.inl rfl, h2, h3, x, yb, I1, I2, h4, h5, c1, c2, r1', r2'⟩
/-- the body comes to a node -/
theorem nd_fin {tg p x yb y : Nat} {v vd vb : V} (hv : bnk tg v vd vb) (h : RS G KK T R X K w t a tp bl sl bs m k n s τ) (hF : rF a bl σ τ) (hz : gz σ) (la : a < gn σ) (lb : bl < gn σ) (hbl : gk σ bl ≠ 0) (h0 : gk τ y = tg) (h3 : gi τ y 0 = iI (p : Int)) (h4 : gr τ y 2 = some x) (hy : gn σ ≤ y) (r1 : rT R (tname t) τ vd x 0 I1) (r2 : rT R (tname t) τ vb yb 0 I2) (o1 : oI bl σ τ I1) (o2 : oI bl σ τ I2) (n1 : ¬ I1 y) (n2 : ¬ I2 y) (hd : ∀ q, I2 q → ¬ I1 q) :
    RS G KK T R X K w t a tp bl sl bs m k n s (gpr y 3 (some yb) τ) ∧ rF a bl σ (gpr y 3 (some yb) τ) ∧ oI bl σ (gpr y 3 (some yb) τ) (fun q => q = y ∨ I1 q ∨ I2 q) ∧ (∀ f : Nat, gi τ y 1 = iI (f : Int) → rT R (tname t) (gpr y 3 (some yb) τ) (.tag f (.tag p v)) y 0 (fun q => q = y ∨ I1 q ∨ I2 q)) ∧ (∀ f : Nat, rT R (tname t) (gpi y 1 (iI (f : Int)) (gpr y 3 (some yb) τ)) (.tag f (.tag p v)) y 0 (fun q => q = y ∨ I1 q ∨ I2 q)) := by
  have hk : keep (fun q => q = y) τ (gpr y 3 (some yb) τ) := keep.rf.pr (fun _ => rfl)
  have htg : 8 ≤ tg ∧ tg ≤ 10 := by rcases hv with ⟨hv, -⟩ | ⟨hv, -⟩ | ⟨hv, -⟩ <;> omega
  have htm : tmt tg = true := by rcases hv with ⟨hv, -⟩ | ⟨hv, -⟩ | ⟨hv, -⟩ <;> (subst hv; rfl)
  have hyb : y ≠ bl := by omega
  refine ⟨h.nd hk (by omega) h.z rfl rfl, rF.nd hk gle.rf hF hy hz lb hbl, fun q hq => ?_, fun f hf => nd_rT hv hk h0 h0 hf h3 ?_ ?_ r1 r2 n1 n2 hd, fun f => nd_rT hv (keep.pi (W := fun q => q = y) hk (fun _ => rfl)) h0 h0 ?_ ?_ ?_ ?_ r1 r2 n1 n2 hd⟩
  · show gn σ ≤ q ∧ q < gn τ ∧ tmt (gk τ q) = true ∧ _
    rw [gr_pr, if_neg (fun z => hyb z.1.symm)]
    rcases hq with hq | hq | hq
    · subst hq
      refine ⟨hy, h.z.lt (by omega), by rw [h0]; exact htm, fun w => ?_⟩
      obtain ⟨-, -, z', y1, y2, -⟩ := h.2.2.2.2.1
      rw [w] at y1; cases y1; omega
    · exact o1 q hq
    · exact o2 q hq
  · rw [gr_pr, if_neg (by omega)]; exact h4
  · rw [gr_pr, if_pos ⟨rfl, rfl⟩]
  · rw [gi_pi, if_pos ⟨rfl, rfl⟩]
  · rw [gi_pi, if_neg (by omega)]; exact h3
  · rw [gr_pi, gr_pr, if_neg (by omega)]; exact h4
  · rw [gr_pi, gr_pr, if_pos ⟨rfl, rfl⟩]
/-- reading leaves a node of one's own -/
theorem rF.node {y : Nat} (h : RS G KK T R X K w t a tp bl sl bs m k n s σ) (hF : rF a bl σ τ) (hy : 8 ≤ gk σ y ∧ gk σ y ≤ 13) : gk τ y = gk σ y ∧ (∀ j, gi τ y j = gi σ y j) ∧ (∀ j, gr τ y j = gr σ y j) ∧ gl τ y = gl σ y :=
  hF.1 y (by omega) (fun w => by have := h.tg y w; omega)
theorem c_arrow (ih : CRt G s0 l KK T R X K w t a tp bl sl lev d) (ihu : CRu G s0 l KK T R X K w t a tp bl sl (lev + 1) d mX6_use (rUse t (rTerm t d))) (hK : KI KK) (hl : 12 ≤ lev) : CRu G s0 l KK T R X K w t a tp bl sl (lev + 2) d mX6_arrow (rArr t d) := by
  obtain ⟨l', rfl⟩ : ∃ l', lev = l' + 1 := ⟨lev - 1, by omega⟩
  intro bs k n s σ Q h hd ok er
  have k3 := h.2.2.1.1
  refine tX6_arrow ⟨h.1.1, ihu bs k n s σ _ h hd (fun τ1 y v k1 I1 e1 e2 e3 e4 e5 e6 e7 => fun _ => ?_) (fun x τ1 e p e1 e2 e3 e4 => fun _ => er x τ1 e p (by unfold rArr; rw [e1]; rfl) e2 e3 e4)⟩
  refine c_isSg (x := 256) (by omega) hK e2 (by omega) (fun _ => ?_)
  have eA : rArr t d bs k = if isSg k1 256 then rBind (rTerm t d (none :: bs) (sGo t k1.nx)) fun b k2 => .ok (.tag k.pl (.tag k1.pl (.group (.append v b) .fill)), k2) else .ok (v, k1) := by unfold rArr; rw [e1]; rfl
  cases hs : isSg k1 256 with
  | false => exact ⟨fun _ => ok τ1 y v k1 I1 (by rw [eA, hs]; rfl) e2 e3 e4 e5 e6 e7, fun q => absurd rfl q⟩
  | true =>
    rw [hs, if_pos rfl] at eA
    have k12 : k1.ki = 2 := by
      unfold isSg at hs
      simp only [Bool.and_eq_true, beq_iff_eq] at hs
      exact hs.1
    have hk1 := e2.2.2.2.2.2.2.1.2 (by omega)
    have hpl : k1.pl < (sGo t k1.nx).pl := by have := (sGo_ok (t := t) hk1.2).2; omega
    have hz1 := e2.z
    have hM1 := e2.2.2.2.2.2.1
    have n0 : gk τ1 (gn τ1) = 0 := hz1.at
    have no0 : gk τ1 (gn τ1) ≠ 0 → nil0 (gn τ1) := fun q => absurd n0 q
    have fr : ¬ isM R (gn τ1) := hM1.2.1.fr hz1 (Nat.le_refl _)
    have k9 : gk (gmk 9 6 τ1) (gn τ1) = 9 := gk_new n0
    have la1 : a ≠ gn τ1 := Nat.ne_of_lt e2.la
    refine ⟨fun q => absurd q (by decide), fun _ => ⟨⟨by have := hM1.2.2.2.1; omega, by have := hM1.2.2.2.2; omega, n0⟩, tX11_init (tX9_init ⟨⟨8, by decide, k9⟩, fun _ => ⟨k9, fun _ => ?_⟩⟩)⟩⟩
    have ea : gi (gpr (gn τ1) 2 (some y) (gpi (gn τ1) 1 (iI (-1)) (gpi (gn τ1) 0 (iI (-1)) (gmk 9 6 τ1)))) a 3 = iI (k1.pl : Int) := by
      rw [gi_pr, gi_pi, if_neg (fun q => la1 q.1), gi_pi, if_neg (fun q => la1 q.1), gi_mk la1]; exact e2.2.2.1.1
    rw [ea, k3]
    have kF : keep nil0 τ1 (gpi (gn τ1) 1 (iI (k.pl : Int)) (gpi (gn τ1) 0 (iI (k1.pl : Int)) (gpr (gn τ1) 2 (some y) (gpi (gn τ1) 1 (iI (-1)) (gpi (gn τ1) 0 (iI (-1)) (gmk 9 6 τ1)))))) := ((((((keep.rf.mk n0).pi no0).pi no0).pr no0).pi no0).pi no0)
    have gF : gle τ1 (gpi (gn τ1) 1 (iI (k.pl : Int)) (gpi (gn τ1) 0 (iI (k1.pl : Int)) (gpr (gn τ1) 2 (some y) (gpi (gn τ1) 1 (iI (-1)) (gpi (gn τ1) 0 (iI (-1)) (gmk 9 6 τ1)))))) := gle_mk (i := 9) (j := 6) hz1
    have zF : gz (gpi (gn τ1) 1 (iI (k.pl : Int)) (gpi (gn τ1) 0 (iI (k1.pl : Int)) (gpr (gn τ1) 2 (some y) (gpi (gn τ1) 1 (iI (-1)) (gpi (gn τ1) 0 (iI (-1)) (gmk 9 6 τ1)))))) := gz.mk (t := 9) (n := 6) hz1
    have f0 : gk (gpi (gn τ1) 1 (iI (k.pl : Int)) (gpi (gn τ1) 0 (iI (k1.pl : Int)) (gpr (gn τ1) 2 (some y) (gpi (gn τ1) 1 (iI (-1)) (gpi (gn τ1) 0 (iI (-1)) (gmk 9 6 τ1)))))) (gn τ1) = 9 := k9
    have f1 : gi (gpi (gn τ1) 1 (iI (k.pl : Int)) (gpi (gn τ1) 0 (iI (k1.pl : Int)) (gpr (gn τ1) 2 (some y) (gpi (gn τ1) 1 (iI (-1)) (gpi (gn τ1) 0 (iI (-1)) (gmk 9 6 τ1)))))) (gn τ1) 1 = iI (k.pl : Int) := by rw [gi_pi, if_pos ⟨rfl, rfl⟩]
    have f2 : gi (gpi (gn τ1) 1 (iI (k.pl : Int)) (gpi (gn τ1) 0 (iI (k1.pl : Int)) (gpr (gn τ1) 2 (some y) (gpi (gn τ1) 1 (iI (-1)) (gpi (gn τ1) 0 (iI (-1)) (gmk 9 6 τ1)))))) (gn τ1) 0 = iI (k1.pl : Int) := by rw [gi_pi, if_neg (by omega), gi_pi, if_pos ⟨rfl, rfl⟩]
    have f3 : gr (gpi (gn τ1) 1 (iI (k.pl : Int)) (gpi (gn τ1) 0 (iI (k1.pl : Int)) (gpr (gn τ1) 2 (some y) (gpi (gn τ1) 1 (iI (-1)) (gpi (gn τ1) 0 (iI (-1)) (gmk 9 6 τ1)))))) (gn τ1) 2 = some y := by rw [gr_pi, gr_pi, gr_pr, if_pos ⟨rfl, rfl⟩]
    have f4 : gn (gpi (gn τ1) 1 (iI (k.pl : Int)) (gpi (gn τ1) 0 (iI (k1.pl : Int)) (gpr (gn τ1) 2 (some y) (gpi (gn τ1) 1 (iI (-1)) (gpi (gn τ1) 0 (iI (-1)) (gmk 9 6 τ1)))))) = gn τ1 + 1 := rfl
    -- the arrow's sign pays
    have hgo : ∀ q : Nat, q = (sGo t k1.nx).pl → True := fun _ _ => trivial
    have r5 : RS G KK T R X K w t a tp bl sl bs (40 - (d : Int)) k1 n s τ1 := e2
    obtain ⟨b1, b2, b3, b4, b5, b6, b7, b8, b9⟩ := e2
    have r6 : ∀ υ, keep nil0 τ1 υ → gz υ → gn υ = gn τ1 + 1 → gm υ = gm τ1 + 6 → ∀ Q' : Outcome → GSt → Prop, (∀ τ, RS G KK T R X K w t a tp bl sl bs (40 - (d : Int)) (sGo t k1.nx) (n + 7) (s + 90) τ → rF a bl υ τ → Q' (.returned none) τ) → gle τ1 υ → CQ (wP G s0 l KK T) mX6_go (l' + 1 + 1) (.ref a :: []) υ Q' := fun υ ku zu gu mu Q' hq gl => by
      have ha := ku a (by rw [b1.1]; omega) id
      have hd1 : pRd t υ a tp bl sl := b1.mv (rk.nl ku (by rw [b1.1]; omega))
      have hS : ∀ q, nil0 q → gk τ1 q ≠ 23 ∧ (gk τ1 q = 102 → q = R 5) := fun q z => z.elim
      have hB := b5.kp ku id (fun _ _ => id) hS
      refine (c_go (n := n + 7 + 1 + 12 * (t.2 - (sGo t k1.nx).pl)) (s := s + 90 + 8 + 128 * (t.2 - (sGo t k1.nx).pl)) (R := R) (X := X) (K := K) (w := w) (by omega) hd1 (b2.mv ku hS) hK hk1.2 (by rw [ha.2.1]; exact b3.2.2.1) ⟨zu, hM1.2.1.new ku, hM1.2.2.1, ⟨by have := hM1.2.2.2.1; omega, by have := hM1.2.2.2.2; omega⟩⟩ (Q := fun o τ => gle υ τ → Q' o τ) (fun τ u1 u2 u3 hle => ?_)).gl
      have hT1 : TT R υ T := b2.mv ku hS
      exact hq τ ⟨hd1.mv u1, hT1.mv u1.1 (u1.S hd1.1), u3, (u1.2.2.1 5 (Or.inr rfl)).trans ((ha.2.1 5).trans b4), hB.rk u1 hd1.1, u2, (sGo_ok (t := t) hk1.2).1, sGo_sg (fun j hj => (b1.2.2.2.2.2.2.2.2 j hj).2), sGo_nm hk1.2⟩ (u1.F hd1.1 hB.1 hle)
    have gmF : gm (gpi (gn τ1) 1 (iI (k.pl : Int)) (gpi (gn τ1) 0 (iI (k1.pl : Int)) (gpr (gn τ1) 2 (some y) (gpi (gn τ1) 1 (iI (-1)) (gpi (gn τ1) 0 (iI (-1)) (gmk 9 6 τ1)))))) = gm τ1 + 6 := rfl
    generalize gpi (gn τ1) 1 (iI (k.pl : Int)) (gpi (gn τ1) 0 (iI (k1.pl : Int)) (gpr (gn τ1) 2 (some y) (gpi (gn τ1) 1 (iI (-1)) (gpi (gn τ1) 0 (iI (-1)) (gmk 9 6 τ1))))) = τ2 at *
    have F2 : rF a bl τ1 τ2 := rF.nl kF b5.1 gF
    refine r6 τ2 kF zF f4 gmF _ (fun τ3 u1 u2 => fun _ => ?_) gF
    have lo1 : gn σ ≤ gn τ1 := e3.2.2.1.1
    have lo3 : gn τ2 ≤ gn τ3 := u2.2.2.1.1
    have r1 := e4.F r5 e5 h.la h.lb (F2.tr u2)
    have o1 := (e5.F h.la h.lb (F2.tr u2)).1
    have I1lt : ∀ q, I1 q → q < gn τ1 := fun q hq => (e5 q hq).2.1
    -- the node
    have lb1 : bl < gn τ1 := r5.lb
    have nW : ¬ rW a bl τ2 (gn τ1) := fun w => by
      have := r5.la
      rcases w with w | w | w
      · omega
      · omega
      · have e := (kF bl (by rw [b5.1]; omega) id).2.2.1 1
        obtain ⟨-, -, z', y1, y2, -⟩ := b5
        rw [e] at w
        rw [w.1] at y1; cases y1; omega
    obtain ⟨v1, v2, v3, v4⟩ := u2.1 (gn τ1) (by omega) nW
    have hB3 := u1.2.2.2.2.1
    refine c_rbody (p := none) (o := T 14) (n := n) (s := s) ih (by omega) (u1.le (by omega) (by omega)) hd u1.2.1.2.2 (fun τ4 yb vb k' I2 g1 g2 g3 g4 g5 g6 => fun _ => ?_) (fun x τ4 e p g1 g2 g3 g4 => fun _ => er x τ4 e p (by rw [eA, g1]; rfl) g2 (e3.tr (F2.tr (u2.tr g3))) g4)
    have F4 : rF a bl σ τ4 := e3.tr (F2.tr (u2.tr g3))
    have r1' := r1.F u1 o1 h.la h.lb g3
    have o1' := (o1.F h.la h.lb g3).1
    obtain ⟨x1, x2, x3, x4⟩ := g3.node u1 (y := gn τ1) (by omega)
    have hy2 : ∀ q, I2 q → gn τ1 < q := fun q hq => by have := (g5 q hq).1; omega
    obtain ⟨z1, z2, z3, z4, z5⟩ := nd_fin (p := k1.pl) (x := y) (yb := yb) (y := gn τ1) (vd := v) (vb := vb) (v := .group (.append v vb) .fill) (tg := 9) (Or.inr (Or.inl ⟨rfl, rfl⟩)) g2 F4 h.z h.la h.lb (by rw [h.2.2.2.2.1.1]; omega) (by omega) (by rw [x2, v2]; exact f2) (by rw [x3, v3]; exact f3) lo1 r1' g4 o1' (g5.lo (by omega)) (fun q => by have := I1lt _ q; omega) (fun q => by have := hy2 _ q; omega) (fun q h1 h2 => by have := I1lt q h2; have := hy2 q h1; omega)
    exact ok _ (gn τ1) _ k' _ (by rw [eA, g1]; rfl) z1 z2 (z4 k.pl (by rw [x2, v2]; exact f1)) z3 (by omega) (by rw [gi_pr, x2, v2]; exact f1)
end PRQ
