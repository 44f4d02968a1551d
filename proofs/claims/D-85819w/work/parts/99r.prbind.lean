/-! P OVER S (45): reading: binders, lets -/
/-- the contract of binder, let (f: what they read): the node's beginning is not yet said -/
def CRb (G : GPl) (s0 : State) (l : Launch) (KK : Nat → Option Nat) (T : Nat → Nat) (R : Nat → Nat) (X : SX) (K : KS) (w : Nat) (t : TX) (a tp bl sl lev d : Nat) (md : MD) (C : TK → Prop) (f : List (Option Nat) → TK → RR V) : Prop :=
  ∀ (bs : List (Option Nat)) (k : TK) (n s : Nat) (σ : GSt) (Q : Outcome → GSt → Prop), C k → RS G KK T R X K w t a tp bl sl bs (40 - (d : Int)) k n s σ → bs.length + 1 + d ≤ 40 →
    (∀ τ y v k' I, f bs k = .ok (.tag k.pl (.tag k.pl v), k') → RS G KK T R X K w t a tp bl sl bs (40 - (d : Int)) k' n s τ → rF a bl σ τ → oI bl σ τ I → gi τ y 1 = iI (-1) → (∀ f : Nat, rT R (tname t) (gpi y 1 (iI (f : Int)) τ) (.tag f (.tag k.pl v)) y 0 I) → k.pl < k'.pl → Q (.returned (some (va_rf (some y)))) τ) →
    (∀ x τ (e : Nat) p, f bs k = .error (e, p) → flt τ x (e : Int) p → rF a bl σ τ → MB G R τ X K w n s → Q (.threw x) τ) → CQ (wP G s0 l KK T) md lev (.ref a :: []) σ Q
def rBnd (t : TX) (d : Nat) (g : V → V → V) (bs : List (Option Nat)) (k : TK) : RR V :=
  rBind (rName t (sGo t k.nx)) fun x k1 => rBind (rNeed t 58 k1) fun _ k2 => rBind (rTerm t d bs k2) fun v k3 => rBind (rNeed t 46 k3) fun _ k4 => rBind (rTerm t d (some x :: bs) k4) fun b k5 => .ok (.tag k.pl (.tag k.pl (g v b)), k5)
def rLet (t : TX) (d : Nat) (bs : List (Option Nat)) (k : TK) : RR V :=
  rBind (rName t (sGo t k.nx)) fun x k1 => rBind (rNeed t 257 k1) fun _ k2 => rBind (rTerm t d bs k2) fun v k3 => if isWd t k3 8 then rBind (rTerm t d (some x :: bs) (sGo t k3.nx)) fun b k5 => .ok (.tag k.pl (.tag k.pl (.group (.append v b) .allOrNone)), k5) else rWrong k3
section PRR
variable {G : GPl} {s0 : State} {l : Launch} {KK : Nat → Option Nat} {T : Nat → Nat} {lev d : Nat} {Q : Outcome → GSt → Prop} {R : Nat → Nat} {σ τ υ st0 : GSt} {X : SX} {K : KS} {w n s n' s' o a tp bl sl u al z z2 : Nat} {W I I1 I2 : Nat → Prop} {t : TX} {bs : List (Option Nat)} {m : Int} {k : TK} {TN : Nat → List Nat} {x1 : Int32} {x2 : Option Nat}
theorem CRt.up {lev' : Nat} (h : CRt G s0 l KK T R X K w t a tp bl sl lev d) (hl : lev ≤ lev') : CRt G s0 l KK T R X K w t a tp bl sl lev' d := fun bs k n s σ Q h1 h2 ok er => (h bs k n s σ Q h1 h2 ok er).up hl
theorem rNeed_ki {x : Nat} {r : Nat × TK} (h : rNeed t x k = .ok r) : k.ki = 2 := by
  unfold rNeed at h
  split at h
  · rename_i hh
    unfold isSg at hh
    simp only [Bool.and_eq_true, beq_iff_eq] at hh
    exact hh.1
  · cases h
theorem rName_ki {r : Nat × TK} (h : rName t k = .ok r) : k.ki = 0 := by
  unfold rName at h
  split at h
  · assumption
  · cases h
theorem RS.pl (h : RS G KK T R X K w t a tp bl sl bs m k n s σ) (hk : k.ki ≤ 2) : k.pl < (sGo t k.nx).pl := by
  have h1 := h.2.2.2.2.2.2.1.2 hk
  have := (sGo_ok (t := t) h1.2).2
  omega
theorem pS.F {bs' : List Nat} (h : RS G KK T R X K w t a tp bl sl bs m k n s σ) (hs : pS σ (R 5) o bs') (hF : rF a bl σ τ) : pS τ (R 5) o bs' := hs.kpW hF.1 h.S
theorem c_bpre {tg sz : Nat} {mI : MD} {g : V → V → V} (ih : CRt G s0 l KK T R X K w t a tp bl sl lev d) (hK : KI KK) (hl : 12 ≤ lev)
    (hI : ∀ (σ : GSt) (y : Nat) (x : Option Nat) (Q : Outcome → GSt → Prop), gk σ y = tg → Q (.returned none) (gpr y 2 x (gpi y 1 (iI (-1)) (gpi y 0 (iI (-1)) σ))) → CQ (wP G s0 l KK T) mI (lev + 1) (.ref y :: [va_rf x]) σ Q)
    (htg : (tg = 8 ∧ sz = 4) ∨ (tg = 9 ∧ sz = 6)) (hv : ∀ d b, bnk tg (g d b) d b) (hk2 : k.ki = 2) (h : RS G KK T R X K w t a tp bl sl bs (40 - (d : Int)) k n s σ) (hd : bs.length + 1 + d ≤ 40)
    (ok : ∀ τ y v k' I, rBnd t d g bs k = .ok (.tag k.pl (.tag k.pl v), k') → RS G KK T R X K w t a tp bl sl bs (40 - (d : Int)) k' n s τ → rF a bl σ τ → oI bl σ τ I → gi τ y 1 = iI (-1) → (∀ f : Nat, rT R (tname t) (gpi y 1 (iI (f : Int)) τ) (.tag f (.tag k.pl v)) y 0 I) → k.pl < k'.pl → Q (.returned (some (va_rf (some y)))) τ)
    (er : ∀ x τ (e : Nat) p, rBnd t d g bs k = .error (e, p) → flt τ x (e : Int) p → rF a bl σ τ → MB G R τ X K w n s → Q (.threw x) τ) :
    CQ (wP G s0 l KK T) mX6_go (lev + 1) (.ref a :: []) σ (onV (fun t18 => gle σ t18 → (CQ (wP G s0 l KK T) mX6_needName (lev + 1) (.ref a :: []) t18 (onR (fun r21 t20 => gle t18 t20 → (CQ (wP G s0 l KK T) mX6_need (lev + 1) (.ref a :: [.int (iI 58)]) t20 (onI (fun r23 t22 => gle t20 t22 → (CQ (wP G s0 l KK T) mX6_term (lev + 1) (.ref a :: []) t22 (onR (fun r25 t24 => gle t22 t24 → (CQ (wP G s0 l KK T) mX6_need (lev + 1) (.ref a :: [.int (iI 46)]) t24 (onI (fun r27 t26 => gle t24 t26 → (groom G sz t26 ∧ (CQ (wP G s0 l KK T) mI (lev + 1) (.ref (gn t26) :: [va_rf r25]) (gmk tg sz t26) (onV (fun t30 => gle (gmk tg sz t26) t30 → (CQ (wP G s0 l KK T) mX6_body (lev + 1) (.ref a :: [va_rf r21]) (gpi (gn t26) 0 (gi σ a 3) t30) (onR (fun r33 t32 => gle (gpi (gn t26) 0 (gi σ a 3) t30) t32 → Q (.returned (some (va_rf (some (gn t26))))) (gpr (gn t26) 3 r33 t32)) (fun x t => gle (gpi (gn t26) 0 (gi σ a 3) t30) t → Q (.threw x) t)))) (fun x t => gle (gmk tg sz t26) t → Q (.threw x) t))))) (fun x t => gle t24 t → Q (.threw x) t)))) (fun x t => gle t22 t → Q (.threw x) t)))) (fun x t => gle t20 t → Q (.threw x) t)))) (fun x t => gle t18 t → Q (.threw x) t)))) (fun x t => gle σ t → Q (.threw x) t)) := by
  have k3 := h.2.2.1.1
  rw [k3]
  refine c_goR (by omega) hK h (by omega) (fun τ1 u1 F1 _ => fun _ => ?_)
  have p1 := h.pl (by omega)
  refine c_needN (by omega) hK u1 (fun τ2 o e1 u2 F2 s2 => fun _ => ?_) (fun x τ2 e p e1 e2 e3 e4 => fun _ => er x τ2 e p (by unfold rBnd; rw [e1]; rfl) e2 (F1.tr e3) (e4.le (by omega) (by omega)))
  have p2 := u1.pl (by rw [rName_ki e1]; omega)
  have eA : rBnd t d g bs k = rBind (rNeed t 58 (sGo t (sGo t k.nx).nx)) fun _ k2 => rBind (rTerm t d bs k2) fun v k3 => rBind (rNeed t 46 k3) fun _ k4 => rBind (rTerm t d (some (sGo t k.nx).pl :: bs) k4) fun b k5 => .ok (.tag k.pl (.tag k.pl (g v b)), k5) := by unfold rBnd; rw [e1]; rfl
  generalize (sGo t k.nx).pl = x at *
  generalize sGo t (sGo t k.nx).nx = k2 at *
  have F02 := F1.tr F2
  refine c_need (x := 58) (by omega) hK u2 (by omega) (fun τ3 f1 u3 F3 => fun _ => ?_) (fun y τ3 e p f1 f2 f3 f4 => fun _ => er y τ3 e p (by rw [eA, f1]; rfl) f2 (F02.tr f3) (f4.le (by omega) (by omega)))
  have p3 := u2.pl (by rw [rNeed_ki f1]; omega)
  have s3 := s2.F u2 F3
  have eB : rBnd t d g bs k = rBind (rTerm t d bs (sGo t k2.nx)) fun v k3 => rBind (rNeed t 46 k3) fun _ k4 => rBind (rTerm t d (some x :: bs) k4) fun b k5 => .ok (.tag k.pl (.tag k.pl (g v b)), k5) := by rw [eA, f1]; rfl
  generalize sGo t k2.nx = k3 at *
  have F03 := F02.tr F3
  refine (ih.up (Nat.le_succ lev)) bs k3 (n + 8 + 8 + 8) (s + 96 + 96 + 96) τ3 _ u3 (by omega) (fun τ4 y v k4 I1 g1 u4 F4 r4 o4 p4 => fun _ => ?_) (fun y τ4 e p g1 g2 g3 g4 => fun _ => er y τ4 e p (by rw [eB, g1]; rfl) g2 (F03.tr g3) (g4.le (by omega) (by omega)))
  have s4 := s3.F u3 F4
  have eC : rBnd t d g bs k = rBind (rNeed t 46 k4) fun _ k5 => rBind (rTerm t d (some x :: bs) k5) fun b k6 => .ok (.tag k.pl (.tag k.pl (g v b)), k6) := by rw [eB, g1]; rfl
  have F04 := F03.tr F4
  refine c_need (x := 46) (by omega) hK u4 (by omega) (fun τ5 i1 u5 F5 => fun _ => ?_) (fun y τ5 e p i1 i2 i3 i4 => fun _ => er y τ5 e p (by rw [eC, i1]; rfl) i2 (F04.tr i3) (i4.le (by omega) (by omega)))
  have p5 := u4.pl (by rw [rNeed_ki i1]; omega)
  have s5 := s4.F u4 F5
  have r5 := r4.F u4 o4 u3.la u3.lb F5
  have o5 := (o4.F u3.la u3.lb F5).1
  have eD : rBnd t d g bs k = rBind (rTerm t d (some x :: bs) (sGo t k4.nx)) fun b k6 => .ok (.tag k.pl (.tag k.pl (g v b)), k6) := by rw [eC, i1]; rfl
  generalize sGo t k4.nx = k5 at *
  have F05 := F04.tr F5
  have hz5 := u5.z
  have hM5 := u5.2.2.2.2.2.1
  have n0 : gk τ5 (gn τ5) = 0 := hz5.at
  have no0 : gk τ5 (gn τ5) ≠ 0 → nil0 (gn τ5) := fun q => absurd n0 q
  have fr : ¬ isM R (gn τ5) := hM5.2.1.fr hz5 (Nat.le_refl _)
  have kt : gk (gmk tg sz τ5) (gn τ5) = tg := gk_new n0
  refine ⟨⟨by have := hM5.2.2.2.1; omega, by have := hM5.2.2.2.2; omega, n0⟩, hI _ _ _ _ kt (fun _ => ?_)⟩
  have kF : keep nil0 τ5 (gpi (gn τ5) 0 (iI (k.pl : Int)) (gpr (gn τ5) 2 (some y) (gpi (gn τ5) 1 (iI (-1)) (gpi (gn τ5) 0 (iI (-1)) (gmk tg sz τ5))))) := (((((keep.rf.mk n0).pi no0).pi no0).pr no0).pi no0)
  have gF : gle τ5 (gpi (gn τ5) 0 (iI (k.pl : Int)) (gpr (gn τ5) 2 (some y) (gpi (gn τ5) 1 (iI (-1)) (gpi (gn τ5) 0 (iI (-1)) (gmk tg sz τ5))))) := gle_mk (i := tg) (j := sz) hz5
  have mF : MB G R (gpi (gn τ5) 0 (iI (k.pl : Int)) (gpr (gn τ5) 2 (some y) (gpi (gn τ5) 1 (iI (-1)) (gpi (gn τ5) 0 (iI (-1)) (gmk tg sz τ5))))) X K w (n + 1 + 1 + 12 * (t.2 - k5.pl)) (s + 60 + 8 + 128 * (t.2 - k5.pl)) := (((((hM5.le (n' := n + 1 + 1 + 12 * (t.2 - k5.pl) + 1) (s' := s + 60 + 8 + 128 * (t.2 - k5.pl) + sz) (by omega) (by omega)).mk.pi' fr).pi' fr).pr' fr).pi' fr)
  have f0 : gk (gpi (gn τ5) 0 (iI (k.pl : Int)) (gpr (gn τ5) 2 (some y) (gpi (gn τ5) 1 (iI (-1)) (gpi (gn τ5) 0 (iI (-1)) (gmk tg sz τ5))))) (gn τ5) = tg := kt
  have f2 : gi (gpi (gn τ5) 0 (iI (k.pl : Int)) (gpr (gn τ5) 2 (some y) (gpi (gn τ5) 1 (iI (-1)) (gpi (gn τ5) 0 (iI (-1)) (gmk tg sz τ5))))) (gn τ5) 1 = iI (-1) := by rw [gi_pi, if_neg (by omega), gi_pr, gi_pi, if_pos ⟨rfl, rfl⟩]
  have f3 : gi (gpi (gn τ5) 0 (iI (k.pl : Int)) (gpr (gn τ5) 2 (some y) (gpi (gn τ5) 1 (iI (-1)) (gpi (gn τ5) 0 (iI (-1)) (gmk tg sz τ5))))) (gn τ5) 0 = iI (k.pl : Int) := by rw [gi_pi, if_pos ⟨rfl, rfl⟩]
  have f4 : gr (gpi (gn τ5) 0 (iI (k.pl : Int)) (gpr (gn τ5) 2 (some y) (gpi (gn τ5) 1 (iI (-1)) (gpi (gn τ5) 0 (iI (-1)) (gmk tg sz τ5))))) (gn τ5) 2 = some y := by rw [gr_pi, gr_pr, if_pos ⟨rfl, rfl⟩]
  have f5 : gn (gpi (gn τ5) 0 (iI (k.pl : Int)) (gpr (gn τ5) 2 (some y) (gpi (gn τ5) 1 (iI (-1)) (gpi (gn τ5) 0 (iI (-1)) (gmk tg sz τ5))))) = gn τ5 + 1 := rfl
  generalize gpi (gn τ5) 0 (iI (k.pl : Int)) (gpr (gn τ5) 2 (some y) (gpi (gn τ5) 1 (iI (-1)) (gpi (gn τ5) 0 (iI (-1)) (gmk tg sz τ5)))) = τ6 at *
  have u6 : RS G KK T R X K w t a tp bl sl bs (40 - (d : Int)) k5 (n + 1) (s + 60) τ6 := u5.fr kF (fun q z => z.elim) mF
  have F6 : rF a bl τ5 τ6 := rF.nl kF u5.2.2.2.2.1.1 gF
  have s6 := s5.F u5 F6
  have r6 := r5.F u5 o5 u3.la u3.lb F6
  have o6 := (o5.F u3.la u3.lb F6).1
  refine c_rbody (p := some x) (o := o) (n := n) (s := s) ih (by omega) u6 hd s6 (fun τ7 yb vb k' I2 j1 u7 F7 r7 o7 p7 => fun _ => ?_) (fun y τ7 e p j1 j2 j3 j4 => fun _ => er y τ7 e p (by rw [eD, j1]; rfl) j2 ((F05.tr F6).tr j3) j4)
  have F07 : rF a bl σ τ7 := (F05.tr F6).tr F7
  have r1' := r6.F u6 o6 u3.la u3.lb F7
  have o1' := (o6.F u3.la u3.lb F7).1
  have htg' : 8 ≤ tg ∧ tg ≤ 13 := by omega
  obtain ⟨x1, x2, x3, x4⟩ := F7.node u6 (y := gn τ5) (by omega)
  have lo3 : gn σ ≤ gn τ3 := F03.2.2.1.1
  have lo5 : gn τ3 ≤ gn τ5 := (F4.tr F5).2.2.1.1
  have I1lt : ∀ q, I1 q → q < gn τ5 := fun q hq => (o5 q hq).2.1
  have hy2 : ∀ q, I2 q → gn τ5 < q := fun q hq => by have := (o7 q hq).1; omega
  obtain ⟨z1, z2, z3, z4, z5⟩ := nd_fin (p := k.pl) (x := y) (yb := yb) (y := gn τ5) (vd := v) (vb := vb) (v := g v vb) (tg := tg) (hv v vb) u7 F07 h.z h.la h.lb (by rw [h.2.2.2.2.1.1]; omega) (by omega) (by rw [x2]; exact f3) (by rw [x3]; exact f4) (by omega) r1' r7 (o1'.lo lo3) (o7.lo (by omega)) (fun q => by have := I1lt _ q; omega) (fun q => by have := hy2 _ q; omega) (fun q h1 h2 => by have := I1lt q h2; have := hy2 q h1; omega)
  exact ok _ (gn τ5) (g v vb) k' _ (by rw [eD, j1]; rfl) z1 z2 z3 (by rw [gi_pr, x2]; exact f2) z5 (by omega)
theorem c_rbinder (ih : CRt G s0 l KK T R X K w t a tp bl sl lev d) (hK : KI KK) (hl : 12 ≤ lev) : CRb G s0 l KK T R X K w t a tp bl sl (lev + 2) d mX6_binder (fun k => k.ki = 2) (fun bs k => rBnd t d (fun v b => if k.sg = 92 then .append v b else .group (.append v b) .fill) bs k) := by
  obtain ⟨l', rfl⟩ : ∃ l', lev = l' + 1 := ⟨lev - 1, by omega⟩
  intro bs k n s σ Q hk h hd ok er
  have hsg := h.2.2.2.2.2.2.2.1
  have e4 := h.2.2.1.2.2.2.2.1 hk
  refine tX6_binder ⟨h.1.1, fun q => ?_, fun q => ?_⟩
  · rw [e4, iI_eq (by omega) (by omega) (by omega) (by omega)] at q
    have q' : k.sg = 92 := by omega
    refine c_bpre (tg := 8) (sz := 4) (g := fun v b => if k.sg = 92 then .append v b else .group (.append v b) .fill) ih hK hl (fun σ y x Q h1 h2 => ?_) (Or.inl ⟨rfl, rfl⟩) (fun d b => Or.inl ⟨rfl, if_pos q'⟩) hk h hd ok er
    exact tX10_init (tX9_init ⟨⟨7, by decide, h1⟩, fun _ => ⟨h1, h2⟩⟩)
  · have q' : ¬ k.sg = 92 := fun z => q (by rw [e4, z]; rfl)
    refine c_bpre (tg := 9) (sz := 6) (g := fun v b => if k.sg = 92 then .append v b else .group (.append v b) .fill) ih hK hl (fun σ y x Q h1 h2 => ?_) (Or.inr ⟨rfl, rfl⟩) (fun d b => Or.inr (Or.inl ⟨rfl, if_neg q'⟩)) hk h hd ok er
    exact tX11_init (tX9_init ⟨⟨8, by decide, h1⟩, fun _ => ⟨h1, h2⟩⟩)
end PRR
