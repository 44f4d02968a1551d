/-! P OVER S (46): reading: lets, terms -/
section PRS2
variable {G : GPl} {s0 : State} {l : Launch} {KK : Nat → Option Nat} {T : Nat → Nat} {lev d : Nat} {Q : Outcome → GSt → Prop} {R : Nat → Nat} {σ τ υ st0 : GSt} {X : SX} {K : KS} {w n s n' s' o a tp bl sl u al z z2 : Nat} {W I I1 I2 : Nat → Prop} {t : TX} {bs : List (Option Nat)} {m m' : Int} {k : TK} {TN : Nat → List Nat} {x1 : Int32} {x2 : Option Nat}
theorem c_rlet (ih : CRt G s0 l KK T R X K w t a tp bl sl lev d) (hK : KI KK) (hl : 12 ≤ lev) : CRb G s0 l KK T R X K w t a tp bl sl (lev + 2) d mX6_let (fun k => k.ki = 1) (rLet t d) := by
  obtain ⟨l', rfl⟩ : ∃ l', lev = l' + 1 := ⟨lev - 1, by omega⟩
  intro bs k n s σ Q hk1 h hd ok er
  have k3 := h.2.2.1.1
  refine tX6_let ⟨h.1.1, c_goR (by omega) hK h (by omega) (fun τ1 u1 F1 _ => fun _ => ?_)⟩
  rw [k3]
  have p1 := h.pl (by omega)
  refine c_needN (by omega) hK u1 (fun τ2 o e1 u2 F2 s2 => fun _ => ?_) (fun x τ2 e p e1 e2 e3 e4 => fun _ => er x τ2 e p (by unfold rLet; rw [e1]; rfl) e2 (F1.tr e3) (e4.le (by omega) (by omega)))
  have p2 := u1.pl (by rw [rName_ki e1]; omega)
  have eA : rLet t d bs k = rBind (rNeed t 257 (sGo t (sGo t k.nx).nx)) fun _ k2 => rBind (rTerm t d bs k2) fun v k3 => if isWd t k3 8 then rBind (rTerm t d (some (sGo t k.nx).pl :: bs) (sGo t k3.nx)) fun b k5 => .ok (.tag k.pl (.tag k.pl (.group (.append v b) .allOrNone)), k5) else rWrong k3 := by unfold rLet; rw [e1]; rfl
  generalize (sGo t k.nx).pl = x at *
  generalize sGo t (sGo t k.nx).nx = k2 at *
  have F02 := F1.tr F2
  refine c_need (x := 257) (by omega) hK u2 (by omega) (fun τ3 f1 u3 F3 => fun _ => ?_) (fun y τ3 e p f1 f2 f3 f4 => fun _ => er y τ3 e p (by rw [eA, f1]; rfl) f2 (F02.tr f3) (f4.le (by omega) (by omega)))
  have p3 := u2.pl (by rw [rNeed_ki f1]; omega)
  have s3 := s2.F u2 F3
  have eB : rLet t d bs k = rBind (rTerm t d bs (sGo t k2.nx)) fun v k3 => if isWd t k3 8 then rBind (rTerm t d (some x :: bs) (sGo t k3.nx)) fun b k5 => .ok (.tag k.pl (.tag k.pl (.group (.append v b) .allOrNone)), k5) else rWrong k3 := by rw [eA, f1]; rfl
  generalize sGo t k2.nx = k3 at *
  have F03 := F02.tr F3
  -- the node is made first
  have hz3 := u3.z
  have hM3 := u3.2.2.2.2.2.1
  have n0 : gk τ3 (gn τ3) = 0 := hz3.at
  have kt : gk (gmk 10 4 τ3) (gn τ3) = 10 := gk_new n0
  have kM : keep nil0 τ3 (gmk 10 4 τ3) := keep.rf.mk n0
  have u4 : RS G KK T R X K w t a tp bl sl bs (40 - (d : Int)) k3 (n + 8 + 8 + 7) (s + 96 + 96 + 92) (gmk 10 4 τ3) := u3.fr kM (fun q z => z.elim) ((hM3.le (n' := n + 8 + 8 + 7 + 1 + 12 * (t.2 - k3.pl) + 1) (s' := s + 96 + 96 + 92 + 8 + 128 * (t.2 - k3.pl) + 4) (by omega) (by omega)).mk)
  have F4 : rF a bl τ3 (gmk 10 4 τ3) := rF.nl kM u3.2.2.2.2.1.1 (gle_mk hz3)
  have g4 : gn (gmk 10 4 τ3) = gn τ3 + 1 := rfl
  have s4 := s3.F u3 F4
  refine ⟨⟨by have := hM3.2.2.2.1; omega, by have := hM3.2.2.2.2; omega, n0⟩, ?_⟩
  generalize gmk 10 4 τ3 = τ4 at *
  have F04 := F03.tr F4
  refine (ih.up (Nat.le_succ (l' + 1))) bs k3 _ _ τ4 _ u4 (by omega) (fun τ5 y v k4 I1 g1 u5 F5 r5 o5 p5 => fun _ => ?_) (fun y τ5 e p g1 g2 g3 g4 => fun _ => er y τ5 e p (by rw [eB, g1]; rfl) g2 (F04.tr g3) (g4.le (by omega) (by omega)))
  have s5 := s4.F u4 F5
  have eC : rLet t d bs k = if isWd t k4 8 then rBind (rTerm t d (some x :: bs) (sGo t k4.nx)) fun b k5 => .ok (.tag k.pl (.tag k.pl (.group (.append v b) .allOrNone)), k5) else rWrong k4 := by rw [eB, g1]; rfl
  have F05 := F04.tr F5
  obtain ⟨x1, x2, x3, x4⟩ := F5.node u4 (y := gn τ3) (by omega)
  have k5 : gk τ5 (gn τ3) = 10 := x1.trans kt
  refine tX12_init (tX9_init ⟨⟨9, by decide, k5⟩, fun _ => ⟨k5, fun _ => ?_⟩⟩)
  have kF : keep (fun q => q = gn τ3) τ5 (gpi (gn τ3) 0 (iI (k.pl : Int)) (gpr (gn τ3) 2 (some y) (gpi (gn τ3) 1 (iI (-1)) (gpi (gn τ3) 0 (iI (-1)) τ5)))) := keep.pi (keep.pr (keep.pi (keep.pi (W := fun q => q = gn τ3) keep.rf (fun _ => rfl)) (fun _ => rfl)) (fun _ => rfl)) (fun _ => rfl)
  have gF : gle τ5 (gpi (gn τ3) 0 (iI (k.pl : Int)) (gpr (gn τ3) 2 (some y) (gpi (gn τ3) 1 (iI (-1)) (gpi (gn τ3) 0 (iI (-1)) τ5)))) := gle.rf
  have f0 : gk (gpi (gn τ3) 0 (iI (k.pl : Int)) (gpr (gn τ3) 2 (some y) (gpi (gn τ3) 1 (iI (-1)) (gpi (gn τ3) 0 (iI (-1)) τ5)))) (gn τ3) = 10 := k5
  have f2 : gi (gpi (gn τ3) 0 (iI (k.pl : Int)) (gpr (gn τ3) 2 (some y) (gpi (gn τ3) 1 (iI (-1)) (gpi (gn τ3) 0 (iI (-1)) τ5)))) (gn τ3) 1 = iI (-1) := by rw [gi_pi, if_neg (by omega), gi_pr, gi_pi, if_pos ⟨rfl, rfl⟩]
  have f3 : gi (gpi (gn τ3) 0 (iI (k.pl : Int)) (gpr (gn τ3) 2 (some y) (gpi (gn τ3) 1 (iI (-1)) (gpi (gn τ3) 0 (iI (-1)) τ5)))) (gn τ3) 0 = iI (k.pl : Int) := by rw [gi_pi, if_pos ⟨rfl, rfl⟩]
  have f4 : gr (gpi (gn τ3) 0 (iI (k.pl : Int)) (gpr (gn τ3) 2 (some y) (gpi (gn τ3) 1 (iI (-1)) (gpi (gn τ3) 0 (iI (-1)) τ5)))) (gn τ3) 2 = some y := by rw [gr_pi, gr_pr, if_pos ⟨rfl, rfl⟩]
  have f5 : gn (gpi (gn τ3) 0 (iI (k.pl : Int)) (gpr (gn τ3) 2 (some y) (gpi (gn τ3) 1 (iI (-1)) (gpi (gn τ3) 0 (iI (-1)) τ5)))) = gn τ5 := rfl
  have f6 : ∀ b, gk (gpi (gn τ3) 0 (iI (k.pl : Int)) (gpr (gn τ3) 2 (some y) (gpi (gn τ3) 1 (iI (-1)) (gpi (gn τ3) 0 (iI (-1)) τ5)))) b = gk τ5 b := fun _ => rfl
  have u6 : RS G KK T R X K w t a tp bl sl bs (40 - (d : Int)) k4 (n + 8 + 8 + 7) (s + 96 + 96 + 92) (gpi (gn τ3) 0 (iI (k.pl : Int)) (gpr (gn τ3) 2 (some y) (gpi (gn τ3) 1 (iI (-1)) (gpi (gn τ3) 0 (iI (-1)) τ5)))) := u5.nd kF (by omega) u5.z rfl rfl
  have lo3 : gn σ ≤ gn τ3 := F03.2.2.1.1
  have hb : y ≠ bl := fun q => by have := (o5 y (rT_tm v y 0 I1 r5 rfl).2.1).1; have := u4.lb; omega
  have I1ge : ∀ q, I1 q → gn τ3 < q := fun q hq => by have := (o5 q hq).1; omega
  have hS6 : ∀ q, q = gn τ3 → gk τ5 q ≠ 23 ∧ (gk τ5 q = 102 → q = R 5) := fun q hq => by subst hq; omega
  have lb3 : bl < gn τ3 := u3.lb
  have gb6 : gr (gpi (gn τ3) 0 (iI (k.pl : Int)) (gpr (gn τ3) 2 (some y) (gpi (gn τ3) 1 (iI (-1)) (gpi (gn τ3) 0 (iI (-1)) τ5)))) bl 1 = gr τ5 bl 1 := by rw [gr_pi, gr_pr, if_neg (by omega), gr_pi, gr_pi]
  generalize gpi (gn τ3) 0 (iI (k.pl : Int)) (gpr (gn τ3) 2 (some y) (gpi (gn τ3) 1 (iI (-1)) (gpi (gn τ3) 0 (iI (-1)) τ5))) = τ6 at *
  have s6 := s5.kpW kF hS6
  have r6 := rT_keep kF hS6 v y 0 I1 r5 (fun q hq w => by have := I1ge q hq; omega) (fun z => absurd rfl z)
  have o6 : oI bl τ4 τ6 I1 := fun q hq => by
    obtain ⟨y1, y2, y3, y4⟩ := o5 q hq
    exact ⟨y1, by omega, by rw [f6]; exact y3, by rw [gb6]; exact y4⟩
  have F06 : rF a bl σ τ6 := rF.nd kF gF F05 lo3 h.z h.lb (by rw [h.2.2.2.2.1.1]; omega)
  refine c_isWd (x := 8) (by omega) hK u6 (by omega) (fun _ => ?_)
  cases hw : isWd t k4 8 with
  | false =>
    rw [hw] at eC
    exact ⟨fun _ => c_wrong (by omega) hK u6 (fun y τ7 f1 f2 f3 _ => ⟨y, rfl, er y τ7 _ _ eC f1 (F06.tr f2) (f3.le (by omega) (by omega))⟩), fun q => absurd rfl q⟩
  | true =>
    rw [hw, if_pos rfl] at eC
    have k41 : k4.ki = 1 := by
      unfold isWd at hw
      simp only [Bool.and_eq_true, beq_iff_eq] at hw
      exact hw.1
    refine ⟨fun q => absurd q (by decide), fun _ => c_goR (by omega) hK u6 (by omega) (fun τ7 u7 F7 _ => fun _ => ?_)⟩
    have p7 := u6.pl (by omega)
    have s7 := s6.F u6 F7
    have r7 := r6.F u6 o6 u4.la u4.lb F7
    have o7 := (o6.F u4.la u4.lb F7).1
    obtain ⟨y1, y2, y3, y4⟩ := F7.node u6 (y := gn τ3) (by omega)
    generalize sGo t k4.nx = k6 at *
    have F07 := F06.tr F7
    refine c_rbody (p := some x) (o := o) (n := n) (s := s) ih (by omega) (u7.le (by omega) (by omega)) hd s7 (fun τ8 yb vb k' I2 j1 u8 F8 r8 o8 p8 => fun _ => ?_) (fun y τ8 e p j1 j2 j3 j4 => fun _ => er y τ8 e p (by rw [eC, j1]; rfl) j2 (F07.tr j3) j4)
    have F08 : rF a bl σ τ8 := F07.tr F8
    have r1' := r7.F u7 o7 u4.la u4.lb F8
    have o1' := (o7.F u4.la u4.lb F8).1
    obtain ⟨z1, z2, z3, z4⟩ := F8.node u7 (y := gn τ3) (by omega)
    have lo7 : gn τ6 ≤ gn τ7 := F7.2.2.1.1
    have lo5 : gn τ4 ≤ gn τ5 := F5.2.2.1.1
    have I1lt : ∀ q, I1 q → q < gn τ7 := fun q hq => (o7 q hq).2.1
    have hy2 : ∀ q, I2 q → gn τ7 ≤ q := fun q hq => (o8 q hq).1
    obtain ⟨w1, w2, w3, w4, w5⟩ := nd_fin (p := k.pl) (x := y) (yb := yb) (y := gn τ3) (vd := v) (vb := vb) (v := .group (.append v vb) .allOrNone) (tg := 10) (Or.inr (Or.inr ⟨rfl, rfl⟩)) u8 F08 h.z h.la h.lb (by rw [h.2.2.2.2.1.1]; omega) (by omega) (by rw [z2, y2]; exact f3) (by rw [z3, y3]; exact f4) lo3 r1' r8 (o1'.lo (by omega)) (o8.lo (by omega)) (fun q => by have := I1ge _ q; omega) (fun q => by have := hy2 _ q; omega) (fun q h1 h2 => by have := I1lt q h2; have := hy2 q h1; omega)
    exact ok _ (gn τ3) (.group (.append v vb) .allOrNone) k' _ (by rw [eC, j1]; rfl) w1 w2 w3 (by rw [gi_pr, z2, y2]; exact f2) w5 (by omega)
/-- the nests -/
theorem RS.nest (h : RS G KK T R X K w t a tp bl sl bs m k n s σ) : RS G KK T R X K w t a tp bl sl bs m' k n s (gpi a 5 (iI m') σ) := by
  have na : ¬ isM R a := h.2.2.2.2.2.1.2.1.no h.1.1 (by omega) (by omega) (Or.inl (by omega))
  have kp : keep (fun q => q = a) σ (gpi a 5 (iI m') σ) := keep.rf.pi (fun _ => rfl)
  have hS : ∀ q, q = a → gk σ q ≠ 23 ∧ (gk σ q = 102 → q = R 5) := fun q hq => by subst hq; have := h.1.1; omega
  obtain ⟨⟨d1, d2, d3, d4, d5, d6, d7, d8, d9⟩, h2, ⟨k1, k2, k3, k4, k5, k6, k7, k8⟩, h4, h5, h6, h7, h8, h9⟩ := h
  have ne : tp ≠ a := fun q => by rw [q] at d6; omega
  refine ⟨⟨d1, d2, by rw [gi_pi, if_neg (by omega)]; exact d3, d4, d5, d6, d7, d8, fun j hj => by rw [gi_pi, if_neg (fun q => ne q.1)]; exact d9 j hj⟩, h2.mv kp hS, ⟨by rw [gi_pi, if_neg (by omega)]; exact k1, k2, by rw [gi_pi, if_neg (by omega)]; exact k3, fun q => ?_, fun q => by rw [gi_pi, if_neg (by omega)]; exact k5 q, k6, k7, k8⟩, by rw [gi_pi, if_pos ⟨rfl, rfl⟩], h5.kp kp (fun q => ?_) (fun q hq z => ?_) hS, h6.pi' na, h7, h8, h9⟩
  · obtain ⟨v, v1, v2, v3⟩ := k4 q
    refine ⟨v, v1, v2.kpW kp hS, fun z => ?_⟩
    rw [gi_pi, if_neg (fun q => by have := v2.1; rw [q.1] at this; omega)]
    exact v3 z
  · have := h5.1; rw [q] at this; omega
  · obtain ⟨-, -, z', y1, y2, -⟩ := h5
    rw [hq] at y1; cases y1; rw [z] at y2; omega
theorem rF.nest {v : Int32} : rF a bl σ (gpi a 5 v σ) := ⟨keep.rf.pi (fun _ => Or.inl rfl), fun _ h => Or.inl h, gle.rf⟩
/-- nothing is left to read -/
theorem c_arrow5 (hK : KI KK) (hl : 20 ≤ lev) (hk : k.ki = 5) (h : RS G KK T R X K w t a tp bl sl bs m k n s σ)
    (er : ∀ x τ, flt τ x 1 (k.pl : Int) → rF a bl σ τ → MB G R τ X K w n s → Q (.threw x) τ) : CQ (wP G s0 l KK T) mX6_arrow lev (.ref a :: []) σ Q := by
  obtain ⟨l', rfl⟩ : ∃ l', lev = l' + 3 := ⟨lev - 3, by omega⟩
  refine tX6_arrow ⟨h.1.1, tX6_use ⟨h.1.1, tX6_atom ⟨h.1.1, c_isSg (x := 40) (by omega) hK h (by omega) (fun _ => ?_)⟩⟩⟩
  have hs : isSg k 40 = false := by unfold isSg; rw [hk]; rfl
  rw [hs]
  refine ⟨fun _ => c_needN (by omega) hK h (fun τ o e1 => ?_) (fun y τ e p e1 e2 e3 e4 => fun _ => fun _ => fun _ => ?_), fun q => absurd rfl q⟩
  · have := rName_ki e1; omega
  · unfold rName rWrong at e1
    rw [if_neg (by omega), if_neg (by omega)] at e1
    cases e1
    exact er y τ e2 e3 e4
/-- a term -/
theorem c_rterm (hK : KI KK) : ∀ (d lev : Nat), 4 * d + 40 ≤ lev → CRt G s0 l KK T R X K w t a tp bl sl lev d := by
  intro d
  induction d with
  | zero =>
    intro lev hl bs k n s σ Q h hd ok er
    obtain ⟨l', rfl⟩ : ∃ l', lev = l' + 1 := ⟨lev - 1, by omega⟩
    have k3 := h.2.2.1.1
    have e5 : gi σ a 5 = iI 40 := h.2.2.2.1
    refine tX6_term ⟨h.1.1, fun _ => ⟨fun q => ?_, fun q => ?_⟩, fun q => absurd e5 q⟩
    · rw [h.2.2.1.2.1] at q
      have k5 : k.ki = 5 := hK _ _ h.2.2.1.2.2.2.2.2.1 (by omega) q
      have eT : rTerm t 0 bs k = .error (1, (k.pl : Int)) := by unfold rTerm rWrong; rw [if_pos k5, if_neg (by omega)]
      refine tX6_term_32 ⟨h.1.1, ?_⟩
      rw [e5, iI_add]
      have h1 : RS G KK T R X K w t a tp bl sl bs (40 + 1) k n s (gpi a 5 (iI (40 + 1)) σ) := h.nest
      refine c_isSg (x := 92) (by omega) hK h1 (by omega) (fun _ => ?_)
      have s1 : isSg k 92 = false := by unfold isSg; rw [k5]; rfl
      have s2 : isSg k 33 = false := by unfold isSg; rw [k5]; rfl
      have s3 : isWd t k 7 = false := by unfold isWd; rw [k5]; rfl
      rw [s1]
      refine ⟨fun _ => c_isSg (x := 33) (by omega) hK h1 (by omega) (fun _ => ?_), fun q => absurd rfl q⟩
      rw [s2]
      refine ⟨fun _ => c_isWd (x := 7) (by omega) hK h1 (by omega) (fun _ => ?_), fun q => absurd rfl q⟩
      rw [s3]
      exact ⟨fun _ => c_arrow5 hK (by omega) k5 h1 (fun x τ f1 f2 f3 => fun _ => er x τ 1 _ eT f1 (rF.nest.tr f2) f3), fun q => absurd rfl q⟩
    · have k5 : k.ki ≠ 5 := fun z => q (by rw [h.2.2.1.2.1, z])
      have eT : rTerm t 0 bs k = .error (2, (k.pl : Int)) := by unfold rTerm; rw [if_neg k5]
      have hz := h.z
      have la : a ≠ gn σ := Nat.ne_of_lt h.la
      have h6' : MB G R σ X K w (n + 1) (s + 8) := h.2.2.2.2.2.1.le (by omega) (by omega)
      refine ⟨h6'.2.2.2.gr hz, ?_⟩
      rw [gi_mk la, k3]
      exact c_flt (by omega) hz (fun τ t1 t2 t3 t4 t5 hle => er _ τ 2 _ eT t5 (rF.nl t1 h.2.2.2.2.1.1 ((gle_mk hz).tr hle)) (h6'.new t1 t2 t3 t4))
  | succ d ih0 =>
    intro lev hl bs k n s σ Q h hd ok er
    obtain ⟨l', rfl⟩ : ∃ l', lev = l' + 4 := ⟨lev - 4, by omega⟩
    have ih : CRt G s0 l KK T R X K w t a tp bl sl l' d := ih0 l' (by omega)
    have ih1 : CRt G s0 l KK T R X K w t a tp bl sl (l' + 1) d := ih.up (by omega)
    have k3 := h.2.2.1.1
    have e5 := h.2.2.2.1
    have em : (40 : Int) - ((d + 1 : Nat) : Int) + 1 = 40 - (d : Int) := by omega
    have hd40 : d + 1 ≤ 40 := by omega
    refine tX6_term ⟨h.1.1, fun q => ?_, fun _ => tX6_term_32 ⟨h.1.1, ?_⟩⟩
    · rw [e5, iI_eq (by omega) (by omega) (by omega) (by omega)] at q; omega
    rw [e5, iI_add, em]
    have h1 : RS G KK T R X K w t a tp bl sl bs (40 - (d : Int)) k n s (gpi a 5 (iI (40 - (d : Int))) σ) := h.nest
    have hg3 : gi (gpi a 5 (iI (40 - (d : Int))) σ) a 3 = iI (k.pl : Int) := by rw [gi_pi, if_neg (by omega)]; exact k3
    rw [hg3]
    have F1 : rF a bl σ (gpi a 5 (iI (40 - (d : Int))) σ) := rF.nest
    have g1 : gn (gpi a 5 (iI (40 - (d : Int))) σ) = gn σ := rfl
    generalize gpi a 5 (iI (40 - (d : Int))) σ = σ1 at *
    have em2 : (40 : Int) - (d : Int) - 1 = 40 - ((d + 1 : Nat) : Int) := by omega
    have hpb := h.2.2.1.2.2.2.2.2.2.1
    have h8 := h.1.2.2.2.2.2.2.2.1
    -- the end
    have fin : ∀ τ y v k' I, rTerm t (d + 1) bs k = .ok (v, k') → RS G KK T R X K w t a tp bl sl bs (40 - (d : Int)) k' n s τ → rF a bl σ1 τ → rT R (tname t) τ v y 0 I → oI bl σ1 τ I → k.pl < k'.pl → Q (.returned (some (va_rf (some y)))) (gpi a 5 (gi τ a 5 - iI 1) τ) := fun τ y v k' I z1 z2 z3 z4 z5 z6 => by
      rw [z2.2.2.2.1, iI_sub, em2]
      have hn : ∀ q, I q → ¬ q = a := fun q hq w => by have := (z5 q hq).1; have := h1.la; omega
      refine ok _ y v k' I z1 z2.nest (F1.tr (z3.tr rF.nest)) (rT_keep (W := fun q => q = a) (keep.rf.pi (fun _ => rfl)) (fun q hq => by subst hq; have := z2.1.1; omega) v y 0 I z4 hn (fun z => absurd rfl z)) (fun q hq => ?_) z6
      obtain ⟨y1, y2, y3, y4⟩ := z5 q hq
      exact ⟨by omega, y2, y3, y4⟩
    have bnd : ∀ τ y v k' I, rTerm t (d + 1) bs k = .ok (.tag k.pl (.tag k.pl v), k') → RS G KK T R X K w t a tp bl sl bs (40 - (d : Int)) k' n s τ → rF a bl σ1 τ → oI bl σ1 τ I → gi τ y 1 = iI (-1) → (∀ f : Nat, rT R (tname t) (gpi y 1 (iI (f : Int)) τ) (.tag f (.tag k.pl v)) y 0 I) → k.pl < k'.pl → (∃ a10, some y = some a10 ∧ (isTmA τ a10 ∧ (((gi τ a10 1) = (iI (-1)) → Q (.returned (some (va_rf (some y)))) (gpi a 5 ((gi (gpi a10 1 (iI (k.pl : Int)) τ) a 5) - (iI 1)) (gpi a10 1 (iI (k.pl : Int)) τ))) ∧ (¬ (gi τ a10 1) = (iI (-1)) → Q (.returned (some (va_rf (some y)))) (gpi a 5 ((gi τ a 5) - (iI 1)) τ))))) := fun τ y v k' I z1 z2 z3 z4 z5 z6 z7 => by
      have ht := rT_tm _ y 0 I (z6 0) rfl
      have hkp : keep (fun q => q = y) τ (gpi y 1 (iI (k.pl : Int)) τ) := keep.rf.pi (fun _ => rfl)
      have hy : 8 ≤ gk τ y ∧ gk τ y ≤ 13 := by have h := ht.2.2; rw [gk_pi] at h; omega
      refine ⟨y, rfl, ht.1, fun _ => ?_, fun q => absurd z5 q⟩
      have lo := (z4 y ht.2.1).1
      exact fin _ y _ k' I z1 (z2.nd hkp hy z2.z rfl rfl) (rF.nd hkp gle.rf z3 lo h1.z h1.lb (by rw [h1.2.2.2.2.1.1]; omega)) (z6 k.pl) z4 z7
    have ern : ∀ x τ (e : Nat) p, rTerm t (d + 1) bs k = .error (e, p) → flt τ x (e : Int) p → rF a bl σ1 τ → MB G R τ X K w n s → Q (.threw x) τ := fun x τ e p z1 z2 z3 z4 => er x τ e p z1 z2 (F1.tr z3) z4
    have j65 : (isSg k 92 || isSg k 33) = true → jX6_term_65 G s0 l KK T (l' + 3) σ Q a (iI (k.pl : Int)) σ1 := fun hs => by
      have k2 : k.ki = 2 := by
        unfold isSg at hs
        simp only [Bool.and_eq_true, Bool.or_eq_true, beq_iff_eq] at hs
        omega
      have eT : rTerm t (d + 1) bs k = rBnd t d (fun v b => if k.sg = 92 then .append v b else .group (.append v b) .fill) bs k := by
        conv => lhs; unfold rTerm
        rw [if_pos hs]
        rfl
      refine tX6_term_65 ⟨h1.1.1, c_rbinder ih1 hK (by omega) bs k n s σ1 _ k2 h1 (by omega) (fun τ y v k' I z1 z2 z3 z4 z5 z6 z7 => fun _ => bnd τ y v k' I (eT.trans z1) z2 z3 z4 z5 z6 z7) (fun x τ e p z1 z2 z3 z4 => fun _ => ern x τ e p (eT.trans z1) z2 z3 z4)⟩
    refine c_isSg (x := 92) (by omega) hK h1 (by omega) (fun _ => ?_)
    cases hs1 : isSg k 92 with
    | true => exact ⟨fun q => absurd q (by decide), fun _ => j65 (by rw [hs1]; rfl)⟩
    | false =>
      refine ⟨fun _ => c_isSg (x := 33) (by omega) hK h1 (by omega) (fun _ => ?_), fun q => absurd rfl q⟩
      cases hs2 : isSg k 33 with
      | true => exact ⟨fun q => absurd q (by decide), fun _ => j65 (by rw [hs1, hs2]; rfl)⟩
      | false =>
        refine ⟨fun _ => c_isWd (x := 7) (by omega) hK h1 (by omega) (fun _ => ?_), fun q => absurd rfl q⟩
        cases hw : isWd t k 7 with
        | true =>
          have k1 : k.ki = 1 := by
            unfold isWd at hw
            simp only [Bool.and_eq_true, beq_iff_eq] at hw
            exact hw.1
          have eT : rTerm t (d + 1) bs k = rLet t d bs k := by
            conv => lhs; unfold rTerm
            rw [hs1, hs2, if_neg (by decide), if_pos hw]
            rfl
          exact ⟨fun q => absurd q (by decide), fun _ => c_rlet ih1 hK (by omega) bs k n s σ1 _ k1 h1 (by omega) (fun τ y v k' I z1 z2 z3 z4 z5 z6 z7 => fun _ => bnd τ y v k' I (eT.trans z1) z2 z3 z4 z5 z6 z7) (fun x τ e p z1 z2 z3 z4 => fun _ => ern x τ e p (eT.trans z1) z2 z3 z4)⟩
        | false =>
          have eT : rTerm t (d + 1) bs k = rArr t d bs k := by
            conv => lhs; unfold rTerm
            rw [hs1, hs2, if_neg (by decide), hw, if_neg (by decide)]
            rfl
          refine ⟨fun _ => c_arrow ih1 (c_ruse (c_atom ih hK (by omega)) hK (by omega)) hK (by omega) bs k n s σ1 _ h1 (by omega) (fun τ y v k' I z1 z2 z3 z4 z5 z6 z7 => fun _ => ⟨y, rfl, (rT_tm v y 0 I z4 rfl).1, fun q => ?_, fun _ => fin τ y v k' I (eT.trans z1) z2 z3 z4 z5 z6⟩) (fun x τ e p z1 z2 z3 z4 => fun _ => ern x τ e p (eT.trans z1) z2 z3 z4), fun q => absurd rfl q⟩
          rw [z7, iI_eq (by omega) (by omega) (by omega) (by omega)] at q
          omega
end PRS2
