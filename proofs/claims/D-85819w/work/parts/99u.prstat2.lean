/-! P OVER S (48): reading: statements, one by one -/
section PRU2
variable {G : GPl} {s0 : State} {l : Launch} {KK : Nat → Option Nat} {T : Nat → Nat} {lev d : Nat} {Q : Outcome → GSt → Prop} {R : Nat → Nat} {σ τ υ st0 σ0 : GSt} {X : SX} {K : KS} {w n s n' s' o a tp bl sl y kd pl lo : Nat} {W I I1 I2 : Nat → Prop} {t : TX} {bs : List (Option Nat)} {m m' : Int} {k k' : TK} {ns : List Nat} {ty tm : Option V}
theorem c_spgo (hl : 10 ≤ lev) (hK : KI KK) (h : SP G KK T R X K w t a tp bl sl σ0 σ k n s y kd pl ns ty tm I1 I2) (hk : k.ki ≤ 2)
    (ok : ∀ τ, SP G KK T R X K w t a tp bl sl σ0 τ (sGo t k.nx) (n + 8) (s + 96) y kd pl ns ty tm I1 I2 → k.pl < (sGo t k.nx).pl → Q (.returned none) τ) : CQ (wP G s0 l KK T) mX6_go lev (.ref a :: []) σ Q :=
  c_goR hl hK h.1 hk (fun τ u1 u2 _ => ok τ (h.go u2 u1) (h.1.pl hk))
theorem c_spneed {x : Nat} (hl : 11 ≤ lev) (hK : KI KK) (h : SP G KK T R X K w t a tp bl sl σ0 σ k n s y kd pl ns ty tm I1 I2) (hx : x ≤ 257)
    (ok : ∀ τ, rNeed t x k = .ok (k.pl, sGo t k.nx) → SP G KK T R X K w t a tp bl sl σ0 τ (sGo t k.nx) (n + 8) (s + 96) y kd pl ns ty tm I1 I2 → k.pl < (sGo t k.nx).pl → Q (.returned (some (.int (iI (k.pl : Int))))) τ)
    (er : ∀ y τ (e : Nat) p, rNeed t x k = .error (e, p) → flt τ y (e : Int) p → rF a bl σ0 τ → MB G R τ X K w n s → Q (.threw y) τ) : CQ (wP G s0 l KK T) mX6_need lev (.ref a :: [.int (iI (x : Int))]) σ Q :=
  c_need hl hK h.1 hx (fun τ e1 u1 u2 => ok τ e1 (h.go u2 u1) (h.1.pl (by rw [rNeed_ki e1]; omega))) (fun y τ e p e1 e2 e3 e4 => er y τ e p e1 e2 (h.2.1.tr e3) e4)
theorem c_spterm (hl : 200 ≤ lev) (hK : KI KK) (h : SP G KK T R X K w t a tp bl sl σ0 σ k n s y kd pl ns ty tm I1 I2)
    (ok : ∀ τ x v k' I, rTerm t 40 [] k = .ok (v, k') → SP G KK T R X K w t a tp bl sl σ0 τ k' n s y kd pl ns ty tm I1 I2 → rT R (tname t) τ v x 0 I → oI bl σ0 τ I → (∀ q, I q → ¬ I1 q ∧ ¬ I2 q) → k.pl < k'.pl → Q (.returned (some (va_rf (some x)))) τ)
    (er : ∀ x τ (e : Nat) p, rTerm t 40 [] k = .error (e, p) → flt τ x (e : Int) p → rF a bl σ0 τ → MB G R τ X K w n s → Q (.threw x) τ) : CQ (wP G s0 l KK T) mX6_term lev (.ref a :: []) σ Q := by
  refine c_rterm hK 40 lev (by omega) [] k n s σ Q h.1 (by show 0 + 40 ≤ 40; omega) (fun τ x v k' I e1 e2 e3 e4 e5 e6 => ok τ x v k' I e1 (h.go e3 e2) e4 (e5.lo h.2.1.2.2.1.1) (fun q hq => ?_) e6) (fun x τ e p e1 e2 e3 e4 => er x τ e p e1 e2 (h.2.1.tr e3) e4)
  have h1 := (e5 q hq).1
  exact ⟨fun z => by have := (h.2.2.2.2.1 q z).2.1; omega, fun z => by have := (h.2.2.2.2.2.2.1 q z).2.1; omega⟩
theorem SP.yw (h : SP G KK T R X K w t a tp bl sl σ0 τ k n s y kd pl ns ty tm I1 I2) {j x : Nat} (hj : j = 4 ∨ j = 5) : RS G KK T R X K w t a tp bl sl [] 0 k n s (gpr y j (some x) τ) ∧ rF a bl σ0 (gpr y j (some x) τ) ∧ pS1 KK R t (gn σ0) (gpr y j (some x) τ) y kd pl ns ∧ (∀ I, oI bl σ0 τ I → oI bl σ0 (gpr y j (some x) τ) I) ∧ (∀ r v I, oI bl σ0 τ I → pOp R t τ r v I → pOp R t (gpr y j (some x) τ) r v I) := by
  have kp : keep (fun q => q = y) τ (gpr y j (some x) τ) := keep.rf.pr (fun _ => rfl)
  obtain ⟨z0, la, lb, kb, hm⟩ := h.2.2.2.2.2.2.2.2
  have h' := h
  obtain ⟨h1, h2, h3, h4, h5, h6, h7, h8, -⟩ := h
  obtain ⟨b1, b2, b3, b4, nm, ps, b5, b6, b7, b8, b9, b10, b11, b12, b13⟩ := h3
  have kS : ∀ q, q = y → gk τ q ≠ 23 ∧ (gk τ q = 102 → q = R 5) := fun q hq => by subst hq; omega
  have bn : bl ≠ y := fun q => by have := h1.2.2.2.2.1.1; rw [q] at this; omega
  have ny : nm ≠ y := fun q => by rw [q] at b6; omega
  have oy : ∀ I, oI bl σ0 τ I → ∀ q, I q → ¬ q = y := fun I ho q hq w => by have := (ho q hq).2.2.1; rw [w, b1] at this; cases this
  refine ⟨h1.wr kp (by omega) (h'.noM b4) h1.z rfl rfl, rF.nd kp gle.rf h2 b4 z0 lb kb, ⟨b1, by rw [gr_pr, if_neg (by omega)]; exact b2, b3, b4, nm, ps, by rw [gr_pr, if_neg (by omega)]; exact b5, b6, b7, b8, by rw [gr_pr, if_neg (by omega)]; exact b9, b10, b11, b12, fun i p hp => ?_⟩, fun I ho q hq => ?_, fun r v I ho hv => hv.kp kp kS (oy I ho)⟩
  · obtain ⟨v1, o, v2, v3⟩ := b13 i p hp
    exact ⟨v1, o, by rw [gr_pr, if_neg (fun q => ny q.1)]; exact v2, v3.kpW kp kS⟩
  · rw [gr_pr, if_neg (fun q => bn q.1)]
    exact ho q hq
theorem SP.set4 {v : V} {x : Nat} (h : SP G KK T R X K w t a tp bl sl σ0 τ k n s y kd pl ns ty tm I1 I2) (hr : rT R (tname t) τ v x 0 I) (ho : oI bl σ0 τ I) (hd : ∀ q, I q → ¬ I1 q ∧ ¬ I2 q) : SP G KK T R X K w t a tp bl sl σ0 (gpr y 4 (some x) τ) k n s y kd pl ns (some v) tm I I2 := by
  obtain ⟨g1, g2, g3, g4, g5⟩ := h.yw (x := x) (Or.inl rfl)
  refine ⟨g1, g2, g3, ?_, g4 _ ho, ?_, g4 _ h.2.2.2.2.2.2.1, fun q h1 h2 => (hd q h2).2 h1, h.2.2.2.2.2.2.2.2⟩
  · rw [gr_pr, if_pos ⟨rfl, rfl⟩]
    exact g5 (some x) (some v) I ho ⟨x, rfl, hr⟩
  · rw [gr_pr, if_neg (by omega)]
    exact g5 _ _ _ h.2.2.2.2.2.2.1 h.2.2.2.2.2.1
theorem SP.set5 {v : V} {x : Nat} (h : SP G KK T R X K w t a tp bl sl σ0 τ k n s y kd pl ns ty tm I1 I2) (hr : rT R (tname t) τ v x 0 I) (ho : oI bl σ0 τ I) (hd : ∀ q, I q → ¬ I1 q ∧ ¬ I2 q) : SP G KK T R X K w t a tp bl sl σ0 (gpr y 5 (some x) τ) k n s y kd pl ns ty (some v) I1 I := by
  obtain ⟨g1, g2, g3, g4, g5⟩ := h.yw (x := x) (Or.inr rfl)
  refine ⟨g1, g2, g3, ?_, g4 _ h.2.2.2.2.1, ?_, g4 _ ho, fun q h1 h2 => (hd q h1).1 h2, h.2.2.2.2.2.2.2.2⟩
  · rw [gr_pr, if_neg (by omega)]
    exact g5 _ _ _ h.2.2.2.2.1 h.2.2.2.1
  · rw [gr_pr, if_pos ⟨rfl, rfl⟩]
    exact g5 (some x) (some v) I ho ⟨x, rfl, hr⟩
/-- what is told is a term -/
theorem c_told54 (hl : 200 ≤ lev) (hK : KI KK) (h : SP G KK T R X K w t a tp bl sl σ0 σ k n s y kd pl ns ty none I1 I2)
    (ok : ∀ τ v k' I, (rBind (rNeed t 257 k) fun _ k2 => rTerm t 40 [] k2) = .ok (v, k') → SP G KK T R X K w t a tp bl sl σ0 τ k' n s y kd pl ns ty (some v) I1 I → k.pl < k'.pl → Q (.returned (some (va_rf (some y)))) τ)
    (er : ∀ x τ (e : Nat) p, (rBind (rNeed t 257 k) fun _ k2 => rTerm t 40 [] k2) = .error (e, p) → flt τ x (e : Int) p → rF a bl σ0 τ → MB G R τ X K w n s → Q (.threw x) τ) : jX6_told_54 G s0 l KK T lev st0 Q a (some y) σ := by
  refine tX6_told_54 ⟨h.1.1.1, c_spneed (x := 257) (by omega) hK h (by omega) (fun τ1 e1 u1 p1 => fun _ => ?_) (fun x τ e p e1 e2 e3 e4 => fun _ => er x τ e p (by rw [e1]; rfl) e2 e3 e4)⟩
  refine c_spterm hl hK u1 (fun τ2 x v k' I f1 f2 f3 f4 f5 f6 => fun _ => ⟨y, rfl, f2.2.2.1.1, ?_⟩) (fun x τ e p f1 f2 f3 f4 => fun _ => er x τ e p (by rw [e1]; exact f1) f2 f3 (f4.le (by omega) (by omega)))
  exact ok _ v k' I (by rw [e1]; exact f1) ((f2.set5 f3 f4 f5).le (by omega) (by omega)) (by omega)
theorem c_told (hl : 203 ≤ lev) (hK : KI KK) (h : RS G KK T R X K w t a tp bl sl [] 0 k (n + 3) (s + 12) σ)
    (ok : ∀ τ y st k' I1 I2, rTell t k = .ok (st, k') → SP G KK T R X K w t a tp bl sl σ τ k' n s y st.1 st.2.1 st.2.2.1 st.2.2.2.1 st.2.2.2.2 I1 I2 → k.pl < k'.pl → Q (.returned (some (va_rf (some y)))) τ)
    (er : ∀ x τ (e : Nat) p, rTell t k = .error (e, p) → flt τ x (e : Int) p → rF a bl σ τ → MB G R τ X K w n s → Q (.threw x) τ) : CQ (wP G s0 l KK T) mX6_told lev (.ref a :: []) σ Q := by
  obtain ⟨l', rfl⟩ : ∃ l', lev = l' + 1 := ⟨lev - 1, by omega⟩
  have hM := h.2.2.2.2.2.1
  have la : a ≠ gn σ := Nat.ne_of_lt h.la
  refine tX6_told ⟨⟨by have := hM.2.2.2.1; omega, by have := hM.2.2.2.2; omega, h.z.at⟩, by rw [gk_old la]; exact h.1.1, ?_⟩
  rw [gi_mk la, h.2.2.1.1]
  refine c_stR (kd := 3) (by omega) h (fun τ1 u1 => fun _ => ?_)
  refine c_name2 (ns := []) (by omega) hK u1 (by show 0 ≤ 2; omega) (fun τ2 e1 u2 p2 => fun _ => ?_) (fun x τ e p e1 e2 e3 e4 => fun _ => er x τ e p (by unfold rTell; rw [e1]; rfl) e2 e3 e4)
  have eA : rTell t k = if isSg (sGo t k.nx) 58 then rBind (rTerm t 40 [] (sGo t (sGo t k.nx).nx)) fun ty k2 => if isSg k2 257 then rBind (rTerm t 40 [] (sGo t k2.nx)) fun v k3 => .ok ((3, k.pl, [k.pl], some ty, some v), k3) else .ok ((3, k.pl, [k.pl], some ty, none), k2)
      else rBind (rNeed t 257 (sGo t k.nx)) fun _ k2 => rBind (rTerm t 40 [] k2) fun v k3 => .ok ((3, k.pl, [k.pl], none, some v), k3) := by unfold rTell; rw [e1]; rfl
  generalize sGo t k.nx = k1 at *
  refine c_isSg (x := 58) (by omega) hK u2.1 (by omega) (fun _ => ?_)
  cases hs : isSg k1 58 with
  | false =>
    rw [hs, if_neg (by decide)] at eA
    refine ⟨fun _ => c_told54 (by omega) hK u2 (fun τ v k' I f1 f2 f3 => ok τ _ _ k' _ I (by
      rw [eA]
      cases h1 : rNeed t 257 k1 with
      | error e => rw [h1] at f1; cases f1
      | ok r => rw [h1] at f1; obtain ⟨r1, r2⟩ := r; show rBind (rTerm t 40 [] r2) _ = _; rw [show rTerm t 40 [] r2 = .ok (v, k') from f1]; rfl) (f2.le (n' := n) (s' := s) (by omega) (by omega)) (by omega)) (fun x τ e p f1 f2 f3 f4 => er x τ e p (by
      rw [eA]
      cases h1 : rNeed t 257 k1 with
      | error e' => rw [h1] at f1; cases f1; rfl
      | ok r => rw [h1] at f1; obtain ⟨r1, r2⟩ := r; show rBind (rTerm t 40 [] r2) _ = _; rw [show rTerm t 40 [] r2 = .error (e, p) from f1]; rfl) f2 f3 (f4.le (by omega) (by omega))), fun q => absurd rfl q⟩
  | true =>
    rw [hs, if_pos rfl] at eA
    have k12 : k1.ki = 2 := by
      unfold isSg at hs
      simp only [Bool.and_eq_true, beq_iff_eq] at hs
      exact hs.1
    refine ⟨fun q => absurd q (by decide), fun _ => c_spgo (by omega) hK u2 (by omega) (fun τ3 u3 p3 => fun _ => ?_)⟩
    refine c_spterm (by omega) hK u3 (fun τ4 x v k2 I f1 f2 f3 f4 f5 f6 => fun _ => ?_) (fun x τ e p f1 f2 f3 f4 => fun _ => er x τ e p (by rw [eA, f1]; rfl) f2 f3 (f4.le (by omega) (by omega)))
    have u5 := f2.set4 f3 f4 f5
    have eB : rTell t k = if isSg k2 257 then rBind (rTerm t 40 [] (sGo t k2.nx)) fun v' k3 => .ok ((3, k.pl, [k.pl], some v, some v'), k3) else .ok ((3, k.pl, [k.pl], some v, none), k2) := by rw [eA, f1]; rfl
    refine c_isSg (x := 257) (by omega) hK u5.1 (by omega) (fun _ => ?_)
    cases hs2 : isSg k2 257 with
    | false =>
      rw [hs2, if_neg (by decide)] at eB
      exact ⟨fun _ => ok _ _ _ k2 I _ eB (u5.le (by omega) (by omega)) (by omega), fun q => absurd rfl q⟩
    | true =>
      rw [hs2, if_pos rfl] at eB
      have eN : rNeed t 257 k2 = .ok (k2.pl, sGo t k2.nx) := by unfold rNeed; rw [hs2]; rfl
      refine ⟨fun q => absurd q (by decide), fun _ => c_told54 (by omega) hK u5 (fun τ v' k' I' g1 g2 g3 => ok τ _ _ k' I I' (by rw [eN] at g1; rw [eB, show rTerm t 40 [] (sGo t k2.nx) = .ok (v', k') from g1]; rfl) (g2.le (n' := n) (s' := s) (by omega) (by omega)) (by omega)) (fun x τ e p g1 g2 g3 g4 => er x τ e p (by rw [eN] at g1; rw [eB, show rTerm t 40 [] (sGo t k2.nx) = .error (e, p) from g1]; rfl) g2 g3 (g4.le (by omega) (by omega)))⟩
/-- a question -/
theorem c_asked (hl : 202 ≤ lev) (hK : KI KK) (h : RS G KK T R X K w t a tp bl sl [] 0 k (n + 3) (s + 12) σ) (hk : k.ki = 1)
    (ok : ∀ τ y v k' I, rTerm t 40 [] (sGo t k.nx) = .ok (v, k') → SP G KK T R X K w t a tp bl sl σ τ k' n s y kd k.pl [] none (some v) (fun _ => False) I → k.pl < k'.pl → Q (.returned (some (va_rf (some y)))) τ)
    (er : ∀ x τ (e : Nat) p, rTerm t 40 [] (sGo t k.nx) = .error (e, p) → flt τ x (e : Int) p → rF a bl σ τ → MB G R τ X K w n s → Q (.threw x) τ) : CQ (wP G s0 l KK T) mX6_asked lev (.ref a :: [va_rf (KK (6 + kd)), .int (iI (k.pl : Int))]) σ Q := by
  obtain ⟨l', rfl⟩ : ∃ l', lev = l' + 1 := ⟨lev - 1, by omega⟩
  have hM := h.2.2.2.2.2.1
  refine tX6_asked ⟨⟨by have := hM.2.2.2.1; omega, by have := hM.2.2.2.2; omega, h.z.at⟩, c_stR (kd := kd) (by omega) h (fun τ1 u1 => fun _ => ⟨u1.1.1.1, ?_⟩)⟩
  refine c_spgo (by omega) hK u1 (by omega) (fun τ2 u2 p2 => fun _ => ?_)
  refine c_spterm (by omega) hK u2 (fun τ3 x v k' I f1 f2 f3 f4 f5 f6 => fun _ => ?_) (fun x τ e p f1 f2 f3 f4 => fun _ => er x τ e p f1 f2 f3 (f4.le (by omega) (by omega)))
  exact ok _ _ v k' I f1 ((f2.set5 f3 f4 f5).le (by omega) (by omega)) (by omega)
end PRU2
