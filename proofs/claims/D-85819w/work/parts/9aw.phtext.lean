/-! THE HOUSE (4): faults of reading -/
def eT {α : Type} (r : RR α) : Prop := ∀ e, r = .error e → e.1 < 12 ∧ 0 ≤ e.2
theorem eT.ok {α : Type} {a : α × TK} : eT (.ok a : RR α) := fun e h => by cases h
theorem eT.w {α : Type} {k : TK} : eT (rWrong k : RR α) := fun e h => by
  unfold rWrong at h
  cases h
  refine ⟨?_, Int.natCast_nonneg _⟩
  show (if k.ki = 3 then 2 else 1) < 12
  split <;> omega
theorem eT.bind {α β : Type} {r : RR α} {f : α → TK → RR β} (h : eT r) (hf : ∀ a k, eT (f a k)) : eT (rBind r f) := by
  cases r with
  | ok a => exact hf a.1 a.2
  | error e => exact fun e' q => by cases q; exact h e rfl
section HRE
variable {t : TX}
theorem eT_need {s : Nat} {k : TK} : eT (rNeed t s k) := by
  unfold rNeed
  split
  · exact eT.ok
  · exact eT.w
theorem eT_name {k : TK} : eT (rName t k) := by
  unfold rName
  split
  · exact eT.ok
  · exact eT.w
theorem eT_atom {tm : List (Option Nat) → TK → RR V} (hm : ∀ bs k, eT (tm bs k)) {bs : List (Option Nat)} {k : TK} : eT (rAtom t tm bs k) := by
  unfold rAtom
  split
  · exact (hm _ _).bind (fun v k1 => eT_need.bind (fun _ k2 => eT.ok))
  · exact eT_name.bind (fun p k1 => eT.ok)
theorem eT_parts {tm : List (Option Nat) → TK → RR V} (hm : ∀ bs k, eT (tm bs k)) {bs : List (Option Nat)} : ∀ (n : Nat) (k : TK), eT (rParts t tm bs n k) := by
  intro n
  induction n with
  | zero => intro k; exact eT.ok
  | succ n ih =>
    intro k
    unfold rParts
    split
    · exact (eT_atom hm).bind (fun p k1 => (ih k1).bind (fun ps k2 => eT.ok))
    · exact eT.ok
theorem eT_use {tm : List (Option Nat) → TK → RR V} (hm : ∀ bs k, eT (tm bs k)) {bs : List (Option Nat)} {k : TK} : eT (rUse t tm bs k) := by
  unfold rUse
  refine (eT_atom hm).bind (fun f k1 => (eT_parts hm _ _).bind (fun ps k2 => ?_))
  split
  · exact eT.ok
  · exact eT.ok
theorem eT_term : ∀ (n : Nat) (bs : List (Option Nat)) (k : TK), eT (rTerm t n bs k) := by
  intro n
  induction n with
  | zero =>
    intro bs k
    unfold rTerm
    split
    · exact eT.w
    · intro e h; cases h; exact ⟨by show 2 < 12; omega, Int.natCast_nonneg _⟩
  | succ n ih =>
    intro bs k
    rw [rTerm]
    split
    · exact eT_name.bind (fun _ _ => eT_need.bind (fun _ _ => (ih _ _).bind (fun _ _ => eT_need.bind (fun _ _ => (ih _ _).bind (fun _ _ => eT.ok)))))
    · split
      · refine eT_name.bind (fun _ _ => eT_need.bind (fun _ _ => (ih _ _).bind (fun _ k3 => ?_)))
        split
        · exact (ih _ _).bind (fun _ _ => eT.ok)
        · exact eT.w
      · refine (eT_use ih).bind (fun v k1 => ?_)
        split
        · exact (ih _ _).bind (fun _ _ => eT.ok)
        · exact eT.ok
theorem eT_stat {k : TK} : eT (rStat t k) := by
  unfold rStat
  split
  · unfold rTell
    refine eT_name.bind (fun x k1 => ?_)
    split
    · refine (eT_term _ _ _).bind (fun ty k2 => ?_)
      split
      · exact (eT_term _ _ _).bind (fun _ _ => eT.ok)
      · exact eT.ok
    · exact eT_need.bind (fun _ _ => (eT_term _ _ _).bind (fun _ _ => eT.ok))
  split
  · exact eT_name.bind (fun _ _ => eT.ok)
  split
  · exact eT_name.bind (fun _ _ => eT_need.bind (fun _ _ => eT_name.bind (fun _ _ => eT.ok)))
  split
  · exact eT_name.bind (fun _ _ => eT_name.bind (fun _ _ => eT_name.bind (fun _ _ => eT.ok)))
  split
  · refine (eT_term _ _ _).bind (fun v k1 => ?_)
    split
    · exact (eT_term _ _ _).bind (fun _ _ => eT.ok)
    · exact eT.ok
  split
  · exact (eT_term _ _ _).bind (fun _ _ => eT.ok)
  split
  · exact (eT_term _ _ _).bind (fun _ _ => eT.ok)
  split
  · exact (eT_term _ _ _).bind (fun _ _ => eT_need.bind (fun _ _ => (eT_term _ _ _).bind (fun _ _ => eT.ok)))
  · exact eT.w
theorem rAll_e : ∀ (m : Nat) (k : TK) (e : Nat × Int), rAll t m k = .error e → e.1 < 12 ∧ 0 ≤ e.2 := by
  intro m
  induction m with
  | zero => intro k e h; rw [rAll] at h; cases h
  | succ m ih =>
    intro k e h
    unfold rAll at h
    split at h
    · cases h
    · cases e1 : rStat t k with
      | error e' => rw [e1] at h; cases h; exact eT_stat _ e1
      | ok r =>
        obtain ⟨s, k1⟩ := r
        rw [e1] at h
        dsimp only at h
        cases e2 : rNeed t 59 k1 with
        | error e' => rw [e2] at h; cases h; exact eT_need _ e2
        | ok r =>
          obtain ⟨q, k2⟩ := r
          rw [e2] at h
          dsimp only at h
          cases e3 : rAll t m k2 with
          | error e' => rw [e3] at h; cases h; exact ih _ _ e3
          | ok l' => rw [e3] at h; cases h
theorem sRead_e {e : Nat × Int} (h : sRead t = .error e) : e.1 < 12 ∧ 0 ≤ e.2 := rAll_e _ _ _ h
end HRE
theorem ssZ_len : ∀ (ss : List ST), 6 * ss.length ≤ ssZ ss := by
  intro ss
  induction ss with
  | nil => exact Nat.le_refl _
  | cons s ss ih => show 6 * (ss.length + 1) ≤ _ + _ + 6 + ssZ ss; omega
/-! THE HOUSE OVER S, P (19): helpers for a text -/
section PHW
variable {G : GPl} {s0 : State} {l : Launch} {KK : Nat → Option Nat} {T : Nat → Nat} {lev : Nat} {Q : Outcome → GSt → Prop} {R : Nat → Nat} {σ τ υ st0 ρ σ0 : GSt} {X : SX} {J : JX} {K K' : KS} {n s o m a y tp lo kd pl lim sl zr u u0 w n' s' u' : Nat} {W I : Nat → Prop} {t t' : TX} {ns : List Nat} {ss : List ST} {Y : Nat → Nat} {I1 I2 : Nat → Nat → Prop} {x1 : Int32} {H H' : HO} {c : PC} {L : Nat → Nat → Prop} {sc : SC} {x : Option Nat} {tb : HT} {cx : List CN} {N : Nat → Nat}
theorem MB.o0 (h : MB G R σ X K w n s) : MB G R (gpi (R 2) 10 (iI 0) σ) X (kOut0 K) w n s := by
  obtain ⟨hz, ⟨⟨m1, m2, m3⟩, ⟨m4, m5, m6⟩, ⟨m7, m8, m9⟩, m10, ⟨m11, m12, m13, m14, m15⟩, m16⟩, hk, hr⟩ := h
  have n24 : R 2 ≠ R 4 := fun q => by rw [← q] at m2; omega
  refine ⟨hz, ⟨⟨m1, m2, m3⟩, ⟨m4, m5, m6⟩, ⟨m7, m8, m9⟩, fun j hj => ?_, ⟨?_, ?_, ?_, ?_, ?_⟩, fun j h1 h2 => absurd h2 (Nat.not_lt_zero _)⟩, hk, hr⟩
  · rw [gi_pi, if_neg (fun q => n24 q.1.symm)]; exact m10 j hj
  · rw [gi_pi, if_neg (by omega)]; exact m11
  · rw [gi_pi, if_neg (by omega)]; exact m12
  · rw [gi_pi, if_neg (by omega)]; exact m13
  · rw [gi_pi, if_neg (by omega)]; exact m14
  · rw [gi_pi, if_pos ⟨rfl, rfl⟩]; rfl
/-- cells that are new may be left out -/
theorem JB_up {E : Nat → Prop} {p : (Nat → Nat) × Nat × Nat} (h : JB R ((fun _ => False), p) nilL σ X J [] none) (hm : MS G R σ X K w) (hk : keep nil0 σ τ) (hl : gle σ τ) (hE : ∀ q, E q → gk σ q = 0 ∧ tmt (gk τ q) = true) : JB R (E, p) nilL τ X J [] none := by
  have hv : mv (((fun _ => False), p) : PC) ((E, p) : PC) nilL nilL σ τ := mv_keepE hk (fun _ z => z.elim) (fun a ha _ q => (tmt_ne ha).1 (hE a q).1) rfl
  exact ⟨h.1.mvc h.2.1.2.1 hm (jfr.N hk hl h.1 : jfr R nil0 σ τ) (fun _ z => z.elim) hv rfl, h.2.1.mvc hv hk (fun _ z => z.elim) rfl, pX_mvE hv rfl h.2.2.1, trivial, ⟨fun _ _ z => z.elim, fun _ _ _ z => z.elim, fun _ _ _ z => z.elim⟩, fun q hq => (hE q hq).2⟩
theorem CxR.nw {nc : Nat} (h : CxR KK R σ nc) (h9 : gk σ (R 9) ≠ 0) (hk : keep nil0 σ τ) : CxR KK R τ nc := by
  obtain ⟨z, c1, c2, c3, c4⟩ := h
  obtain ⟨e1, e2, e3, e4⟩ := hk (R 9) h9 id
  obtain ⟨g1, g2, g3, g4⟩ := hk z (by omega) id
  exact ⟨z, by rw [e3]; exact c1, g1.trans c2, fun q => by rw [g3]; exact c3 q, by rw [g4]; exact c4⟩
theorem hfr.nw (hk : keep nil0 σ τ) (hl : gle σ τ) (h0 : gk σ (R 0) ≠ 0) (h9 : gk σ (R 9) ≠ 0) : hfr R σ τ := by
  obtain ⟨e1, e2, e3, e4⟩ := hk (R 0) h0 id
  obtain ⟨f1, f2, f3, f4⟩ := hk (R 9) h9 id
  exact ⟨hk.wk (fun _ q => q.elim), hl, fun q hq => Or.inl (by rw [← f3]; exact hq), e3, e2 9, e2 1⟩
/-- what a text does not touch -/
theorem hfr.rest (h : hfr R σ τ) (hc : hcl R σ) (hj : JB R c nilL σ X J [] none) (hm : MS G R σ X K w) (h1 : pHf R σ H) (h2 : pHt KK T R σ) (e1 : H'.mk = H.mk) (e2 : H'.tp.2 = 0) (e3 : gi σ (R 0) 1 = iI 0) (g2 : gi τ (R 0) 2 = iI (H'.ft.1 : Int)) (g3 : gi τ (R 0) 3 = iI H'.ft.2.1) (g4 : gi τ (R 0) 4 = iI (H'.ft.2.2 : Int)) : pHf R τ H' ∧ pHt KK T R τ := by
  obtain ⟨⟨f1, f2⟩, ⟨f3, f4, f5, f6, f7⟩, ⟨i1, i2, i3, i4, i5⟩, ⟨m1, m2, m3, m4, m5⟩⟩ := h1
  obtain ⟨t1, ⟨t2, t3, t4, t5⟩, z0, t6, t7, t8⟩ := h2
  obtain ⟨k1, k2, k3, k4, k5, k6⟩ := h
  obtain ⟨⟨w1, w2, w3⟩, -⟩ := hm
  obtain ⟨⟨a1, -⟩, -, ⟨d1, d2, d3, d4, d5, d6⟩, x1, x2, ⟨q1, q2, q3, z1, q4, q5, q6, q7, q8⟩, -⟩ := hj.1
  have y2 := hj.2.1.2.1
  have y4 := hj.2.1.2.2.2.1
  have c1 := hc.1
  have tg : ∀ q, (isM R q ∨ q = R 3 ∨ q = R 9 ∨ (gr σ (R 9) 1 = some q ∧ 0 < gl σ q) ∨ q = R 1 ∨ q = R 6 ∨ q = R 7 ∨ q = R 8 ∨ q = R 0) → (gk σ q = 102 → q = R 5) ∧ (gk σ q = 101 → q = R 4 ∨ q = R 6 ∨ q = R 7) ∧ gk σ q ≠ 23 ∧ (gk σ q = 103 → 0 < gl σ q) := by
    rintro q ((rfl | rfl | rfl) | rfl | rfl | ⟨hq, hp⟩ | rfl | rfl | rfl | rfl | rfl)
    · exact ⟨fun z => by omega, fun z => by omega, by omega, fun z => by omega⟩
    · exact ⟨fun z => by omega, fun _ => Or.inl rfl, by omega, fun z => by omega⟩
    · exact ⟨fun _ => rfl, fun z => by omega, by omega, fun z => by omega⟩
    · exact ⟨fun z => by omega, fun z => by omega, by omega, fun z => by omega⟩
    · exact ⟨fun z => by omega, fun z => by omega, by omega, fun z => by omega⟩
    · have ez : z1 = q := by rw [hq] at q4; cases q4; rfl
      subst ez
      exact ⟨fun z => by omega, fun z => by omega, by omega, fun _ => hp⟩
    · exact ⟨fun z => by omega, fun z => by omega, by omega, fun z => by omega⟩
    · exact ⟨fun z => by omega, fun _ => Or.inr (Or.inl rfl), by omega, fun z => by omega⟩
    · exact ⟨fun z => by omega, fun _ => Or.inr (Or.inr rfl), by omega, fun z => by omega⟩
    · exact ⟨fun z => by omega, fun z => by omega, by omega, fun z => by omega⟩
    · exact ⟨fun z => by omega, fun z => by omega, by omega, fun z => by omega⟩
  have kS : ∀ {sa : Nat} {bs : List Nat}, pS σ (R 5) sa bs → pS τ (R 5) sa bs := fun {sa bs} v1 => v1.kpW k1 (fun q hq => ⟨(tg q hq).2.2.1, (tg q hq).1⟩)
  obtain ⟨n1, n2, n3, n4⟩ := k1 (R 10) (by omega) (fun z => i3 ((tg _ z).1 i1))
  obtain ⟨o1, o2, o3, o4⟩ := k1 (R 11) (by omega) (fun z => by rcases (tg _ z).2.1 m1 with v | v | v; exact m3.1 v; exact m3.2.1 v; exact m3.2.2 v)
  obtain ⟨p1, p2, p3, p4⟩ := k1 z0 (by omega) (fun z => by have := (tg _ z).2.2.2 t7; omega)
  refine ⟨⟨⟨by rw [k4]; exact f1, by rw [k4]; exact f2⟩, ⟨by rw [k6, e2]; exact e3, g2, g3, g4, by rw [k5, e1]; exact f7⟩, ⟨n1.trans i1, by rw [n4]; exact i2, i3, by rw [e2]; omega, fun j hj => by rw [e2] at hj; omega⟩, ⟨o1.trans m1, by rw [o4]; exact m2, m3, by rw [e1]; exact m4, fun i p hp => by rw [o2]; rw [e1] at hp; exact m5 i p hp⟩⟩, ⟨fun w hw => kS (t1.1 w hw), kS t1.2.1, kS t1.2.2⟩, ⟨kS t2, kS t3, kS t4, kS t5⟩, z0, t6, p1.trans t7, by rw [p4]; exact t8⟩
end PHW
