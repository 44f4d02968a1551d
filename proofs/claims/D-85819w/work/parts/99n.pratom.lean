/-! P OVER S (41): reading: atoms -/
/-- the contract of atom -/
def CRa (G : GPl) (s0 : State) (l : Launch) (KK : Nat → Option Nat) (T : Nat → Nat) (R : Nat → Nat) (X : SX) (K : KS) (w : Nat) (t : TX) (a tp bl sl lev d : Nat) : Prop :=
  ∀ (bs : List (Option Nat)) (k : TK) (n s : Nat) (σ : GSt) (Q : Outcome → GSt → Prop), RS G KK T R X K w t a tp bl sl bs (40 - (d : Int)) k n s σ → bs.length + d ≤ 40 →
    (∀ τ y v k' I, rAtom t (rTerm t d) bs k = .ok (v, k') → RS G KK T R X K w t a tp bl sl bs (40 - (d : Int)) k' (n + 6) (s + 84) τ → rF a bl σ τ → rT R (tname t) τ v y 0 I → oI bl σ τ I → k.pl < k'.pl → gi τ y 1 = iI (k.pl : Int) → Q (.returned (some (va_rf (some y)))) τ) →
    (∀ x τ (e : Nat) p, rAtom t (rTerm t d) bs k = .error (e, p) → flt τ x (e : Int) p → rF a bl σ τ → MB G R τ X K w n s → Q (.threw x) τ) → CQ (wP G s0 l KK T) mX6_atom lev (.ref a :: []) σ Q
section PRN
variable {G : GPl} {s0 : State} {l : Launch} {KK : Nat → Option Nat} {T : Nat → Nat} {lev d : Nat} {Q : Outcome → GSt → Prop} {R : Nat → Nat} {σ τ υ st0 : GSt} {X : SX} {K : KS} {w n s n' s' o a tp bl sl : Nat} {W I I1 I2 : Nat → Prop} {t : TX} {bs : List (Option Nat)} {m : Int} {k : TK} {TN : Nat → List Nat}
/-- a node of its own is written -/
theorem RS.nd {y : Nat} (h : RS G KK T R X K w t a tp bl sl bs m k n s σ) (hk : keep (fun q => q = y) σ τ) (hy : 8 ≤ gk σ y ∧ gk σ y ≤ 13) (hz : gz τ) (h1 : gn τ = gn σ) (h2 : gm τ = gm σ) : RS G KK T R X K w t a tp bl sl bs m k n s τ := by
  have hB := h.2.2.2.2.1
  refine h.fr hk (fun q hq => ?_) (h.2.2.2.2.2.1.kp hk (fun q hq z => ?_) hz h1 h2)
  · subst hq
    refine ⟨by omega, by omega, by omega, fun z => ?_, fun z => ?_⟩
    · have := hB.1; rw [← z] at this; omega
    · obtain ⟨-, -, z', y1, y2, -⟩ := hB
      rw [z] at y1; cases y1; omega
  · subst z
    obtain ⟨⟨m1, m2, m3⟩, -⟩ := h.2.2.2.2.2.1.2.1
    rcases hq with rfl | rfl | rfl <;> omega
theorem rF.nd {y : Nat} (hk : keep (fun q => q = y) τ υ) (hg : gle τ υ) (h : rF a bl σ τ) (hy : gn σ ≤ y) (hz : gz σ) (hb : bl < gn σ) (hb2 : gk σ bl ≠ 0) : rF a bl σ υ := by
  have hgb : gk τ bl ≠ 0 := by rw [h.2.2.2 bl hb2]; exact hb2
  obtain ⟨y1, y2, y3, y4⟩ := hk bl hgb (by omega)
  refine ⟨h.1.tr hk (fun q hq w => absurd (hz q (by omega)) hq), fun q hq => ?_, h.2.2.tr hg⟩
  rw [y3] at hq
  exact h.2.1 q hq
theorem c_atom (ih : CRt G s0 l KK T R X K w t a tp bl sl lev d) (hK : KI KK) (hl : 12 ≤ lev) : CRa G s0 l KK T R X K w t a tp bl sl (lev + 1) d := by
  intro bs k n s σ Q h hd ok er
  have k3 := h.2.2.1.1
  refine tX6_atom ⟨h.1.1, c_isSg (x := 40) (by omega) hK h (by omega) (fun _ => ?_)⟩
  rw [k3]
  cases hs : isSg k 40 with
  | false =>
    refine ⟨fun _ => ?_, fun q => absurd rfl q⟩
    have eA : rAtom t (rTerm t d) bs k = rBind (rName t k) fun p k1 => .ok (rVar t bs p, k1) := by unfold rAtom; rw [hs]; rfl
    refine c_needN (by omega) hK h (fun τ o e1 e2 e3 e4 => fun _ => ?_) (fun y τ e p e1 e2 e3 e4 => fun _ => er y τ e p (by rw [eA, e1]; rfl) e2 e3 e4)
    have k0 : k.ki = 0 := by
      unfold rName at e1
      split at e1
      · assumption
      · cases e1
    have hk' := h.2.2.2.2.2.2.1.2 (by omega)
    have hpl : k.pl < (sGo t k.nx).pl := by have := (sGo_ok (t := t) hk'.2).2; omega
    have hz := e2.z
    refine c_var (n := n + 7 + 1 + 12 * (t.2 - (sGo t k.nx).pl)) (s := s + 91 + 8 + 128 * (t.2 - (sGo t k.nx).pl)) (by omega) e2.1 e2.2.2.2.2.1 (by omega) (e2.2.2.2.2.2.1.le (by omega) (by omega)) (h.2.2.2.2.2.2.2.2 (by omega)) e4 (fun τ2 g1 g2 g3 g4 g5 => fun _ => ?_)
    have fr : ¬ isM R (gn τ) := e2.2.2.2.2.2.1.2.1.fr hz (Nat.le_refl _)
    have n0 : gk τ (gn τ) = 0 := hz.at
    have no0 : gk τ (gn τ) ≠ 0 → nil0 (gn τ) := fun q => absurd n0 q
    have hk0 : keep nil0 τ (gpi (gn τ) 1 (iI (k.pl : Int)) (gpi (gn τ) 0 (iI (k.pl : Int)) τ2)) := (g1.pi no0).pi no0
    have hM0 : MB G R (gpi (gn τ) 1 (iI (k.pl : Int)) (gpi (gn τ) 0 (iI (k.pl : Int)) τ2)) X K w (n + 7 + 1 + 12 * (t.2 - (sGo t k.nx).pl)) (s + 91 + 8 + 128 * (t.2 - (sGo t k.nx).pl)) := (g3.pi' fr).pi' fr
    have hgb : gr (gpi (gn τ) 1 (iI (k.pl : Int)) (gpi (gn τ) 0 (iI (k.pl : Int)) τ2)) bl 1 = gr τ bl 1 := (hk0 bl (by rw [e2.2.2.2.2.1.1]; omega) id).2.2.1 1
    have hne : gr τ bl 1 ≠ some (gn τ) := fun q => by
      obtain ⟨-, -, z', y1, y2, -⟩ := e2.2.2.2.2.1
      rw [q] at y1; cases y1; omega
    have hg2 : gle τ (gpi (gn τ) 1 (iI (k.pl : Int)) (gpi (gn τ) 0 (iI (k.pl : Int)) τ2)) := g2
    have hRS := (e2.fr (n' := n + 7) (s' := s + 91) hk0 (fun q z => z.elim) hM0).le (n' := n + 6) (s' := s + 84) (by omega) (by omega)
    have hF : rF a bl σ (gpi (gn τ) 1 (iI (k.pl : Int)) (gpi (gn τ) 0 (iI (k.pl : Int)) τ2)) := e3.tr (rF.nl hk0 e2.2.2.2.2.1.1 hg2)
    have hg1 : gi (gpi (gn τ) 1 (iI (k.pl : Int)) (gpi (gn τ) 0 (iI (k.pl : Int)) τ2)) (gn τ) 1 = iI (k.pl : Int) := by rw [gi_pi, if_pos ⟨rfl, rfl⟩]
    have hoI : ∀ tg, gk τ2 (gn τ) = tg → tmt tg = true → oI bl σ (gpi (gn τ) 1 (iI (k.pl : Int)) (gpi (gn τ) 0 (iI (k.pl : Int)) τ2)) (fun q => q = gn τ) := fun tg h1 h2 q hq => by
      subst hq
      exact ⟨e3.2.2.1.1, by show gn τ < gn τ2; omega, by show tmt (gk τ2 (gn τ)) = true; rw [h1]; exact h2, by rw [hgb]; exact hne⟩
    have e5 : pS (gpi (gn τ) 1 (iI (k.pl : Int)) (gpi (gn τ) 0 (iI (k.pl : Int)) τ2)) (R 5) o (tname t k.pl) := e4.kpW hk0 (fun q z => z.elim)
    have eR : rAtom t (rTerm t d) bs k = .ok (rVar t bs k.pl, sGo t k.nx) := by rw [eA, e1]; rfl
    cases hf : rFind t (tname t k.pl) bs 0 with
    | some i =>
      rw [hf] at g5
      have ei : rVar t bs k.pl = .tag k.pl (.tag i .line) := by unfold rVar; rw [hf]
      have hi := (rFind_lt _ _ _ hf).2
      refine ⟨gn τ, rfl, ⟨10, by decide, g5.1⟩, ok _ (gn τ) _ _ _ eR hRS hF ?_ (hoI 11 g5.1 rfl) hpl hg1⟩
      rw [ei]
      refine ⟨g5.1, rfl, hg1, by omega, ?_⟩
      rw [gi_pi, if_neg (by omega), gi_pi, if_neg (by omega)]
      exact g5.2
    | none =>
      rw [hf] at g5
      have ei : rVar t bs k.pl = .tag k.pl (.tag k.pl .nil) := by unfold rVar; rw [hf]
      refine ⟨gn τ, rfl, ⟨11, by decide, g5.1⟩, ok _ (gn τ) _ _ _ eR hRS hF ?_ (hoI 12 g5.1 rfl) hpl hg1⟩
      rw [ei]
      refine ⟨g5.1, rfl, hg1, ?_, ⟨o, g5.2.1, e5⟩, g5.2.2.1, ?_⟩
      · rw [gi_pi, if_neg (by omega), gi_pi, if_pos ⟨rfl, rfl⟩]
      · rw [gi_pi, if_neg (by omega), gi_pi, if_neg (by omega)]
        exact g5.2.2.2
  | true =>
    refine ⟨fun q => absurd q (by decide), fun _ => ?_⟩
    have eA : rAtom t (rTerm t d) bs k = rBind (rTerm t d bs (sGo t k.nx)) fun v k1 => rBind (rNeed t 41 k1) fun _ k2 => .ok (refrom k.pl v, k2) := by unfold rAtom; rw [hs]; rfl
    have k2 : k.ki = 2 := by
      unfold isSg at hs
      simp only [Bool.and_eq_true, beq_iff_eq] at hs
      exact hs.1
    have hk' := h.2.2.2.2.2.2.1.2 (by omega)
    have hpl : k.pl < (sGo t k.nx).pl := by have := (sGo_ok (t := t) hk'.2).2; omega
    refine c_goR (by omega) hK h (by omega) (fun τ1 u1 u2 u3 => fun _ => ?_)
    refine ih bs (sGo t k.nx) (n + 8) (s + 96) τ1 _ u1 hd (fun τ2 y v k1 I e1 e2 e3 e4 e5 e6 => fun _ => ?_) (fun x τ2 e p e1 e2 e3 e4 => fun _ => er x τ2 e p (by rw [eA, e1]; rfl) e2 (u2.tr e3) (e4.le (by omega) (by omega)))
    refine c_need (x := 41) (by omega) hK e2 (by omega) (fun τ3 f1 f2 f3 => fun _ => ?_) (fun x τ3 e p f1 f2 f3 f4 => fun _ => er x τ3 e p (by rw [eA, e1]; show rBind (rNeed t 41 k1) _ = _; rw [f1]; rfl) f2 (u2.tr (e3.tr f3)) (f4.le (by omega) (by omega)))
    have k12 : k1.ki = 2 := by
      unfold rNeed at f1
      split at f1
      · rename_i hh
        unfold isSg at hh
        simp only [Bool.and_eq_true, beq_iff_eq] at hh
        exact hh.1
      · cases f1
    have hk1 := e2.2.2.2.2.2.2.1.2 (by omega)
    have hpl2 : k1.pl < (sGo t k1.nx).pl := by have := (sGo_ok (t := t) hk1.2).2; omega
    have r3 := e4.F e2 e5 u1.la u1.lb f3
    have o3 := (e5.F u1.la u1.lb f3).1
    have ht := rT_tm v y 0 I r3 rfl
    have hy := o3 y ht.2.1
    have hkp : keep (fun q => q = y) τ3 (gpi y 1 (iI (k.pl : Int)) τ3) := keep.rf.pi (fun _ => rfl)
    have hgg : gle τ3 (gpi y 1 (iI (k.pl : Int)) τ3) := gle.rf
    have hF3 : rF a bl σ τ3 := u2.tr (e3.tr f3)
    have lo1 : gn σ ≤ gn τ1 := u2.2.2.1.1
    refine ⟨y, rfl, ht.1, ok _ y (refrom k.pl v) (sGo t k1.nx) I (by rw [eA, e1]; show rBind (rNeed t 41 k1) _ = _; rw [f1]; rfl) (((f2.nd hkp (by omega) f2.z rfl rfl)).le (by omega) (by omega)) (rF.nd hkp hgg hF3 (by omega) h.z h.lb (by rw [h.2.2.2.2.1.1]; omega)) (rT_from v y 0 I r3 rfl) (fun q hq => ⟨by have := (o3 q hq).1; omega, (o3 q hq).2⟩) (by omega) ?_⟩
    rw [gi_pi, if_pos ⟨rfl, rfl⟩]
end PRN
