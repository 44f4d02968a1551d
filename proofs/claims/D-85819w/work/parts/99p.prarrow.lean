/-! P OVER S (43): reading: uses, arrows -/
/-- the contract of use, arrow (f: what they read) -/
def CRu (G : GPl) (s0 : State) (l : Launch) (KK : Nat → Option Nat) (T : Nat → Nat) (R : Nat → Nat) (X : SX) (K : KS) (w : Nat) (t : TX) (a tp bl sl lev d : Nat) (md : MD) (f : List (Option Nat) → TK → RR V) : Prop :=
  ∀ (bs : List (Option Nat)) (k : TK) (n s : Nat) (σ : GSt) (Q : Outcome → GSt → Prop), RS G KK T R X K w t a tp bl sl bs (40 - (d : Int)) k n s σ → bs.length + 1 + d ≤ 40 →
    (∀ τ y v k' I, f bs k = .ok (v, k') → RS G KK T R X K w t a tp bl sl bs (40 - (d : Int)) k' n s τ → rF a bl σ τ → rT R (tname t) τ v y 0 I → oI bl σ τ I → k.pl < k'.pl → gi τ y 1 = iI (k.pl : Int) → Q (.returned (some (va_rf (some y)))) τ) →
    (∀ x τ (e : Nat) p, f bs k = .error (e, p) → flt τ x (e : Int) p → rF a bl σ τ → MB G R τ X K w n s → Q (.threw x) τ) → CQ (wP G s0 l KK T) md lev (.ref a :: []) σ Q
def rArr (t : TX) (d : Nat) (bs : List (Option Nat)) (k : TK) : RR V := rBind (rUse t (rTerm t d) bs k) fun v k1 => if isSg k1 256 then rBind (rTerm t d (none :: bs) (sGo t k1.nx)) fun b k2 => .ok (.tag k.pl (.tag k1.pl (.group (.append v b) .fill)), k2) else .ok (v, k1)
section PRP
variable {G : GPl} {s0 : State} {l : Launch} {KK : Nat → Option Nat} {T : Nat → Nat} {lev d : Nat} {Q : Outcome → GSt → Prop} {R : Nat → Nat} {σ τ υ st0 : GSt} {X : SX} {K : KS} {w n s n' s' o a tp bl sl u al z z2 : Nat} {W I I1 I2 : Nat → Prop} {t : TX} {bs : List (Option Nat)} {m : Int} {k : TK} {TN : Nat → List Nat} {x1 : Int32} {x2 : Option Nat}
theorem uF.F (h : uF a bl al z σ τ) (h1 : gk σ al = 0) (h2 : gk σ z = 0) : rF a bl σ τ := by
  refine ⟨fun q hq hw => h.1 q hq (fun w => ?_), h.2⟩
  rcases w with w | w | w
  · exact hw w
  · rw [w] at hq; exact hq h1
  · rw [w] at hq; exact hq h2
theorem rParts_yes {m : Nat} {ps : V} {k' : TK} (hc : k.ki = 0 ∨ isSg k 40 = true) (h : rParts t (rTerm t d) bs (m + 1) k = .ok (ps, k')) : ∃ p ps', ps = .append p ps' := by
  rw [rParts, if_pos hc] at h
  cases h1 : rAtom t (rTerm t d) bs k with
  | error e => rw [h1] at h; cases h
  | ok r =>
    obtain ⟨p, k1⟩ := r
    rw [h1] at h
    have h' : rBind (rParts t (rTerm t d) bs m k1) (fun ps k2 => (.ok (.append p ps, k2) : RR V)) = .ok (ps, k') := h
    cases h2 : rParts t (rTerm t d) bs m k1 with
    | error e => rw [h2] at h'; cases h'
    | ok r2 =>
      obtain ⟨ps', k2⟩ := r2
      rw [h2] at h'
      cases h'
      exact ⟨p, ps', rfl⟩
theorem c_ruse (iha : CRa G s0 l KK T R X K w t a tp bl sl lev d) (hK : KI KK) (hl : 7 ≤ lev) : CRu G s0 l KK T R X K w t a tp bl sl (lev + 1) d mX6_use (rUse t (rTerm t d)) := by
  intro bs k n s σ Q h hd ok er
  have k3 := h.2.2.1.1
  refine tX6_use ⟨h.1.1, iha bs k n s σ _ h (by omega) (fun τ1 y v k1 I1 e1 e2 e3 e4 e5 e6 e7 => fun _ => ?_) (fun x τ1 e p e1 e2 e3 e4 => fun _ => er x τ1 e p (by rw [rUse_fin, e1]; rfl) e2 e3 e4)⟩
  rw [k3]
  have no : ¬ (k1.ki = 0 ∨ isSg k1 40 = true) → Q (.returned (some (va_rf (some y)))) τ1 := fun hc =>
    ok τ1 y v k1 I1 (by rw [rUse_fin, e1]; show rBind (rParts t (rTerm t d) bs t.2 k1) _ = _; rw [rParts_no hc]; rfl) (e2.le (by omega) (by omega)) e3 e4 e5 e6 e7
  have hB1 := e2.2.2.2.2.1
  have hM1 := e2.2.2.2.2.2.1
  have hz1 := e2.z
  have yes : (k1.ki = 0 ∨ isSg k1 40 = true) → jX6_use_31 G s0 l KK T lev σ Q a (iI (k.pl : Int)) (some y) none τ1 := fun hc => by
    have k12 : k1.ki ≤ 2 := by
      rcases hc with q | q
      · omega
      · unfold isSg at q
        simp only [Bool.and_eq_true, beq_iff_eq] at q
        omega
    have hk1 := e2.2.2.2.2.2.2.1.2 k12
    obtain ⟨m, hm⟩ : ∃ m, t.2 = m + 1 := ⟨t.2 - 1, by omega⟩
    have h8 := e2.1.2.2.2.2.2.2.2.1
    refine tX6_use_31 ⟨fun _ => ⟨⟨by have := hM1.2.2.2.1; omega, by have := hM1.2.2.2.2; omega, hz1.at⟩, c_use0 (n := n + 3 + 1 + 12 * (t.2 - k1.pl)) (s := s + 75 + 8 + 128 * (t.2 - k1.pl)) (by omega) (hM1.le (by omega) (by omega)) (fun τ2 f1 f2 f3 f4 f5 f6 f7 f8 f9 f10 f11 => fun hle2 => ?_)⟩, fun a1 q => (by cases q)⟩
    have r2 : RS G KK T R X K w t a tp bl sl bs (40 - (d : Int)) k1 (n + 3) (s + 75) τ2 := e2.fr f1 (fun q z => z.elim) f2
    have gl2 : gle τ1 τ2 := (gle_mk hz1).tr hle2
    have gb2 : gr τ2 bl 1 = gr τ1 bl 1 := (f1 bl (by rw [hB1.1]; omega) id).2.2.1 1
    have nb2 : ∀ q, gn τ1 ≤ q → gr τ1 bl 1 ≠ some q := fun q hq w => by
      obtain ⟨-, -, z', y1, y2, -⟩ := hB1
      rw [w] at y1; cases y1
      have := hz1 q hq; omega
    have lbl : bl < gn τ1 := hz1.lt (by rw [hB1.1]; omega)
    have F2 : rF a bl τ1 τ2 := rF.nl f1 hB1.1 gl2
    have lo1 : gn σ ≤ gn τ1 := e3.2.2.1.1
    have eU : ∀ {ps : V} {k2 : TK}, rParts t (rTerm t d) bs (m + 1) k1 = .ok (ps, k2) → rUse t (rTerm t d) bs k = rFin k.pl v ps k2 := fun {ps k2} hp => by
      rw [rUse_fin, e1]
      show rBind (rParts t (rTerm t d) bs t.2 k1) _ = _
      rw [hm, hp]
      rfl
    refine c_u44 (u := gn τ1) (al := gn τ1 + 1) (m := m) iha hl (by omega) (c_u12 iha hK hl (by omega) m) k1 (n + 3) s (s + 75) τ2 0 (gn τ1 + 2) 2 hc (by omega) (by omega) r2 ⟨f4, f6, f7, f8, f10, f11, f9, by omega, by omega, by omega, by omega, by rw [gb2]; exact nb2 _ (by omega), fun i hi => by omega⟩ (by omega) (fun τ ps k' z' I g1 g2 g3 g4 g5 g6 g7 g8 g9 g10 g11 g12 g13 g14 g15 => ?_) (fun x τ e p g1 g2 g3 g4 => ?_)
    · obtain ⟨pp, ps', hps⟩ := rParts_yes hc g1
      have hv1 : 1 ≤ vlen ps := by rw [hps]; show 1 ≤ vlen ps' + 1; omega
      have eF : rUse t (rTerm t d) bs k = .ok (.tag k.pl (.tag k.pl (.group (.group (.append v ps) .fill) .fill)), k') := by rw [eU g1, hps]; rfl
      -- what was read first
      have r3 := e4.F e2 e5 h.la h.lb F2
      have o3 := (e5.F h.la h.lb F2).1
      have I1lt : ∀ q, I1 q → gn σ ≤ q ∧ q < gn τ1 := fun q hq => ⟨(e5 q hq).1, (e5 q hq).2.1⟩
      have no2 : ∀ q, I1 q → ¬ (rW a bl τ2 q ∨ q = gn τ1 + 1 ∨ q = gn τ1 + 2) := fun q hq w => by
        have := I1lt q hq
        have h4 := (o3 q hq).2.2.2
        have := h.la; have := h.lb
        rcases w with (w | w | w) | w | w
        · omega
        · omega
        · exact h4 w.1
        · omega
        · omega
      have tg2 : ∀ q, (rW a bl τ2 q ∨ q = gn τ1 + 1 ∨ q = gn τ1 + 2) → gk τ2 q ≠ 23 ∧ (gk τ2 q = 102 → q = R 5) := fun q w => by
        rcases w with w | w | w
        · exact r2.S q w
        · rw [w]; omega
        · rw [w]; omega
      have r4 : rT R (tname t) τ v y 0 I1 := rT_keep g3.1 tg2 v y 0 I1 r3 no2 (fun z => absurd rfl z)
      have nu : ¬ (rW a bl τ2 (gn τ1) ∨ gn τ1 = gn τ1 + 1 ∨ gn τ1 = gn τ1 + 2) := fun w => by
        have := h.la
        rcases w with (w | w | w) | w | w
        · omega
        · omega
        · rw [gb2] at w; exact nb2 _ (Nat.le_refl _) w.1
        · omega
        · omega
      obtain ⟨v1, v2, v3, v4⟩ := g3.1 (gn τ1) (by omega) nu
      have gu : gk τ (gn τ1) = 13 := v1.trans f4
      have gal : gk τ (gn τ1 + 1) = 22 := by rw [g3.2.2.2 _ (by omega)]; exact f7
      have kF : keep (fun q => q = gn τ1) τ (gpi (gn τ1) 1 (iI (k.pl : Int)) (gpi (gn τ1) 0 (iI (k.pl : Int)) τ)) := keep.pi (W := fun q => q = gn τ1) (keep.rf.pi (fun _ => rfl)) (fun _ => rfl)
      have hsF : ∀ q, q = gn τ1 → gk τ q ≠ 23 ∧ (gk τ q = 102 → q = R 5) := fun q hq => by subst hq; omega
      have z'u : z' ≠ gn τ1 := fun q => by rw [q] at g5; omega
      have z'al : z' ≠ gn τ1 + 1 := fun q => by rw [q] at g5; omega
      have Ige : ∀ q, I q → gn τ1 + 3 ≤ q := fun q hq => by have := (g13 q hq).1; omega
      have gbF : gr (gpi (gn τ1) 1 (iI (k.pl : Int)) (gpi (gn τ1) 0 (iI (k.pl : Int)) τ)) bl 1 = gr τ bl 1 := rfl
      have hBt := g2.2.2.2.2.1
      have nbt : ∀ q, gk τ q ≠ 103 → gr τ bl 1 ≠ some q := fun q hq w => by
        obtain ⟨-, -, z'', y1, y2, -⟩ := hBt
        rw [w] at y1; cases y1
        exact hq y2
      have hgt : gn τ2 ≤ gn τ := g3.2.2.1.1
      have FU : uF a bl (gn τ1 + 1) (gn τ1 + 2) σ τ := (rF.U (e3.tr F2)).tr g3 (Or.inl rfl)
      have FF : rF a bl σ τ := FU.F (h.z _ (by omega)) (h.z _ (by omega))
      have zI1 : ∀ q, I1 q → q ≠ z' := fun q hq w => by
        have := I1lt q hq
        rcases g9 with g9 | g9
        · omega
        · omega
      have lz' : z' < gn τ := g2.z.lt (by omega)
      have lz2 : gn τ1 ≤ z' := by
        rcases g9 with g9 | g9
        · omega
        · omega
      refine ok _ (gn τ1) _ k' (fun q => q = gn τ1 ∨ q = gn τ1 + 1 ∨ q = z' ∨ I1 q ∨ I q) eF ((g2.le (n' := n) (s' := s) (by omega) (Nat.le_refl _)).nd kF (by omega) g2.z rfl rfl) (rF.nd kF gle.rf FF (by omega) h.z h.lb (by rw [h.2.2.2.2.1.1]; omega)) ?_ (fun q hq => ?_) (by omega) ?_
      · refine ⟨gu, Or.inl rfl, ?_, ?_, y, gn τ1 + 1, z', I1, I, ?_, ?_, gal, Or.inr (Or.inl rfl), g4, g5, Or.inr (Or.inr (Or.inl rfl)), ?_, ?_, hv1, ?_, fun q hq => ?_, fun q hq => ?_, ?_, ?_⟩
        · rw [gi_pi, if_pos ⟨rfl, rfl⟩]
        · rw [gi_pi, if_neg (by omega), gi_pi, if_pos ⟨rfl, rfl⟩]
        · show gr τ (gn τ1) 2 = some y; rw [v3]; exact f5
        · show gr τ (gn τ1) 3 = some (gn τ1 + 1); rw [v3]; exact f6
        · rw [gi_pi, if_neg (by omega), gi_pi, if_neg (by omega), g6]; congr 2; omega
        · omega
        · show vlen ps ≤ gl τ z'; omega
        · have := I1lt q hq
          exact ⟨Or.inr (Or.inr (Or.inr (Or.inl hq))), by omega, by omega, zI1 q hq⟩
        · have := Ige q hq
          exact ⟨Or.inr (Or.inr (Or.inr (Or.inr hq))), by omega, by omega, g14 q hq, fun w => by have := I1lt q w; omega⟩
        · exact rT_keep kF hsF v y 0 I1 r4 (fun q hq w => by have := I1lt q hq; omega) (fun z => absurd rfl z)
        · exact rT_keep kF hsF ps z' 1 I g12 (fun q hq w => by have := Ige q hq; omega) (fun _ => ⟨by omega, z'u⟩)
      · rw [gbF]
        show gn σ ≤ q ∧ q < gn τ ∧ tmt (gk τ q) = true ∧ _
        rcases hq with hq | hq | hq | hq | hq
        · subst hq
          exact ⟨by omega, by omega, by rw [gu]; rfl, nbt _ (by omega)⟩
        · subst hq
          exact ⟨by omega, by omega, by rw [gal]; rfl, nbt _ (by omega)⟩
        · subst hq
          exact ⟨by omega, lz', by rw [g5]; rfl, g10⟩
        · obtain ⟨y1, y2, y3, y4⟩ := o3 q hq
          refine ⟨y1, by omega, by rw [g3.2.2.2 q (tmt_ne y3).1]; exact y3, fun w => ?_⟩
          rcases g3.2.1 q w with w | w
          · exact y4 w
          · exact (tmt_ne y3).1 w
        · obtain ⟨y1, y2, y3, y4⟩ := g13 q hq
          exact ⟨by omega, y2, y3, y4⟩
      · rw [gi_pi, if_pos ⟨rfl, rfl⟩]
    · have FU : uF a bl (gn τ1 + 1) (gn τ1 + 2) σ τ := (rF.U (e3.tr F2)).tr g3 (Or.inl rfl)
      refine er x τ e p ?_ g2 (FU.F (h.z _ (by omega)) (h.z _ (by omega))) (g4.le (by omega) (by omega))
      rw [rUse_fin, e1]
      show rBind (rParts t (rTerm t d) bs t.2 k1) _ = _
      rw [hm, g1]
      rfl
  refine tX6_use_12 ⟨e2.1.1, fun q => ?_, fun q => c_isSg (x := 40) (by omega) hK e2 (by omega) (fun _ => ?_)⟩
  · rw [e2.2.2.1.2.1] at q
    exact yes (Or.inl (hK _ _ e2.2.2.1.2.2.2.2.2.1 (by omega) q))
  · cases h40 : isSg k1 40 with
    | true => exact ⟨fun q => absurd q (by decide), fun _ => yes (Or.inr h40)⟩
    | false =>
      have hcc : ¬ (k1.ki = 0 ∨ isSg k1 40 = true) := by
        rintro (w | w)
        · exact q (by rw [e2.2.2.1.2.1, w])
        · rw [h40] at w; cases w
      exact ⟨fun _ => ⟨fun _ => no hcc, fun a4 ha => (by cases ha)⟩, fun q => absurd rfl q⟩
end PRP
