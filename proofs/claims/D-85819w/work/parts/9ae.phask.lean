/-! THE HOUSE OVER S, P (2): a term fits a type -/
def nilL (_ _ : Nat) : Prop := False
/-- the house's own cell: tables, machine, judge -/
def hcl (R : Nat → Nat) (σ : GSt) : Prop := gk σ (R 0) = 1 ∧ gr σ (R 0) 5 = some (R 1) ∧ gr σ (R 0) 6 = some (R 2) ∧ gr σ (R 0) 7 = some (R 3)
section PHA
variable {G : GPl} {s0 : State} {l : Launch} {KK : Nat → Option Nat} {T : Nat → Nat} {lev : Nat} {Q : Outcome → GSt → Prop} {R : Nat → Nat} {σ τ υ st0 : GSt} {X : SX} {J : JX} {K K' : KS} {w n s o z m Z Yc Ys a y : Nat} {c c' : PC} {L L' : Nat → Nat → Prop} {W I I' I1 I2 D : Nat → Prop} {TN : Nat → List Nat} {sc : SC} {x : Option Nat}
theorem vdrop_nil {m : Nat} : vdrop m .nil = .nil := by cases m <;> rfl
theorem hcl.kp (h : hcl R σ) (hk : keep W σ τ) (hW : ¬ W (R 0)) : hcl R τ := by
  obtain ⟨h1, h2, h3, h4⟩ := h
  obtain ⟨e1, e2, e3, e4⟩ := hk (R 0) (by omega) hW
  exact ⟨e1.trans h1, by rw [e3]; exact h2, by rw [e3]; exact h3, by rw [e3]; exact h4⟩
theorem hcl.no (h : gk σ a = 1 ∨ gk σ a = 6) (hm : MS G R σ X K w) (hJ : gk σ (R 3) = 4) (hI : ∀ q, I q → tmt (gk σ q) = true) : ¬ isJ R I a := by
  obtain ⟨⟨m1, m2, m3⟩, -⟩ := hm
  rintro ((rfl | rfl | rfl) | rfl | z)
  · omega
  · omega
  · omega
  · omega
  · have := hI a z
    rcases h with h | h <;> (rw [h] at this; cases this)
theorem tmA_no (h : isTmA σ a) (hm : MS G R σ X K w) (hJ : gk σ (R 3) = 4) : ¬ isJ R nil0 a ∧ gk σ a ≠ 0 := by
  obtain ⟨⟨m1, m2, m3⟩, -⟩ := hm
  obtain ⟨k, h1, h2⟩ := h
  have h3 : k = 7 ∨ k = 8 ∨ k = 9 ∨ k = 10 ∨ k = 11 ∨ k = 12 ∨ k = 17 ∨ k = 18 ∨ k = 19 := by
    unfold tmC at h1
    simpa using h1
  refine ⟨?_, by omega⟩
  rintro ((rfl | rfl | rfl) | rfl | z)
  · omega
  · omega
  · omega
  · omega
  · exact z
theorem JF.kp {t r : V} {so : Int} (h : JF c L R σ t r so) (hk : keep nil0 σ τ) (h3 : gk σ (R 3) ≠ 0) : JF c L R τ t r so := by
  obtain ⟨⟨ty, h1, h2⟩, h4, h5⟩ := h
  obtain ⟨e1, e2, e3, e4⟩ := hk (R 3) h3 id
  exact ⟨⟨ty, by rw [e3]; exact h1, pT_mv (hk.mv (L := L)) _ _ _ h2⟩, by rw [e3]; exact pV_mv hk.mv _ _ _ h4, by rw [e2]; exact h5⟩
theorem c_fits {yn : Nat} {t nt : V} (hl : 640 ≤ lev) (hYc : 12 + 4 * Z ≤ Yc) (hYs : 64 + 12 * Z ≤ Ys) (hJN : JN c X J TN) (hh : hcl R σ) (hy : gk σ y = 6 ∧ gr σ y 5 = some a) (hr : rT R TN σ t a 0 I) (hg : rG t 0 0 100) (hI : ∀ q, I q → c.E q) (h : JB R c nilL σ X J [] none) (hz : ∀ k, k < c.nc → sw (J.ct k) ≤ z) (hZ : z + rB t ≤ Z) (hp : pT c σ nt yn 0) (hn : gT nt false []) (hm : MB G R σ X K 0 (m + rN t * Yc + 2 * Z + 4) (s + rN t * Ys + 6 * Z + 32))
    (ok : ∀ τ K' u, hFits X J t nt K = (K', .ok u) → K.life ≤ K'.life → jfr R I σ τ → MB G R τ X K' 0 m s → pT (cut c I) τ u a 0 → gT u false [] → Q (.returned none) τ)
    (er : ∀ x τ K' e p w', hFits X J t nt K = (K', .error (e, p)) → K.life ≤ K'.life → flt τ x e p → jfr R I σ τ → MB G R τ X K' w' m s → Q (.threw x) τ) : CQ (wP G s0 l KK T) mX1_fits lev (.ref (R 0) :: [va_rf (some y), va_rf (some yn)]) σ Q := by
  obtain ⟨l', rfl⟩ : ∃ l', lev = l' + 1 := ⟨lev - 1, by omega⟩
  refine tX1_fits ⟨hh.1, y, rfl, hy.1, R 3, hh.2.2.2, h.1.1.1, ?_⟩
  rw [hy.2]
  have hIt : ∀ q, I q → tmt (gk σ q) = true := fun q hq => h.2.2.2.2.2 q (hI q hq)
  have nI0 : ¬ isJ R I (R 0) := hcl.no (Or.inl hh.1) hm.2.1 h.1.1.1 hIt
  have nIy : ¬ isJ R I y := hcl.no (Or.inr hy.1) hm.2.1 h.1.1.1 hIt
  refine c_judge (G := G) (s0 := s0) (l := l) (KK := KK) (T := T) (R := R) (X := X) (J := J) (TN := TN) hYc hYs 100 l' (by omega) c t a I [] none K σ (m + 2 * Z + 4) (s + 6 * Z + 32) z nilL _ hJN hr hg hI h trivial hz hZ (by show 0 + 100 ≤ 300; omega) (hm.le (by omega) (by omega)) (fun t6 K6 u ty r so e1 e2 j6 b6 p6 g6 f6 y6 i6 => fun l6 => ?_) (fun x τ K' e p w' e1 e2 e3 e4 e5 => fun _ => er x τ K' e p w' (by unfold hFits; rw [e1]; rfl) e2 e3 e4 (e5.le (by omega) (by omega)))
  obtain ⟨⟨mm, em⟩, y2, y3, y4, y5, y6⟩ := y6
  have er0 : r = .nil := em.trans vdrop_nil
  subst er0
  have h6 : JB R (cut c I) nilL t6 X J [] none := h.mv hm.2.1 j6 hI (fun q z => z.1) rfl
  have h06 : hcl R t6 := hh.kp j6.1 nI0
  obtain ⟨q1, q2, q3, q4⟩ := j6.1 y (by omega) nIy
  have hp6 : pT (cut c I) t6 nt yn 0 := pT_mv (h.mvc (c' := cut c I) hm.2.1 j6 hI (fun q z => z.1) rfl) _ _ _ hp
  refine ⟨(b6.2.2.2.le (n' := 0 + 1) (s' := 0 + 2) (by omega) (by omega)).gr b6.1, c_clo (by omega) b6.1 (fun t10 k10 z10 n10 m10 c1 c2 c3 => fun l10 => ?_)⟩
  have l610 : gle t6 t10 := ⟨⟨by omega, by omega⟩, fun q hq => (k10 q hq id).1⟩
  have b10 : MB G R t10 X K6 0 (m + 2 * Z + 3) (s + 6 * Z + 30) := (b6.le (n' := m + 2 * Z + 3 + 1) (s' := s + 6 * Z + 30 + 2) (by omega) (by omega)).new k10 z10 n10 m10
  have j10 : jfr R nil0 t6 t10 := jfr.N k10 l610 h6.1
  have h10 : JB R (cut c I) nilL t10 X J [] none := h6.mv b6.2.1 j10 (fun _ z => z.elim) (fun _ z => z) rfl
  have h010 : hcl R t10 := h06.kp k10 id
  have f10 := f6.kp k10 (by rw [h6.1.1.1]; omega)
  have v10 : pV (cut c I) nilL t10 (vClo nt .nil) false (some (gn t6)) := pV_pH c1 ⟨⟨yn, c2, pT_mv (k10.mv (L := nilL)) _ _ _ hp6⟩, by rw [c3]; trivial⟩
  obtain ⟨⟨ty', f1, f2⟩, f3, f4⟩ := f10
  refine ⟨R 3, h010.2.2.2, h10.1.1.1, c_found (c := cut c I) (L := nilL) (R := R) (X := X) (K := K6) (w := 0) (n := m + Z + 2) (s := s + 3 * Z + 28) (by omega) h10.1.1.1 f1 f2 f3 y2 y3 (b10.le (by omega) (by omega)) (fun t14 q k14 b14 v14 g14 gv14 => onR_ret (fun l14 => ?_))⟩
  have j14 : jfr R nil0 t10 t14 := jfr.N k14 l14 h10.1
  have h14 : JB R (cut c I) nilL t14 X J [] none := h10.mv b10.2.1 j14 (fun _ z => z.elim) (fun _ z => z) rfl
  have v14' : pV (cut c I) nilL t14 (vClo nt .nil) false (some (gn t6)) := pV_mv k14.mv _ _ _ v10
  have sw0 : sw nt = 0 := sw_false _ _ hn
  have swu : sw (sUnw ty .nil).1 ≤ Z := Nat.le_trans (sw_unw _ _ _ (Nat.lt_succ_self _)) (by omega)
  have ew : swv (vClo nt .nil) + swv (vClo (sUnw ty .nil).1 (sUnw ty .nil).2) = sw (sUnw ty .nil).1 := by show sw nt + _ = _; rw [sw0, Nat.zero_add]; rfl
  refine ⟨R 2, h06.2.2.1, b14.2.1.1.1, c_same (G := G) (s0 := s0) (l := l) (KK := KK) (T := T) (R := R) (X := X) (c := cut c I) 100 0 l' rfl (by omega) (vClo nt .nil) (vClo (sUnw ty .nil).1 (sUnw ty .nil).2) (gn t6) q K6 t14 (m + Z + 1) (s + 3 * Z + 20) nilL _ ⟨fun _ _ z => z.elim, fun _ _ _ z => z.elim, fun _ _ _ z => z.elim⟩ v14' v14 (Or.inr ⟨nt, .nil, rfl, gT_up _ _ _ hn, trivial⟩) (Or.inr ⟨_, _, rfl, g14, gv14⟩) h14.2.2.1 (by rw [ew]; exact b14.le (by omega) (by omega)) (fun t18 K18 r18 d1 d2 d3 d4 d5 => fun l18 => ?_) (fun x τ K' e w' d1 d2 d3 d4 d5 => fun l18 => ?_)⟩
  · have j18 : jfr R I σ t18 := j6.tr (((j10.t2 j14).t2 (jfr.M d4 l18 h14.1 b14.2.1)) : jfr R nil0 t6 t18) (fun _ z => z) (fun _ z => z.elim)
    have j6' : jfr R nil0 t6 t18 := (j10.t2 j14).t2 (jfr.M d4 l18 h14.1 b14.2.1)
    have h18 : JB R (cut c I) nilL t18 X J [] none := h6.mv b6.2.1 j6' (fun _ z => z.elim) (fun _ z => z) rfl
    have p18 : pT (cut c I) t18 u a 0 := pT_mv (h6.mvc b6.2.1 j6' (fun _ z => z.elim) (fun _ z => z) rfl) _ _ _ p6
    obtain ⟨u1, u2, u3, u4⟩ := j18.1 y (by omega) nIy
    refine ⟨fun e => ?_, fun e => ?_⟩
    · have hr0 : r18 = false := bI_z.mp e
      subst hr0
      have k19 : keep nil0 t18 (gmk 7 8 t18) := keep.rf.mk d5.1.at
      obtain ⟨w1, w2, w3, w4⟩ := k19 y (by rw [u1, hy.1]; omega) id
      obtain ⟨v1, v2⟩ := tmA_no (pT_tm p6) b6.2.1 h6.1.1.1
      obtain ⟨x1, x2, x3, x4⟩ := j6'.1 a v2 v1
      have hat : gi (gmk 7 8 t18) a 1 = iI (jFrom t) := by
        rw [(k19 a (by rw [x1]; exact v2) id).2.1, x2]; exact i6
      refine ⟨(d5.2.2.2.le (n' := m + Z + 1) (s' := s + 3 * Z + 20 + 8) (by omega) (by omega)).gr d5.1, a, by rw [w3, u3]; exact hy.2, (pT_tm p18).le (gle_mk d5.1), ?_⟩
      rw [hat]
      refine c_flt (e := 11) (by omega) d5.1 (fun τ t1 t2 t3 t4 t5 => fun l24 => ?_)
      have l1 : gle t18 τ := (gle_mk d5.1).tr l24
      refine er _ τ K18 11 (jFrom t) 0 (by unfold hFits hClo; rw [e1]; show jBind (jOf (sSame X 100 _ _ K6)) _ = _; rw [d1]; rfl) (by omega) t5 (j18.tr (jfr.N t1 l1 h18.1 : jfr R nil0 t18 τ) (fun _ z => z) (fun _ z => z.elim)) (((d5.le (n' := m + Z + 1 + 1) (s' := s + 3 * Z + 20 + 8) (by omega) (by omega)).new t1 t2 t3 t4).le (by omega) (by omega))
    · have hr1 : r18 = true := by
        cases r18 with
        | true => rfl
        | false => exact absurd rfl e
      subst hr1
      exact ok t18 K18 u (by unfold hFits hClo; rw [e1]; show jBind (jOf (sSame X 100 _ _ K6)) _ = _; rw [d1]; rfl) (by omega) j18 (d5.le (by omega) (by omega)) p18 g6
  · exact er x τ K' e (-1) w' (by unfold hFits hClo; rw [e1]; show jBind (jOf (sSame X 100 _ _ K6)) _ = _; rw [d1]; rfl) (by omega) d3 (j6.tr (((j10.t2 j14).t2 (jfr.M d4 l18 h14.1 b14.2.1)) : jfr R nil0 t6 τ) (fun _ z => z) (fun _ z => z.elim)) (d5.le (by omega) (by omega))
end PHA
