/-! THE HOUSE OVER S, P (3): what is asked -/
/-- a statement at hand: its cell, its terms, that are not judged yet -/
def PSt (R : Nat → Nat) (t : TX) (c : PC) (σ : GSt) (y : Nat) (ty tm : Option V) (I1 I2 : Nat → Prop) : Prop := gk σ y = 6 ∧ pOp R t σ (gr σ y 4) ty I1 ∧ pOp R t σ (gr σ y 5) tm I2 ∧ (∀ q, I1 q ∨ I2 q → c.E q) ∧ (∀ q, I2 q → ¬ I1 q)
abbrev orI (I1 I2 : Nat → Prop) : Nat → Prop := fun q => I1 q ∨ I2 q
section PHD
variable {G : GPl} {s0 : State} {l : Launch} {KK : Nat → Option Nat} {T : Nat → Nat} {lev : Nat} {Q : Outcome → GSt → Prop} {R : Nat → Nat} {σ τ υ st0 : GSt} {X : SX} {J : JX} {K K' : KS} {w n s o z m Z Yc Ys a y kd : Nat} {c c' : PC} {L L' : Nat → Nat → Prop} {W I I' I1 I2 D : Nat → Prop} {TN : Nat → List Nat} {sc : SC} {x : Option Nat} {t : TX} {ty tm : Option V} {v u : V}
theorem sPuts_o : ∀ (bs : List Nat) (K : KS), (sPuts bs K).outs = K.outs + bs.length ∧ (sPuts bs K).life = K.life := by
  intro bs
  induction bs with
  | nil => intro K; exact ⟨rfl, rfl⟩
  | cons b bs ih => intro K; obtain ⟨h1, h2⟩ := ih (sPut b K); exact ⟨h1.trans (by show K.outs + 1 + bs.length = K.outs + (bs.length + 1); omega), h2⟩
theorem OB.puts {bs : List Nat} (h : OB K (o + bs.length)) : OB (sPuts bs K) o := by
  obtain ⟨e1, e2⟩ := sPuts_o bs K
  unfold OB at h ⊢
  rw [e1, e2]; omega
theorem c_jtop (hl : 630 ≤ lev) (hYc : 12 + 4 * Z ≤ Yc) (hYs : 64 + 12 * Z ≤ Ys) (hJN : JN c X J TN) (hh : hcl R σ) (hr : rT R TN σ v a 0 I) (hg : rG v 0 0 100) (hI : ∀ q, I q → c.E q) (h : JB R c nilL σ X J [] none) (hz : ∀ k, k < c.nc → sw (J.ct k) ≤ z) (hZ : z + rB v ≤ Z) (hm : MB G R σ X K 0 (m + rN v * Yc) (s + rN v * Ys)) (hO : OB K o)
    (ok : ∀ τ K' u ty so, sJudge X J 100 v [] K = (K', .ok (u, ty, .nil, so)) → K.life ≤ K'.life → jfr R I σ τ → JB R (cut c I) nilL τ X J [] none → hcl R τ → MB G R τ X K' 0 m s → OB K' o → pT (cut c I) τ u a 0 → gT u false [] → JF (cut c I) nilL R τ ty .nil so → gT ty true [] → (-1 ≤ so ∧ so < 8 ∧ sw ty ≤ z + rB v) → gi τ a 1 = iI (jFrom v) → Q (.returned none) τ)
    (er : ∀ x τ K' e p w', sJudge X J 100 v [] K = (K', .error (e, p)) → K.life ≤ K'.life → flt τ x e p → jfr R I σ τ → MB G R τ X K' w' m s → OB K' o → Q (.threw x) τ) : CQ (wP G s0 l KK T) mX4_judge lev (.ref (R 3) :: [va_rf (some a), va_rf none]) σ Q := by
  have hIt : ∀ q, I q → tmt (gk σ q) = true := fun q hq => h.2.2.2.2.2 q (hI q hq)
  have nI0 : ¬ isJ R I (R 0) := hcl.no (Or.inl hh.1) hm.2.1 h.1.1.1 hIt
  refine c_judge (G := G) (s0 := s0) (l := l) (KK := KK) (T := T) (R := R) (X := X) (J := J) (TN := TN) hYc hYs 100 lev (by omega) c v a I [] none K σ m s z nilL _ hJN hr hg hI h trivial hz hZ (by show 0 + 100 ≤ 300; omega) hm (fun t6 K6 u ty r so e1 e2 j6 b6 p6 g6 f6 y6 i6 => ?_) (fun x τ K' e p w' e1 e2 e3 e4 e5 => er x τ K' e p w' e1 e2 e3 e4 e5 ((kO_judge _ _ _ _ rfl).ob e1 e2 hO))
  obtain ⟨⟨mm, em⟩, y2, y3, y4, y5, y6⟩ := y6
  have er0 : r = .nil := em.trans vdrop_nil
  subst er0
  exact ok t6 K6 u ty so e1 e2 j6 (h.mv hm.2.1 j6 hI (fun q z => z.1) rfl) (hh.kp j6.1 nI0) b6 ((kO_judge _ _ _ _ rfl).ob e1 e2 hO) p6 g6 f6 y2 ⟨y4, y5, y6⟩ i6
theorem LTn : LT nilL σ := fun _ _ h => h.elim
theorem LFn : LF nilL σ K := ⟨fun _ _ z => z.elim, fun _ _ _ z => z.elim, fun _ _ _ z => z.elim⟩
/-- norm -/
theorem c_does5 (hl : 640 ≤ lev) (hYc : 12 + 4 * Z ≤ Yc) (hYs : 64 + 12 * Z ≤ Ys) (hJN : JN c X J (tname t)) (hh : hcl R σ) (hk : gr σ y 0 = KK 11) (hs : PSt R t c σ y ty (some v) I1 I2) (hg : rG v 0 0 100) (h : JB R c nilL σ X J [] none) (hz : ∀ k, k < c.nc → sw (J.ct k) ≤ z) (hZ : z + rB v ≤ Z) (hm : MB G R σ X K 0 (m + rN v * Yc + 6) (s + rN v * Ys + 40)) (hO : OB K (o + 40))
    (ok : ∀ τ K', hAsk X J 5 ty (some v) K = (K', .ok ()) → K.life ≤ K'.life → jfr R I2 σ τ → MB G R τ X K' 0 m s → OB K' o → Q (.returned none) τ)
    (er : ∀ x τ K' e p w', hAsk X J 5 ty (some v) K = (K', .error (e, p)) → K.life ≤ K'.life → flt τ x e p → jfr R I2 σ τ → MB G R τ X K' w' m s → OB K' o → Q (.threw x) τ) : CQ (wP G s0 l KK T) mX1_does lev (.ref (R 0) :: [va_rf (some y)]) σ Q := by
  obtain ⟨l', rfl⟩ : ∃ l', lev = l' + 1 := ⟨lev - 1, by omega⟩
  obtain ⟨s1, s2, ⟨a, s3, s4⟩, s5, s6⟩ := hs
  have hIt : ∀ q, I2 q → tmt (gk σ q) = true := fun q hq => h.2.2.2.2.2 q (s5 q (Or.inr hq))
  have nIy : ¬ isJ R I2 y := hcl.no (Or.inr s1) hm.2.1 h.1.1.1 hIt
  have ea : ∀ K6 r, sJudge X J 100 v [] K = (K6, r) → hAsk X J 5 ty (some v) K = jBind (K6, r) fun a K => jBind (jOf (sTell X 100 (vClo a.1 .nil) 0 false false K)) fun _ K => (sPut 10 K, .ok ()) := fun K6 r e => by
    unfold hAsk
    rw [← e]
    rfl
  refine tX1_does ⟨y, rfl, s1, 5, ⟨by omega, hk⟩, fun e => absurd e (by decide), fun e => absurd e (by decide), fun e => absurd e (by decide), fun e => absurd e (by decide), fun e => absurd e (by decide), fun _ => ⟨hh.1, R 3, hh.2.2.2, h.1.1.1, ?_⟩, fun e => absurd e (by decide), fun e => absurd e (by unfold tout; decide)⟩
  rw [s3]
  refine c_jtop (m := m + 6) (s := s + 40) (o := o + 40) (by omega) hYc hYs hJN hh s4 hg (fun q hq => s5 q (Or.inr hq)) h hz hZ (hm.le (by omega) (by omega)) hO (fun t6 K6 u ty' so e1 e2 j6 h6 c6 b6 o6 p6 g6 f6 y6 x6 i6 => fun l6 => ?_) (fun x τ K' e p w' e1 e2 e3 e4 e5 e6 => fun _ => er x τ K' e p w' (ea _ _ e1) e2 e3 e4 (e5.le (by omega) (by omega)) (e6.le (by omega)))
  obtain ⟨q1, q2, q3, q4⟩ := j6.1 y (by omega) nIy
  have k7 : keep nil0 t6 (gmk 14 2 t6) := keep.rf.mk b6.1.at
  have s7 : gr (gmk 14 2 t6) y 5 = some a := by rw [(k7 y (by omega) id).2.2.1, q3]; exact s3
  refine ⟨(b6.2.2.2.le (n' := 0 + 1) (s' := 0 + 2) (by omega) (by omega)).gr b6.1, ?_⟩
  rw [s7]
  refine c_clo (by omega) b6.1 (fun t10 k10 z10 n10 m10 c1 c2 c3 => fun l10 => ?_)
  have l610 : gle t6 t10 := ⟨⟨by omega, by omega⟩, fun q hq => (k10 q hq id).1⟩
  have b10 : MB G R t10 X K6 0 (m + 5) (s + 38) := (b6.le (n' := m + 5 + 1) (s' := s + 38 + 2) (by omega) (by omega)).new k10 z10 n10 m10
  have j10 : jfr R nil0 t6 t10 := jfr.N k10 l610 h6.1
  have h10 : JB R (cut c I2) nilL t10 X J [] none := h6.mv b6.2.1 j10 (fun _ z => z.elim) (fun _ z => z) rfl
  have v10 : pV (cut c I2) nilL t10 (vClo u .nil) false (some (gn t6)) := pV_pH c1 ⟨⟨a, c2, pT_mv (k10.mv (L := nilL)) _ _ _ p6⟩, by rw [c3]; trivial⟩
  have sw0 : swv (vClo u .nil) = 0 := sw_false _ _ g6
  refine ⟨R 2, c6.2.2.1, b10.2.1.1.1, c_tell (G := G) (s0 := s0) (l := l) (KK := KK) (T := T) (R := R) (X := X) 100 0 l' rfl (by omega) (cut c I2) (vClo u .nil) (gn t6) 0 false false K6 t10 (m + 4) (s + 30) (o + 20) nilL _ LTn v10 (Or.inr ⟨u, .nil, rfl, gT_up _ _ _ g6, trivial⟩) h10.2.2.1 h10.2.1 (by omega) (o6.le (by omega)) (by rw [sw0]; exact b10.le (by omega) (by omega)) (fun t30 K30 d1 d2 d3 d4 d5 => fun l30 => ?_) (fun x τ K' e w' d1 d2 d3 d4 d5 d6 => fun l30 => ?_)⟩
  · have j30 : jfr R I2 σ t30 := j6.tr ((j10.t2 (jfr.M d3 l30 h10.1 b10.2.1)) : jfr R nil0 t6 t30) (fun _ z => z) (fun _ z => z.elim)
    have c30 : hcl R t30 := (c6.kp k10 id).kp d3 (fun q => hcl.no (I := nil0) (Or.inl (c6.kp k10 id).1) b10.2.1 h10.1.1.1 (fun _ z => z.elim) (Or.inl q))
    refine ⟨R 2, c30.2.2.1, d4.2.1.1.1, c_put (ch := 10) (n := m + 5) (s := s + 38) (by omega) (by omega) (by have := d5.lt; omega) (d4.le (by omega) (by omega)) (fun τ u1 u2 u3 => fun l34 => ?_)⟩
    have h30 : JB R (cut c I2) nilL t30 X J [] none := h10.mv b10.2.1 (jfr.M d3 l30 h10.1 b10.2.1 : jfr R nil0 t10 t30) (fun _ z => z.elim) (fun _ z => z) rfl
    exact ok τ (sPut 10 K30) (by rw [ea _ _ e1]; show jBind (jOf (sTell X 100 _ _ _ _ K6)) _ = _; rw [d1]; rfl) (Nat.le_trans e2 d2) (j30.tr (jfr.M u1 l34 h30.1 d4.2.1 : jfr R nil0 t30 τ) (fun _ z => z) (fun _ z => z.elim)) (u2.le (by omega) (by omega)) ((d5.le (by omega)).put)
  · exact er x τ K' e (-1) w' (by rw [ea _ _ e1]; show jBind (jOf (sTell X 100 _ _ _ _ K6)) _ = _; rw [d1]; rfl) (Nat.le_trans e2 d2) d3 (j6.tr ((j10.t2 (jfr.M d4 l30 h10.1 b10.2.1)) : jfr R nil0 t6 τ) (fun _ z => z) (fun _ z => z.elim)) (d5.le (by omega) (by omega)) (d6.le (by omega))
end PHD
