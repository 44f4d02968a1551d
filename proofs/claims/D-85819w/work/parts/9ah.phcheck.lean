/-! THE HOUSE OVER S, P (4): check -/
section PHC
variable {G : GPl} {s0 : State} {l : Launch} {KK : Nat → Option Nat} {T : Nat → Nat} {lev : Nat} {Q : Outcome → GSt → Prop} {R : Nat → Nat} {σ τ υ st0 : GSt} {X : SX} {J : JX} {K K' : KS} {w n s o z m Z Yc Ys a y kd : Nat} {c c' : PC} {L L' : Nat → Nat → Prop} {W I I' I1 I2 D : Nat → Prop} {TN : Nat → List Nat} {sc : SC} {x : Option Nat} {t : TX} {ty tm : Option V} {v u : V}
theorem jfr.o1 (h : jfr R I1 σ τ) : jfr R (orI I1 I2) σ τ := h.wk (fun _ z => Or.inl z)
theorem jfr.o2 (h : jfr R I2 σ τ) : jfr R (orI I1 I2) σ τ := h.wk (fun _ z => Or.inr z)
theorem jfr.fn (h : jfr R I σ τ) (k : jfr R nil0 τ υ) : jfr R I σ υ := h.tr k (fun _ z => z) (fun _ z => z.elim)
theorem c_checks1 (hl : 640 ≤ lev) (hYc : 12 + 4 * Z ≤ Yc) (hYs : 64 + 12 * Z ≤ Ys) (hJN : JN c X J (tname t)) (hh : hcl R σ) (hs : PSt R t c σ y none (some v) I1 I2) (hg : rG v 0 0 100) (h : JB R c nilL σ X J [] none) (hz : ∀ k, k < c.nc → sw (J.ct k) ≤ z) (hZ : z + rB v ≤ Z) (hm : MB G R σ X K 0 (m + rN v * Yc + Z + 6) (s + rN v * Ys + 3 * Z + 40)) (hO : OB K (o + 40))
    (ok : ∀ τ K', hAsk X J 4 none (some v) K = (K', .ok ()) → K.life ≤ K'.life → jfr R (orI I1 I2) σ τ → MB G R τ X K' 0 m s → OB K' o → Q (.returned none) τ)
    (er : ∀ x τ K' e p w', hAsk X J 4 none (some v) K = (K', .error (e, p)) → K.life ≤ K'.life → flt τ x e p → jfr R (orI I1 I2) σ τ → MB G R τ X K' w' m s → OB K' o → Q (.threw x) τ) : CQ (wP G s0 l KK T) mX1_checks lev (.ref (R 0) :: [va_rf (some y)]) σ Q := by
  obtain ⟨l', rfl⟩ : ∃ l', lev = l' + 1 := ⟨lev - 1, by omega⟩
  obtain ⟨s1, s2, ⟨a, s3, s4⟩, s5, s6⟩ := hs
  have hIt : ∀ q, I2 q → tmt (gk σ q) = true := fun q hq => h.2.2.2.2.2 q (s5 q (Or.inr hq))
  have nIy : ¬ isJ R I2 y := hcl.no (Or.inr s1) hm.2.1 h.1.1.1 hIt
  have ea : ∀ K6 r, sJudge X J 100 v [] K = (K6, r) → hAsk X J 4 none (some v) K = jBind (K6, r) fun a K => jBind (jOf (sTell X 100 (hClo a) 0 false false K)) fun _ K => (sPut 10 K, .ok ()) := fun K6 r e => by
    unfold hAsk
    rw [← e]
    rfl
  have e4 : gr σ y 4 = none := s2
  refine tX1_checks ⟨y, rfl, s1, fun _ => ⟨hh.1, R 3, hh.2.2.2, h.1.1.1, ?_⟩, fun a3 q => by rw [e4] at q; cases q⟩
  rw [s3]
  refine c_jtop (m := m + Z + 6) (s := s + 3 * Z + 40) (o := o + 40) (by omega) hYc hYs hJN hh s4 hg (fun q hq => s5 q (Or.inr hq)) h hz hZ (hm.le (by omega) (by omega)) hO (fun t6 K6 u ty' so e1 e2 j6 h6 c6 b6 o6 p6 g6 f6 y6 x6 i6 => fun l6 => ?_) (fun x τ K' e p w' e1 e2 e3 e4 e5 e6 => fun _ => er x τ K' e p w' (ea _ _ e1) e2 e3 e4.o2 (e5.le (by omega) (by omega)) (e6.le (by omega)))
  obtain ⟨⟨ty2, f1, f2⟩, f3, f4⟩ := f6
  refine ⟨R 3, c6.2.2.2, h6.1.1.1, c_found (c := cut c I2) (L := nilL) (R := R) (X := X) (K := K6) (w := 0) (n := m + 5) (s := s + 38) (by omega) h6.1.1.1 f1 f2 f3 y6 trivial (b6.le (by omega) (by omega)) (fun t10 q k10 b10 v10 g10 gv10 => onR_ret (fun l10 => ?_))⟩
  have j10 : jfr R nil0 t6 t10 := jfr.N k10 l10 h6.1
  have h10 : JB R (cut c I2) nilL t10 X J [] none := h6.mv b6.2.1 j10 (fun _ z => z.elim) (fun _ z => z) rfl
  have ew : swv (vClo (sUnw ty' .nil).1 (sUnw ty' .nil).2) = sw (sUnw ty' .nil).1 := rfl
  refine ⟨R 2, c6.2.2.1, b10.2.1.1.1, c_tell (G := G) (s0 := s0) (l := l) (KK := KK) (T := T) (R := R) (X := X) 100 0 l' rfl (by omega) (cut c I2) (vClo (sUnw ty' .nil).1 (sUnw ty' .nil).2) q 0 false false K6 t10 (m + 4) (s + 30) (o + 20) nilL _ LTn v10 (Or.inr ⟨_, _, rfl, g10, gv10⟩) h10.2.2.1 h10.2.1 (by omega) (o6.le (by omega)) (by rw [ew]; exact b10.le (by omega) (by omega)) (fun t30 K30 d1 d2 d3 d4 d5 => fun l30 => ?_) (fun x τ K' e w' d1 d2 d3 d4 d5 d6 => fun l30 => ?_)⟩
  · have j30' : jfr R nil0 t10 t30 := jfr.M d3 l30 h10.1 b10.2.1
    have j30 : jfr R I2 σ t30 := j6.fn (j10.t2 j30')
    have c10 : hcl R t10 := c6.kp k10 id
    have c30 : hcl R t30 := c10.kp d3 (fun q => hcl.no (I := nil0) (Or.inl c10.1) b10.2.1 h10.1.1.1 (fun _ z => z.elim) (Or.inl q))
    refine tX1_checks_78 ⟨c30.1, R 2, c30.2.2.1, d4.2.1.1.1, c_put (ch := 10) (n := m + 5) (s := s + 38) (by omega) (by omega) (by have := d5.lt; omega) (d4.le (by omega) (by omega)) (fun τ u1 u2 u3 => fun l34 => ?_)⟩
    have h30 : JB R (cut c I2) nilL t30 X J [] none := h10.mv b10.2.1 j30' (fun _ z => z.elim) (fun _ z => z) rfl
    exact ok τ (sPut 10 K30) (by rw [ea _ _ e1]; show jBind (jOf (sTell X 100 (vClo _ _) _ _ _ K6)) _ = _; rw [d1]; rfl) (Nat.le_trans e2 d2) (j30.fn (jfr.M u1 l34 h30.1 d4.2.1)).o2 (u2.le (by omega) (by omega)) ((d5.le (by omega)).put)
  · exact er x τ K' e (-1) w' (by rw [ea _ _ e1]; show jBind (jOf (sTell X 100 (vClo _ _) _ _ _ K6)) _ = _; rw [d1]; rfl) (Nat.le_trans e2 d2) d3 (j6.fn (j10.t2 (jfr.M d4 l30 h10.1 b10.2.1))).o2 (d5.le (by omega) (by omega)) (d6.le (by omega))
theorem c_checks2 {vt : V} (hl : 645 ≤ lev) (hYc : 12 + 4 * Z ≤ Yc) (hYs : 64 + 12 * Z ≤ Ys) (hJN : JN c X J (tname t)) (hh : hcl R σ) (hT : pS σ (R 5) (T 0) [121, 101, 115]) (hs : PSt R t c σ y (some vt) (some v) I1 I2) (hg : rG v 0 0 100) (hgt : rG vt 0 0 100) (h : JB R c nilL σ X J [] none) (hz : ∀ k, k < c.nc → sw (J.ct k) ≤ z) (hZ : z + (rB vt + rB v) ≤ Z) (hm : MB G R σ X K 0 (m + (rN vt + rN v) * Yc + 3 * Z + 10) (s + (rN vt + rN v) * Ys + 9 * Z + 80)) (hO : OB K (o + 40))
    (ok : ∀ τ K', hAsk X J 4 (some vt) (some v) K = (K', .ok ()) → K.life ≤ K'.life → jfr R (orI I1 I2) σ τ → MB G R τ X K' 0 m s → OB K' o → Q (.returned none) τ)
    (er : ∀ x τ K' e p w', hAsk X J 4 (some vt) (some v) K = (K', .error (e, p)) → K.life ≤ K'.life → flt τ x e p → jfr R (orI I1 I2) σ τ → MB G R τ X K' w' m s → OB K' o → Q (.threw x) τ) : CQ (wP G s0 l KK T) mX1_checks lev (.ref (R 0) :: [va_rf (some y)]) σ Q := by
  obtain ⟨l', rfl⟩ : ∃ l', lev = l' + 1 := ⟨lev - 1, by omega⟩
  rw [Nat.add_mul, Nat.add_mul] at hm
  obtain ⟨s1, ⟨at1, s2, s2'⟩, ⟨a, s3, s4⟩, s5, s6⟩ := hs
  have hIt : ∀ q, orI I1 I2 q → tmt (gk σ q) = true := fun q hq => h.2.2.2.2.2 q (s5 q hq)
  have nIy : ¬ isJ R (orI I1 I2) y := hcl.no (Or.inr s1) hm.2.1 h.1.1.1 hIt
  have nI0 : ¬ isJ R (orI I1 I2) (R 0) := hcl.no (Or.inl hh.1) hm.2.1 h.1.1.1 hIt
  have hI1 : ∀ q, I1 q → c.E q := fun q hq => s5 q (Or.inl hq)
  have ea : hAsk X J 4 (some vt) (some v) K = jBind (hNorm X J vt K) fun n K => jBind (hFits X J v n.1 K) fun _ K => (hYes true K, .ok ()) := rfl
  refine tX1_checks ⟨y, rfl, s1, (fun q => by rw [s2] at q; cases q), fun a3 _ => ⟨hh.1, R 3, hh.2.2.2, h.1.1.1, ?_⟩⟩
  rw [s2]
  refine c_jtype (G := G) (s0 := s0) (l := l) (KK := KK) (T := T) (R := R) (X := X) (J := J) (TN := tname t) (n := 100) (c := c) (t := vt) (a := at1) (I := I1) (sc := []) (x := none) (K := K) (m := m + rN v * Yc + 2 * Z + 6) (s := s + rN v * Ys + 6 * Z + 60) (z := z) (L := nilL) (fun lev hl => c_judge hYc hYs 100 lev hl) (by omega) hJN s2' hgt hI1 h trivial hz (by omega : z + rB vt ≤ Z) (by show 0 + 100 ≤ 300; omega) (hm.le (by omega) (by omega)) (fun t6 K6 u so e1 e2 e3 j6 b6 p6 g6 => fun l6 => ?_) (fun x τ K' e p w' e1 e2 e3 e4 e5 => fun _ => er x τ K' e p w' (by rw [ea]; unfold hNorm; rw [e1]; rfl) e2 e3 e4.o1 (e5.le (by omega) (by omega)) (((kO_ts (kO_judge _ _ _ _ rfl)).ob e1 e2 hO).le (by omega)))
  have o6 := (kO_ts (kO_judge _ _ _ _ rfl)).ob e1 e3 hO
  have h6 : JB R (cut c I1) nilL t6 X J [] none := h.mv hm.2.1 j6 hI1 (fun q z => z.1) rfl
  have c6 : hcl R t6 := hh.kp j6.o1.1 nI0
  obtain ⟨q1, q2, q3, q4⟩ := j6.o1.1 y (by omega) nIy
  refine ⟨R 3, c6.2.2.2, h6.1.1.1, ?_⟩
  rw [q3, s2]
  refine c_jnormal (sc := []) (z := z) (by omega) h6 p6 g6 trivial (by show 0 ≤ 900; omega) (n := m + rN v * Yc + 2 * Z + 4) (s := s + rN v * Ys + 6 * Z + 50) (b6.le (by omega) (by omega)) (fun t10 K10 nt yn d1 d2 j10 b10 p10 g10 => onR_ret (fun l10 => ?_)) (fun x τ K' e p w' d1 d2 d3 d4 d5 => fun _ => er x τ K' e p w' (by rw [ea]; unfold hNorm; rw [e1]; show jBind (jBind (jNormal X u [] K6) _) _ = _; rw [d1]; rfl) (Nat.le_trans e3 d2) d3 (j6.fn d4).o1 (d5.le (by omega) (by omega)) ((((kO_norm _ _ _ _ rfl).j).ob d1 d2 o6).le (by omega)))
  have o10 := ((kO_norm _ _ _ _ rfl).j).ob d1 d2 o6
  have h10 : JB R (cut c I1) nilL t10 X J [] none := h6.mv b6.2.1 j10 (fun _ z => z.elim) (fun _ z => z) rfl
  have nI6 : ¬ isJ R nil0 (R 0) := hcl.no (Or.inl c6.1) b6.2.1 h6.1.1.1 (fun _ z => z.elim)
  have nI6y : ¬ isJ R nil0 y := hcl.no (Or.inr (q1.trans s1)) b6.2.1 h6.1.1.1 (fun _ z => z.elim)
  have c10 : hcl R t10 := c6.kp j10.1 nI6
  obtain ⟨r1, r2, r3, r4⟩ := j10.1 y (by omega) nI6y
  have j010 : jfr R I1 σ t10 := j6.fn j10
  have rt10 : rT R (tname t) t10 v a 0 I2 := h.rT hm.2.1 j010 hI1 s4 (fun q hq => ⟨s6 q hq, hIt q (Or.inr hq)⟩) (fun q => absurd rfl q)
  refine c_fits (c := cut c I1) (Z := Z) (Yc := Yc) (Ys := Ys) (m := m) (s := s + 8) (by omega) hYc hYs hJN c10 ⟨r1.trans (q1.trans s1), by rw [r3, q3]; exact s3⟩ rt10 hg (fun q hq => ⟨s5 q (Or.inr hq), s6 q hq⟩) h10 hz (by omega) p10 g10 (b10.le (by omega) (by omega)) (fun t20 K20 w20 f1 f2 j20 b20 p20 g20 => fun l20 => ?_) (fun x τ K' e p w' f1 f2 f3 f4 f5 => fun _ => er x τ K' e p w' (by rw [ea]; unfold hNorm; rw [e1]; show jBind (jBind (jNormal X u [] K6) _) _ = _; rw [d1]; show jBind (hFits X J v nt K10) _ = _; rw [f1]; rfl) (Nat.le_trans e3 (Nat.le_trans d2 f2)) f3 (j010.o1.t2 f4.o2) (f5.le (by omega) (by omega)) (((kO_hf rfl).ob f1 f2 o10).le (by omega)))
  have o20 := (kO_hf rfl).ob f1 f2 o10
  have j020 : jfr R (orI I1 I2) σ t20 := j010.o1.t2 j20.o2
  have c20 : hcl R t20 := hh.kp j020.1 nI0
  have h20 : JB R (cut c (orI I1 I2)) nilL t20 X J [] none := h.mv hm.2.1 j020 s5 (fun q z => z.1) rfl
  have hT20 : pS t20 (R 5) (T 0) [121, 101, 115] := hT.kpW j020.1 (h.wS hm.2.1 s5)
  refine ⟨R 2, c20.2.2.1, b20.2.1.1.1, c_puts (by omega) hT20 (by have := o20.lt; omega) b20 (fun t24 u1 u2 u3 => fun l24 => ?_)⟩
  have j24 : jfr R nil0 t20 t24 := jfr.M u1 l24 h20.1 b20.2.1
  have h24 : JB R (cut c (orI I1 I2)) nilL t24 X J [] none := h20.mv b20.2.1 j24 (fun _ z => z.elim) (fun _ z => z) rfl
  have c24 : hcl R t24 := c20.kp u1 (fun q => hcl.no (I := nil0) (Or.inl c20.1) b20.2.1 h20.1.1.1 (fun _ z => z.elim) (Or.inl q))
  have o24 : OB (sPuts [121, 101, 115] K20) (o + 30) := (o20.le (o' := o + 30 + 3) (by omega)).puts
  refine tX1_checks_78 ⟨c24.1, R 2, c24.2.2.1, u2.2.1.1.1, c_put (ch := 10) (by omega) (by omega) (by have := o24.lt; omega) u2 (fun τ v1 v2 v3 => fun l34 => ?_)⟩
  exact ok τ _ (by rw [ea]; unfold hNorm; rw [e1]; show jBind (jBind (jNormal X u [] K6) _) _ = _; rw [d1]; show jBind (hFits X J v nt K10) _ = _; rw [f1]; rfl) (by show K.life ≤ K20.life; exact Nat.le_trans e3 (Nat.le_trans d2 f2)) ((j020.fn j24).fn (jfr.M v1 l34 h24.1 u2.2.1)) (v2.le (by omega) (by omega)) ((o24.le (by omega)).put)
end PHC
