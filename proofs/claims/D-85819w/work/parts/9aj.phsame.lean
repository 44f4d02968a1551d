/-! THE HOUSE OVER S, P (6): same; what is asked -/
section PHS
variable {G : GPl} {s0 : State} {l : Launch} {KK : Nat → Option Nat} {T : Nat → Nat} {lev : Nat} {Q : Outcome → GSt → Prop} {R : Nat → Nat} {σ τ υ st0 : GSt} {X : SX} {J : JX} {K K' : KS} {w n s o z m Z Yc Ys a y kd : Nat} {c c' : PC} {L L' : Nat → Nat → Prop} {W I I' I1 I2 D : Nat → Prop} {TN : Nat → List Nat} {sc : SC} {x : Option Nat} {t : TX} {ty tm : Option V} {v u : V}
theorem c_does7 {vt : V} (hl : 640 ≤ lev) (hYc : 12 + 4 * Z ≤ Yc) (hYs : 64 + 12 * Z ≤ Ys) (hJN : JN c X J (tname t)) (hh : hcl R σ) (hT : pS σ (R 5) (T 0) [121, 101, 115]) (hT1 : pS σ (R 5) (T 1) [110, 111]) (hk : gr σ y 0 = KK 13) (hs : PSt R t c σ y (some vt) (some v) I1 I2) (hg : rG v 0 0 100) (hgt : rG vt 0 0 100) (h : JB R c nilL σ X J [] none) (hz : ∀ k, k < c.nc → sw (J.ct k) ≤ z) (hZ : z + (rB vt + rB v) ≤ Z) (hm : MB G R σ X K 0 (m + (rN vt + rN v) * Yc + 10) (s + (rN vt + rN v) * Ys + 80)) (hO : OB K (o + 40))
    (ok : ∀ τ K', hAsk X J 7 (some vt) (some v) K = (K', .ok ()) → K.life ≤ K'.life → jfr R (orI I1 I2) σ τ → MB G R τ X K' 0 m s → OB K' o → Q (.returned none) τ)
    (er : ∀ x τ K' e p w', hAsk X J 7 (some vt) (some v) K = (K', .error (e, p)) → K.life ≤ K'.life → flt τ x e p → jfr R (orI I1 I2) σ τ → MB G R τ X K' w' m s → OB K' o → Q (.threw x) τ) : CQ (wP G s0 l KK T) mX1_does lev (.ref (R 0) :: [va_rf (some y)]) σ Q := by
  obtain ⟨l', rfl⟩ : ∃ l', lev = l' + 1 := ⟨lev - 1, by omega⟩
  rw [Nat.add_mul, Nat.add_mul] at hm
  obtain ⟨s1, ⟨at1, s2, s2'⟩, ⟨a, s3, s4⟩, s5, s6⟩ := hs
  have hIt : ∀ q, orI I1 I2 q → tmt (gk σ q) = true := fun q hq => h.2.2.2.2.2 q (s5 q hq)
  have nIy : ¬ isJ R (orI I1 I2) y := hcl.no (Or.inr s1) hm.2.1 h.1.1.1 hIt
  have nI0 : ¬ isJ R (orI I1 I2) (R 0) := hcl.no (Or.inl hh.1) hm.2.1 h.1.1.1 hIt
  have hI2 : ∀ q, I2 q → c.E q := fun q hq => s5 q (Or.inr hq)
  have ea : hAsk X J 7 (some vt) (some v) K = jBind (sJudge X J 100 v [] K) fun a K => jBind (sJudge X J 100 vt [] K) fun b K => jBind (jOf (sSame X 100 (vClo a.1 .nil) (vClo b.1 .nil) K)) fun r K => (hYes r K, .ok ()) := rfl
  refine tX1_does ⟨y, rfl, s1, 7, ⟨by omega, hk⟩, fun e => absurd e (by decide), fun e => absurd e (by decide), fun e => absurd e (by decide), fun e => absurd e (by decide), fun e => absurd e (by decide), fun e => absurd e (by decide), fun e => absurd e (by decide), fun _ => ⟨hh.1, R 3, hh.2.2.2, h.1.1.1, ?_⟩⟩
  rw [s3]
  refine c_jtop (m := m + rN vt * Yc + 10) (s := s + rN vt * Ys + 80) (o := o + 40) (by omega) hYc hYs hJN hh s4 hg hI2 h hz (by omega) (hm.le (by omega) (by omega)) hO (fun t6 K6 u ty' so e1 e2 j6 h6 c6 b6 o6 p6 g6 f6 y6 x6 i6 => fun l6 => ?_) (fun x τ K' e p w' e1 e2 e3 e4 e5 e6 => fun _ => er x τ K' e p w' (by rw [ea, e1]; rfl) e2 e3 e4.o2 (e5.le (by omega) (by omega)) (e6.le (by omega)))
  obtain ⟨q1, q2, q3, q4⟩ := j6.o2.1 y (by omega) nIy
  have rt6 : rT R (tname t) t6 vt at1 0 I1 := h.rT hm.2.1 j6 hI2 s2' (fun q hq => ⟨fun z => s6 q z hq, hIt q (Or.inl hq)⟩) (fun q => absurd rfl q)
  refine ⟨R 3, c6.2.2.2, h6.1.1.1, ?_⟩
  rw [q3, s2]
  refine c_jtop (c := cut c I2) (m := m + 10) (s := s + 80) (o := o + 40) (by omega) hYc hYs hJN c6 rt6 hgt (fun q hq => ⟨s5 q (Or.inl hq), fun z => s6 q z hq⟩) h6 hz (by omega) (b6.le (by omega) (by omega)) o6 (fun t8 K8 u2 ty2 so2 d1 d2 j8 h8 c8 b8 o8 p8 g8 f8 y8 x8 i8 => fun l8 => ?_) (fun x τ K' e p w' d1 d2 d3 d4 d5 d6 => fun _ => er x τ K' e p w' (by rw [ea, e1]; show jBind (sJudge X J 100 vt [] K6) _ = _; rw [d1]; rfl) (Nat.le_trans e2 d2) d3 (j6.o2.t2 d4.o1) (d5.le (by omega) (by omega)) (d6.le (by omega)))
  have j08 : jfr R (orI I1 I2) σ t8 := j6.o2.t2 j8.o1
  have h8' : JB R (cut c (orI I1 I2)) nilL t8 X J [] none := h.mv hm.2.1 j08 s5 (fun q z => z.1) rfl
  obtain ⟨r1, r2, r3, r4⟩ := j08.1 y (by omega) nIy
  have cE : ∀ q, (cut c (orI I1 I2)).E q → (cut (cut c I2) I1).E q := fun q z => ⟨⟨z.1, fun w => z.2 (Or.inr w)⟩, fun w => z.2 (Or.inl w)⟩
  have p8' : pT (cut c (orI I1 I2)) t8 u2 at1 0 := pT_mv (h8.mvc (c' := cut c (orI I1 I2)) (I := nil0) b8.2.1 jfr.rf (fun _ z => z.elim) cE rfl) _ _ _ p8
  have p6' : pT (cut c (orI I1 I2)) t8 u a 0 := pT_mv (h6.mvc (c' := cut c (orI I1 I2)) b6.2.1 j8 (fun q hq => ⟨s5 q (Or.inl hq), fun z => s6 q z hq⟩) (fun q z => (cE q z).1) rfl) _ _ _ p6
  have k7 : keep nil0 t8 (gmk 14 2 t8) := keep.rf.mk b8.1.at
  have s7 : gr (gmk 14 2 t8) y 5 = some a := by rw [(k7 y (by omega) id).2.2.1, r3]; exact s3
  refine ⟨(b8.2.2.2.le (n' := 0 + 1) (s' := 0 + 2) (by omega) (by omega)).gr b8.1, ?_⟩
  rw [s7]
  refine c_clo (by omega) b8.1 (fun t10 k10 z10 n10 m10 c1 c2 c3 => fun l10 => ?_)
  have l810 : gle t8 t10 := ⟨⟨by omega, by omega⟩, fun q hq => (k10 q hq id).1⟩
  have b10 : MB G R t10 X K8 0 (m + 9) (s + 78) := (b8.le (n' := m + 9 + 1) (s' := s + 78 + 2) (by omega) (by omega)).new k10 z10 n10 m10
  have v10 : pV (cut c (orI I1 I2)) nilL t10 (vClo u .nil) false (some (gn t8)) := pV_pH c1 ⟨⟨a, c2, pT_mv (k10.mv (L := nilL)) _ _ _ p6'⟩, by rw [c3]; trivial⟩
  have k11 : keep nil0 t10 (gmk 14 2 t10) := keep.rf.mk z10.at
  obtain ⟨w1, w2, w3, w4⟩ := k10 y (by omega) id
  have s11 : gr (gmk 14 2 t10) y 4 = some at1 := by rw [(k11 y (by omega) id).2.2.1, w3, r3]; exact s2
  refine ⟨(b10.2.2.2.le (n' := 0 + 1) (s' := 0 + 2) (by omega) (by omega)).gr b10.1, ?_⟩
  rw [s11]
  refine c_clo (by omega) z10 (fun t14 k14 z14 n14 m14 a1 a2 a3 => fun l14 => ?_)
  have l1014 : gle t10 t14 := ⟨⟨by omega, by omega⟩, fun q hq => (k14 q hq id).1⟩
  have b14 : MB G R t14 X K8 0 (m + 8) (s + 76) := (b10.le (n' := m + 8 + 1) (s' := s + 76 + 2) (by omega) (by omega)).new k14 z14 n14 m14
  have j14 : jfr R nil0 t8 t14 := (jfr.N k10 l810 h8'.1).t2 (jfr.N k14 l1014 (h8'.mv b8.2.1 (jfr.N k10 l810 h8'.1 : jfr R nil0 t8 t10) (fun _ z => z.elim) (fun _ z => z) rfl : JB R (cut c (orI I1 I2)) nilL t10 X J [] none).1)
  have h14 : JB R (cut c (orI I1 I2)) nilL t14 X J [] none := h8'.mv b8.2.1 j14 (fun _ z => z.elim) (fun _ z => z) rfl
  have v14 : pV (cut c (orI I1 I2)) nilL t14 (vClo u2 .nil) false (some (gn t10)) := pV_pH a1 ⟨⟨at1, a2, pT_mv ((k10.t2 k14).mv (L := nilL)) _ _ _ p8'⟩, by rw [a3]; trivial⟩
  have sw0 : swv (vClo u .nil) = 0 := sw_false _ _ g6
  have sw2 : swv (vClo u2 .nil) = 0 := sw_false _ _ g8
  refine ⟨R 2, c8.2.2.1, b14.2.1.1.1, c_same (G := G) (s0 := s0) (l := l) (KK := KK) (T := T) (R := R) (X := X) (c := cut c (orI I1 I2)) 100 0 l' rfl (by omega) (vClo u .nil) (vClo u2 .nil) (gn t8) (gn t10) K8 t14 (m + 4) (s + 60) nilL _ LFn (pV_mv k14.mv _ _ _ v10) v14 (Or.inr ⟨u, .nil, rfl, gT_up _ _ _ g6, trivial⟩) (Or.inr ⟨u2, .nil, rfl, gT_up _ _ _ g8, trivial⟩) h14.2.2.1 (by rw [sw0, sw2]; exact b14.le (by omega) (by omega)) (fun t18 K18 r18 f1 f2 f3 f4 f5 => fun l18 => ?_) (fun x τ K' e w' f1 f2 f3 f4 f5 => fun l18 => ?_)⟩
  · have o18 : OB K18 (o + 40) := (kO_same _ _ _ _ rfl).ob f1 f2 o8
    have j18' : jfr R nil0 t14 t18 := jfr.M f4 l18 h14.1 b14.2.1
    have j18 : jfr R (orI I1 I2) σ t18 := j08.fn (j14.t2 j18')
    have h18 : JB R (cut c (orI I1 I2)) nilL t18 X J [] none := h14.mv b14.2.1 j18' (fun _ z => z.elim) (fun _ z => z) rfl
    have c18 : hcl R t18 := hh.kp j18.1 nI0
    have fin : ∀ (T' : Nat) (r : Bool), pS t18 (R 5) T' (if r = true then [121, 101, 115] else [110, 111]) → r18 = r → CQ (wP G s0 l KK T) mX3_put_2 l' (.ref (R 2) :: [va_rf (some T')]) t18 (onV (fun t82 => gle t18 t82 → (∃ a84, gr t82 (R 0) 6 = some a84 ∧ (gk t82 a84 = 3 ∧ (CQ (wP G s0 l KK T) mX3_put l' (.ref a84 :: [.int (iI 10)]) t82 (onV (fun t86 => gle t82 t86 → Q (.returned none) t86) (fun x t => gle t82 t → Q (.threw x) t)))))) (fun x t => gle t18 t → Q (.threw x) t)) := by
      intro T' r hp hr
      refine c_puts (by omega) hp (by have := o18.lt; omega) (f5.le (n' := m) (s' := s) (by omega) (by omega)) (fun t24 x1 x2 x3 => fun l24 => ?_)
      have o24 : OB (sPuts (if r = true then [121, 101, 115] else [110, 111]) K18) (o + 30) := by
        refine OB.puts (o18.le ?_)
        cases r
        · show o + 30 + 2 ≤ _; omega
        · show o + 30 + 3 ≤ _; omega
      have j24 : jfr R nil0 t18 t24 := jfr.M x1 l24 h18.1 f5.2.1
      have h24 : JB R (cut c (orI I1 I2)) nilL t24 X J [] none := h18.mv f5.2.1 j24 (fun _ z => z.elim) (fun _ z => z) rfl
      have c24 : hcl R t24 := c18.M f5.2.1 h18.1.1.1 x1
      refine ⟨R 2, c24.2.2.1, x2.2.1.1.1, c_put (ch := 10) (by omega) (by omega) (by have := o24.lt; omega) x2 (fun τ v1 v2 v3 => fun l34 => ?_)⟩
      refine ok τ _ (by rw [ea, e1]; show jBind (sJudge X J 100 vt [] K6) _ = _; rw [d1]; show jBind (jOf (sSame X 100 (vClo u .nil) (vClo u2 .nil) K8)) _ = _; rw [f1, hr]; rfl) ?_ ((j18.fn j24).fn (jfr.M v1 l34 h24.1 x2.2.1)) v2 ((o24.le (by omega)).put)
      show K.life ≤ (sPuts _ K18).life
      rw [(sPuts_o _ _).2]
      exact Nat.le_trans e2 (Nat.le_trans d2 f2)
    refine ⟨fun e => ?_, fun e => ?_⟩
    · exact fin (T 1) false (hT1.kpW j18.1 (h.wS hm.2.1 s5)) (bI_z.mp e)
    · exact fin (T 0) true (hT.kpW j18.1 (h.wS hm.2.1 s5)) (by cases r18; exact absurd rfl e; rfl)
  · exact er x τ K' e (-1) w' (by rw [ea, e1]; show jBind (sJudge X J 100 vt [] K6) _ = _; rw [d1]; show jBind (jOf (sSame X 100 (vClo u .nil) (vClo u2 .nil) K8)) _ = _; rw [f1]; rfl) (Nat.le_trans e2 (Nat.le_trans d2 f2)) f3 (j08.fn (j14.t2 (jfr.M f4 l18 h14.1 b14.2.1))) (f5.le (by omega) (by omega)) (((kO_same _ _ _ _ rfl).ob f1 f2 o8).le (by omega))
/-- all that is asked -/
theorem c_asks (hl : 660 ≤ lev) (hYc : 12 + 4 * Z ≤ Yc) (hYs : 64 + 12 * Z ≤ Ys) (hJN : JN c X J (tname t)) (hh : hcl R σ) (hT : pS σ (R 5) (T 0) [121, 101, 115]) (hT1 : pS σ (R 5) (T 1) [110, 111]) (hk : gr σ y 0 = KK (6 + kd)) (hs : PSt R t c σ y ty tm I1 I2) (hkd : ((kd = 4 ∨ kd = 5 ∨ kd = 6) ∧ tm ≠ none) ∨ (kd = 7 ∧ ty ≠ none ∧ tm ≠ none)) (hg : oG ty) (hg2 : oG tm) (h : JB R c nilL σ X J [] none) (hz : ∀ k, k < c.nc → sw (J.ct k) ≤ z) (hZ : z + (oB ty + oB tm) ≤ Z) (hm : MB G R σ X K 0 (m + (oN ty + oN tm) * Yc + 3 * Z + 10) (s + (oN ty + oN tm) * Ys + 9 * Z + 80)) (hO : OB K (o + 60))
    (ok : ∀ τ K', hAsk X J kd ty tm K = (K', .ok ()) → K.life ≤ K'.life → jfr R (orI I1 I2) σ τ → MB G R τ X K' 0 m s → OB K' o → Q (.returned none) τ)
    (er : ∀ x τ K' e p w', hAsk X J kd ty tm K = (K', .error (e, p)) → K.life ≤ K'.life → flt τ x e p → jfr R (orI I1 I2) σ τ → MB G R τ X K' w' m s → OB K' o → Q (.threw x) τ) : CQ (wP G s0 l KK T) mX1_does lev (.ref (R 0) :: [va_rf (some y)]) σ Q := by
  cases tm with
  | none => rcases hkd with ⟨-, q⟩ | ⟨-, -, q⟩ <;> exact absurd rfl q
  | some v =>
    obtain ⟨g1, -⟩ := hg2 v rfl
    have eN : oN (some v) = rN v := rfl
    have eB : oB (some v) = rB v := rfl
    have hx : rN v * Yc ≤ (oN ty + oN (some v)) * Yc := Nat.mul_le_mul_right _ (by omega)
    have hy : rN v * Ys ≤ (oN ty + oN (some v)) * Ys := Nat.mul_le_mul_right _ (by omega)
    rcases hkd with ⟨rfl | rfl | rfl, -⟩ | ⟨rfl, hq, -⟩
    · obtain ⟨l', rfl⟩ : ∃ l', lev = l' + 1 := ⟨lev - 1, by omega⟩
      refine tX1_does ⟨y, rfl, hs.1, 4, ⟨by omega, hk⟩, fun e => absurd e (by decide), fun e => absurd e (by decide), fun e => absurd e (by decide), fun e => absurd e (by decide), fun _ => ⟨hh.1, ?_⟩, fun e => absurd e (by decide), fun e => absurd e (by decide), fun e => absurd e (by unfold tout; decide)⟩
      cases ty with
      | none => exact c_checks1 (by omega) hYc hYs hJN hh hs g1 h hz (by omega) (hm.le (by omega) (by omega)) (hO.le (by omega)) (fun τ K' a1 a2 a3 a4 a5 => fun _ => ok τ K' a1 a2 a3 a4 a5) (fun x τ K' e p w' a1 a2 a3 a4 a5 a6 => fun _ => er x τ K' e p w' a1 a2 a3 a4 a5 a6)
      | some vt => exact c_checks2 (by omega) hYc hYs hJN hh hT hs g1 (hg vt rfl).1 h hz hZ hm (hO.le (by omega)) (fun τ K' a1 a2 a3 a4 a5 => fun _ => ok τ K' a1 a2 a3 a4 a5) (fun x τ K' e p w' a1 a2 a3 a4 a5 a6 => fun _ => er x τ K' e p w' a1 a2 a3 a4 a5 a6)
    · exact c_does5 (by omega) hYc hYs hJN hh hk hs g1 h hz (by omega) (hm.le (by omega) (by omega)) (hO.le (by omega)) (fun τ K' a1 a2 a3 a4 a5 => ok τ K' a1 a2 a3.o2 a4 a5) (fun x τ K' e p w' a1 a2 a3 a4 a5 a6 => er x τ K' e p w' a1 a2 a3 a4.o2 a5 a6)
    · exact c_does6 (by omega) hYc hYs hJN hh hk hs g1 h hz (by omega) (hm.le (by omega) (by omega)) hO (fun τ K' a1 a2 a3 a4 a5 => ok τ K' a1 a2 a3.o2 a4 a5) (fun x τ K' e p w' a1 a2 a3 a4 a5 a6 => er x τ K' e p w' a1 a2 a3 a4.o2 a5 a6)
    · cases ty with
      | none => exact absurd rfl hq
      | some vt =>
        have hm' : MB G R σ X K 0 (m + (rN vt + rN v) * Yc + 3 * Z + 10) (s + (rN vt + rN v) * Ys + 9 * Z + 80) := hm
        exact c_does7 (by omega) hYc hYs hJN hh hT hT1 hk hs g1 (hg vt rfl).1 h hz hZ (hm'.le (by omega) (by omega)) (hO.le (by omega)) ok er
end PHS
