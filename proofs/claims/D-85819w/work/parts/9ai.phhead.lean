/-! THE HOUSE OVER S, P (5): head, same; what is asked -/
section PHH
variable {G : GPl} {s0 : State} {l : Launch} {KK : Nat → Option Nat} {T : Nat → Nat} {lev : Nat} {Q : Outcome → GSt → Prop} {R : Nat → Nat} {σ τ υ st0 : GSt} {X : SX} {J : JX} {K K' : KS} {w n s o z m Z Yc Ys a y kd : Nat} {c c' : PC} {L L' : Nat → Nat → Prop} {W I I' I1 I2 D : Nat → Prop} {TN : Nat → List Nat} {sc : SC} {x : Option Nat} {t : TX} {ty tm : Option V} {v u : V}
theorem hcl.M (h : hcl R σ) (hm : MS G R σ X K w) (hJ : gk σ (R 3) = 4) (hk : keep (isM R) σ τ) : hcl R τ := h.kp hk (fun q => hcl.no (I := nil0) (Or.inl h.1) hm hJ (fun _ z => z.elim) (Or.inl q))
theorem hAsk_6 {K6 : KS} {r : Except (Nat × Int) JA} (e : sJudge X J 100 v [] K = (K6, r)) : hAsk X J 6 ty (some v) K = jBind (K6, r) (hK6 X) := by
  rw [← e]
  rfl
theorem hK6_ok {K6 K7 : KS} {h : V × List V} {p q : V} {r : Int} (e : sHd X (vClo u .nil) K6 = (K7, .ok h)) : hK6 X (u, p, q, r) K6 = (hHead X h K7, .ok ()) := by
  unfold hK6
  dsimp only
  rw [e]
  rfl
theorem hK6_er {K6 K7 : KS} {x : Nat} {p q : V} {r : Int} (e : sHd X (vClo u .nil) K6 = (K7, .error x)) : hK6 X (u, p, q, r) K6 = (K7, .error (x, -1)) := by
  unfold hK6
  dsimp only
  rw [e]
  rfl
theorem jB_ok {α β : Type} {a : α} {f : α → KS → JR β} : jBind (K, .ok a) f = f a K := rfl
theorem hHead_K {K1 : KS} {as : List V} (e : hMk u K = K1) : hHead X (u, as) K = sPut 10 (sNum (11 + 1) as.length (sPut 32 (sName X u K1))) := by
  unfold hHead
  dsimp only
  rw [e]
theorem c_does6 (hl : 640 ≤ lev) (hYc : 12 + 4 * Z ≤ Yc) (hYs : 64 + 12 * Z ≤ Ys) (hJN : JN c X J (tname t)) (hh : hcl R σ) (hk : gr σ y 0 = KK 12) (hs : PSt R t c σ y ty (some v) I1 I2) (hg : rG v 0 0 100) (h : JB R c nilL σ X J [] none) (hz : ∀ k, k < c.nc → sw (J.ct k) ≤ z) (hZ : z + rB v ≤ Z) (hm : MB G R σ X K 0 (m + rN v * Yc + 6) (s + rN v * Ys + 40)) (hO : OB K (o + 60))
    (ok : ∀ τ K', hAsk X J 6 ty (some v) K = (K', .ok ()) → K.life ≤ K'.life → jfr R I2 σ τ → MB G R τ X K' 0 m s → OB K' o → Q (.returned none) τ)
    (er : ∀ x τ K' e p w', hAsk X J 6 ty (some v) K = (K', .error (e, p)) → K.life ≤ K'.life → flt τ x e p → jfr R I2 σ τ → MB G R τ X K' w' m s → OB K' o → Q (.threw x) τ) : CQ (wP G s0 l KK T) mX1_does lev (.ref (R 0) :: [va_rf (some y)]) σ Q := by
  obtain ⟨l', rfl⟩ : ∃ l', lev = l' + 1 := ⟨lev - 1, by omega⟩
  obtain ⟨s1, s2, ⟨a, s3, s4⟩, s5, s6⟩ := hs
  have hIt : ∀ q, I2 q → tmt (gk σ q) = true := fun q hq => h.2.2.2.2.2 q (s5 q (Or.inr hq))
  have nIy : ¬ isJ R I2 y := hcl.no (Or.inr s1) hm.2.1 h.1.1.1 hIt
  refine tX1_does ⟨y, rfl, s1, 6, ⟨by omega, hk⟩, fun e => absurd e (by decide), fun e => absurd e (by decide), fun e => absurd e (by decide), fun e => absurd e (by decide), fun e => absurd e (by decide), fun e => absurd e (by decide), fun _ => ⟨hh.1, R 3, hh.2.2.2, h.1.1.1, ?_⟩, fun e => absurd e (by unfold tout; decide)⟩
  rw [s3]
  refine c_jtop (m := m + 6) (s := s + 40) (o := o + 60) (by omega) hYc hYs hJN hh s4 hg (fun q hq => s5 q (Or.inr hq)) h hz hZ (hm.le (by omega) (by omega)) hO (fun t6 K6 u ty' so e1 e2 j6 h6 c6 b6 o6 p6 g6 f6 y6 x6 i6 => fun l6 => ?_) (fun x τ K' e p w' e1 e2 e3 e4 e5 e6 => fun _ => er x τ K' e p w' (hAsk_6 e1) e2 e3 e4 (e5.le (by omega) (by omega)) (e6.le (by omega)))
  obtain ⟨q1, q2, q3, q4⟩ := j6.1 y (by omega) nIy
  have k7 : keep nil0 t6 (gmk 14 2 t6) := keep.rf.mk b6.1.at
  have s7 : gr (gmk 14 2 t6) y 5 = some a := by rw [(k7 y (by omega) id).2.2.1, q3]; exact s3
  refine ⟨(b6.2.2.2.le (n' := 0 + 1) (s' := 0 + 2) (by omega) (by omega)).gr b6.1, ?_⟩
  rw [s7]
  refine c_clo (by omega) b6.1 (fun t10 k10 z10 n10 m10 c1 c2 c3 => fun l10 => ?_)
  have l610 : gle t6 t10 := ⟨⟨by omega, by omega⟩, fun q hq => (k10 q hq id).1⟩
  have b10 : MB G R t10 X K6 0 (m + 5) (s + 38) := (b6.le (n' := m + 5 + 1) (s' := s + 38 + 2) (by omega) (by omega)).new k10 z10 n10 m10
  have j10 : jfr R nil0 t6 t10 := jfr.N k10 l610 h6.1
  have h10 : JB R (cut c I2) nilL t10 X J [] none := h6.mv b6.2.1 j10 (fun _ z => z.elim) (fun _ z => z) rfl
  have v10 : pV (cut c I2) nilL t10 (vClo u .nil) false (some (gn t6)) := pV_pH c1 ⟨⟨a, c2, pT_mv (k10.mv (L := nilL)) _ _ _ p6⟩, by rw [c3]; trivial⟩
  have sw0 : swv (vClo u .nil) = 0 := sw_false _ _ g6
  have c10 : hcl R t10 := c6.kp k10 id
  refine ⟨R 2, c6.2.2.1, b10.2.1.1.1, c_head (c := cut c I2) (L := nilL) (v := vClo u .nil) (n := m + 4) (s := s + 30) (by omega) v10 (Or.inr ⟨u, .nil, rfl, gT_up _ _ _ g6, trivial⟩) h10.2.2.1 (by rw [sw0]; exact b10.le (by omega) (by omega)) (fun t47 K47 hv as d1 d2 d3 d4 d5 d6 d7 d8 d9 d10 => fun l47 => ?_) (fun x τ K' e d1 d2 d3 d4 d5 => fun l30 => ?_)⟩
  · have j47 : jfr R nil0 t10 t47 := jfr.M d4 l47 h10.1 b10.2.1
    have h47 : JB R (cut c I2) nilL t47 X J [] none := h10.mv b10.2.1 j47 (fun _ z => z.elim) (fun _ z => z) rfl
    have c47 : hcl R t47 := c10.M b10.2.1 h10.1.1.1 d4
    have o47 : OB K47 (o + 60) := (kO_hd rfl).ob d1 d2 o6
    obtain ⟨ax, ex1, ex2, ex3⟩ := pH_tag d6 d8
    have eh : ∀ (K1 : KS), hMk hv K47 = K1 → hAsk X J 6 ty (some v) K = (sPut 10 (sNum (11 + 1) as.length (sPut 32 (sName X hv K1))), .ok ()) := fun K1 e => by
      rw [hAsk_6 e1, jB_ok, hK6_ok d1, hHead_K e]
    -- the rest
    have fin : ∀ (τ : GSt) (K1 : KS), keep (isM R) t47 τ → gle t47 τ → MB G R τ X K1 0 (m + 4) (s + 30) → (∀ j, gr τ (R 2) j = gr t47 (R 2) j) → OB K1 (o + 50) → K47.life = K1.life → hMk hv K47 = K1 → jX1_does_196 G s0 l KK T l' σ Q (R 0) (some y) τ := by
      intro τ K1 k1 l1 b1 g1 o1 li e3
      have j1 : jfr R nil0 t47 τ := jfr.M k1 l1 h47.1 d5.2.1
      have h1 : JB R (cut c I2) nilL τ X J [] none := h47.mv d5.2.1 j1 (fun _ z => z.elim) (fun _ z => z) rfl
      have hc1 : hcl R τ := c47.M d5.2.1 h47.1.1.1 k1
      have m1 : mv (cut c I2) (cut c I2) nilL nilL t47 τ := mv_keep k1 d5.2.1.ok
      have pu : pH (cut c I2) nilL τ hv (gr τ (R 2) 1) (gr τ (R 2) 2) := by rw [g1, g1]; exact pH_mv m1 d6
      refine tX1_does_196 ⟨hc1.1, R 2, hc1.2.2.1, b1.2.1.1.1, c_name (c := cut c I2) (L := nilL) (u := hv) (by omega) LTn pu d8 h1.2.2.1 h1.2.1 (by have := o1.lt; omega) b1 (fun t4 k4 b4 g4 => fun l4 => ?_)⟩
      have on : OB (sName X hv K1) (o + 30) := by
        have hs := name_k (K := K1) pu d8 h1.2.1
        unfold OB at o1 ⊢
        rw [hs.1]; have := hs.2; omega
      have hc4 : hcl R t4 := hc1.M b1.2.1 h1.1.1.1 k4
      have h4 : JB R (cut c I2) nilL t4 X J [] none := h1.mv b1.2.1 (jfr.M k4 l4 h1.1 b1.2.1 : jfr R nil0 τ t4) (fun _ z => z.elim) (fun _ z => z) rfl
      refine ⟨R 2, hc4.2.2.1, b4.2.1.1.1, c_put (ch := 32) (by omega) (by omega) (by have := on.lt; omega) b4 (fun t8 k8 b8 g8 => fun l8 => ?_)⟩
      have o8 : OB (sPut 32 (sName X hv K1)) (o + 29) := on.put
      have hc8 : hcl R t8 := hc4.M b4.2.1 h4.1.1.1 k8
      have h8 : JB R (cut c I2) nilL t8 X J [] none := h4.mv b4.2.1 (jfr.M k8 l8 h4.1 b4.2.1 : jfr R nil0 t4 t8) (fun _ z => z.elim) (fun _ z => z) rfl
      have k48 : keep (isM R) t47 t8 := (k1.t2 k4).t2 k8
      have pa : pA (cut c I2) nilL t8 as (gr t8 (R 2) 3) := by rw [g8, g4, g1]; exact pA_mv (mv_keep k48 d5.2.1.ok) _ _ d7
      have hlf := d5.2.2.1.2.2
      refine ⟨R 2, hc8.2.2.1, b8.2.1.1.1, c_size (by omega) pa (fun _ => ?_)⟩
      refine c_num 11 as.length l' t8 _ _ (by show _ < 1000000000000; omega) (by omega) (by omega) (by have := o8.lt; omega) b8 (fun t14 k14 b14 g14 => fun l14 => ?_)
      have o14 : OB (sNum (11 + 1) as.length (sPut 32 (sName X hv K1))) (o + 17) := (o8.le (o' := o + 17 + 12) (by omega)).num
      have hc14 : hcl R t14 := hc8.M b8.2.1 h8.1.1.1 k14
      have h14 : JB R (cut c I2) nilL t14 X J [] none := h8.mv b8.2.1 (jfr.M k14 l14 h8.1 b8.2.1 : jfr R nil0 t8 t14) (fun _ z => z.elim) (fun _ z => z) rfl
      refine ⟨R 2, hc14.2.2.1, b14.2.1.1.1, c_put (ch := 10) (by omega) (by omega) (by have := o14.lt; omega) b14 (fun t18 k18 b18 g18 => fun l18 => ?_)⟩
      have kk : keep (isM R) t47 t18 := (k48.t2 k14).t2 k18
      have ll : gle t47 t18 := (((l1.tr l4).tr l8).tr l14).tr l18
      have lf : (sPut 10 (sNum (11 + 1) as.length (sPut 32 (sName X hv K1)))).life = K1.life := by
        have hs := name_k (K := K1) pu d8 h1.2.1
        rw [sPut_life.1, (sNum_k _ _ _).1, sPut_life.1, hs.1]
      exact ok t18 _ (eh K1 e3) (by rw [lf, ← li]; exact Nat.le_trans e2 d2) (j6.fn (j10.t2 (j47.t2 (jfr.M kk ll h47.1 d5.2.1)))) (b18.le (by omega) (by omega)) ((o14.le (o' := o + 1) (by omega)).put)
    have b47 : MB G R t47 X K47 0 (m + 4) (s + 30) := d5.le (by omega) (by omega)
    refine ⟨R 2, c47.2.2.1, d5.2.1.1.1, ax, ex1, ex2, fun i8 => ?_, fun i8 => ⟨fun i9 => ?_, fun i9 => ?_⟩⟩
    · have h8 := i8.tag ex1
      obtain ⟨⟨p, dx, bx, rx, hbx⟩, -⟩ : (∃ p dx bx r, sBinds hv = some (true, p, dx, bx, r)) ∧ gk t47 ax = 8 := by rcases ex3 with h | h | h <;> first | exact h | (exfalso; omega)
      refine c_put (ch := 92) (by omega) (by omega) (by have := o47.lt; omega) b47 (fun τ k1 b1 g1 => fun l1 => fin τ (sPut 92 K47) k1 l1 b1 g1 ((o47.le (o' := o + 50 + 1) (by omega)).put) rfl (by unfold hMk; rw [hbx]; rfl))
    · have h9 := i9.tag ex1
      obtain ⟨⟨p, dx, bx, rx, hbx⟩, -⟩ : (∃ p dx bx r, sBinds hv = some (false, p, dx, bx, r)) ∧ gk t47 ax = 9 := by rcases ex3 with h | h | h <;> first | exact h | (exfalso; omega)
      refine c_put (ch := 33) (by omega) (by omega) (by have := o47.lt; omega) b47 (fun τ k1 b1 g1 => fun l1 => fin τ (sPut 33 K47) k1 l1 b1 g1 ((o47.le (o' := o + 50 + 1) (by omega)).put) rfl (by unfold hMk; rw [hbx]; rfl))
    · have hbx : sBinds hv = none := by
        rcases ex3 with h | h | h
        · exact absurd ⟨ax, ex1, h.2⟩ i8
        · exact absurd ⟨ax, ex1, h.2⟩ i9
        · exact h.1
      exact fin t47 K47 keep.rf gle.rf b47 (fun _ => rfl) (o47.le (by omega)) rfl (by unfold hMk; rw [hbx])
  · exact er x τ K' e (-1) 0 (by rw [hAsk_6 e1, jB_ok, hK6_er d1]) (Nat.le_trans e2 d2) d3 (j6.fn (j10.t2 (jfr.M d4 l30 h10.1 b10.2.1))) (d5.le (by omega) (by omega)) (((kO_hd rfl).ob d1 d2 o6).le (by omega))
end PHH
