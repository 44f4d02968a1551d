/-! P OVER S (27): judging: lambda -/
section PJLA
variable {G : GPl} {s0 : State} {l : Launch} {KK : Nat → Option Nat} {T : Nat → Nat} {lev d : Nat} {Q : Outcome → GSt → Prop} {R : Nat → Nat} {σ τ υ st0 : GSt} {X : SX} {J : JX} {K K' : KS} {w n s o z m Z Yc Ys : Nat} {c c' : PC} {L L' : Nat → Nat → Prop} {W I I' I1 I2 : Nat → Prop} {sc : SC} {gg : List Bool} {TN : Nat → List Nat} {x : Option Nat}
theorem sJudge_lam {f p : Nat} {d b : V} : sJudge X J (n + 1) (.tag f (.tag p (.append d b))) sc K = jBind (jTypeSort (jFrom d) (sJudge X J n d sc K)) fun a K => jBind (jNormal X a.1 sc K) fun t K =>
      jBind (sJudge X J n b (jWith t a.2 sc) K) fun c K => if c.2.2.2 = -1 then (K, .error (7, (p : Int))) else
        let r := J.ru a.2 c.2.2.2.toNat
        if r = -1 then (K, .error (9, (p : Int))) else (K, .ok (.tag 0 (.append a.1 c.1), .tag (8 * a.2 + c.2.2.2.toNat) (.group (.append t (jLifted c.2.1 c.2.2.1 (sc.length + 1))) .fill), scEnv sc, r)) := by
  rw [sJudge]
theorem jfr.ft {e p : Int} {y : Nat} (t1 : keep nil0 σ τ) (t3 : gn τ = gn σ + 1) (t4 : gm τ = gm σ + 8) (hJ : JT c R σ J) : jfr R I σ τ :=
  jfr.N t1 ⟨⟨by omega, by omega⟩, fun q hq => (t1 q hq id).1⟩ hJ
theorem jfr.trn (h : jfr R I1 σ τ) (k : jfr R I2 τ υ) (h1 : ∀ q, I1 q → I q) (h2 : ∀ q, gk σ q ≠ 0 → I2 q → I q) : jfr R I σ υ :=
  ⟨(h.1.wk (fun a z => z.imp id (fun z => z.imp id (h1 a)))).tr k.1 (fun a ha z => z.imp id (fun z => z.imp id (h2 a ha))), fun j hj => (k.2.1 j hj).trans (h.2.1 j hj), h.2.2.tr k.2.2⟩
/-- a cell that judging does not touch -/
theorem jfr.at {a : Nat} (h : jfr R I σ τ) (ht : tmt (gk σ a) = true) (hm : MS G R σ X K w) (hj : gk σ (R 3) = 4) (ha : ¬ I a) : gk τ a = gk σ a ∧ (∀ j, gi τ a j = gi σ a j) ∧ (∀ j, gr τ a j = gr σ a j) ∧ gl τ a = gl σ a := by
  refine h.1 a (tmt_ne ht).1 ?_
  rintro ((rfl | rfl | rfl) | rfl | z)
  · rw [hm.1.1] at ht; cases ht
  · rw [hm.1.2.1] at ht; cases ht
  · rw [hm.1.2.2] at ht; cases ht
  · rw [hj] at ht; cases ht
  · exact ha z
theorem mulY {a b Y : Nat} : (a + b + 1) * Y = a * Y + b * Y + Y := by rw [Nat.add_mul, Nat.add_mul, Nat.one_mul]
theorem c_jlam {f p a : Nat} {d b : V} (ih : ∀ lev, 3 * n + 330 ≤ lev → CJ G s0 l KK T R X J TN Z Yc Ys lev n) (hYc : 12 + 4 * Z ≤ Yc) (hYs : 64 + 12 * Z ≤ Ys) (hl : 3 * n + 332 ≤ lev) (hJN : JN c X J TN) (hr : rT R TN σ (.tag f (.tag p (.append d b))) a 0 I) (hg1 : rG d 0 sc.length n) (hg2 : rG b 0 (sc.length + 1) n) (hI : ∀ q, I q → c.E q) (h : JB R c L σ X J sc x) (hs : gSc c.ns z sc) (hz : ∀ k, k < c.nc → sw (J.ct k) ≤ z) (hZ : z + (rB d + rB b) ≤ Z) (hd : sc.length + (n + 1) ≤ 300) (hm : MB G R σ X K 0 (m + (rN d + rN b + 1) * Yc) (s + (rN d + rN b + 1) * Ys))
    (ok : ∀ τ K' u ty r so, sJudge X J (n + 1) (.tag f (.tag p (.append d b))) sc K = (K', .ok (u, ty, r, so)) → K.life ≤ K'.life → jfr R I σ τ → MB G R τ X K' 0 m s → pT (cut c I) τ u a 0 → gT u false (List.replicate sc.length true) → JF (cut c I) L R τ ty r so → tyG c.ns (z + (rB d + rB b)) (scEnv sc) ty r so → gi τ a 1 = iI (f : Int) → Q (.returned none) τ)
    (er : ∀ y τ K' e p' w', sJudge X J (n + 1) (.tag f (.tag p (.append d b))) sc K = (K', .error (e, p')) → K.life ≤ K'.life → flt τ y e p' → jfr R I σ τ → MB G R τ X K' w' m s → Q (.threw y) τ) : CQ (wP G s0 l KK T) mX4_lambda lev (.ref (R 3) :: [va_rf (some a), va_rf x]) σ Q := by
  obtain ⟨l', rfl⟩ : ∃ l', lev = l' + 3 := ⟨lev - 3, by omega⟩
  obtain ⟨h1, h2, h3, h4, xd, xb, I1, I2, h5, h6, hI1, hI2, r1, r2⟩ := hr
  have hns : c.ns ≤ 8 := h.2.2.1.2.2.1
  have hM0 := hm.2.1
  have hj0 := h.1.1.1
  have lta : a < gn σ := hm.1.lt (by omega)
  have tma : tmt (gk σ a) = true := by rw [h1]; rfl
  have hE1 : ∀ q, I1 q → c.E q := fun q z => hI q (hI1 q z).1
  have hE2 : ∀ q, I2 q → c.E q := fun q z => hI q (hI2 q z).1
  have na : ¬ (I1 a ∨ I2 a) := fun z => z.elim (fun z => (hI1 a z).2 rfl) (fun z => (hI2 a z).2.1 rfl)
  have hI12 : ∀ q, (I1 q ∨ I2 q) → I q := fun q z => z.elim (fun z => (hI1 q z).1) (fun z => (hI2 q z).1)
  have hz0 := hm.1
  rw [mulY, mulY] at hm
  refine tX4_lambda ⟨a, rfl, h1, hj0, ?_⟩
  rw [h5]
  refine c_jtype (m := m + rN b * Yc + 10) (s := s + rN b * Ys + 54) ih (by omega) hJN r1 hg1 hE1 h hs hz (by omega) (by omega) (hm.le (by omega) (by omega)) (fun t4 K4 ua sa e4 hsa le4 j4 b4 p4 g4 l4 => ?_) (fun y τ K' e p' w' e1 e2 e3 e4 e5 l => er y τ K' e p' w' (by rw [sJudge_lam, e1]; rfl) e2 e3 (e4.wk (fun q z => (hI1 q z).1)) (e5.le (by omega) (by omega)))
  -- the domain is judged
  have J4 : jfr R (fun q => I1 q ∨ I2 q) σ t4 := j4.wk (fun q z => Or.inl z)
  have B4 : JB R (cut c I1) L t4 X J sc x := h.mv hM0 j4 hE1 (fun q z => z.1) rfl
  obtain ⟨a1, a2, a3, a4⟩ := J4.at tma hM0 hj0 na
  have r2' := h.rT hM0 j4 hE1 r2 (fun q z => ⟨(hI2 q z).2.2, h.2.2.2.2.2 q (hE2 q z)⟩) (fun z => absurd rfl z)
  have nP : gk t4 (gn t4) = 0 := b4.1.at
  have lP : gn σ ≤ gn t4 := l4.1.1
  refine ⟨(b4.2.2.2.le (n' := m + rN b * Yc + 9 + 1) (s' := s + rN b * Ys + 48 + 6) (by omega) (by omega)).gr b4.1, ?_⟩
  have b5 : MB G R (gmk 9 6 t4) X K4 0 (m + rN b * Yc + 9) (s + rN b * Ys + 48) := (b4.le (n' := m + rN b * Yc + 9 + 1) (s' := s + rN b * Ys + 48 + 6) (by omega) (by omega)).mk
  have k5 : keep nil0 t4 (gmk 9 6 t4) := keep.rf.mk nP
  have j5 : jfr R nil0 t4 (gmk 9 6 t4) := jfr.N k5 (gle.mk b4.1) B4.1
  have tP : gk (gmk 9 6 t4) (gn t4) = 9 := gk_new (n := 6) nP
  have g5 : gr (gmk 9 6 t4) a 2 = some xd := by rw [gr_mk (by omega), a3]; exact h5
  have hE5 : ∀ q, gk t4 q ≠ 0 → ((cut c I1).E q ∨ q = gn t4) → (cut c I1).E q := fun q hq z => z.elim id (fun z => by subst z; exact absurd nP hq)
  have B5 : JB R ((fun q => (cut c I1).E q ∨ q = gn t4), c.2) L (gmk 9 6 t4) X J sc x := jb2 B4 b4.2.1 j5 (fun _ z => z.elim) hE5 (fun q hq z => z.elim (fun z => by have := B4.2.2.2.2.2 q z; rw [hq] at this; cases this) (fun z => by subst z; rw [tP]; rfl)) rfl
  have v5 : mv (cut c I1) ((fun q => (cut c I1).E q ∨ q = gn t4), c.2) L L t4 (gmk 9 6 t4) := jbn B4 b4.2.1 j5 (fun _ z => z.elim) hE5 rfl
  have p5 := pT_mv v5 _ _ _ p4
  have J5 : jfr R (fun q => I1 q ∨ I2 q) σ (gmk 9 6 t4) := J4.tr j5 (fun _ z => z) (fun _ z => z.elim)
  have tI2 : ∀ {τ : GSt}, gle σ τ → ∀ q, I2 q → tmt (gk τ q) = true := fun hg q z => by
    have := h.2.2.2.2.2 q (hE2 q z)
    rw [hg.2 q (tmt_ne this).1]; exact this
  have r25 := B4.rT b4.2.1 j5 (fun _ z => z.elim) r2' (fun q z => ⟨id, tI2 l4 q z⟩) (fun z => absurd rfl z)
  rw [g5]
  generalize gmk 9 6 t4 = t5 at *
  generalize hPP : gn t4 = P at *
  refine c_jnormal (c := ((fun q => (cut c I1).E q ∨ q = P), c.2)) (n := m + rN b * Yc + 7) (s := s + rN b * Ys + 38) (by omega) B5 p5 g4 hs (by omega) (b5.le (by omega) (by omega)) (fun t8 K8 t y e8 le8 j8 b8 p8 g8 l8 => ?_) (fun y τ K' e p' w' e1 e2 e3 e4' e5 l => er y τ K' e p' w' (by rw [sJudge_lam, e4]; show jBind (jNormal X ua sc K4) _ = _; rw [e1]; rfl) (by omega) e3 ((J5.tr e4' (fun _ z => z) (fun _ z => z.elim)).wk hI12) (e5.le (by omega) (by omega)))
  -- its normal form is made
  have nEP : ¬ c.E P := fun z => by have := h.lt hz0 P z; omega
  have J8 : jfr R (fun q => I1 q ∨ I2 q) σ t8 := J5.tr j8 (fun _ z => z) (fun _ z => z.elim)
  have B8 := B5.mv b5.2.1 j8 (fun _ z => z.elim) (c' := ((fun q => (cut c I1).E q ∨ q = P), c.2)) (fun _ z => z) rfl
  have tP8 : gk t8 P = 9 := l8.tag tP (by omega)
  have r28 := B5.rT b5.2.1 j8 (fun _ z => z.elim) r25 (fun q z => ⟨id, tI2 J5.2.2 q z⟩) (fun z => absurd rfl z)
  refine tX11_init (tX9_init ⟨⟨8, by decide, tP8⟩, fun _ => ⟨tP8, fun _ => ?_⟩⟩)
  have nMP : ¬ isM R P := b8.2.1.no tP8 (by omega) (by omega) (Or.inl (by omega))
  have n3P : P ≠ R 3 := fun z => by have := B8.1.1.1; rw [← z] at this; omega
  have k10 : keep (fun q => q = P) t8 (gpr P 2 (some y) (gpi P 1 (iI (-1)) (gpi P 0 (iI (-1)) t8))) := (((keep.rf (W := fun q => q = P)).pi (fun _ => rfl)).pi (fun _ => rfl)).pr (fun _ => rfl)
  have b10 : MB G R (gpr P 2 (some y) (gpi P 1 (iI (-1)) (gpi P 0 (iI (-1)) t8))) X K8 0 (m + rN b * Yc + 10) (s + rN b * Ys + 62) := ((b8.pi' nMP).pi' nMP).pr' nMP
  have j10 : jfr R (fun q => q = P) t8 (gpr P 2 (some y) (gpi P 1 (iI (-1)) (gpi P 0 (iI (-1)) t8))) := jfr.own k10 rfl n3P B8.1.1.1 ⟨⟨Nat.le_refl _, Nat.le_refl _⟩, fun _ _ => rfl⟩
  have e102 : gr (gpr P 2 (some y) (gpi P 1 (iI (-1)) (gpi P 0 (iI (-1)) t8))) P 2 = some y := by rw [gr_pr, if_pos ⟨rfl, rfl⟩]
  have tP10 : gk (gpr P 2 (some y) (gpi P 1 (iI (-1)) (gpi P 0 (iI (-1)) t8))) P = 9 := tP8
  rw [e102]
  generalize gpr P 2 (some y) (gpi P 1 (iI (-1)) (gpi P 0 (iI (-1)) t8)) = t10 at *
  have J10 : jfr R (fun q => I1 q ∨ I2 q) σ t10 := J8.trn j10 (fun _ z => z) (fun q hq z => by subst z; exact absurd (hz0 _ lP) hq)
  have v10 := B8.mvc b8.2.1 j10 (c' := ((fun q => (cut c I1).E q ∨ q = P), c.2)) (fun _ z => Or.inr z) (fun _ z => z) rfl
  have B10 := B8.mv b8.2.1 j10 (c' := ((fun q => (cut c I1).E q ∨ q = P), c.2)) (fun _ z => Or.inr z) (fun _ z => z) rfl
  have r210 := B8.rT b8.2.1 j10 (fun _ z => Or.inr z) r28 (fun q z => ⟨fun z' => by subst z'; exact nEP (hE2 _ z), tI2 J8.2.2 q z⟩) (fun z => absurd rfl z)
  refine c_with (n := m + rN b * Yc + 6) (s := s + rN b * Ys + 48) (by omega) B10 (pT_mv v10 _ _ _ p8) (b10.le (by omega) (by omega)) (fun t12 j12 b12 B12 l12 => ?_)
  -- the binder is around
  have J12 : jfr R (fun q => I1 q ∨ I2 q) σ t12 := J10.tr j12 (fun _ z => z) (fun _ z => z.elim)
  have r212 := B10.rT b10.2.1 j12 (fun _ z => z.elim) r210 (fun q z => ⟨id, tI2 J10.2.2 q z⟩) (fun z => absurd rfl z)
  have v12 := B10.mvc b10.2.1 j12 (c' := ((fun q => (cut c I1).E q ∨ q = P), c.2)) (fun _ z => z.elim) (fun _ z => z) rfl
  obtain ⟨c1, c2, c3, c4⟩ := J12.at tma hM0 hj0 na
  have p12 := pT_mv v12 _ _ _ (pT_mv v10 _ _ _ p8)
  have hgV := scEnv_gV sc hs
  have sub2 : ∀ q, I2 q → ((cut c I1).E q ∨ q = P) := fun q z => Or.inl ⟨hE2 q z, (hI2 q z).2.2⟩
  rw [c3, h6]
  have hw : gSc c.ns z (jWith t sa sc) := ⟨by rcases sc.length with _ | _ | _ | _ | k <;> trivial, (fun q => by cases q), ⟨⟨0, rfl⟩, gT_up _ _ _ g8, hgV, (by show (-1 : Int) ≤ (sa : Int); omega), (by show (sa : Int) < 8; omega), (by show sw t ≤ z; rw [sw_false _ _ g8]; omega)⟩, hs⟩
  refine ih (l' + 2) (by omega) ((fun q => (cut c I1).E q ∨ q = P), c.2) b xb I2 (jWith t sa sc) (some (gn t10)) K8 t12 (m + 6) (s + 48) z _ _ hJN r212 hg2 sub2 B12 hw hz (by omega) (by show sc.length + 1 + n ≤ 300; omega) (b12.le (by omega) (by omega)) (fun t14 K14 ub cty cr so e14 le14 j14 b14 p14 g14 f14 y14 i14 l14 => ?_) (fun y' τ K' e p' w' e1 e2 e3 e4' e5 l => er y' τ K' e p' w' (by rw [sJudge_lam, e4]; show jBind (jNormal X ua sc K4) _ = _; rw [e8]; show jBind (sJudge X J n b (jWith t sa sc) K8) _ = _; rw [e1]; rfl) (by omega) e3 ((J12.tr e4' (fun _ z => z) (fun _ z => Or.inr z)).wk hI12) (e5.le (by omega) (by omega)))
  -- the body is judged
  have J14 : jfr R (fun q => I1 q ∨ I2 q) σ t14 := J12.tr j14 (fun _ z => z) (fun _ z => Or.inr z)
  have B14 := B12.mv b12.2.1 j14 (c' := cut ((fun q => (cut c I1).E q ∨ q = P), c.2) I2) sub2 (fun _ z => z.1) rfl
  have v14 := B12.mvc b12.2.1 j14 (c' := cut ((fun q => (cut c I1).E q ∨ q = P), c.2) I2) sub2 (fun _ z => z.1) rfl
  have eS : sJudge X J (n + 1) (.tag f (.tag p (.append d b))) sc K = if so = -1 then (K14, .error (7, (p : Int))) else if J.ru sa so.toNat = -1 then (K14, .error (9, (p : Int))) else (K14, .ok (.tag 0 (.append ua ub), .tag (8 * sa + so.toNat) (.group (.append t (jLifted cty cr (sc.length + 1))) .fill), scEnv sc, J.ru sa so.toNat)) := by
    rw [sJudge_lam, e4]; show jBind (jNormal X ua sc K4) _ = _; rw [e8]; show jBind (sJudge X J n b (jWith t sa sc) K8) _ = _; rw [e14]; rfl
  obtain ⟨d1, d2, d3, d4⟩ := J14.at tma hM0 hj0 na
  have f5 := f14.2.2
  rw [f5]
  have fl : ∀ (e : Nat), MB G R t14 X K14 0 (m + 6) (s + 48) → sJudge X J (n + 1) (.tag f (.tag p (.append d b))) sc K = (K14, .error (e, (p : Int))) → (groom G 8 t14 ∧ CQ (wP G s0 l KK T) mX8_init (l' + 2) (.ref (gn t14) :: [.int (iI (e : Int)), .int (gi (gmk 7 8 t14) a 0)]) (gmk 7 8 t14) (onV (fun t37 => gle (gmk 7 8 t14) t37 → Q (.threw (gn t14)) t37) (fun x t => gle (gmk 7 8 t14) t → Q (.threw x) t))) := fun e b14 he => by
    refine ⟨(b14.2.2.2.le (n' := m + 5 + 1) (s' := s + 40 + 8) (by omega) (by omega)).gr b14.1, ?_⟩
    rw [gi_mk (b14.1.ne (by rw [d1]; omega)), d2, h4]
    refine c_flt (e := e) (p := (p : Int)) (by omega) b14.1 (fun τ t1 t2 t3 t4' t5 l => ?_)
    have lf : gle t14 τ := ⟨⟨by omega, by omega⟩, fun q hq => (t1 q hq id).1⟩
    exact er _ τ K14 e p 0 he (by omega) t5 ((J14.tr (jfr.N (I := nil0) t1 lf B14.1) (fun _ z => z) (fun _ z => z.elim)).wk hI12) (((b14.le (n' := m + 5 + 1) (s' := s + 40 + 8) (by omega) (by omega)).new t1 t2 t3 t4').le (by omega) (by omega))
  have hso1 := y14.2.2.2.1
  have hso2 : so < 8 := y14.2.2.2.2.1
  refine ⟨fun q => ?_, fun q => ⟨R 1, B14.1.1.2.1, B14.2.1.2.1, ?_⟩⟩
  · rw [iI_eq (by omega) (by omega) (by omega) (by omega)] at q
    exact fl 7 b14 (by rw [eS, if_pos q])
  have hso : so ≠ -1 := fun z => q (by rw [z])
  obtain ⟨sb, hsb⟩ : ∃ sb : Nat, so = (sb : Int) := ⟨so.toNat, by omega⟩
  subst hsb
  rw [if_neg hso, Int.toNat_natCast] at eS
  have hru := h.1.2.2.2.2.1 sa sb (by omega) (by omega)
  refine c_rule (J := J) (X := X) (by omega) B14.1 B14.2.1 (by omega) (by omega) (fun _ => ⟨fun q => ?_, fun q => ⟨gn t10, rfl, pSc_tag B14.2.2.2.1, ?_⟩⟩)
  · rw [iI_eq (by omega) (by omega) (by omega) (by omega)] at q
    exact fl 9 b14 (by rw [eS, if_pos q])
  have hru1 : J.ru sa sb ≠ -1 := fun z => q (by rw [z])
  rw [if_neg hru1] at eS
  have hen : pV _ _ t14 (scEnv (jWith t sa sc)) true (gr t14 (gn t10) 0) := pSc_env B14.2.2.2.1
  refine c_depth (by omega) hen (fun _ => ?_)
  rw [scEnv_len]
  obtain ⟨mm, hcr⟩ := y14.1
  have vl : vlen cr ≤ sc.length + 1 := by rw [hcr, vlen_drop, scEnv_len]; show sc.length + 1 - mm ≤ _; omega
  refine c_lifted (n := m + 5) (s := s + 44) (by omega) (B14.lt b14.1) B14.1.1.1 f14 vl (by show sc.length + 1 < 1000000; omega) (b14.le (by omega) (by omega)) (fun t24 q24 k24 b24 p24 l24 => ?_)
  -- the type's body is made
  have tP24 : gk t24 P = 9 := l24.tag (l14.tag (l12.tag tP10 (by omega)) (by omega)) (by omega)
  have nI2P : ¬ I2 P := fun z => nEP (hE2 _ z)
  have J24 : jfr R (fun q => I1 q ∨ I2 q) σ t24 := J14.tr (jfr.N (I := nil0) k24 l24 B14.1) (fun _ z => z) (fun _ z => z.elim)
  have B24 := B14.mv b14.2.1 (jfr.N (I := nil0) k24 l24 B14.1) (c' := cut ((fun q => (cut c I1).E q ∨ q = P), c.2) I2) (fun _ z => z.elim) (fun _ z => z) rfl
  have i35 : gi (gpi P 4 (iI (sa : Int)) (gpr P 3 (some q24) t24)) (R 3) 5 = iI (sb : Int) := by
    rw [gi_pi, if_neg (fun z => n3P z.1.symm), gi_pr, (k24 (R 3) (by rw [B14.1.1.1]; omega) id).2.1]; exact f5
  rw [i35]
  have k26 : keep (fun q => q = P) t24 (gpi P 5 (iI (sb : Int)) (gpi P 4 (iI (sa : Int)) (gpr P 3 (some q24) t24))) := (((keep.rf (W := fun q => q = P)).pr (fun _ => rfl)).pi (fun _ => rfl)).pi (fun _ => rfl)
  have b26 : MB G R (gpi P 5 (iI (sb : Int)) (gpi P 4 (iI (sa : Int)) (gpr P 3 (some q24) t24))) X K14 0 (m + 5) (s + 44) := ((b24.pr' nMP).pi' nMP).pi' nMP
  have j26 : jfr R (fun q => q = P) t24 (gpi P 5 (iI (sb : Int)) (gpi P 4 (iI (sa : Int)) (gpr P 3 (some q24) t24))) := jfr.own k26 rfl n3P B24.1.1.1 ⟨⟨Nat.le_refl _, Nat.le_refl _⟩, fun _ _ => rfl⟩
  have x1 : gk (gpi P 5 (iI (sb : Int)) (gpi P 4 (iI (sa : Int)) (gpr P 3 (some q24) t24))) P = 9 := tP24
  have x2 : gi (gpi P 5 (iI (sb : Int)) (gpi P 4 (iI (sa : Int)) (gpr P 3 (some q24) t24))) P 4 = iI (sa : Int) := by rw [gi_pi, if_neg (by omega), gi_pi, if_pos ⟨rfl, rfl⟩]
  have x3 : gi (gpi P 5 (iI (sb : Int)) (gpi P 4 (iI (sa : Int)) (gpr P 3 (some q24) t24))) P 5 = iI (sb : Int) := by rw [gi_pi, if_pos ⟨rfl, rfl⟩]
  have x4 : gr (gpi P 5 (iI (sb : Int)) (gpi P 4 (iI (sa : Int)) (gpr P 3 (some q24) t24))) P 3 = some q24 := by rw [gr_pi, gr_pi, gr_pr, if_pos ⟨rfl, rfl⟩]
  have x5 : gr (gpi P 5 (iI (sb : Int)) (gpi P 4 (iI (sa : Int)) (gpr P 3 (some q24) t24))) P 2 = some y := by
    rw [gr_pi, gr_pi, gr_pr, if_neg (by omega), (k24 P (by rw [l14.tag (l12.tag tP10 (by omega)) (by omega)]; omega) id).2.2.1, (j14.at (a := P) (by rw [l12.tag tP10 (by omega)]; rfl) b12.2.1 B12.1.1.1 nI2P).2.2.1, (j12.at (a := P) (by rw [tP10]; rfl) b10.2.1 B10.1.1.1 id).2.2.1]
    exact e102
  generalize gpi P 5 (iI (sb : Int)) (gpi P 4 (iI (sa : Int)) (gpr P 3 (some q24) t24)) = t26 at *
  have J26 : jfr R (fun q => I1 q ∨ I2 q) σ t26 := J24.trn j26 (fun _ z => z) (fun q hq z => by subst z; exact absurd (hz0 _ lP) hq)
  have B26 : JB R (cut c I) L t26 X J sc x := h.mv hM0 (J26.wk hI12) hI (fun q z => z.1) rfl
  have v26 : mv (cut ((fun q => (cut c I1).E q ∨ q = P), c.2) I2) (cut c I) L L t24 t26 := mv_keepE k26 (fun q z => by subst z; exact Or.inr (Or.inr (Or.inr (Or.inr (Or.inr ⟨by rw [tP24]; rfl, Or.inr rfl, nI2P⟩))))) (fun q _ hn hc => hn ⟨Or.inl ⟨hc.1, fun z => hc.2 (hI1 q z).1⟩, fun z => hc.2 (hI2 q z).1⟩) rfl
  have v24 : mv (cut ((fun q => (cut c I1).E q ∨ q = P), c.2) I2) (cut ((fun q => (cut c I1).E q ∨ q = P), c.2) I2) L L t14 t24 := k24.mv
  refine c_of (by omega) B26.2.2.2.1 (onR_ret (fun _ => ?_))
  have q1 : pT (cut c I) t26 t y 0 := pT_mv v26 _ _ _ (pT_mv v24 _ _ _ (pT_mv v14 _ _ _ p12))
  have q2 : pT (cut c I) t26 (jLifted cty cr (sc.length + 1)) q24 0 := pT_mv v26 _ _ _ p24
  have q3 : pT (cut c I) t26 (.tag (8 * sa + sb) (.group (.append t (jLifted cty cr (sc.length + 1))) .fill)) P 0 := by
    rw [pT_prod]
    have e1 : (8 * sa + sb) / 8 = sa := by omega
    have e2 : (8 * sa + sb) % 8 = sb := by omega
    rw [e1, e2]
    exact ⟨x1, fun z => nEP z.1, x2, x3, y, q24, x5, x4, q1, q2⟩
  have q4 : pT (cut c I) t26 ub xb 0 := pT_mv v26 _ _ _ (pT_mv v24 _ _ _ p14)
  have vv8 := B5.mvc b5.2.1 j8 (c' := ((fun q => (cut c I1).E q ∨ q = P), c.2)) (fun _ z => z.elim) (fun _ z => z) rfl
  have q5 : pT (cut c I) t26 ua xd 0 := pT_mv v26 _ _ _ (pT_mv v24 _ _ _ (pT_mv v14 _ _ _ (pT_mv v12 _ _ _ (pT_mv v10 _ _ _ (pT_mv vv8 _ _ _ p5)))))
  refine c_is (c := cut c I) (L := L) (t := .tag (8 * sa + sb) (.group (.append t (jLifted cty cr (sc.length + 1))) .fill)) (r := scEnv sc) (so := J.ru sa sb) (by omega) B26.1.1.1 (B26.1.nM b26.2.1) q3 (pSc_env B26.2.2.2.1) b26 (fun τ kF bF fF gF lF => ?_)
  have jF : jfr R (fun q => I1 q ∨ I2 q) σ τ := J26.t2 (jfr.is kF gF lF)
  have vF : mv (cut c I) (cut c I) L L t26 τ := mv_keep kF (fun q z => by subst z; exact Or.inr (Or.inr (Or.inl (Or.inl B26.1.1.1))))
  obtain ⟨u1, u2, u3, u4⟩ := jF.at tma hM0 hj0 na
  refine ok τ K14 _ _ _ _ eS (by omega) (jF.wk hI12) (bF.le (by omega) (by omega)) ⟨u1.trans h1, fun z => z.2 h2, xd, xb, by rw [u3]; exact h5, by rw [u3]; exact h6, pT_mv vF _ _ _ q5, pT_mv vF _ _ _ q4⟩ ⟨g4, g14⟩ fF ⟨⟨0, rfl⟩, ?_, hgV, hru.2.1, (by have := hru.2.2; omega), ?_⟩ (by rw [u2]; exact h3)
  · have e1 : ∀ g, gT (.tag (8 * sa + sb) (.group (.append t (jLifted cty cr (sc.length + 1))) .fill)) true g = (gT t false g ∧ gT (jLifted cty cr (sc.length + 1)) true (true :: g)) := fun g => by rcases (8 * sa + sb) with _ | _ | _ | p <;> rfl
    rw [e1]
    have e2 := gT_lifted hcr y14.2.1
    rw [scEnv_len] at e2
    exact ⟨g8, e2⟩
  · have e1 : sw (.tag (8 * sa + sb) (.group (.append t (jLifted cty cr (sc.length + 1))) .fill)) = sw (jLifted cty cr (sc.length + 1)) := by rcases (8 * sa + sb) with _ | _ | _ | p <;> rfl
    rw [e1, sw_lifted]
    have := y14.2.2.2.2.2
    omega
end PJLA
