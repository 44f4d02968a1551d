/-! P OVER S (28): judging: product -/
section PJPR
variable {G : GPl} {s0 : State} {l : Launch} {KK : Nat → Option Nat} {T : Nat → Nat} {lev d : Nat} {Q : Outcome → GSt → Prop} {R : Nat → Nat} {σ τ υ st0 : GSt} {X : SX} {J : JX} {K K' : KS} {w n s o z m Z Yc Ys : Nat} {c c' : PC} {L L' : Nat → Nat → Prop} {W I I' I1 I2 : Nat → Prop} {sc : SC} {gg : List Bool} {TN : Nat → List Nat} {x : Option Nat}
theorem sJudge_prod {f p : Nat} {d b : V} : sJudge X J (n + 1) (.tag f (.tag p (.group (.append d b) .fill))) sc K = jBind (jTypeSort (jFrom d) (sJudge X J n d sc K)) fun a K => jBind (jNormal X a.1 sc K) fun t K =>
      jBind (jTypeSort (jFrom b) (sJudge X J n b (jWith t a.2 sc) K)) fun c K =>
        let r := J.ru a.2 c.2
        if r = -1 then (K, .error (9, (p : Int))) else jIsSort J (.tag (8 * a.2 + c.2) (.group (.append a.1 c.1) .fill)) r K := by
  rw [sJudge]
theorem c_jprod {f p a : Nat} {d b : V} (ih : ∀ lev, 3 * n + 330 ≤ lev → CJ G s0 l KK T R X J TN Z Yc Ys lev n) (hYc : 12 + 4 * Z ≤ Yc) (hYs : 64 + 12 * Z ≤ Ys) (hl : 3 * n + 332 ≤ lev) (hJN : JN c X J TN) (hr : rT R TN σ (.tag f (.tag p (.group (.append d b) .fill))) a 0 I) (hg1 : rG d 0 sc.length n) (hg2 : rG b 0 (sc.length + 1) n) (hI : ∀ q, I q → c.E q) (h : JB R c L σ X J sc x) (hs : gSc c.ns z sc) (hz : ∀ k, k < c.nc → sw (J.ct k) ≤ z) (hZ : z + (rB d + rB b) ≤ Z) (hd : sc.length + (n + 1) ≤ 300) (hm : MB G R σ X K 0 (m + (rN d + rN b + 1) * Yc) (s + (rN d + rN b + 1) * Ys))
    (ok : ∀ τ K' u ty r so, sJudge X J (n + 1) (.tag f (.tag p (.group (.append d b) .fill))) sc K = (K', .ok (u, ty, r, so)) → K.life ≤ K'.life → jfr R I σ τ → MB G R τ X K' 0 m s → pT (cut c I) τ u a 0 → gT u false (List.replicate sc.length true) → JF (cut c I) L R τ ty r so → tyG c.ns (z + (rB d + rB b)) (scEnv sc) ty r so → gi τ a 1 = iI (f : Int) → Q (.returned none) τ)
    (er : ∀ y τ K' e p' w', sJudge X J (n + 1) (.tag f (.tag p (.group (.append d b) .fill))) sc K = (K', .error (e, p')) → K.life ≤ K'.life → flt τ y e p' → jfr R I σ τ → MB G R τ X K' w' m s → Q (.threw y) τ) : CQ (wP G s0 l KK T) mX4_product lev (.ref (R 3) :: [va_rf (some a), va_rf x]) σ Q := by
  obtain ⟨l', rfl⟩ : ∃ l', lev = l' + 3 := ⟨lev - 3, by omega⟩
  obtain ⟨h1, h2, h3, h4, xd, xb, I1, I2, h5, h6, hI1, hI2, r1, r2⟩ := hr
  have hns : c.ns ≤ 8 := h.2.2.1.2.2.1
  have hM0 := hm.2.1
  have hj0 := h.1.1.1
  have tma : tmt (gk σ a) = true := by rw [h1]; rfl
  have hE1 : ∀ q, I1 q → c.E q := fun q z => hI q (hI1 q z).1
  have hE2 : ∀ q, I2 q → c.E q := fun q z => hI q (hI2 q z).1
  have na1 : ¬ I1 a := fun z => (hI1 a z).2 rfl
  have na2 : ¬ I2 a := fun z => (hI2 a z).2.1 rfl
  have n3a : a ≠ R 3 := fun z => by rw [z] at h1; omega
  rw [mulY, mulY] at hm
  refine tX4_product ⟨a, rfl, h1, hj0, ?_⟩
  rw [h5]
  refine c_jtype (m := m + rN b * Yc + Z + 10) (s := s + rN b * Ys + 3 * Z + 50) ih (by omega) hJN r1 hg1 hE1 h hs hz (by omega) (by omega) (hm.le (by omega) (by omega)) (fun t4 K4 ua sa e4 hsa le4 j4 b4 p4 g4 l4 => ?_) (fun y τ K' e p' w' e1 e2 e3 e4 e5 l => er y τ K' e p' w' (by rw [sJudge_prod, e1]; rfl) e2 e3 (e4.wk (fun q z => (hI1 q z).1)) (e5.le (by omega) (by omega)))
  -- the domain is judged
  have B4 : JB R (cut c I1) L t4 X J sc x := h.mv hM0 j4 hE1 (fun q z => z.1) rfl
  obtain ⟨a1, a2, a3, a4⟩ := j4.at tma hM0 hj0 na1
  have tI2 : ∀ {τ : GSt}, gle σ τ → ∀ q, I2 q → tmt (gk τ q) = true := fun hg q z => by
    have := h.2.2.2.2.2 q (hE2 q z)
    rw [hg.2 q (tmt_ne this).1]; exact this
  have r24 := h.rT hM0 j4 hE1 r2 (fun q z => ⟨(hI2 q z).2.2, h.2.2.2.2.2 q (hE2 q z)⟩) (fun z => absurd rfl z)
  have nMa : ¬ isM R a := hM0.no h1 (by omega) (by omega) (Or.inl (by omega))
  have k5 : keep (fun q => q = a) t4 (gpi a 4 (iI (sa : Int)) t4) := (keep.rf (W := fun q => q = a)).pi (fun _ => rfl)
  have j5 : jfr R (fun q => q = a) t4 (gpi a 4 (iI (sa : Int)) t4) := jfr.own k5 rfl n3a B4.1.1.1 ⟨⟨Nat.le_refl _, Nat.le_refl _⟩, fun _ _ => rfl⟩
  have b5 : MB G R (gpi a 4 (iI (sa : Int)) t4) X K4 0 (m + rN b * Yc + Z + 10) (s + rN b * Ys + 3 * Z + 50) := b4.pi' nMa
  have s1 : gk (gpi a 4 (iI (sa : Int)) t4) a = 9 := a1.trans h1
  have s2 : gr (gpi a 4 (iI (sa : Int)) t4) a 2 = some xd := (a3 2).trans h5
  have s3 : gr (gpi a 4 (iI (sa : Int)) t4) a 3 = some xb := (a3 3).trans h6
  have s4 : gi (gpi a 4 (iI (sa : Int)) t4) a 4 = iI (sa : Int) := by rw [gi_pi, if_pos ⟨rfl, rfl⟩]
  have s5 : gi (gpi a 4 (iI (sa : Int)) t4) a 0 = iI (p : Int) := by rw [gi_pi, if_neg (by omega), a2]; exact h4
  have s6 : gi (gpi a 4 (iI (sa : Int)) t4) a 1 = iI (f : Int) := by rw [gi_pi, if_neg (by omega), a2]; exact h3
  rw [s2, s3]
  generalize gpi a 4 (iI (sa : Int)) t4 = t5 at *
  have cEa : (cut c I1).E a := ⟨hI a h2, na1⟩
  have J5 : jfr R I σ t5 := j4.tr j5 (fun q z => (hI1 q z).1) (fun q z => by subst z; exact h2)
  have B5 : JB R (cut c I1) L t5 X J sc x := B4.mv b4.2.1 j5 (fun q z => by subst z; exact cEa) (fun _ z => z) rfl
  have v5 : mv (cut c I1) (cut c I1) L L t4 t5 := B4.mvc b4.2.1 j5 (fun q z => by subst z; exact cEa) (fun _ z => z) rfl
  have r25 := B4.rT b4.2.1 j5 (fun q z => by subst z; exact cEa) r24 (fun q z => ⟨fun z' => by subst z'; exact na2 z, tI2 l4 q z⟩) (fun z => absurd rfl z)
  have t5a : tmt (gk t5 a) = true := by rw [s1]; rfl
  refine c_jnormal (c := cut c I1) (n := m + rN b * Yc + Z + 8) (s := s + rN b * Ys + 3 * Z + 40) (by omega) B5 (pT_mv v5 _ _ _ p4) g4 hs (by omega) (b5.le (by omega) (by omega)) (fun t6 K6 t y e6 le6 j6 b6 p6 g6 l6 => ?_) (fun y τ K' e p' w' e1 e2 e3 e4' e5 l => er y τ K' e p' w' (by rw [sJudge_prod, e4]; show jBind (jNormal X ua sc K4) _ = _; rw [e1]; rfl) (by omega) e3 (J5.tr e4' (fun _ z => z) (fun _ z => z.elim)) (e5.le (by omega) (by omega)))
  have B6 : JB R (cut c I1) L t6 X J sc x := B5.mv b5.2.1 j6 (fun _ z => z.elim) (fun _ z => z) rfl
  have v6 : mv (cut c I1) (cut c I1) L L t5 t6 := B5.mvc b5.2.1 j6 (fun _ z => z.elim) (fun _ z => z) rfl
  have r26 := B5.rT b5.2.1 j6 (fun _ z => z.elim) r25 (fun q z => ⟨id, tI2 J5.2.2 q z⟩) (fun z => absurd rfl z)
  have i64 : gi t6 a 4 = iI (sa : Int) := by rw [(j6.at t5a b5.2.1 B5.1.1.1 id).2.1]; exact s4
  rw [i64]
  have J6 : jfr R I σ t6 := J5.tr j6 (fun _ z => z) (fun _ z => z.elim)
  refine c_with (n := m + rN b * Yc + Z + 7) (s := s + rN b * Ys + 3 * Z + 50) (by omega) B6 p6 (b6.le (by omega) (by omega)) (fun t8 j8 b8 B8 l8 => ?_)
  have J8 : jfr R I σ t8 := J6.tr j8 (fun _ z => z) (fun _ z => z.elim)
  have r28 := B6.rT b6.2.1 j8 (fun _ z => z.elim) r26 (fun q z => ⟨id, tI2 J6.2.2 q z⟩) (fun z => absurd rfl z)
  have v8 : mv (cut c I1) (cut c I1) L L t6 t8 := B6.mvc b6.2.1 j8 (fun _ z => z.elim) (fun _ z => z) rfl
  have hgV := scEnv_gV sc hs
  have hw : gSc c.ns z (jWith t sa sc) := ⟨by rcases sc.length with _ | _ | _ | _ | k <;> trivial, (fun q => by cases q), ⟨⟨0, rfl⟩, gT_up _ _ _ g6, hgV, (by show (-1 : Int) ≤ (sa : Int); omega), (by show (sa : Int) < 8; omega), (by show sw t ≤ z; rw [sw_false _ _ g6]; omega)⟩, hs⟩
  have sub2 : ∀ q, I2 q → (cut c I1).E q := fun q z => ⟨hE2 q z, (hI2 q z).2.2⟩
  refine c_jtype (c := cut c I1) (sc := jWith t sa sc) (m := m + 5) (s := s + 40) ih (by omega) hJN r28 hg2 sub2 B8 hw hz (by omega) (by show sc.length + 1 + n ≤ 300; omega) (b8.le (by omega) (by omega)) (fun t10 K10 ub sb e10 hsb le10 j10 b10 p10 g10 l10 => ?_) (fun y' τ K' e p' w' e1 e2 e3 e4' e5 l => er y' τ K' e p' w' (by rw [sJudge_prod, e4]; show jBind (jNormal X ua sc K4) _ = _; rw [e6]; show jBind (jTypeSort (jFrom b) (sJudge X J n b (jWith t sa sc) K6)) _ = _; rw [e1]; rfl) (by omega) e3 (J8.tr e4' (fun _ z => z) (fun q z => (hI2 q z).1)) (e5.le (by omega) (by omega)))
  -- the body is judged
  have jA : jfr R I2 t5 t10 := (j6.tr j8 (I := nil0) (fun _ z => z) (fun _ z => z)).tr j10 (fun _ z => z.elim) (fun _ z => z)
  obtain ⟨d1, d2, d3, d4⟩ := jA.at t5a b5.2.1 B5.1.1.1 na2
  have J10 : jfr R I σ t10 := J8.tr j10 (fun _ z => z) (fun q z => (hI2 q z).1)
  have B10 := B8.mv b8.2.1 j10 (c' := cut (cut c I1) I2) sub2 (fun _ z => z.1) rfl
  have v10 : mv (cut c I1) (cut (cut c I1) I2) L L t8 t10 := mv_keepE j10.1 (B8.wok b8.2.1 sub2) (fun q _ hn hc => hn hc.1) rfl
  have k11 : keep (fun q => q = a) t10 (gpi a 5 (iI (sb : Int)) t10) := (keep.rf (W := fun q => q = a)).pi (fun _ => rfl)
  have j11 : jfr R (fun q => q = a) t10 (gpi a 5 (iI (sb : Int)) t10) := jfr.own k11 rfl n3a B10.1.1.1 ⟨⟨Nat.le_refl _, Nat.le_refl _⟩, fun _ _ => rfl⟩
  have b11 : MB G R (gpi a 5 (iI (sb : Int)) t10) X K10 0 (m + 5) (s + 40) := b10.pi' nMa
  have x1 : gk (gpi a 5 (iI (sb : Int)) t10) a = 9 := d1.trans s1
  have x2 : gi (gpi a 5 (iI (sb : Int)) t10) a 4 = iI (sa : Int) := by rw [gi_pi, if_neg (by omega), d2]; exact s4
  have x3 : gi (gpi a 5 (iI (sb : Int)) t10) a 5 = iI (sb : Int) := by rw [gi_pi, if_pos ⟨rfl, rfl⟩]
  have x4 : gi (gpi a 5 (iI (sb : Int)) t10) a 0 = iI (p : Int) := by rw [gi_pi, if_neg (by omega), d2]; exact s5
  have x5 : gi (gpi a 5 (iI (sb : Int)) t10) a 1 = iI (f : Int) := by rw [gi_pi, if_neg (by omega), d2]; exact s6
  have x6 : gr (gpi a 5 (iI (sb : Int)) t10) a 2 = some xd := (d3 2).trans s2
  have x7 : gr (gpi a 5 (iI (sb : Int)) t10) a 3 = some xb := (d3 3).trans s3
  rw [x2, x3]
  generalize gpi a 5 (iI (sb : Int)) t10 = t11 at *
  have J11 : jfr R I σ t11 := J10.tr j11 (fun _ z => z) (fun q z => by subst z; exact h2)
  have B11 : JB R (cut c I) L t11 X J sc x := h.mv hM0 J11 hI (fun q z => z.1) rfl
  have v11 : mv (cut (cut c I1) I2) (cut c I) L L t10 t11 := mv_keepE k11 (fun q z => by subst z; exact Or.inr (Or.inr (Or.inr (Or.inr (Or.inr ⟨by rw [d1, s1]; rfl, cEa, na2⟩))))) (fun q _ hn hc => hn ⟨⟨hc.1, fun z => hc.2 (hI1 q z).1⟩, fun z => hc.2 (hI2 q z).1⟩) rfl
  have eS : sJudge X J (n + 1) (.tag f (.tag p (.group (.append d b) .fill))) sc K = if J.ru sa sb = -1 then (K10, .error (9, (p : Int))) else jIsSort J (.tag (8 * sa + sb) (.group (.append ua ub) .fill)) (J.ru sa sb) K10 := by
    rw [sJudge_prod, e4]; show jBind (jNormal X ua sc K4) _ = _; rw [e6]; show jBind (jTypeSort (jFrom b) (sJudge X J n b (jWith t sa sc) K6)) _ = _; rw [e10]; rfl
  have hru := h.1.2.2.2.2.1 sa sb (by omega) (by show sb < 8; have : sb < c.ns := hsb; omega)
  have hsb' : sb < c.ns := hsb
  refine ⟨R 1, B11.1.1.2.1, B11.2.1.2.1, c_rule (J := J) (X := X) (by omega) B11.1 B11.2.1 (by omega) (by omega) (fun _ => ⟨fun q => ?_, fun q => ?_⟩)⟩
  · rw [iI_eq (by omega) (by omega) (by omega) (by omega)] at q
    refine ⟨(b11.2.2.2.le (n' := m + 4 + 1) (s' := s + 32 + 8) (by omega) (by omega)).gr b11.1, ?_⟩
    rw [gi_mk (b11.1.ne (by rw [x1]; omega)), x4]
    refine c_flt (e := 9) (p := (p : Int)) (by omega) b11.1 (fun τ t1 t2 t3 t4' t5 l => ?_)
    have lf : gle t11 τ := ⟨⟨by omega, by omega⟩, fun q hq => (t1 q hq id).1⟩
    exact er _ τ K10 9 p 0 (by rw [eS, if_pos q]) (by omega) t5 (J11.tr (jfr.N (I := nil0) t1 lf B11.1) (fun _ z => z) (fun _ z => z.elim)) (((b11.le (n' := m + 4 + 1) (s' := s + 32 + 8) (by omega) (by omega)).new t1 t2 t3 t4').le (by omega) (by omega))
  · have hru1 : J.ru sa sb ≠ -1 := fun z => q (by rw [z])
    rw [if_neg hru1] at eS
    obtain ⟨v, hv⟩ : ∃ v : Nat, J.ru sa sb = (v : Int) := ⟨(J.ru sa sb).toNat, by omega⟩
    have hvl : v < c.ns := by omega
    have hav := h.1.2.2.2.1 v (by omega)
    rw [hv] at eS ⊢
    refine c_isSort (c := cut c I) (n := m + 4) (s := s + 35) (by omega) B11 hvl (b11.le (by omega) (by omega)) (fun τ jF bF fF lF => ?_)
    obtain ⟨u1, u2, u3, u4⟩ := jF.at (by rw [x1]; rfl) b11.2.1 B11.1.1.1 id
    have vF : mv (cut c I) (cut c I) L L t11 τ := B11.mvc b11.2.1 jF (fun _ z => z.elim) (fun _ z => z) rfl
    refine ok τ K10 _ _ _ _ eS (by omega) (J11.tr jF (fun _ z => z) (fun _ z => z.elim)) (bF.le (by omega) (by omega)) ?_ ?_ fF ⟨⟨sc.length, (scEnv_all sc).symm⟩, trivial, trivial, hav.2.1, (show J.ax v < 8 by have := hav.2.2; omega), Nat.zero_le _⟩ (by rw [u2]; exact x5)
    · rw [pT_prod]
      have e1 : (8 * sa + sb) / 8 = sa := by omega
      have e2 : (8 * sa + sb) % 8 = sb := by omega
      rw [e1, e2]
      exact ⟨u1.trans x1, fun z => z.2 h2, by rw [u2]; exact x2, by rw [u2]; exact x3, xd, xb, by rw [u3]; exact x6, by rw [u3]; exact x7, pT_mv vF _ _ _ (pT_mv v11 _ _ _ (pT_mv v10 _ _ _ (pT_mv v8 _ _ _ (pT_mv v6 _ _ _ (pT_mv v5 _ _ _ p4))))), pT_mv vF _ _ _ (pT_mv v11 _ _ _ p10)⟩
    · have e1 : ∀ g, gT (.tag (8 * sa + sb) (.group (.append ua ub) .fill)) false g = (gT ua false g ∧ gT ub false (true :: g)) := fun g => by rcases (8 * sa + sb) with _ | _ | _ | p <;> rfl
      rw [e1]
      exact ⟨g4, g10⟩
end PJPR
