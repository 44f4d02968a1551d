/-! P OVER S (29): judging: let -/
section PJLE
variable {G : GPl} {s0 : State} {l : Launch} {KK : Nat → Option Nat} {T : Nat → Nat} {lev d : Nat} {Q : Outcome → GSt → Prop} {R : Nat → Nat} {σ τ υ st0 : GSt} {X : SX} {J : JX} {K K' : KS} {w n s o z m Z Yc Ys : Nat} {c c' : PC} {L L' : Nat → Nat → Prop} {W I I' I1 I2 : Nat → Prop} {sc : SC} {gg : List Bool} {TN : Nat → List Nat} {x : Option Nat}
theorem sJudge_let {f p : Nat} {d b : V} : sJudge X J (n + 1) (.tag f (.tag p (.group (.append d b) .allOrNone))) sc K = jBind (sJudge X J n d sc K) fun a K =>
      jBind (sJudge X J n b ((vClo a.1 (scEnv sc), a.2) :: sc) K) fun c K =>
        (K, .ok (.tag 1 (.append a.1 c.1), if sc.length < vlen c.2.2.1 then (.group c.2.1 .fill, scEnv sc, c.2.2.2) else c.2)) := by
  rw [sJudge]
theorem c_jlet {f p a : Nat} {d b : V} (ih : ∀ lev, 3 * n + 330 ≤ lev → CJ G s0 l KK T R X J TN Z Yc Ys lev n) (hYc : 12 + 4 * Z ≤ Yc) (hYs : 64 + 12 * Z ≤ Ys) (hl : 3 * n + 332 ≤ lev) (hJN : JN c X J TN) (hr : rT R TN σ (.tag f (.tag p (.group (.append d b) .allOrNone))) a 0 I) (hg1 : rG d 0 sc.length n) (hg2 : rG b 0 (sc.length + 1) n) (hI : ∀ q, I q → c.E q) (h : JB R c L σ X J sc x) (hs : gSc c.ns z sc) (hz : ∀ k, k < c.nc → sw (J.ct k) ≤ z) (hZ : z + (rB d + rB b + 1) ≤ Z) (hd : sc.length + (n + 1) ≤ 300) (hm : MB G R σ X K 0 (m + (rN d + rN b + 1) * Yc) (s + (rN d + rN b + 1) * Ys))
    (ok : ∀ τ K' u ty r so, sJudge X J (n + 1) (.tag f (.tag p (.group (.append d b) .allOrNone))) sc K = (K', .ok (u, ty, r, so)) → K.life ≤ K'.life → jfr R I σ τ → MB G R τ X K' 0 m s → pT (cut c I) τ u a 0 → gT u false (List.replicate sc.length true) → JF (cut c I) L R τ ty r so → tyG c.ns (z + (rB d + rB b + 1)) (scEnv sc) ty r so → gi τ a 1 = iI (f : Int) → Q (.returned none) τ)
    (er : ∀ y τ K' e p' w', sJudge X J (n + 1) (.tag f (.tag p (.group (.append d b) .allOrNone))) sc K = (K', .error (e, p')) → K.life ≤ K'.life → flt τ y e p' → jfr R I σ τ → MB G R τ X K' w' m s → Q (.threw y) τ) : CQ (wP G s0 l KK T) mX4_let lev (.ref (R 3) :: [va_rf (some a), va_rf x]) σ Q := by
  obtain ⟨l', rfl⟩ : ∃ l', lev = l' + 3 := ⟨lev - 3, by omega⟩
  obtain ⟨h1, h2, h3, h4, xd, xb, I1, I2, h5, h6, hI1, hI2, r1, r2⟩ := hr
  have hns : c.ns ≤ 8 := h.2.2.1.2.2.1
  have hM0 := hm.2.1
  have hj0 := h.1.1.1
  have tma : tmt (gk σ a) = true := by rw [h1]; rfl
  have hE1 : ∀ q, I1 q → c.E q := fun q z => hI q (hI1 q z).1
  have hE2 : ∀ q, I2 q → c.E q := fun q z => hI q (hI2 q z).1
  have na : ¬ (I1 a ∨ I2 a) := fun z => z.elim (fun z => (hI1 a z).2 rfl) (fun z => (hI2 a z).2.1 rfl)
  have hI12 : ∀ q, (I1 q ∨ I2 q) → I q := fun q z => z.elim (fun z => (hI1 q z).1) (fun z => (hI2 q z).1)
  have hgV := scEnv_gV sc hs
  have tI2 : ∀ {τ : GSt}, gle σ τ → ∀ q, I2 q → tmt (gk τ q) = true := fun hg q z => by
    have := h.2.2.2.2.2 q (hE2 q z)
    rw [hg.2 q (tmt_ne this).1]; exact this
  rw [mulY, mulY] at hm
  refine tX4_let ⟨a, rfl, h1, hj0, ?_⟩
  rw [h5]
  refine ih (l' + 2) (by omega) c d xd I1 sc x K σ (m + rN b * Yc + 8) (s + rN b * Ys + 40) z L _ hJN r1 hg1 hE1 h hs hz (by omega) (by omega) (hm.le (by omega) (by omega)) (fun t4 K4 ua ty r so e4 le4 j4 b4 p4 g4 f4 y4 i4 l4 => ?_) (fun y τ K' e p' w' e1 e2 e3 e4 e5 l => er y τ K' e p' w' (by rw [sJudge_let, e1]; rfl) e2 e3 (e4.wk (fun q z => (hI1 q z).1)) (e5.le (by omega) (by omega)))
  -- the value is judged
  have J4 : jfr R (fun q => I1 q ∨ I2 q) σ t4 := j4.wk (fun q z => Or.inl z)
  have B4 : JB R (cut c I1) L t4 X J sc x := h.mv hM0 j4 hE1 (fun q z => z.1) rfl
  obtain ⟨a1, a2, a3, a4⟩ := J4.at tma hM0 hj0 na
  have r24 := h.rT hM0 j4 hE1 r2 (fun q z => ⟨(hI2 q z).2.2, h.2.2.2.2.2 q (hE2 q z)⟩) (fun z => absurd rfl z)
  have k5 : keep nil0 t4 (gmk 14 2 t4) := keep.rf.mk b4.1.at
  have hs5 : pSc (cut c I1) L (gmk 14 2 t4) sc x := pSc_mv k5.mv k5 (fun _ _ q => q) _ _ B4.2.2.2.1
  have ey5 : scY (gmk 14 2 t4) x = scY t4 x := scY_keep B4.2.2.2.1 k5 (fun _ _ q => q)
  have hy4 := pSc_env B4.2.2.2.1
  have ra : gr (gmk 14 2 t4) a 2 = some xd := by rw [gr_mk (b4.1.ne (by rw [a1]; omega)), a3]; exact h5
  refine ⟨(b4.2.2.2.le (n' := m + rN b * Yc + 7 + 1) (s' := s + rN b * Ys + 38 + 2) (by omega) (by omega)).gr b4.1, c_of (by omega) hs5 (onR_ret (fun _ => ?_))⟩
  rw [ey5, ra]
  refine c_clo (by omega) b4.1 (fun t10 k10 z10 g10 m10 c1 c2 c3 _ => ?_)
  have l10 : gle t4 t10 := ⟨⟨by omega, by omega⟩, fun q hq => (k10 q hq id).1⟩
  have j10 : jfr R nil0 t4 t10 := jfr.N k10 l10 B4.1
  have B10 : JB R (cut c I1) L t10 X J sc x := B4.mv b4.2.1 j10 (fun _ z => z.elim) (fun _ z => z) rfl
  have b10 : MB G R t10 X K4 0 (m + rN b * Yc + 7) (s + rN b * Ys + 38) := (b4.le (n' := m + rN b * Yc + 7 + 1) (s' := s + rN b * Ys + 38 + 2) (by omega) (by omega)).new k10 z10 g10 m10
  have J10 : jfr R (fun q => I1 q ∨ I2 q) σ t10 := J4.tr j10 (fun _ z => z) (fun _ z => z.elim)
  have v10 : mv (cut c I1) (cut c I1) L L t4 t10 := k10.mv
  obtain ⟨d1, d2, d3, d4⟩ := J10.at tma hM0 hj0 na
  rw [d3, h6]
  have nq : gk t10 (gn t10) = 0 := z10.at
  have k12 : keep nil0 t10 (gmk 15 5 t10) := keep.rf.mk nq
  have v12 : mv (cut c I1) (cut c I1) L L t10 (gmk 15 5 t10) := k12.mv
  have n3 : R 3 ≠ gn t10 := z10.ne (by rw [B10.1.1.1]; omega)
  obtain ⟨⟨tya, f41, f42⟩, f43, f44⟩ := f4
  have R3 := k10 (R 3) (by rw [B4.1.1.1]; omega) id
  have w1 : gr (gmk 15 5 t10) (R 3) 3 = some tya := by rw [gr_mk n3, R3.2.2.1]; exact f41
  have w2 : gr (gmk 15 5 t10) (R 3) 4 = gr t4 (R 3) 4 := by rw [gr_mk n3, R3.2.2.1]
  have w3 : gi (gmk 15 5 t10) (R 3) 5 = iI so := by rw [gi_mk n3, R3.2.1]; exact f44
  have t15 : gk (gmk 15 5 t10) (gn t10) = 15 := gk_new (n := 5) nq
  refine ⟨(b10.2.2.2.le (n' := m + rN b * Yc + 6 + 1) (s' := s + rN b * Ys + 33 + 5) (by omega) (by omega)).gr z10, ?_⟩
  rw [w1, w2, w3]
  have b12 : MB G R (gmk 15 5 t10) X K4 0 (m + rN b * Yc + 5 + 1) (s + rN b * Ys + 30 + 3) := (b10.le (n' := m + rN b * Yc + 6 + 1) (s' := s + rN b * Ys + 33 + 5) (by omega) (by omega)).mk
  have l12 : gle t10 (gmk 15 5 t10) := gle.mk z10
  have hcl : pV (cut c I1) L (gmk 15 5 t10) (vClo ua (scEnv sc)) false (some (gn t4)) := pV_mv v12 _ _ _ (pV_pH c1 ⟨⟨xd, c2, pT_mv v10 _ _ _ p4⟩, by rw [c3]; exact pV_mv v10 _ _ _ hy4⟩)
  refine c_scope (σ0 := t10) (c := cut c I1) (L := L) (sc := sc) (v := vClo ua (scEnv sc)) (t := ty) (r := r) (so := so) (by omega) t15 hcl (pT_mv v12 _ _ _ (pT_mv v10 _ _ _ f42)) (pV_mv v12 _ _ _ (pV_mv v10 _ _ _ f43)) B10.2.2.2.1 nq k12 (b12.2.1.no t15 (by omega) (by omega) (Or.inl (by omega))) b12 (fun t14 k14 b14 s14 g14 l14 => ?_)
  have kk14 : keep nil0 t10 t14 := k12.tr (k14 : keep (fun q => q = gn t10) _ _) (fun q hq z => by subst z; exact hq nq)
  have l14' : gle t10 t14 := l12.tr l14
  have j14 : jfr R nil0 t10 t14 := jfr.N kk14 l14' B10.1
  have J14 : jfr R (fun q => I1 q ∨ I2 q) σ t14 := J10.tr j14 (fun _ z => z) (fun _ z => z.elim)
  have B14o : JB R (cut c I1) L t14 X J sc x := B10.mv b10.2.1 j14 (fun _ z => z.elim) (fun _ z => z) rfl
  have r214 := B10.rT b10.2.1 j14 (fun _ z => z.elim) (B4.rT b4.2.1 j10 (fun _ z => z.elim) r24 (fun q z => ⟨id, tI2 l4 q z⟩) (fun z => absurd rfl z)) (fun q z => ⟨id, tI2 J10.2.2 q z⟩) (fun z => absurd rfl z)
  have B14 : JB R (cut c I1) L t14 X J ((vClo ua (scEnv sc), ty, r, so) :: sc) (some (gn t10)) := by
    refine ⟨B14o.1, B14o.2.1, B14o.2.2.1, s14, ⟨fun i q hq => ?_, B14o.2.2.2.2.1.2⟩, B14o.2.2.2.2.2⟩
    obtain ⟨⟨h1, h2⟩, h3, h4⟩ := B14o.2.2.2.2.1.1 i q hq
    refine ⟨⟨by show i < sc.length + 1; omega, ?_⟩, h3, h4⟩
    show (lsh (.append (vClo ua (scEnv sc)) (scEnv sc)))[sc.length + 1 - 1 - i]? = some true
    rw [lsh_oth (fun i q => by cases q)]
    have e9 : sc.length + 1 - 1 - i = (sc.length - 1 - i) + 1 := by omega
    rw [e9]; exact h2
  have hw : gSc c.ns (z + rB d) ((vClo ua (scEnv sc), ty, r, so) :: sc) := ⟨⟨by rw [scEnv_shp sc hs]; exact g4, hgV⟩, (fun q => by cases q), y4, hs.le (by omega)⟩
  have sub2 : ∀ q, I2 q → (cut c I1).E q := fun q z => ⟨hE2 q z, (hI2 q z).2.2⟩
  have v14 : mv (cut c I1) (cut c I1) L L t10 t14 := kk14.mv
  refine ih (l' + 2) (by omega) (cut c I1) b xb I2 ((vClo ua (scEnv sc), ty, r, so) :: sc) (some (gn t10)) K4 t14 (m + 5) (s + 30) (z + rB d) L _ hJN r214 hg2 sub2 B14 hw (fun k hk => by have := hz k hk; omega) (by omega) (by show sc.length + 1 + n ≤ 300; omega) (b14.le (by omega) (by omega)) (fun t16 K16 ub cty cr cso e16 le16 j16 b16 p16 g16 f16 y16 i16 l16 => ?_) (fun y' τ K' e p' w' e1 e2 e3 e4' e5 l => er y' τ K' e p' w' (by rw [sJudge_let, e4]; show jBind (sJudge X J n b _ K4) _ = _; rw [e1]; rfl) (by omega) e3 ((J14.tr e4' (fun _ z => z) (fun _ z => Or.inr z)).wk hI12) (e5.le (by omega) (by omega)))
  -- the body is judged
  have J16 : jfr R (fun q => I1 q ∨ I2 q) σ t16 := J14.tr j16 (fun _ z => z) (fun _ z => Or.inr z)
  have B16 : JB R (cut c I) L t16 X J sc x := h.mv hM0 (J16.wk hI12) hI (fun q z => z.1) rfl
  have v16 : mv (cut c I1) (cut (cut c I1) I2) L L t14 t16 := B14.mvc b14.2.1 j16 sub2 (fun _ z => z.1) rfl
  have vE : mv (cut (cut c I1) I2) (cut c I) L L t16 t16 := mv_keepE (W := nil0) keep.rf (fun _ z => z.elim) (fun q _ hn hc => hn ⟨⟨hc.1, fun z => hc.2 (hI1 q z).1⟩, fun z => hc.2 (hI2 q z).1⟩) rfl
  have eS : sJudge X J (n + 1) (.tag f (.tag p (.group (.append d b) .allOrNone))) sc K = (K16, .ok (.tag 1 (.append ua ub), if sc.length < vlen cr then (.group cty .fill, scEnv sc, cso) else (cty, cr, cso))) := by
    rw [sJudge_let, e4]; show jBind (sJudge X J n b _ K4) _ = _; rw [e16]; rfl
  obtain ⟨⟨cta, q1, q2⟩, q3, q4⟩ := f16
  have q2' := pT_mv vE _ _ _ q2
  have q3' := pV_mv vE _ _ _ q3
  have qa := pT_mv vE _ _ _ (pT_mv v16 _ _ _ (pT_mv v14 _ _ _ (pT_mv v10 _ _ _ p4)))
  have qb := pT_mv vE _ _ _ p16
  obtain ⟨mm, hcr⟩ := y16.1
  have vl : vlen cr = sc.length + 1 - mm := by rw [hcr, vlen_drop, scEnv_len]; rfl
  refine c_of (by omega) B16.2.2.2.1 (onR_ret (fun _ => c_depth (by omega) q3' (fun _ => c_depth (by omega) (pSc_env B16.2.2.2.1) (fun _ => ?_))))
  rw [scEnv_len]
  refine ⟨fun hle => ?_, fun hgt => ?_⟩
  · rw [iI_le (by omega) (by omega) (by omega) (by omega)] at hle
    have hle' : ¬ sc.length < vlen cr := by omega
    rw [if_neg hle'] at eS
    obtain ⟨u1, u2, u3, u4⟩ := J16.at tma hM0 hj0 na
    obtain ⟨mm', rfl⟩ : ∃ mm', mm = mm' + 1 := ⟨mm - 1, by omega⟩
    exact ok t16 K16 _ _ _ _ eS (by omega) (J16.wk hI12) (b16.le (by omega) (by omega)) ⟨u1.trans h1, fun z => z.2 h2, xd, xb, by rw [u3]; exact h5, by rw [u3]; exact h6, qa, qb⟩ ⟨g4, g16⟩ ⟨⟨cta, q1, q2'⟩, q3', q4⟩ ⟨⟨mm', hcr⟩, y16.2.1, y16.2.2.1, y16.2.2.2.1, y16.2.2.2.2.1, by have := y16.2.2.2.2.2; omega⟩ (by rw [u2]; exact h3)
  · rw [iI_le (by omega) (by omega) (by omega) (by omega)] at hgt
    have hgt' : sc.length < vlen cr := by omega
    rw [if_pos hgt'] at eS
    have mm0 : mm = 0 := by omega
    subst mm0
    refine ⟨(b16.2.2.2.le (n' := m + 4 + 1) (s' := s + 27 + 3) (by omega) (by omega)).gr b16.1, ?_⟩
    have n0 : gk t16 (gn t16) = 0 := b16.1.at
    have t20 : gk (gmk 20 3 t16) (gn t16) = 20 := gk_new (n := 3) n0
    have n36 : R 3 ≠ gn t16 := b16.1.ne (by rw [B16.1.1.1]; omega)
    rw [gr_mk n36, q1]
    refine tX22_init (tX9_init ⟨⟨19, by decide, t20⟩, fun _ => ⟨t20, fun _ => ?_⟩⟩)
    have k26 : keep nil0 t16 (gpr (gn t16) 2 (some cta) (gpi (gn t16) 1 (iI (-1)) (gpi (gn t16) 0 (iI (-1)) (gmk 20 3 t16)))) := (((keep.rf.mk n0).pi (fun q => absurd n0 q)).pi (fun q => absurd n0 q)).pr (fun q => absurd n0 q)
    have b26 : MB G R (gpr (gn t16) 2 (some cta) (gpi (gn t16) 1 (iI (-1)) (gpi (gn t16) 0 (iI (-1)) (gmk 20 3 t16)))) X K16 0 (m + 4) (s + 27) := (b16.le (n' := m + 4 + 1) (s' := s + 27 + 3) (by omega) (by omega)).new k26 (gz.mk b16.1) rfl rfl
    have s1 : gk (gpr (gn t16) 2 (some cta) (gpi (gn t16) 1 (iI (-1)) (gpi (gn t16) 0 (iI (-1)) (gmk 20 3 t16)))) (gn t16) = 20 := t20
    have s2 : gr (gpr (gn t16) 2 (some cta) (gpi (gn t16) 1 (iI (-1)) (gpi (gn t16) 0 (iI (-1)) (gmk 20 3 t16)))) (gn t16) 2 = some cta := by rw [gr_pr, if_pos ⟨rfl, rfl⟩]
    have gl26 : gle t16 (gpr (gn t16) 2 (some cta) (gpi (gn t16) 1 (iI (-1)) (gpi (gn t16) 0 (iI (-1)) (gmk 20 3 t16)))) := gle.mk b16.1
    generalize gpr (gn t16) 2 (some cta) (gpi (gn t16) 1 (iI (-1)) (gpi (gn t16) 0 (iI (-1)) (gmk 20 3 t16))) = t26 at *
    have j26 : jfr R nil0 t16 t26 := jfr.N k26 gl26 B16.1
    have B26 : JB R (cut c I) L t26 X J sc x := B16.mv b16.2.1 j26 (fun _ z => z.elim) (fun _ z => z) rfl
    have v26 : mv (cut c I) (cut c I) L L t16 t26 := k26.mv
    have J26 : jfr R (fun q => I1 q ∨ I2 q) σ t26 := J16.tr j26 (fun _ z => z) (fun _ z => z.elim)
    have nE : ¬ (cut c I).E (gn t16) := fun z => by have := B16.lt b16.1 _ z; omega
    have q5 : gi t26 (R 3) 5 = iI cso := by rw [(k26 (R 3) (by rw [B16.1.1.1]; omega) id).2.1]; exact q4
    have ey : scY t16 x = scY t26 x := (scY_keep B16.2.2.2.1 k26 (fun _ _ q => q)).symm
    rw [q5, ey]
    refine c_is (c := cut c I) (L := L) (t := .group cty .fill) (r := scEnv sc) (so := cso) (by omega) B26.1.1.1 (B26.1.nM b26.2.1) (by rw [pT_snk]; exact ⟨s1, nE, cta, s2, pT_mv v26 _ _ _ q2'⟩) (pSc_env B26.2.2.2.1) b26 (fun τ kF bF fF gF lF => ?_)
    have jF : jfr R (fun q => I1 q ∨ I2 q) σ τ := J26.t2 (jfr.is kF gF lF)
    have vF : mv (cut c I) (cut c I) L L t26 τ := mv_keep kF (fun q z => by subst z; exact Or.inr (Or.inr (Or.inl (Or.inl B26.1.1.1))))
    obtain ⟨u1, u2, u3, u4⟩ := jF.at tma hM0 hj0 na
    refine ok τ K16 _ _ _ _ eS (by omega) (jF.wk hI12) (bF.le (by omega) (by omega)) ⟨u1.trans h1, fun z => z.2 h2, xd, xb, by rw [u3]; exact h5, by rw [u3]; exact h6, pT_mv vF _ _ _ (pT_mv v26 _ _ _ qa), pT_mv vF _ _ _ (pT_mv v26 _ _ _ qb)⟩ ⟨g4, g16⟩ fF ⟨⟨0, rfl⟩, ?_, hgV, y16.2.2.2.1, y16.2.2.2.2.1, ?_⟩ (by rw [u2]; exact h3)
    · rw [gT_snk]
      refine ⟨rfl, ?_⟩
      have e1 := y16.2.1
      rw [hcr] at e1
      have e2 : lsh (vdrop 0 (scEnv ((vClo ua (scEnv sc), ty, r, so) :: sc))) = false :: lsh (scEnv sc) := lsh_oth (fun i q => by cases q)
      rw [e2] at e1
      exact e1
    · rw [sw_snk]
      have := y16.2.2.2.2.2
      omega
end PJLE
