/-! P OVER S (30): judging: use -/
section PJU
variable {G : GPl} {s0 : State} {l : Launch} {KK : Nat → Option Nat} {T : Nat → Nat} {lev d : Nat} {Q : Outcome → GSt → Prop} {R : Nat → Nat} {σ τ υ st0 : GSt} {X : SX} {J : JX} {K K' : KS} {w n s o z m Z Yc Ys : Nat} {c c' : PC} {L L' : Nat → Nat → Prop} {W I I' I1 I2 : Nat → Prop} {sc : SC} {gg : List Bool} {TN : Nat → List Nat} {x : Option Nat}
theorem jParts_nf {at_ : Int} {jd : V → KS → JR JA} {p ps : V} {a : JA} (h : ∀ q d b, (sUnw a.2.1 a.2.2.1).1 ≠ .tag q (.group (.append d b) .fill)) : jParts X at_ sc jd (.append p ps) a K = (K, .error (10, at_)) := by
  rw [jParts]
  generalize sUnw a.2.1 a.2.2.1 = u at h
  obtain ⟨u1, u2⟩ := u
  split
  · rename_i q d b r e; cases e; exact absurd rfl (h q d b)
  · rfl
theorem jParts_go {at_ : Int} {jd : V → KS → JR JA} {p ps d b r : V} {q : Nat} {a : JA} (h : sUnw a.2.1 a.2.2.1 = (.tag q (.group (.append d b) .fill), r)) : jParts X at_ sc jd (.append p ps) a K = jBind (jd p K) fun c K => jBind (jOf (sSame X 100 (vClo d r) (vClo (sUnw c.2.1 c.2.2.1).1 (sUnw c.2.1 c.2.2.1).2) K)) fun same K =>
      if same then jBind (jOf (sNorm X 100 sc.length (vClo b (.append (vClo c.1 (scEnv sc)) r)) K)) fun t K =>
        jBind (jParts X at_ sc jd ps (a.1, t, scEnv sc, ((q % 8 : Nat) : Int)) K) fun z K => (K, .ok (.append c.1 z.1, z.2))
      else (K, .error (11, jFrom p)) := by
  rw [jParts, h]
theorem pT_9 {t : V} {a : Nat} (h : pT c σ t a 0) (ha : gk σ a = 9) : ∃ p d b, t = .tag p (.group (.append d b) .fill) := by
  unfold pT at h
  split at h
  · omega
  · omega
  · omega
  · omega
  · omega
  · omega
  · exact ⟨_, _, _, rfl⟩
  · omega
  · omega
  · omega
  · omega
  · exact h.elim
theorem pT_n9 {t : V} {a : Nat} (h : pT c σ t a 0) (ha : gk σ a ≠ 9) : ∀ p d b, t ≠ .tag p (.group (.append d b) .fill) := by
  rintro p d b rfl
  rw [pT_prod] at h
  exact ha h.1
theorem rT_tag {t : V} {a : Nat} (h : rT R TN σ t a 0 I) : (gk σ a = 8 ∨ gk σ a = 9 ∨ gk σ a = 10 ∨ gk σ a = 11 ∨ gk σ a = 12 ∨ gk σ a = 13) ∧ I a := by
  unfold rT at h
  split at h
  · exact ⟨by have := h.1; omega, h.2.1⟩
  · exact ⟨by have := h.1; omega, h.2.1⟩
  · exact ⟨by have := h.1; omega, h.2.1⟩
  · exact ⟨by have := h.1; omega, h.2.1⟩
  · exact ⟨by have := h.1; omega, h.2.1⟩
  · exact ⟨by have := h.1; omega, h.2.1⟩
  · omega
  · omega
  · exact h.elim
theorem gT_prod {p : Nat} {d b : V} {y : Bool} {g : List Bool} : gT (.tag p (.group (.append d b) .fill)) y g = (gT d false g ∧ gT b y (true :: g)) := by rcases p with _ | _ | _ | p <;> rfl
theorem sw_prod {p : Nat} {d b : V} : sw (.tag p (.group (.append d b) .fill)) = sw b := by rcases p with _ | _ | _ | p <;> rfl
theorem sw_unw : ∀ (k : Nat) (t r : V), SizeOf.sizeOf t < k → sw (sUnw t r).1 ≤ sw t := by
  intro k
  induction k with
  | zero => intro t r h; omega
  | succ k ih =>
    intro t r h
    by_cases h1 : ∃ m t', t = .group (.tag m t') .allOrNone
    · obtain ⟨m, t', rfl⟩ := h1
      rw [sUnw_lft]
      exact ih t' _ (by simp at h; omega)
    · by_cases h2 : ∃ t', t = .group t' .fill
      · obtain ⟨t', rfl⟩ := h2
        rw [sUnw_snk, sw_snk]
        have := ih t' (.append .line r) (by simp at h; omega)
        omega
      · rw [sUnw_id (fun m t' q => h1 ⟨m, t', q⟩) (fun t' q => h2 ⟨t', q⟩)]
        exact Nat.le_refl _
theorem jf_mv {t r : V} {so : Int} (h : JF c L R σ t r so) (hv : mv c c' L L' σ τ) (h3 : (∀ j, gr τ (R 3) j = gr σ (R 3) j) ∧ gi τ (R 3) 5 = gi σ (R 3) 5) : JF c' L' R τ t r so := by
  obtain ⟨⟨ty, f1, f2⟩, f3, f4⟩ := h
  exact ⟨⟨ty, (h3.1 3).trans f1, pT_mv hv _ _ _ f2⟩, by rw [h3.1]; exact pV_mv hv _ _ _ f3, h3.2.trans f4⟩
theorem c_jparts {a al zr nn pl zz : Nat} (ih : ∀ lev, 3 * n + 330 ≤ lev → CJ G s0 l KK T R X J TN Z Yc Ys lev n) (hYc : 12 + 4 * Z ≤ Yc) (hYs : 64 + 12 * Z ≤ Ys) (hl : 3 * n + 331 ≤ lev) (hd : sc.length + (n + 1) ≤ 300) (hnn : nn ≤ 60000) (hzz : zz ≤ Z) : ∀ (ps : V) (k : Nat) (c : PC) (I : Nat → Prop) (fu ty r : V) (so : Int) (K : KS) (σ : GSt), gSc c.ns z sc → (∀ k, k < c.nc → sw (J.ct k) ≤ z) → JN c X J TN → rT R TN σ ps zr (k + 1) I → rG ps 1 sc.length n → (∀ q, I q → c.E q) → JB R c L σ X J sc x → JF c L R σ ty r so → tyG c.ns zz (scEnv sc) ty r so →
    (gk σ a = 13 ∧ ¬ c.E a ∧ gi σ a 0 = iI (pl : Int) ∧ gr σ a 3 = some al) → (gk σ al = 22 ∧ ¬ c.E al ∧ gr σ al 1 = some zr ∧ gi σ al 2 = iI (nn : Int)) → (gk σ zr = 103 ∧ ¬ c.E zr ∧ nn ≤ gl σ zr) → k + vlen ps = nn → z + rB ps ≤ Z → MB G R σ X K 0 (m + rN ps * Yc) (s + rN ps * Ys) →
    (∀ τ K' ps' ty' r' so', jParts X pl sc (fun q K => sJudge X J n q sc K) ps (fu, ty, r, so) K = (K', .ok (ps', (fu, ty', r', so'))) → K.life ≤ K'.life → jfr R I σ τ → MB G R τ X K' 0 m s → pT (cut c I) τ ps' zr (k + 1) → gT ps' false (List.replicate sc.length true) → vlen ps' = vlen ps → JF (cut c I) L R τ ty' r' so' → tyG c.ns zz (scEnv sc) ty' r' so' → Q (.returned none) τ) →
    (∀ y τ K' e p' w', jParts X pl sc (fun q K => sJudge X J n q sc K) ps (fu, ty, r, so) K = (K', .error (e, p')) → K.life ≤ K'.life → flt τ y e p' → jfr R I σ τ → MB G R τ X K' w' m s → Q (.threw y) τ) → jX4_use_11 G s0 l KK T lev st0 Q (R 3) (some a) x (iI (k : Int)) σ := by
  obtain ⟨l', rfl⟩ : ∃ l', lev = l' + 3 := ⟨lev - 3, by omega⟩
  intro ps
  induction ps with
  | nil =>
    intro k c I fu ty r so K σ hs hz hJN hr hg hI h hf hy ha hal hzr hk hZ hm ok er
    refine tX4_use_11 ⟨a, rfl, ha.1, al, ha.2.2.2, hal.1, tJ2_size ⟨hal.1, fun _ => ⟨fun _ => ?_, fun q => ?_⟩⟩⟩
    · have hv : mv c (cut c I) L L σ σ := h.mvc hm.2.1 jfr.rf hI (fun q z => z.1) rfl
      exact ok σ K .nil ty r so rfl (Nat.le_refl _) jfr.rf (hm.le (by omega) (by omega)) trivial trivial rfl (jf_mv hf hv ⟨fun _ => rfl, rfl⟩) hy
    · have hk' : k + 0 = nn := hk
      rw [hal.2.2.2, iI_le (by omega) (by omega) (by omega) (by omega)] at q
      omega
  | append p ps _ ihp =>
    intro k c I fu ty r so K σ hs hz hJN hr hg hI h hf hy ha hal hzr hk hZ hm ok er
    obtain ⟨b, Ip, Ir, hb, hIp, hIr, r1, r2⟩ := hr
    have hk' : k + (vlen ps + 1) = nn := hk
    have hZ' : z + (rB p + rB ps) ≤ Z := hZ
    have hm' : MB G R σ X K 0 (m + (rN p + rN ps + 1) * Yc) (s + (rN p + rN ps + 1) * Ys) := hm
    rw [mulY, mulY] at hm'
    have hM0 := hm.2.1
    have hEp : ∀ q, Ip q → c.E q := fun q z => hI q (hIp q z)
    have hEr : ∀ q, Ir q → c.E q := fun q z => hI q (hIr q z).1
    have hsw : sw ty ≤ Z := Nat.le_trans hy.2.2.2.2.2 hzz
    refine tX4_use_11 ⟨a, rfl, ha.1, al, ha.2.2.2, hal.1, tJ2_size ⟨hal.1, fun _ => ⟨fun q => ?_, fun _ => ⟨h.1.1.1, ?_⟩⟩⟩⟩
    · rw [hal.2.2.2, iI_le (by omega) (by omega) (by omega) (by omega)] at q
      omega
    have hf0 := hf
    obtain ⟨⟨tya, f1, f2⟩, f3, f4⟩ := hf
    refine c_found (c := c) (L := L) (n := m + rN p * Yc + rN ps * Yc + 11 + 3 * Z) (s := s + rN p * Ys + rN ps * Ys + 62 + 9 * Z) (by omega) h.1.1.1 f1 f2 f3 hy.sh hy.2.2.1 (hm'.le (by omega) (by omega)) (fun t8 q k8 b8 v8 g8 v8' l8 => ?_)
    have hswu := sw_unw (SizeOf.sizeOf ty + 1) ty r (Nat.lt_succ_self _)
    obtain ⟨h14, hH⟩ := pH_pV v8
    obtain ⟨⟨a12, a121, a122⟩, hEv⟩ := hH
    have j8 : jfr R nil0 σ t8 := jfr.N k8 l8 h.1
    have B8 : JB R c L t8 X J sc x := h.mv hM0 j8 (fun _ z => z.elim) (fun _ z => z) rfl
    have m8 : mv c c L L σ t8 := k8.mv
    obtain ⟨A1, A2, A3, A4⟩ := m8.ct ha.1 ha.2.1 rfl
    obtain ⟨C1, C2, C3, C4⟩ := m8.ct hal.1 hal.2.1 rfl
    obtain ⟨D1, D2, D3, D4⟩ := m8.ct hzr.1 hzr.2.1 rfl
    refine ⟨q, rfl, h14, a12, a121, pT_tm a122, fun i9 => ?_, fun n9 => ?_⟩
    rotate_left
    · -- no function
      have b8' : MB G R t8 X K 0 (m + 1) (s + 8) := b8.le (by omega) (by omega)
      refine ⟨b8'.2.2.2.gr b8.1, ?_⟩
      rw [gi_mk (b8.1.ne (by rw [A1]; omega)), A2, ha.2.2.1]
      refine c_flt (e := 10) (p := (pl : Int)) (by omega) b8.1 (fun τ t1 t2 t3 t4' t5 _ => ?_)
      have lf : gle t8 τ := ⟨⟨by omega, by omega⟩, fun q hq => (t1 q hq id).1⟩
      exact er _ τ K 10 pl 0 (jParts_nf (pT_n9 a122 (fun z => n9 ⟨a12, a121, z⟩))) (Nat.le_refl _) t5 ((j8.t2 (jfr.N t1 lf B8.1)).wk (fun _ z => z.elim)) (b8'.new t1 t2 t3 t4')
    have t9 : gk t8 a12 = 9 := i9.tag a121
    obtain ⟨pq, dx, bx, eu⟩ := pT_9 a122 t9
    generalize hur : (sUnw ty r).2 = ur at *
    generalize hut : (sUnw ty r).1 = ut at *
    subst eu
    have eU : sUnw ty r = (.tag pq (.group (.append dx bx) .fill), ur) := by rw [← hut, ← hur]
    rw [gT_prod] at g8
    rw [sw_prod] at hswu b8
    refine ⟨al, by rw [A3]; exact ha.2.2.2, C1, c_get (z := zr) (len := nn) (by omega) C1 (by rw [C3]; exact hal.2.2.1) D1 (by rw [C2]; exact hal.2.2.2) (by omega) (by rw [D4]; exact hzr.2.2) (by omega) (onR_ret (fun _ => ?_))⟩
    have eb : gr t8 zr k = some b := by rw [D3]; exact hb
    rw [eb]
    have tIr : ∀ {τ : GSt}, gle σ τ → ∀ q, Ir q → tmt (gk τ q) = true := fun hg q z => by
      have := h.2.2.2.2.2 q (hEr q z)
      rw [hg.2 q (tmt_ne this).1]; exact this
    have tIp : ∀ q, Ip q → tmt (gk σ q) = true := fun q z => h.2.2.2.2.2 q (hEp q z)
    have r18 := h.rT hM0 j8 (fun _ z => z.elim) r1 (fun q z => ⟨id, tIp q z⟩) (fun z => absurd rfl z)
    have r28 := h.rT hM0 j8 (fun _ z => z.elim) r2 (fun q z => ⟨id, tIr gle.rf q z⟩) (fun _ => ⟨by rw [hzr.1]; rfl, id⟩)
    have tb := rT_tag r18
    refine ⟨Or.inr ⟨b, rfl, by simp; omega⟩, ?_⟩
    have b8' : MB G R t8 X K 0 (m + rN ps * Yc + 11 + 3 * Z + rN p * Yc) (s + rN ps * Ys + 62 + 9 * Z + rN p * Ys) := b8.le (by omega) (by omega)
    refine ih (l' + 3) (by omega) c p b Ip sc x K t8 _ _ z L _ hJN r18 hg.1 hEp B8 hs hz (by omega) (by omega) b8' (fun t21 K21 cu cty cr cso e21 le21 j21 b21 p21 g21 f21 y21 i21 l21 => ?_) (fun y τ K' e p' w' e1 e2 e3 e4 e5 l => er y τ K' e p' w' (by rw [jParts_go eU, e1]; rfl) e2 e3 (j8.tr e4 (fun _ z => z.elim) hIp) (e5.le (by omega) (by omega)))
    -- the part is judged
    have B21 : JB R (cut c Ip) L t21 X J sc x := B8.mv b8.2.1 j21 hEp (fun _ z => z.1) rfl
    have m21 : mv c (cut c Ip) L L t8 t21 := B8.mvc b8.2.1 j21 hEp (fun _ z => z.1) rfl
    have J21 : jfr R I σ t21 := j8.tr j21 (fun _ z => z.elim) hIp
    have v21 := pV_mv m21 _ _ _ v8
    have hswc : sw cty ≤ Z := by have := y21.2.2.2.2.2; omega
    refine c_dom (c := cut c Ip) (L := L) (n := m + rN ps * Yc + 10 + 3 * Z) (s := s + rN ps * Ys + 60 + 9 * Z) (by omega) (b21.le (by omega) (by omega)) v21 sBinds_prod (fun t23 k23 b23 v23 g23 l23 => ?_)
    have j23 : jfr R nil0 t21 t23 := jfr.N k23 l23 B21.1
    have B23 : JB R (cut c Ip) L t23 X J sc x := B21.mv b21.2.1 j23 (fun _ z => z.elim) (fun _ z => z) rfl
    have m23 : mv (cut c Ip) (cut c Ip) L L t21 t23 := k23.mv
    obtain ⟨K1, K2, K3, K4⟩ := k23 (R 3) (by rw [B21.1.1.1]; omega) id
    have f23 := jf_mv f21 m23 ⟨K3, K2 5⟩
    obtain ⟨⟨cta, q1, q2⟩, q3, q4⟩ := f23
    refine c_found (c := cut c Ip) (L := L) (n := m + rN ps * Yc + 9 + 2 * Z) (s := s + rN ps * Ys + 58 + 6 * Z) (by omega) B23.1.1.1 q1 q2 q3 y21.sh y21.2.2.1 (b23.le (by omega) (by omega)) (fun t25 qc k25 b25 v25 g25 v25' l25 => ?_)
    have j25 : jfr R nil0 t23 t25 := jfr.N k25 l25 B23.1
    have B25 : JB R (cut c Ip) L t25 X J sc x := B23.mv b23.2.1 j25 (fun _ z => z.elim) (fun _ z => z) rfl
    have m25 : mv (cut c Ip) (cut c Ip) L L t23 t25 := k25.mv
    have sd : swv (vClo dx ur) = 0 := sw_false _ _ g8.1
    have sc2 : swv (vClo (sUnw cty cr).1 (sUnw cty cr).2) = sw (sUnw cty cr).1 := rfl
    refine ⟨R 2, B21.1.1.2.2.1, b25.2.1.1.1, ?_⟩
    refine c_same (G := G) (s0 := s0) (l := l) (KK := KK) (T := T) (R := R) (X := X) (c := cut c Ip) 100 0 (l' + 3) rfl (by omega) (vClo dx ur) (vClo (sUnw cty cr).1 (sUnw cty cr).2) _ _ K21 t25 (m + rN ps * Yc + 8 + 2 * Z) (s + rN ps * Ys + 50 + 6 * Z) L _ (B25.2.2.2.2.1.LF (by omega)) (pV_mv m25 _ _ _ v23) v25 (Or.inr ⟨_, _, rfl, gT_up _ _ _ g8.1, v8'⟩) (Or.inr ⟨_, _, rfl, g25, v25'⟩) B25.2.2.1 (b25.le (by rw [sd, sc2]; omega) (by rw [sd, sc2]; omega)) (fun t29 K29 rb e29 le29 fr29 k29 b29 l29 => ?_) (fun y τ K' e w' e1 e2 e3 e4 e5 l => er y τ K' e (-1) w' (by rw [jParts_go eU, e21]; show jBind (jOf (sSame X 100 (vClo dx ur) (vClo (sUnw cty cr).1 (sUnw cty cr).2) K21)) _ = _; rw [e1]; rfl) (by omega) e3 (J21.tr (j23.t2 (j25.t2 (jfr.M e4 l B25.1 b25.2.1))) (fun _ z => z) (fun _ z => z.elim)) (e5.le (by omega) (by omega)))
    have j29 : jfr R nil0 t25 t29 := jfr.M k29 l29 B25.1 b25.2.1
    have B29 : JB R (cut c Ip) L t29 X J sc x := B25.mv b25.2.1 j29 (fun _ z => z.elim) (fun _ z => z) rfl
    have m29 : mv (cut c Ip) (cut c Ip) L L t25 t29 := B25.mvc b25.2.1 j29 (fun _ z => z.elim) (fun _ z => z) rfl
    have jj29 : jfr R nil0 t21 t29 := j23.t2 (j25.t2 j29)
    have mm29 : mv (cut c Ip) (cut c Ip) L L t21 t29 := B21.mvc b21.2.1 jj29 (fun _ z => z.elim) (fun _ z => z) rfl
    have J29 : jfr R I σ t29 := J21.tr jj29 (fun _ z => z) (fun _ z => z.elim)
    have nEb : ¬ (cut c Ip).E b := fun z => z.2 tb.2
    have tmb : tmt (gk t21 b) = true := by
      have : tmt (gk t8 b) = true := by
        rcases tb.1 with e | e | e | e | e | e <;> rw [e] <;> rfl
      rw [l21.2 b (tmt_ne this).1]; exact this
    have i29 : gi t29 b 1 = iI (jFrom p) := by rw [(jj29.at tmb b21.2.1 B21.1.1.1 id).2.1]; exact i21
    refine ⟨fun r0 => ?_, fun r0 => ?_⟩
    · rw [bI_z] at r0
      subst r0
      have tb29 : isTmA t29 b := (pT_tm p21).le jj29.2.2
      have ne : gk t29 b ≠ 0 := by obtain ⟨k, _, e⟩ := tb29; omega
      refine ⟨(b29.2.2.2.le (n' := m + rN ps * Yc + 8 + 2 * Z + 1) (s' := s + rN ps * Ys + 50 + 6 * Z + 8) (by omega) (by omega)).gr b29.1, b, rfl, tb29.le (gle.mk b29.1), ?_⟩
      rw [gi_mk (b29.1.ne ne), i29]
      refine c_flt (e := 11) (p := jFrom p) (by omega) b29.1 (fun τ t1 t2 t3 t4' t5 _ => ?_)
      have lf : gle t29 τ := ⟨⟨by omega, by omega⟩, fun q hq => (t1 q hq id).1⟩
      exact er _ τ K29 11 (jFrom p) 0 (by rw [jParts_go eU, e21]; show jBind (jOf (sSame X 100 (vClo dx ur) (vClo (sUnw cty cr).1 (sUnw cty cr).2) K21)) _ = _; rw [e29]; rfl) (by omega) t5 (J29.tr (jfr.N (I := nil0) t1 lf B29.1) (fun _ z => z) (fun _ z => z.elim)) (((b29.le (n' := m + rN ps * Yc + 8 + 2 * Z + 1) (s' := s + rN ps * Ys + 50 + 6 * Z + 8) (by omega) (by omega)).new t1 t2 t3 t4').le (by omega) (by omega))
    · have r1' : rb = true := by cases rb; exact absurd rfl (fun q => r0 (bI_z.mpr q)); rfl
      subst r1'
      have hY29 := pSc_env B29.2.2.2.1
      refine c_of (by omega) B29.2.2.2.1 (onR_ret (fun _ => ⟨(b29.2.2.2.le (n' := m + rN ps * Yc + 8 + 2 * Z + 1) (s' := s + rN ps * Ys + 56 + 6 * Z + 2) (by omega) (by omega)).gr b29.1, ?_⟩))
      generalize scY t29 x = ye at hY29
      refine c_clo (by omega) b29.1 (fun t35 k35 z35 g35 m35 c1 c2 c3 _ => ?_)
      have l35 : gle t29 t35 := ⟨⟨by omega, by omega⟩, fun q hq => (k35 q hq id).1⟩
      have j35 : jfr R nil0 t29 t35 := jfr.N k35 l35 B29.1
      have b35 : MB G R t35 X K29 0 (m + rN ps * Yc + 8 + 2 * Z) (s + rN ps * Ys + 56 + 6 * Z) := (b29.le (n' := m + rN ps * Yc + 8 + 2 * Z + 1) (s' := s + rN ps * Ys + 56 + 6 * Z + 2) (by omega) (by omega)).new k35 z35 g35 m35
      have B35 : JB R (cut c Ip) L t35 X J sc x := B29.mv b29.2.1 j35 (fun _ z => z.elim) (fun _ z => z) rfl
      have v35 : mv (cut c Ip) (cut c Ip) L L t29 t35 := k35.mv
      have mm35 : mv (cut c Ip) (cut c Ip) L L t21 t35 := B21.mvc b21.2.1 (jj29.t2 j35) (fun _ z => z.elim) (fun _ z => z) rfl
      have hcl : pV (cut c Ip) L t35 (vClo cu (scEnv sc)) false (some (gn t29)) := pV_pH c1 ⟨⟨b, c2, pT_mv mm35 _ _ _ p21⟩, by rw [c3]; exact pV_mv v35 _ _ _ hY29⟩
      refine c_body (c := cut c Ip) (L := L) (n := m + rN ps * Yc + 6 + 2 * Z) (s := s + rN ps * Ys + 51 + 6 * Z) (by omega) (b35.le (by omega) (by omega)) (pV_mv mm35 _ _ _ v21) sBinds_prod hcl (fun t37 k37 b37 v37 g37 l37 => ?_)
      have j37 : jfr R nil0 t35 t37 := jfr.N k37 l37 B35.1
      have B37 : JB R (cut c Ip) L t37 X J sc x := B35.mv b35.2.1 j37 (fun _ z => z.elim) (fun _ z => z) rfl
      have v37' : mv (cut c Ip) (cut c Ip) L L t35 t37 := k37.mv
      have jj37 : jfr R nil0 t21 t37 := jj29.t2 (j35.t2 j37)
      have J37 : jfr R I σ t37 := J21.tr jj37 (fun _ z => z) (fun _ z => z.elim)
      refine c_depth (by omega) (pV_mv v37' _ _ _ (pV_mv v35 _ _ _ hY29)) (fun _ => ⟨R 2, B29.1.1.2.2.1, b37.2.1.1.1, ?_⟩)
      rw [scEnv_len]
      have hgV := scEnv_gV sc hs
      have sb : swv (vClo bx (.append (vClo cu (scEnv sc)) ur)) = sw bx := rfl
      refine c_norm (G := G) (s0 := s0) (l := l) (KK := KK) (T := T) (R := R) (X := X) 100 0 (l' + 3) rfl (by omega) (cut c Ip) (vClo bx (.append (vClo cu (scEnv sc)) ur)) (gn t35) sc.length (lsh (scEnv sc)) K29 t37 (m + rN ps * Yc + 5 + Z) (s + rN ps * Ys + 43 + 3 * Z) L _ (B37.lt b37.1) B37.2.2.2.2.1.1 v37 (Or.inr ⟨_, _, rfl, by rw [shp_cons (by simp [vClo])]; exact g8.2, ⟨by rw [scEnv_shp sc hs]; exact g21, hgV⟩, v8'⟩) B37.2.2.1 (by omega) (b37.le (by rw [sb]; omega) (by rw [sb]; omega)) (fun t43 K43 t xt e43 le43 k43 b43 p43 g43 l43 => ?_) (fun y τ K' e w' e1 e2 e3 e4 e5 l => er y τ K' e (-1) w' (by rw [jParts_go eU, e21]; show jBind (jOf (sSame X 100 (vClo dx ur) (vClo (sUnw cty cr).1 (sUnw cty cr).2) K21)) _ = _; rw [e29]; show jBind (jOf (sNorm X 100 sc.length (vClo bx (.append (vClo cu (scEnv sc)) ur)) K29)) _ = _; rw [e1]; rfl) (by omega) e3 (J37.tr (jfr.M (I := nil0) e4 l B37.1 b37.2.1) (fun _ z => z) (fun _ z => z.elim)) (e5.le (by omega) (by omega)))
      have j43 : jfr R nil0 t37 t43 := jfr.M k43 l43 B37.1 b37.2.1
      have B43 : JB R (cut c Ip) L t43 X J sc x := B37.mv b37.2.1 j43 (fun _ z => z.elim) (fun _ z => z) rfl
      have v43 : mv (cut c Ip) (cut c Ip) L L t37 t43 := B37.mvc b37.2.1 j43 (fun _ z => z.elim) (fun _ z => z) rfl
      have jj43 : jfr R nil0 t21 t43 := jj37.t2 j43
      have mm43 : mv (cut c Ip) (cut c Ip) L L t21 t43 := B21.mvc b21.2.1 jj43 (fun _ z => z.elim) (fun _ z => z) rfl
      have pP := pT_mv mm43 _ _ _ (pT_mv m21 _ _ _ a122)
      rw [pT_prod] at pP
      rw [pP.2.2.2.1]
      refine c_is (c := cut c Ip) (L := L) (t := t) (r := scEnv sc) (so := ((pq % 8 : Nat) : Int)) (by omega) B43.1.1.1 (B43.1.nM b43.2.1) p43 (pV_mv v43 _ _ _ (pV_mv v37' _ _ _ (pV_mv v35 _ _ _ hY29))) b43 (fun t45 kF bF fF gF lF => ?_)
      have jF : jfr R nil0 t43 t45 := jfr.is kF gF lF
      have jj45 : jfr R nil0 t21 t45 := jj43.t2 jF
      have B45 : JB R (cut c Ip) L t45 X J sc x := B21.mv b21.2.1 jj45 (fun _ z => z.elim) (fun _ z => z) rfl
      have mm45 : mv (cut c Ip) (cut c Ip) L L t21 t45 := B21.mvc b21.2.1 jj45 (fun _ z => z.elim) (fun _ z => z) rfl
      have J45 : jfr R Ip σ t45 := (j8.tr j21 (fun _ z => z.elim) (fun _ z => z)).tr jj45 (fun _ z => z) (fun _ z => z.elim)
      have M45 : mv c (cut c Ip) L L σ t45 := h.mvc hM0 J45 hEp (fun _ z => z.1) rfl
      have r245 := h.rT hM0 J45 hEp r2 (fun q z => ⟨(hIr q z).2, tIr gle.rf q z⟩) (fun _ => ⟨by rw [hzr.1]; rfl, fun z => hzr.2.1 (hEp _ z)⟩)
      obtain ⟨A1, A2, A3, A4⟩ := M45.ct ha.1 ha.2.1 rfl
      obtain ⟨C1, C2, C3, C4⟩ := M45.ct hal.1 hal.2.1 rfl
      obtain ⟨D1, D2, D3, D4⟩ := M45.ct hzr.1 hzr.2.1 rfl
      rw [iI_suc]
      have eQ : ∀ (F : KS × Except (Nat × Int) (V × JA)), jParts X pl sc (fun q K => sJudge X J n q sc K) ps (fu, t, scEnv sc, ((pq % 8 : Nat) : Int)) K43 = F → jParts X pl sc (fun q K => sJudge X J n q sc K) (.append p ps) (fu, ty, r, so) K = jBind F (fun z K => (K, .ok (.append cu z.1, z.2))) := fun F hF => by
        rw [jParts_go eU, e21]; show jBind (jOf (sSame X 100 (vClo dx ur) (vClo (sUnw cty cr).1 (sUnw cty cr).2) K21)) _ = _; rw [e29]; show jBind (jOf (sNorm X 100 sc.length (vClo bx (.append (vClo cu (scEnv sc)) ur)) K29)) _ = _; rw [e43]
        show jBind (jParts X pl sc (fun q K => sJudge X J n q sc K) ps (fu, t, scEnv sc, ((pq % 8 : Nat) : Int)) K43) _ = _
        rw [hF]
      have subr : ∀ q, Ir q → (cut c Ip).E q := fun q z => ⟨hEr q z, (hIr q z).2⟩
      refine ihp (k + 1) (cut c Ip) Ir fu t (scEnv sc) ((pq % 8 : Nat) : Int) K43 t45 hs hz hJN r245 hg.2 subr B45 fF ⟨⟨0, rfl⟩, gT_up _ _ _ g43, hgV, by omega, by omega, by rw [sw_false _ _ g43]; omega⟩ ⟨A1, fun z => ha.2.1 z.1, by rw [A2]; exact ha.2.2.1, by rw [A3]; exact ha.2.2.2⟩ ⟨C1, fun z => hal.2.1 z.1, by rw [C3]; exact hal.2.2.1, by rw [C2]; exact hal.2.2.2⟩ ⟨D1, fun z => hzr.2.1 z.1, by rw [D4]; exact hzr.2.2⟩ (by omega) (by omega) (bF.le (by omega) (by omega)) (fun τ K' ps' ty' r' so' e1 e2 e3 e4 e5 e6 e7 e8 e9 => ?_) (fun y τ K' e p' w' e1 e2 e3 e4 e5 => er y τ K' e p' w' (by rw [eQ _ e1]; rfl) (by omega) e3 (J45.tr e4 hIp (fun q z => (hIr q z).1)) e5)
      have JT : jfr R I σ τ := J45.tr e3 hIp (fun q z => (hIr q z).1)
      have MT : mv c (cut c I) L L σ τ := h.mvc hM0 JT hI (fun _ z => z.1) rfl
      obtain ⟨D1, D2, D3, D4⟩ := MT.ct hzr.1 hzr.2.1 rfl
      have mvT : mv (cut c Ip) (cut (cut c Ip) Ir) L L t45 τ := B45.mvc bF.2.1 e3 subr (fun _ z => z.1) rfl
      have vE : mv (cut (cut c Ip) Ir) (cut c I) L L τ τ := mv_keepE (W := nil0) keep.rf (fun _ z => z.elim) (fun q _ hn hc => hn ⟨⟨hc.1, fun z => hc.2 (hIp q z)⟩, fun z => hc.2 (hIr q z).1⟩) rfl
      exact ok τ K' (.append cu ps') ty' r' so' (by rw [eQ _ e1]; rfl) (by omega) JT e4 ⟨D1, fun z => hzr.2.1 z.1, b, by rw [D3]; exact hb, pT_mv vE _ _ _ (pT_mv mvT _ _ _ (pT_mv mm45 _ _ _ p21)), pT_mv vE _ _ _ e5⟩ ⟨g21, e6⟩ (by show vlen ps' + 1 = vlen ps + 1; rw [e7]) (jf_mv e8 vE ⟨fun _ => rfl, rfl⟩) e9
  | _ =>
    intro k c I fu ty r so K σ hs hz hJN hr
    unfold rT at hr
    first
      | exact hr.elim
      | (split at hr <;> first | exact hr.elim | omega | simp_all)
end PJU
