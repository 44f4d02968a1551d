/-! THE HOUSE OVER S, P (9): a name is told (2) -/
section PHT2
variable {G : GPl} {s0 : State} {l : Launch} {KK : Nat → Option Nat} {T : Nat → Nat} {lev : Nat} {Q : Outcome → GSt → Prop} {R : Nat → Nat} {σ τ υ st0 ρ : GSt} {X : SX} {J : JX} {K K' : KS} {w n s o z m Z Yc Ys a y kd lim lo pl nn : Nat} {c c' : PC} {L L' : Nat → Nat → Prop} {W I I' I1 I2 D : Nat → Prop} {TN : Nat → List Nat} {sc : SC} {x : Option Nat} {t : TX} {ty tm : Option V} {v u : V} {tb : HT} {cx : List CN} {ns : List Nat}
/-- what telling a name leaves -/
def tfr (R : Nat → Nat) (I : Nat → Prop) (σ τ : GSt) : Prop := keep (fun q => isJ R I q ∨ q = R 9 ∨ (gr σ (R 9) 1 = some q ∧ 0 < gl σ q)) σ τ ∧ gle σ τ ∧ ∀ q, gr τ (R 9) 1 = some q → gr σ (R 9) 1 = some q ∨ gk σ q = 0
theorem pS.nm {o' b : Nat} {bs : List Nat} (h : pS σ o' b bs) (hk : keep (fun q => q = nn) σ τ) (hnn : gk σ nn = 21) : pS τ o' b bs := by
  obtain ⟨h1, h2, b', h3, h4, h5, h6, h7, h8⟩ := h
  obtain ⟨e1, e2, e3, e4⟩ := hk b (by omega) (fun w => by rw [w] at h1; omega)
  obtain ⟨f1, f2, f3, f4⟩ := hk b' (by omega) (fun w => by rw [w] at h4; omega)
  exact ⟨e1.trans h1, by rw [e2]; exact h2, b', by rw [e3]; exact h3, f1.trans h4, h5, by rw [f4]; exact h6, h7, fun j c hc => by rw [f2]; exact h8 j c hc⟩
theorem c_tells {px : Nat} (hl : 660 ≤ lev) (hYc : 12 + 4 * Z ≤ Yc) (hYs : 64 + 12 * Z ≤ Ys) (hh : hcl R σ) (h1 : pS1 KK R t lo σ y 3 pl [px]) (hs : PSt R t c σ y ty tm I1 I2) (hno : ty ≠ none ∨ tm ≠ none) (hg : oG ty) (hg2 : oG tm) (h : JB R c nilL σ (hX lim tb cx) (hJ t tb cx) [] none) (hc : c.nc = cx.length ∧ c.ns = tb.1.length) (hC : CxR KK R σ c.nc) (hz : ∀ k, k < c.nc → sw ((hJ t tb cx).ct k) ≤ z) (hZ : z + (oB ty + oB tm) ≤ Z) (hm : MB G R σ (hX lim tb cx) K 0 (m + (oN ty + oN tm) * Yc + 3 * Z + 20) (s + (oN ty + oN tm) * Ys + 9 * Z + 370)) (hO : OB K o)
    (ok : ∀ τ K' cn nn, hTells t (hX lim tb cx) (hJ t tb cx) cx px ty tm K = (K', .ok (cx ++ [cn])) → K.life ≤ K'.life → tfr R (orI I1 I2) σ τ → JB R ((cut c (orI I1 I2)).E, (fun k => if k = c.nc then nn else c.N k), c.nc + 1, c.ns) nilL τ (hX lim tb (cx ++ [cn])) (hJ t tb (cx ++ [cn])) [] none → CxR KK R τ (c.nc + 1) → MB G R τ (hX lim tb cx) K' 0 m s → OB K' o → sw cn.ty ≤ Z → cnB cx.length cn → Q (.returned none) τ)
    (er : ∀ x τ K' e p w', hTells t (hX lim tb cx) (hJ t tb cx) cx px ty tm K = (K', .error (e, p)) → K.life ≤ K'.life → flt τ x e p → jfr R (orI I1 I2) σ τ → MB G R τ (hX lim tb cx) K' w' m s → OB K' o → Q (.threw x) τ) : CQ (wP G s0 l KK T) mX1_tells lev (.ref (R 0) :: [va_rf (some y)]) σ Q := by
  obtain ⟨l', rfl⟩ : ∃ l', lev = l' + 1 := ⟨lev - 1, by omega⟩
  have h1' := h1
  obtain ⟨a1, a2, a3, a4, nm, ps, a5, a6, a7, a8, a9, a10, a11, a12, a13⟩ := h1
  obtain ⟨a14, sa, a15, a16⟩ := a13 0 px rfl
  have ix0 : ix (iI 0) = 0 := rfl
  have in0 : inr (iI 0) (gl σ nm) := by rw [a7]; exact iI_in (a := 0) (by omega) (by omega)
  have hcn : (hJ t tb cx).cn px = lastN (hX lim tb cx).nm (tname t px) c.nc := by rw [hc.1]; rfl
  have hsf : (hJ t tb cx).sf px = firstN (hX lim tb cx).sn (tname t px) c.ns 0 := by rw [hc.2]; rfl
  have ef : ∀ e : Nat, (e = 4 ∧ (((hJ t tb cx).cn px).isSome = true ∨ ((hJ t tb cx).sf px).isSome = true)) ∨ (e = 5 ∧ ¬ (((hJ t tb cx).cn px).isSome = true ∨ ((hJ t tb cx).sf px).isSome = true) ∧ cx.length = 100) → hTells t (hX lim tb cx) (hJ t tb cx) cx px ty tm K = (K, .error (e, (px : Int))) := fun e he => by
    unfold hTells
    rcases he with ⟨rfl, he⟩ | ⟨rfl, he, h2⟩
    · rw [if_pos he]
    · rw [if_neg he, if_pos h2]
  have erf : ∀ e : Nat, hTells t (hX lim tb cx) (hJ t tb cx) cx px ty tm K = (K, .error (e, (px : Int))) → ∀ x τ, flt τ x (e : Int) (px : Int) → keep nil0 σ τ → gle σ τ → MB G R τ (hX lim tb cx) K 0 m s → Q (.threw x) τ := fun e he x τ t1 t2 t3 t4 => er x τ K e px 0 he (Nat.le_refl _) t1 (jfr.N t2 t3 h.1) t4 hO
  have t33 : (((hJ t tb cx).cn px).isSome = true ∨ ((hJ t tb cx).sf px).isSome = true) → jX1_tells_33 G s0 l KK T l' σ Q (R 0) (some y) σ := fun he => by
    obtain ⟨q1, q2⟩ := c_pfl (G := G) (s0 := s0) (l := l) (KK := KK) (T := T) (lev := l') (Q := Q) (i := 0) (e := 4) (n := m) (s := s) (by omega) h1' rfl (by omega) (hm.le (by omega) (by omega)) (erf 4 (ef 4 (Or.inl ⟨rfl, he⟩)))
    exact tX1_tells_33 ⟨q1, y, rfl, (gle_mk hm.1).tag a1 (by omega), q2⟩
  have hnc : c.nc ≤ 100 := h.2.2.1.2.2.2
  refine tX1_tells ⟨hh.1, y, rfl, a1, nm, a5, a6, in0, R 3, hh.2.2.2, h.1.1.1, ?_⟩
  rw [ix0, a15]
  refine c_find (by omega) h.1 h.2.1 hnc a16 (onR_ret (fun _ => ?_))
  rw [← hcn]
  refine ⟨fun en => ⟨nm, a5, a6, in0, R 1, hh.2.1, h.2.1.2.1, ?_⟩, fun a11 ea => t33 (Or.inl ?_)⟩
  rotate_left
  · cases hq : (hJ t tb cx).cn px with
    | none => rw [hq] at ea; cases ea
    | some k => rfl
  have en' : (hJ t tb cx).cn px = none := by
    cases hq : (hJ t tb cx).cn px with
    | none => rfl
    | some k => rw [hq] at en; cases en
  rw [a15]
  refine c_tfind (by omega) h.1 h.2.1 a16 (fun _ => ?_)
  rw [← hsf]
  refine ⟨fun e2 => ?_, fun e2 => t33 (Or.inr ?_)⟩
  rotate_left
  · cases hq : (hJ t tb cx).sf px with
    | none => rw [hq] at e2; exact absurd rfl e2
    | some k => rfl
  have e2' : (hJ t tb cx).sf px = none := by
    cases hq : (hJ t tb cx).sf px with
    | none => rfl
    | some k =>
      rw [hq] at e2
      have := firstN_lt (hsf.symm.trans hq)
      have h8 := h.2.2.1.2.2.1
      rw [iI_eq (by omega) (by omega) (by omega) (by omega)] at e2
      omega
  have hno4 : ¬ (((hJ t tb cx).cn px).isSome = true ∨ ((hJ t tb cx).sf px).isSome = true) := by rw [en', e2']; simp
  obtain ⟨f1, f2, f3, zc, f4, f5, f6', -⟩ := h.1.2.2.2.2.2.1
  obtain ⟨l2, rfl⟩ : ∃ l2, l' = l2 + 1 := ⟨l' - 1, by omega⟩
  refine ⟨R 3, hh.2.2.2, h.1.1.1, R 9, h.1.1.2.2.2, f1, tJ2_size ⟨f1, fun _ => ?_⟩⟩
  rw [f3]
  refine ⟨fun e3 => ?_, fun e3 => ?_⟩
  · rw [iI_eq (by omega) (by omega) (by omega) (by omega)] at e3
    exact c_pfl (i := 0) (e := 5) (n := m) (s := s) (by omega) h1' rfl (by omega) (hm.le (by omega) (by omega)) (erf 5 (ef 5 (Or.inr ⟨rfl, hno4, by omega⟩)))
  have h9 : c.nc < 100 := by
    rcases Nat.lt_or_ge c.nc 100 with q | q
    · exact q
    · exfalso; apply e3; rw [show c.nc = 100 by omega]; rfl
  have e100 : cx.length ≠ 100 := by omega
  have eT : hTells t (hX lim tb cx) (hJ t tb cx) cx px ty tm K = jBind (hTell (hX lim tb cx) (hJ t tb cx) (tname t px) ty tm K) fun c K => (K, .ok (cx ++ [c])) := by
    unfold hTells; rw [if_neg hno4, if_neg e100]
  have hJN : JN c (hX lim tb cx) (hJ t tb cx) (tname t) := fun p => ⟨by rw [hc.1]; rfl, by rw [hc.2]; rfl⟩
  obtain ⟨s1, s2, s3, s5, s6⟩ := hs
  have hIt : ∀ q, orI I1 I2 q → tmt (gk σ q) = true := fun q hq => h.2.2.2.2.2 q (s5 q hq)
  have nIy : ¬ isJ R (orI I1 I2) y := hcl.no (Or.inr s1) hm.2.1 h.1.1.1 hIt
  have nI0 : ¬ isJ R (orI I1 I2) (R 0) := hcl.no (Or.inl hh.1) hm.2.1 h.1.1.1 hIt
  have n104 : ∀ q, gk σ q = 104 → ¬ isJ R (orI I1 I2) q := fun q hq w => by
    obtain ⟨⟨m1, m2, m3⟩, -⟩ := hm.2.1
    have m4 := h.1.1.1
    rcases w with (rfl | rfl | rfl) | rfl | w
    · omega
    · omega
    · omega
    · omega
    · have := hIt q w; rw [hq] at this; cases this
  have Nlt : ∀ k, k < c.nc → ∀ nn, gn σ ≤ nn → c.N k ≠ nn := fun k hk nn hnn => Nat.ne_of_lt (Nat.lt_of_lt_of_le (hm.1.lt (by rw [(h.1.2.2.2.2.2.2 k hk).1]; omega)) hnn)
  -- how it ends
  have fin : ∀ (t37 : GSt) (nn : Nat) (cn : CN) (K1 : KS), gn σ ≤ nn → gk t37 nn = 21 → jfr R (orI I1 I2) σ t37 → MB G R t37 (hX lim tb cx) K1 0 (m + 1) (s + 240) → (∃ sb, gr t37 nn 0 = some sb ∧ pS t37 (R 5) sb cn.nm) → (∃ ta, gr t37 nn 1 = some ta ∧ pT (cut c (orI I1 I2)) t37 cn.ty ta 0) → gT cn.ty true [] → gi t37 nn 2 = iI cn.so → (-1 ≤ cn.so ∧ cn.so < 8) → (∀ u, tm = some u → ∃ b v', gr t37 y 5 = some b ∧ pT (cut c (orI I1 I2)) t37 v' b 0 ∧ gT v' false [] ∧ cn.va = some v') → (tm = none → cn.va = none) → hTell (hX lim tb cx) (hJ t tb cx) (tname t px) ty tm K = (K1, .ok cn) → K.life ≤ K1.life → OB K1 o → sw cn.ty ≤ Z → jX1_tells_184 G s0 l KK T (l2 + 1) σ Q (R 0) (some y) (some nn) t37 := by
    intro t37 nn cn K1 b1 b2 j b3 b4 b5 b6 b7 b8 b9 b10 b11 b12 b13 b14
    have knn : keep (fun q => q = nn) t37 (gpr nn 3 (gr t37 y 5) t37) := (keep.rf (W := fun q => q = nn)).pr (fun _ => rfl)
    have n0 : gk σ nn = 0 := hm.1 nn b1
    have jρ : jfr R (orI I1 I2) σ (gpr nn 3 (gr t37 y 5) t37) := ⟨j.1.pr (fun q => absurd n0 q), fun i hi => by
      rw [gr_pr, if_neg (fun q => by have := h.1.1.1; rw [q.1] at this; omega)]; exact j.2.1 i hi, j.2.2⟩
    have hρ : JB R (cut c (orI I1 I2)) nilL (gpr nn 3 (gr t37 y 5) t37) (hX lim tb cx) (hJ t tb cx) [] none := h.mv hm.2.1 jρ s5 (fun q z => z.1) rfl
    have noM : ¬ isM R nn := fun q => absurd n0 (hm.2.1.tg q)
    obtain ⟨q1, q2, q3, q4⟩ := j.1 y (by omega) nIy
    have b9' : ∀ v', cn.va = some v' → ∃ b, gr t37 y 5 = some b ∧ pT (cut c (orI I1 I2)) t37 v' b 0 ∧ gT v' false [] := fun v' hv => by
      cases htm : tm with
      | none => rw [b10 htm] at hv; cases hv
      | some u =>
        obtain ⟨b, v2, w1, w2, w3, w4⟩ := b9 u htm
        rw [w4] at hv; cases hv
        exact ⟨b, w1, w2, w3⟩
    have b10' : cn.va = none → gr t37 y 5 = none := fun hv => by
      cases htm : tm with
      | none => rw [q3]; rw [htm] at s3; exact s3
      | some u =>
        obtain ⟨b, v2, w1, w2, w3, w4⟩ := b9 u htm
        rw [w4] at hv; cases hv
    refine c_tl (X := hX lim tb cx) (K := K1) (w := 0) (n := m) (s := s) (c := cut c (orI I1 I2)) (cn := cn) (by omega) (q1.trans s1) b2 rfl (hh.kp jρ.1 nI0) hρ hc (hC.mv h hm.2.1 jρ s5) ⟨b2, ?_, ?_, b6, ?_, b8, fun hv => ?_, fun v' hv => ?_⟩ (fun k hk => Nlt k hk nn b1) h9 (b3.pr' noM) (fun τ u1 u2 u3 u4 u5 u6 => ?_)
    · obtain ⟨sb, w1, w2⟩ := b4
      exact ⟨sb, by rw [gr_pr, if_neg (by omega)]; exact w1, w2.nm knn b2⟩
    · obtain ⟨ta, w1, w2⟩ := b5
      exact ⟨ta, by rw [gr_pr, if_neg (by omega)]; exact w1, pT_nm w2 b6 knn b2⟩
    · exact b7
    · rw [gr_pr, if_pos ⟨rfl, rfl⟩]; exact b10' hv
    · obtain ⟨b, w1, w2, w3⟩ := b9' v' hv
      exact ⟨w3, b, by rw [gr_pr, if_pos ⟨rfl, rfl⟩]; exact w1, pT_nm w2 w3 knn b2⟩
    · have n9 : ¬ isJ R (orI I1 I2) (R 9) := by
        obtain ⟨⟨m1, m2, m3⟩, -⟩ := hm.2.1
        have m4 := h.1.1.1
        rintro ((q | q | q) | q | q)
        · rw [q] at f1; omega
        · rw [q] at f1; omega
        · rw [q] at f1; omega
        · rw [q] at f1; omega
        · exact f2 (s5 _ q)
      refine ok τ K1 cn nn (by rw [eT, b11]; rfl) b12 ⟨(jρ.1.wk (fun q w => Or.inl w)).tr u1 (fun q hq w => ?_), jρ.2.2.tr u2, fun q hq => ?_⟩ u3 u4 u5 b13 b14 ⟨by rw [← hc.1]; obtain ⟨ta, _, w2⟩ := b5; exact pT_kB (c := cut c (orI I1 I2)) _ _ _ w2, fun v' hv => by rw [← hc.1]; obtain ⟨b, _, w2, _⟩ := b9' v' hv; exact pT_kB (c := cut c (orI I1 I2)) _ _ _ w2⟩
      rotate_left
      · rcases u6 q hq with w | w
        · rw [(jρ.1 (R 9) (by omega) n9).2.2.1] at w; exact Or.inl w
        · refine Or.inr (Classical.byContradiction fun hq0 => ?_)
          rw [jρ.2.2.2 q hq0] at w
          exact hq0 w
      rcases w with w | w
      · exact Or.inr (Or.inl w)
      · have n9z : ¬ isJ R (orI I1 I2) zc := by
          obtain ⟨⟨m1, m2, m3⟩, -⟩ := hm.2.1
          have m4 := h.1.1.1
          rintro ((q | q | q) | q | q)
          · rw [q] at f5; omega
          · rw [q] at f5; omega
          · rw [q] at f5; omega
          · rw [q] at f5; omega
          · exact f6' (s5 _ q)
        obtain ⟨w1, w2⟩ := w
        rw [(jρ.1 (R 9) (by omega) n9).2.2.1] at w1
        have ez : q = zc := by rw [f4] at w1; cases w1; rfl
        subst ez
        rw [(jρ.1 q (by omega) n9z).2.2.2] at w2
        exact Or.inr (Or.inr ⟨w1, w2⟩)
  refine ⟨fun e4 => ?_, fun a25 e4 => ?_⟩
  · -- no type
    cases ty with
    | some vt => obtain ⟨at1, w1, -⟩ := s2; rw [w1] at e4; cases e4
    | none =>
      cases tm with
      | none => rcases hno with q | q <;> exact absurd rfl q
      | some v =>
        obtain ⟨a, s3, s4⟩ := s3
        obtain ⟨g1, -⟩ := hg2 v rfl
        have eN : oN none + oN (some v) = rN v := Nat.zero_add _
        rw [eN] at hm
        have eB : oB none + oB (some v) = rB v := Nat.zero_add _
        rw [eB] at hZ
        have hI2 : ∀ q, I2 q → c.E q := fun q hq => s5 q (Or.inr hq)
        refine ⟨R 3, hh.2.2.2, h.1.1.1, ?_⟩
        rw [s3]
        refine c_jtop (m := m + 3 * Z + 20) (s := s + 9 * Z + 370) (by omega) hYc hYs hJN hh s4 g1 hI2 h hz hZ (hm.le (by omega) (by omega)) hO (fun t6 K6 u ty' so e1 e2 j6 h6 c6 b6 o6 p6 g6 f6 y6 x6 i6 => fun l6 => ?_) (fun x τ K' e p w' e1 e2 e3 e4 e5 e6 => fun _ => er x τ K' e p w' (by rw [eT]; unfold hTell; dsimp only; rw [e1]; rfl) e2 e3 e4.o2 (e5.le (by omega) (by omega)) e6)
        obtain ⟨⟨ta, f6a, f6b⟩, f6c, f6d⟩ := f6
        have k7 : keep nil0 t6 (gmk 21 4 t6) := keep.rf.mk b6.1.at
        have g3 : gle σ t6 := l6
        obtain ⟨q1, q2, q3, q4⟩ := j6.o2.1 y (by omega) nIy
        obtain ⟨r1, r2, r3, r4⟩ := j6.o2.1 nm (by omega) (n104 nm a6)
        obtain ⟨w1, w2, w3, w4⟩ := k7 y (by omega) id
        obtain ⟨x1, x2, x3, x4⟩ := k7 nm (by omega) id
        obtain ⟨z1, z2, z3, z4⟩ := k7 (R 3) (by rw [h6.1.1.1]; omega) id
        obtain ⟨u1, u2, u3, u4⟩ := k7 (R 0) (by rw [c6.1]; omega) id
        refine ⟨(b6.2.2.2.le (n' := 0 + 1) (s' := 0 + 4) (by omega) (by omega)).gr b6.1, nm, by rw [w3, q3]; exact a5, by rw [x1, r1]; exact a6, by rw [x4, r4]; exact in0, R 3, by rw [u3]; exact c6.2.2.2, z1.trans h6.1.1.1, ?_⟩
        rw [x3, r3, a15, z3, z2, f6a, f6d]
        have nk : gk (gmk 21 4 t6) (gn t6) = 21 := gk_new b6.1.at
        refine tX23_init ⟨nk, fun l8 => ?_⟩
        have kW : keep nil0 t6 (gpi (gn t6) 2 (iI so) (gpr (gn t6) 1 (some ta) (gpr (gn t6) 0 (some sa) (gmk 21 4 t6)))) := ((k7.pr (fun q => absurd b6.1.at q)).pr (fun q => absurd b6.1.at q)).pi (fun q => absurd b6.1.at q)
        have nk2 : gk (gpi (gn t6) 2 (iI so) (gpr (gn t6) 1 (some ta) (gpr (gn t6) 0 (some sa) (gmk 21 4 t6)))) (gn t6) = 21 := nk
        have l67 : gle t6 (gpi (gn t6) 2 (iI so) (gpr (gn t6) 1 (some ta) (gpr (gn t6) 0 (some sa) (gmk 21 4 t6)))) := (gle_mk b6.1).tr l8
        have v1 : gr (gpi (gn t6) 2 (iI so) (gpr (gn t6) 1 (some ta) (gpr (gn t6) 0 (some sa) (gmk 21 4 t6)))) (gn t6) 0 = some sa := by rw [gr_pi, gr_pr, if_neg (by omega), gr_pr, if_pos ⟨rfl, rfl⟩]
        have v2 : gr (gpi (gn t6) 2 (iI so) (gpr (gn t6) 1 (some ta) (gpr (gn t6) 0 (some sa) (gmk 21 4 t6)))) (gn t6) 1 = some ta := by rw [gr_pi, gr_pr, if_pos ⟨rfl, rfl⟩]
        have v3 : gi (gpi (gn t6) 2 (iI so) (gpr (gn t6) 1 (some ta) (gpr (gn t6) 0 (some sa) (gmk 21 4 t6)))) (gn t6) 2 = iI so := by rw [gi_pi, if_pos ⟨rfl, rfl⟩]
        have b7 : MB G R (gpi (gn t6) 2 (iI so) (gpr (gn t6) 1 (some ta) (gpr (gn t6) 0 (some sa) (gmk 21 4 t6)))) (hX lim tb cx) K6 0 (m + 1) (s + 240) := ((b6.le (n' := m + 1 + 1) (s' := s + 240 + 4) (by omega) (by omega)).new kW b6.1.mk rfl rfl)
        generalize gpi (gn t6) 2 (iI so) (gpr (gn t6) 1 (some ta) (gpr (gn t6) 0 (some sa) (gmk 21 4 t6))) = t7 at kW nk2 l67 v1 v2 v3 b7 ⊢
        have j7 : jfr R (orI I1 I2) σ t7 := j6.o2.fn (jfr.N kW l67 h6.1)
        have cE : ∀ q, (cut c (orI I1 I2)).E q → (cut c I2).E q := fun q z => ⟨z.1, fun w => z.2 (Or.inr w)⟩
        have mv7 : mv (cut c I2) (cut c (orI I1 I2)) nilL nilL t6 t7 := h6.mvc b6.2.1 (jfr.N kW l67 h6.1 : jfr R nil0 t6 t7) (fun _ z => z.elim) cE rfl
        obtain ⟨q5, q6, q7, q8⟩ := kW y (by omega) id
        exact fin t7 (gn t6) (tname t px, ty', so, some u) K6 l6.1.1 nk2 j7 b7 ⟨sa, v1, (a16.kpW j7.1 (h.wS hm.2.1 s5))⟩ ⟨ta, v2, pT_mv mv7 _ _ _ f6b⟩ y6 v3 ⟨x6.1, x6.2.1⟩ (fun _ _ => ⟨a, u, by rw [q7, q3]; exact s3, pT_mv mv7 _ _ _ p6, g6, rfl⟩) (fun q => by cases q) (by unfold hTell; dsimp only; rw [e1]; rfl) e2 o6 (Nat.le_trans x6.2.2 hZ)
  · -- with a type
    cases ty with
    | none => have q : gr σ y 4 = none := s2; rw [q] at e4; cases e4
    | some vt =>
      obtain ⟨at1, s2, s2'⟩ := s2
      obtain ⟨g1, -⟩ := hg vt rfl
      have eN : oN (some vt) + oN tm = rN vt + oN tm := rfl
      rw [eN, Nat.add_mul, Nat.add_mul] at hm
      have eB : oB (some vt) + oB tm = rB vt + oB tm := rfl
      rw [eB] at hZ
      have hI1 : ∀ q, I1 q → c.E q := fun q hq => s5 q (Or.inl hq)
      refine ⟨R 3, hh.2.2.2, h.1.1.1, ?_⟩
      rw [s2]
      have eH : ∀ K6 u so, jTypeSort (jFrom vt) (sJudge (hX lim tb cx) (hJ t tb cx) 100 vt [] K) = (K6, .ok (u, so)) → hNorm (hX lim tb cx) (hJ t tb cx) vt K = jBind (jNormal (hX lim tb cx) u [] K6) fun n K => (K, .ok (n, so)) := fun K6 u so e => by unfold hNorm; rw [e]; rfl
      have eT1 : ∀ K6 e, hNorm (hX lim tb cx) (hJ t tb cx) vt K = (K6, .error e) → hTells t (hX lim tb cx) (hJ t tb cx) cx px (some vt) tm K = (K6, .error e) := fun K6 e q => by
        rw [eT]
        cases tm with
        | none => unfold hTell; dsimp only; rw [q]; rfl
        | some v => unfold hTell; dsimp only; rw [q]; rfl
      refine c_jtype (G := G) (s0 := s0) (l := l) (KK := KK) (T := T) (R := R) (X := hX lim tb cx) (J := hJ t tb cx) (TN := tname t) (n := 100) (c := c) (t := vt) (a := at1) (I := I1) (sc := []) (x := none) (K := K) (Z := Z) (Yc := Yc) (Ys := Ys) (m := m + oN tm * Yc + 2 * Z + 18) (s := s + oN tm * Ys + 6 * Z + 360) (z := z) (L := nilL) (fun lev hl => c_judge hYc hYs 100 lev hl) (by omega) hJN s2' g1 hI1 h trivial hz (by omega) (by show 0 + 100 ≤ 300; omega) (hm.le (by omega) (by omega)) (fun t6 K6 u so e1 hso e3 j6 b6 p6 g6 => fun l6 => ?_) (fun x τ K' e p w' e1 e2 e3 e4 e5 => fun _ => er x τ K' e p w' (eT1 _ _ (by unfold hNorm; rw [e1]; rfl)) e2 e3 e4.o1 (e5.le (by omega) (by omega)) ((kO_ts (kO_judge _ _ _ _ rfl)).ob e1 e2 hO))
      have o6 := (kO_ts (kO_judge _ _ _ _ rfl)).ob e1 e3 hO
      have h6 : JB R (cut c I1) nilL t6 (hX lim tb cx) (hJ t tb cx) [] none := h.mv hm.2.1 j6 hI1 (fun q z => z.1) rfl
      have c6 : hcl R t6 := hh.kp j6.o1.1 nI0
      obtain ⟨q1, q2, q3, q4⟩ := j6.o1.1 y (by omega) nIy
      obtain ⟨r1, r2, r3, r4⟩ := j6.o1.1 nm (by omega) (n104 nm a6)
      have k7 : keep nil0 t6 (gmk 21 4 t6) := keep.rf.mk b6.1.at
      obtain ⟨w1, w2, w3, w4⟩ := k7 y (by omega) id
      obtain ⟨x1, x2, x3, x4⟩ := k7 nm (by omega) id
      have l67 : gle t6 (gmk 21 4 t6) := gle_mk b6.1
      have j7 : jfr R nil0 t6 (gmk 21 4 t6) := jfr.N k7 l67 h6.1
      have h7 : JB R (cut c I1) nilL (gmk 21 4 t6) (hX lim tb cx) (hJ t tb cx) [] none := h6.mv b6.2.1 j7 (fun _ z => z.elim) (fun _ z => z) rfl
      have c7 : hcl R (gmk 21 4 t6) := c6.kp k7 id
      have b7 : MB G R (gmk 21 4 t6) (hX lim tb cx) K6 0 (m + oN tm * Yc + 2 * Z + 17) (s + oN tm * Ys + 6 * Z + 356) := (b6.le (n' := m + oN tm * Yc + 2 * Z + 17 + 1) (s' := s + oN tm * Ys + 6 * Z + 356 + 4) (by omega) (by omega)).new k7 b6.1.mk rfl rfl
      refine ⟨(b6.2.2.2.le (n' := 0 + 1) (s' := 0 + 4) (by omega) (by omega)).gr b6.1, nm, by rw [w3, q3]; exact a5, by rw [x1, r1]; exact a6, by rw [x4, r4]; exact in0, R 3, c7.2.2.2, h7.1.1.1, ?_⟩
      rw [w3, q3, s2]
      have p7 : pT (cut c I1) (gmk 21 4 t6) u at1 0 := pT_mv (k7.mv (L := nilL)) _ _ _ p6
      refine c_jnormal (sc := []) (z := z) (by omega) h7 p7 g6 trivial (by show 0 ≤ 900; omega) (n := m + oN tm * Yc + 2 * Z + 15) (s := s + oN tm * Ys + 6 * Z + 340) (b7.le (by omega) (by omega)) (fun t10 K10 nt yn d1 d2 j10 b10 p10 g10 => onR_ret (fun l10 => ?_)) (fun x τ K' e p w' d1 d2 d3 d4 d5 => fun _ => er x τ K' e p w' (eT1 _ _ (by rw [eH _ _ _ e1, d1]; rfl)) (Nat.le_trans e3 d2) d3 ((j6.fn j7).fn d4).o1 (d5.le (by omega) (by omega)) (((kO_norm _ _ _ _ rfl).j).ob d1 d2 o6))
      have o10 := ((kO_norm _ _ _ _ rfl).j).ob d1 d2 o6
      have nk7 : gk (gmk 21 4 t6) (gn t6) = 21 := gk_new b6.1.at
      have nk10 : gk t10 (gn t6) = 21 := l10.tag nk7 (by omega)
      rw [x3, r3, a15]
      refine tX23_init ⟨nk10, fun l12 => ?_⟩
      have kW : keep (fun q => q = gn t6) t10 (gpi (gn t6) 2 (iI (so : Int)) (gpr (gn t6) 1 (some yn) (gpr (gn t6) 0 (some sa) t10))) := (((keep.rf (W := fun q => q = gn t6)).pr (fun _ => rfl)).pr (fun _ => rfl)).pi (fun _ => rfl)
      have v0 : gk (gpi (gn t6) 2 (iI (so : Int)) (gpr (gn t6) 1 (some yn) (gpr (gn t6) 0 (some sa) t10))) (gn t6) = 21 := nk10
      have v1 : gr (gpi (gn t6) 2 (iI (so : Int)) (gpr (gn t6) 1 (some yn) (gpr (gn t6) 0 (some sa) t10))) (gn t6) 0 = some sa := by rw [gr_pi, gr_pr, if_neg (by omega), gr_pr, if_pos ⟨rfl, rfl⟩]
      have v2 : gr (gpi (gn t6) 2 (iI (so : Int)) (gpr (gn t6) 1 (some yn) (gpr (gn t6) 0 (some sa) t10))) (gn t6) 1 = some yn := by rw [gr_pi, gr_pr, if_pos ⟨rfl, rfl⟩]
      have v3 : gi (gpi (gn t6) 2 (iI (so : Int)) (gpr (gn t6) 1 (some yn) (gpr (gn t6) 0 (some sa) t10))) (gn t6) 2 = iI (so : Int) := by rw [gi_pi, if_pos ⟨rfl, rfl⟩]
      have noM : ¬ isM R (gn t6) := fun q => absurd b6.1.at (b6.2.1.tg q)
      have b12 : MB G R (gpi (gn t6) 2 (iI (so : Int)) (gpr (gn t6) 1 (some yn) (gpr (gn t6) 0 (some sa) t10))) (hX lim tb cx) K10 0 (m + oN tm * Yc + 2 * Z + 15) (s + oN tm * Ys + 6 * Z + 340) := (((b10.pr' noM).pr' noM).pi' noM).le (by omega) (by omega)
      have n3 : R 3 ≠ gn t6 := fun q => by have := h6.1.1.1; rw [q, b6.1.at] at this; omega
      have j12 : jfr R nil0 t6 (gpi (gn t6) 2 (iI (so : Int)) (gpr (gn t6) 1 (some yn) (gpr (gn t6) 0 (some sa) t10))) := ⟨(((j7.t2 j10).1.pr (fun q => absurd b6.1.at q)).pr (fun q => absurd b6.1.at q)).pi (fun q => absurd b6.1.at q), fun i hi => by
        rw [gr_pi, gr_pr, if_neg (fun q => n3 q.1), gr_pr, if_neg (fun q => n3 q.1)]; exact (j7.t2 j10).2.1 i hi, (l67.tr l10).tr l12⟩
      have p12 : pT (cut c I1) (gpi (gn t6) 2 (iI (so : Int)) (gpr (gn t6) 1 (some yn) (gpr (gn t6) 0 (some sa) t10))) nt yn 0 := pT_nm p10 g10 kW nk10
      generalize gpi (gn t6) 2 (iI (so : Int)) (gpr (gn t6) 1 (some yn) (gpr (gn t6) 0 (some sa) t10)) = t12 at kW v0 v1 v2 v3 b12 j12 p12 l12 ⊢
      have h12 : JB R (cut c I1) nilL t12 (hX lim tb cx) (hJ t tb cx) [] none := h6.mv b6.2.1 j12 (fun _ z => z.elim) (fun _ z => z) rfl
      have j012 : jfr R I1 σ t12 := j6.fn j12
      have c12 : hcl R t12 := hh.kp j012.o1.1 nI0
      obtain ⟨q5, q6, q7, q8⟩ := j012.o1.1 y (by omega) nIy
      have gnl : gn σ ≤ gn t6 := l6.1.1
      have sw0 : sw nt ≤ Z := by rw [sw_false _ _ g10]; omega
      have h8 := h.2.2.1.2.2.1
      have eN10 : hNorm (hX lim tb cx) (hJ t tb cx) vt K = (K10, .ok (nt, so)) := by rw [eH _ _ _ e1, d1]; rfl
      refine ⟨fun e5 => tX1_tells_141 ?_, fun a54 e5 => ?_⟩
      · cases tm with
        | some v => obtain ⟨a, s3, -⟩ := s3; rw [q7, s3] at e5; cases e5
        | none =>
          have cE : ∀ q, (cut c (orI I1 I2)).E q → (cut c I1).E q := fun q z => ⟨z.1, fun w => z.2 (Or.inl w)⟩
          have mv12 : mv (cut c I1) (cut c (orI I1 I2)) nilL nilL t12 t12 := h12.mvc (I := nil0) b12.2.1 jfr.rf (fun _ z => z.elim) cE rfl
          exact fin t12 (gn t6) (tname t px, nt, (so : Int), none) K10 gnl v0 j012.o1 (b12.le (by omega) (by omega)) ⟨sa, v1, a16.kpW j012.o1.1 (h.wS hm.2.1 s5)⟩ ⟨yn, v2, pT_mv mv12 _ _ _ p12⟩ (gT_up _ _ _ g10) v3 ⟨by show -1 ≤ (so : Int); omega, by show (so : Int) < 8; omega⟩ (fun _ q => by cases q) (fun _ => rfl) (by unfold hTell; dsimp only; rw [eN10]; rfl) (Nat.le_trans e3 d2) o10 sw0
      · cases tm with
        | none => have q : gr σ y 5 = none := s3; rw [q7, q] at e5; cases e5
        | some v =>
          obtain ⟨a, s3, s4⟩ := s3
          obtain ⟨g2, -⟩ := hg2 v rfl
          have eNv : oN (some v) = rN v := rfl
          rw [eNv] at b12 hm
          have eBv : oB (some v) = rB v := rfl
          rw [eBv] at hZ
          have rt12 : rT R (tname t) t12 v a 0 I2 := h.rT hm.2.1 j012 hI1 s4 (fun q hq => ⟨s6 q hq, hIt q (Or.inr hq)⟩) (fun q => absurd rfl q)
          rw [v2]
          refine c_fits (c := cut c I1) (Z := Z) (Yc := Yc) (Ys := Ys) (m := m + 1) (s := s + 260) (by omega) hYc hYs hJN c12 ⟨q5.trans s1, by rw [q7]; exact s3⟩ rt12 g2 (fun q hq => ⟨s5 q (Or.inr hq), s6 q hq⟩) h12 hz (by omega) p12 g10 (b12.le (by omega) (by omega)) (fun t20 K20 w20 f1 f2 j20 b20 p20 g20 => fun l20 => tX1_tells_141 ?_) (fun x τ K' e p w' f1 f2 f3 f4 f5 => fun _ => er x τ K' e p w' (by rw [eT]; unfold hTell; dsimp only; rw [eN10]; show jBind (jBind (hFits _ _ v nt K10) _) _ = _; rw [f1]; rfl) (Nat.le_trans e3 (Nat.le_trans d2 f2)) f3 (j012.o1.t2 f4.o2) (f5.le (by omega) (by omega)) ((kO_hf rfl).ob f1 f2 o10))
          have o20 := (kO_hf rfl).ob f1 f2 o10
          have j020 : jfr R (orI I1 I2) σ t20 := j012.o1.t2 j20.o2
          have cE : ∀ q, (cut c (orI I1 I2)).E q → (cut (cut c I1) I2).E q := fun q z => ⟨⟨z.1, fun w => z.2 (Or.inl w)⟩, fun w => z.2 (Or.inr w)⟩
          have h20 : JB R (cut (cut c I1) I2) nilL t20 (hX lim tb cx) (hJ t tb cx) [] none := h12.mv b12.2.1 j20 (fun q hq => ⟨s5 q (Or.inr hq), s6 q hq⟩) (fun q z => z.1) rfl
          have mv20 : mv (cut (cut c I1) I2) (cut c (orI I1 I2)) nilL nilL t20 t20 := h20.mvc (I := nil0) b20.2.1 jfr.rf (fun _ z => z.elim) cE rfl
          have mv12 : mv (cut c I1) (cut c (orI I1 I2)) nilL nilL t12 t20 := h12.mvc b12.2.1 j20 (fun q hq => ⟨s5 q (Or.inr hq), s6 q hq⟩) (fun q z => (cE q z).1) rfl
          have nnJ : ¬ isJ R I2 (gn t6) := by
            obtain ⟨⟨m1, m2, m3⟩, -⟩ := b12.2.1
            have m4 := h12.1.1.1
            rintro ((q | q | q) | q | q)
            · rw [q] at v0; omega
            · rw [q] at v0; omega
            · rw [q] at v0; omega
            · rw [q] at v0; omega
            · have := h12.2.2.2.2.2 _ (⟨s5 _ (Or.inr q), s6 _ q⟩ : (cut c I1).E (gn t6)); rw [v0] at this; cases this
          obtain ⟨i1, i2, i3, i4⟩ := j20.1 (gn t6) (by omega) nnJ
          obtain ⟨i5, i6, i7, i8⟩ := j020.1 y (by omega) nIy
          exact fin t20 (gn t6) (tname t px, nt, (so : Int), some w20) K20 gnl (i1.trans v0) j020 (b20.le (by omega) (by omega)) ⟨sa, by rw [i3]; exact v1, a16.kpW j020.1 (h.wS hm.2.1 s5)⟩ ⟨yn, by rw [i3]; exact v2, pT_mv mv12 _ _ _ p12⟩ (gT_up _ _ _ g10) (by rw [i2]; exact v3) ⟨by show -1 ≤ (so : Int); omega, by show (so : Int) < 8; omega⟩ (fun _ _ => ⟨a, w20, by rw [i7]; exact s3, pT_mv mv20 _ _ _ p20, g20, rfl⟩) (fun q => by cases q) (by unfold hTell; dsimp only; rw [eN10]; show jBind (hFits _ _ v nt K10) _ = _; rw [f1]; rfl) (Nat.le_trans e3 (Nat.le_trans d2 f2)) o20 sw0
end PHT2
