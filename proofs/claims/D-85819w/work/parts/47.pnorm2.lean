/-! P OVER S (16): Machine.normal -/
section PN2
variable {G : GPl} {s0 : State} {l : Launch} {KK : Nat → Option Nat} {T : Nat → Nat} {lev d : Nat} {Q : Outcome → GSt → Prop} {R : Nat → Nat} {σ τ st0 : GSt} {X : SX} {K K' : KS} {w n s : Nat} {c c' : PC} {L L' : Nat → Nat → Prop} {W : Nat → Prop} {gg : List Bool}
theorem nf_use {f : V} {xf dep : Nat} {x1 x2 x6 : Option Nat} {as : List V} (ih : CNorm G s0 l KK T R X lev d w) (hl : 7 ≤ lev) (hE : ∀ a, c.E a → a < gn σ) (hLN : LN L σ dep gg) (hf : pT c σ f xf 0) (gf : gT f false (gg)) (hA : pA c L σ as x6) (ga : gA as) (hl1 : 1 ≤ as.length) (hlen : as.length ≤ 60000) (hX : pX c σ X) (hd : dep + d ≤ 1000) (h : MB G R σ X K w (n + 6) (s + 33))
    (ok : ∀ τ K' ps x, sMap (fun c K => sNorm X d dep c K) as K = (K', .ok ps) → K.life ≤ K'.life → keep (isM R) σ τ → MB G R τ X K' w (n + 3) (s + 24) → pT c τ (.tag 2 (.append f ps)) x 0 → gT (.tag 2 (.append f ps)) false (gg) → Q (.returned (some (va_rf (some x)))) τ)
    (er : ∀ x τ K' e w', sMap (fun c K => sNorm X d dep c K) as K = (K', .error e) → K.life ≤ K'.life → flt τ x e (-1) → keep (isM R) σ τ → MB G R τ X K' w' n s → Q (.threw x) τ) :
    CQ (wP G s0 l KK T) mX15_init lev (.ref (gn σ) :: [va_rf (some xf)]) (gmk 13 4 σ) (onV (fun t12 => gle (gmk 13 4 σ) t12 → jX3_normalFront_56 G s0 l KK T lev st0 Q (R 2) x1 x2 (iI (dep : Int)) (some xf) (some (gn σ)) x6 t12) (fun x t => gle (gmk 13 4 σ) t → Q (.threw x) t)) := by
  refine c_use0 (n := n + 3) (s := s + 24) (by omega) h (fun t12 k12 b12 g12 c1 c2 c3 c4 c5 c6 c7 c8 _ => ?_)
  have hz := h.1
  have q0 : gk σ (gn σ) = 0 := hz.at
  have q1 : gk σ (gn σ + 1) = 0 := hz _ (by omega)
  have q2 : gk σ (gn σ + 2) = 0 := hz _ (by omega)
  have nE0 : ¬ c.E (gn σ) := fun q => by have := hE _ q; omega
  have nE1 : ¬ c.E (gn σ + 1) := fun q => by have := hE _ q; omega
  have nE2 : ¬ c.E (gn σ + 2) := fun q => by have := hE _ q; omega
  have nM0 : ¬ isM R (gn σ) := h.2.1.fr hz (Nat.le_refl _)
  have m12 : mv c (cX c (gn σ) (gn σ + 1) (gn σ + 2)) L L σ t12 := mv_keepE k12 (fun _ q => q.elim) (fun a ha hc q => by
    rcases q with q | rfl | rfl | rfl
    · exact hc q
    · rw [q0] at ha; cases ha
    · rw [q1] at ha; cases ha
    · rw [q2] at ha; cases ha) rfl
  refine c_floop (c := c) (L := L) (al := gn σ + 1) (n := n) (s := s) ih hl hd as 0 [] (gn σ + 2) 2 x6 t12 K (s + 24) (fun a q => by have := hE a q; omega) (hLN.mv m12) (pA_mv m12 _ _ hA) ga (pX_mvE m12 rfl hX) c1 c3 c4 c5 c7 nE2 c8 c6 (by omega) (by omega) (by omega) (by omega) rfl (fun j t hj => (by simp at hj)) b12 (by omega) (fun τ K' ps z' e1 e2 e3 e4 e5 e6 e7 e8 e9 e10 e11 e12 e13 => ?_) (fun x τ K' e w' e1 e2 e3 e4 e5 => ?_)
  · have kk : keep (isM R) σ τ := (k12.wk (fun _ q => q.elim) : keep (isM R) σ t12).tr e3 (fun a ha q => by
      rcases q with q | rfl | rfl
      · exact q
      · exact absurd q1 ha
      · exact absurd q2 ha)
    have mF : mv c c L L σ τ := mv_keep kk h.2.1.ok
    obtain ⟨u1, u2, u3, u4⟩ := e3 (gn σ) (by omega) (fun q => by rcases q with q | q | q; exact nM0 q; omega; omega)
    rw [Nat.zero_add] at e8 e9
    have e13' : vlen ps = as.length := by
      have : vlen ps = 0 + as.length := e13
      omega
    refine ok τ K' ps (gn σ) e1 e2 kk e4 ⟨u1.trans c1, nE0, xf, gn σ + 1, z', by rw [u3]; exact c2, by rw [u3]; exact c3, e5, nE1, e6, e7, e10, by rw [e13']; exact e8, by omega, by omega, pT_mv mF _ _ _ hf, e11⟩ ⟨gf, e12, by omega⟩
  · refine er x τ K' e w' e1 e2 e3 ((k12.wk (fun _ q => q.elim) : keep (isM R) σ t12).tr e4 (fun a ha q => ?_)) e5
    rcases q with q | rfl | rfl
    · exact q
    · exact absurd q1 ha
    · exact absurd q2 ha
theorem c_nfront {u : V} {as : List V} {xt y xa : Option Nat} {dep : Nat} (ih : CNorm G s0 l KK T R X lev d w) (hl : 7 ≤ lev) (hE : ∀ a, c.E a → a < gn σ) (hLN : LN L σ dep gg) (hu : pH c L σ u xt y) (gu : gR X u) (hb : sBinds u = none) (hA : pA c L σ as xa) (ga : gA as) (hlen : as.length ≤ 60000) (hX : pX c σ X) (hd : dep + d ≤ 1000) (h : MB G R σ X K w (n + 7) (s + 36))
    (ok : ∀ τ K' t x, sNx X d dep (u, as) K = (K', .ok t) → K.life ≤ K'.life → keep (isM R) σ τ → MB G R τ X K' w (n + 3) (s + 24) → pT c τ t x 0 → gT t false (gg) → Q (.returned (some (va_rf (some x)))) τ)
    (er : ∀ x τ K' e w', sNx X d dep (u, as) K = (K', .error e) → K.life ≤ K'.life → flt τ x e (-1) → keep (isM R) σ τ → MB G R τ X K' w' n s → Q (.threw x) τ) :
    CQ (wP G s0 l KK T) mX3_normalFront (lev + 1) (.ref (R 2) :: [va_rf xt, va_rf xa, .int (iI (dep : Int))]) σ Q := by
  have eN := sNx_n (X := X) (d := d) (dep := dep) (x := (u, as)) (K := K) hb
  have hz := h.1
  have n0 : gk σ (gn σ) = 0 := hz.at
  have nE0 : ¬ c.E (gn σ) := fun q => by have := hE _ q; omega
  rcases gu with ⟨i, rfl⟩ | ⟨t, r', rfl, g1, g2, g3⟩
  · rw [pH_loc] at hu
    obtain ⟨a, e1, e2, e3⟩ := hu
    obtain ⟨i1, i2, i3⟩ := hLN i a e3
    have la : a ≠ gn σ := hz.ne (by omega)
    refine tX3_normalFront ⟨a, e1, ⟨17, by decide, e2⟩, fun _ => ?_, fun q => absurd ⟨a, e1, e2⟩ q⟩
    refine ⟨(h.2.2.2.le (n' := n + 6 + 1) (s' := s + 33 + 3) (by omega) (by omega)).gr hz, ?_⟩
    have ev : (iI (dep : Int) - iI 1) - gi (gmk 11 3 σ) a 3 = iI ((dep - 1 - i : Nat) : Int) := by
      rw [gi_mk la, i3, iI_sub, iI_sub]; congr 1; omega
    rw [ev]
    have t11 : gk (gmk 11 3 σ) (gn σ) = 11 := gk_new (n := 3) n0
    obtain ⟨l', rfl⟩ : ∃ l', lev = l' + 2 := ⟨lev - 2, by omega⟩
    refine tX13_init (tX9_init ⟨⟨10, by decide, t11⟩, fun _ => ⟨t11, fun _ => ?_⟩⟩)
    have hfr : ¬ isM R (gn σ) := h.2.1.fr hz (Nat.le_refl _)
    have k7 : keep nil0 σ (gpi (gn σ) 2 (iI ((dep - 1 - i : Nat) : Int)) (gpi (gn σ) 1 (iI (-1)) (gpi (gn σ) 0 (iI (-1)) (gmk 11 3 σ)))) := (((keep.rf.mk n0).pi (fun q => absurd n0 q)).pi (fun q => absurd n0 q)).pi (fun q => absurd n0 q)
    have b7 : MB G R (gpi (gn σ) 2 (iI ((dep - 1 - i : Nat) : Int)) (gpi (gn σ) 1 (iI (-1)) (gpi (gn σ) 0 (iI (-1)) (gmk 11 3 σ)))) X K w (n + 6) (s + 33) := (((h.le (n' := n + 6 + 1) (s' := s + 33 + 3) (by omega) (by omega)).mk.pi' hfr).pi' hfr).pi' hfr
    have p7 : pT c (gpi (gn σ) 2 (iI ((dep - 1 - i : Nat) : Int)) (gpi (gn σ) 1 (iI (-1)) (gpi (gn σ) 0 (iI (-1)) (gmk 11 3 σ)))) (.tag (dep - 1 - i) .line) (gn σ) 0 := ⟨by omega, t11, nE0, by rw [gi_pi, if_pos ⟨rfl, rfl⟩]⟩
    have g7 : gn (gpi (gn σ) 2 (iI ((dep - 1 - i : Nat) : Int)) (gpi (gn σ) 1 (iI (-1)) (gpi (gn σ) 0 (iI (-1)) (gmk 11 3 σ)))) = gn σ + 1 := rfl
    generalize gpi (gn σ) 2 (iI ((dep - 1 - i : Nat) : Int)) (gpi (gn σ) 1 (iI (-1)) (gpi (gn σ) 0 (iI (-1)) (gmk 11 3 σ))) = t7 at k7 b7 p7 g7
    have m7 : mv c c L L σ t7 := k7.mv
    have eF : sFt dep (vLoc i) = .tag (dep - 1 - i) .line := by rcases i with _ | _ | _ | _ | i <;> rfl
    have gF : gT (.tag (dep - 1 - i) .line) false (gg) := by
      show gg[dep - 1 - i]? = some true
      exact i1.2
    refine ⟨fun e => ?_, fun a9 e => ⟨(b7.2.2.2.le (n' := n + 5 + 1) (s' := s + 29 + 4) (by omega) (by omega)).gr b7.1, ?_⟩⟩
    · have has : as = [] := by
        cases as with
        | nil => rfl
        | cons v as => rw [e] at hA; exact hA.elim
      subst has
      exact ok t7 K _ (gn σ) (by rw [eN]; show (K, Except.ok (sFt dep (vLoc i))) = _; rw [eF]) (Nat.le_refl _) (k7.wk (fun _ q => q.elim)) (b7.le (by omega) (by omega)) p7 gF
    · have has : as ≠ [] := by
        rintro rfl
        rw [e] at hA; exact hA.elim
      have hl1 : 1 ≤ as.length := List.length_pos_iff.mpr has
      have eN2 : sNx X d dep (vLoc i, as) K = sBind (sMap (fun c K => sNorm X d dep c K) as K) fun ps K => (K, .ok (.tag 2 (.append (.tag (dep - 1 - i) .line) ps))) := by
        rw [eN]
        show (if as.isEmpty then _ else _) = _
        rw [if_neg (by simpa using has)]
        show sBind _ (fun ps K => (K, Except.ok (Std.Format.tag 2 (.append (sFt dep (vLoc i)) ps)))) = _
        rw [eF]
      refine nf_use (c := c) (L := L) (n := n) (s := s) ih (by omega) (fun a q => by have := hE a q; omega) (hLN.mv m7) p7 gF (pA_mv m7 _ _ hA) ga hl1 hlen (pX_mv m7 hX) hd b7 (fun τ K' ps x f1 f2 f3 f4 f5 f6 => ?_) (fun x τ K' e w' f1 f2 f3 f4 f5 => ?_)
      · exact ok τ K' _ x (by rw [eN2, f1]; rfl) f2 ((k7.wk (fun _ q => q.elim) : keep (isM R) σ t7).t2 f3) f4 f5 f6
      · exact er x τ K' e w' (by rw [eN2, f1]; rfl) f2 f3 ((k7.wk (fun _ q => q.elim) : keep (isM R) σ t7).t2 f4) f5
  · obtain ⟨⟨a, e1, e2⟩, -⟩ := hu
    have gF : gT t false (gg) := by
      rcases g3 with ⟨k, rfl, -⟩ | ⟨k, rfl⟩ | ⟨d, b, rfl⟩ | ⟨p', d, b, rfl⟩
      · trivial
      · trivial
      · cases hb
      · rw [sBinds_prod] at hb; cases hb
    have eF : sFt dep (vClo t r') = t := rfl
    refine tX3_normalFront ⟨a, e1, pT_tm e2, fun q => absurd (q.tag e1) (pT_18 e2), fun _ => ⟨fun e => ?_, fun a9 e => ⟨(h.2.2.2.le (n' := n + 6 + 1) (s' := s + 32 + 4) (by omega) (by omega)).gr hz, ?_⟩⟩⟩
    · have has : as = [] := by
        cases as with
        | nil => rfl
        | cons v as => rw [e] at hA; exact hA.elim
      subst has
      rw [e1]
      exact ok σ K t a (by rw [eN]; rfl) (Nat.le_refl _) keep.rf (h.le (by omega) (by omega)) e2 gF
    · have has : as ≠ [] := by
        rintro rfl
        rw [e] at hA; exact hA.elim
      have hl1 : 1 ≤ as.length := List.length_pos_iff.mpr has
      have eN2 : sNx X d dep (vClo t r', as) K = sBind (sMap (fun c K => sNorm X d dep c K) as K) fun ps K => (K, .ok (.tag 2 (.append t ps))) := by
        rw [eN]
        show (if as.isEmpty then _ else _) = _
        rw [if_neg (by simpa using has)]
        rfl
      rw [e1]
      refine nf_use (c := c) (L := L) (n := n) (s := s) ih hl hE hLN e2 gF hA ga hl1 hlen hX hd (h.le (by omega) (by omega)) (fun τ K' ps x f1 f2 f3 f4 f5 f6 => ?_) (fun x τ K' e w' f1 f2 f3 f4 f5 => ?_)
      · exact ok τ K' _ x (by rw [eN2, f1]; rfl) f2 f3 f4 f5 f6
      · exact er x τ K' e w' (by rw [eN2, f1]; rfl) f2 f3 f4 f5
theorem c_norm : ∀ (d w lev : Nat), w + d = 100 → 2 * d + 12 ≤ lev → CNorm G s0 l KK T R X lev d w := by
  intro d
  induction d with
  | zero =>
    intro w lev hw hl c v q dep gg K σ n s L Q hE hLN hv gv hX hd h ok er
    obtain ⟨l', rfl⟩ : ∃ l', lev = l' + 1 := ⟨lev - 1, by omega⟩
    refine tX3_normal ⟨h.2.1.1.1, c_looks (d := 0) (n := n + swv v) (s := s + 3 * swv v) (by omega) hw h (fun τ K' d' hd => (by omega)) (fun x τ e hc hf hk hm _ => ?_)⟩
    rcases hc with ⟨-, rfl⟩ | ⟨d', hd, -⟩
    · exact er x τ K 13 w rfl (Nat.le_refl _) hf hk (hm.le (by omega) (by omega))
    · omega
  | succ d ih =>
    intro w lev hw hl c v q dep gg K σ n s L Q hE hLN hv gv hX hd h ok er
    obtain ⟨l', rfl⟩ : ∃ l', lev = l' + 2 := ⟨lev - 2, by omega⟩
    have ih' : CNorm G s0 l KK T R X l' d (w + 1) := ih (w + 1) l' (by omega) (by omega)
    refine tX3_normal ⟨h.2.1.1.1, c_looks (d := d + 1) (n := n + swv v) (s := s + 3 * swv v) (by omega) hw h (fun t2 K2 d' hd' s1 s2 s3 s4 s5 hle2 => ?_) (fun x τ e hc hf hk hm _ => ?_)⟩
    · have m2 : mv c c L L σ t2 := mv_keep s4 h.2.1.ok
      refine c_head (c := c) (L := L) (v := v) (n := n + 10) (s := s + 36) (by omega) (pV_mv m2 _ _ _ hv) gv (pX_mv m2 hX) (s5.le (by omega) (by omega)) (fun t4 K4 u as a1 a2 a3 a4 a5 a6 a7 a8 a9 a10 hle4 => ?_) (fun x τ K' e a1 a2 a3 a4 a5 _ => ?_)
      · have m4 : mv c c L L t2 t4 := mv_keep a4 s5.2.1.ok
        refine c_here (c := c) (L := L) (n := n + swv u + 10) (s := s + 3 * swv u + 42) (by omega) (a5.le (by omega) (by omega)) a6 (fun t6 k6 b6 v6 g6 _ => ?_)
        have m6 : mv c c L L t4 t6 := k6.mv
        have p6 : pA c L t6 as (gr t6 (R 2) 3) := by rw [(k6 (R 2) (a5.2.1.tg (Or.inl rfl)) id).2.2.1]; exact pA_mv m6 _ _ a7
        generalize gr t6 (R 2) 3 = xa at p6
        have bF := b6.in1
        have kF : keep (isM R) t6 (gpi (R 2) 8 (gi t6 (R 2) 8 + iI 1) t6) := keep_in
        have gF : gn (gpi (R 2) 8 (gi t6 (R 2) 8 + iI 1) t6) = gn t6 := rfl
        generalize gpi (R 2) 8 (gi t6 (R 2) 8 + iI 1) t6 = F at bF kF gF
        have mF : mv c c L L t6 F := mv_keep kF b6.2.1.ok
        have kkF : keep (isM R) σ F := ((s4.t2 a4).t2 (k6.wk (fun _ q => q.elim))).t2 kF
        have huF := pV_mv mF _ _ _ v6
        have pF := pA_mv mF _ _ p6
        have hXF : pX c F X := pX_mv mF (pX_mv m6 (pX_mv m4 (pX_mv m2 hX)))
        have hLNF : LN L F dep gg := (((hLN.mv m2).mv m4).mv m6).mv mF
        have hEF : ∀ a, c.E a → a < gn F := fun a q => by have := hE a q; have := hle2.1.1; have := hle4.1.1; omega
        have heq : ∀ K' (r : Except Nat V), sNx X d dep (u, as) K4 = (K', r) → sNorm X (d + 1) dep v K = (K', r) := fun K' r hr => by
          rw [sNorm_suc, s1]
          show sBind (sHd X v K2) _ = _
          rw [a1]
          exact hr
        have fl : ∀ τ K' t x, sNx X d dep (u, as) K4 = (K', .ok t) → K4.life ≤ K'.life → keep (isM R) F τ → MB G R τ X K' (w + 1) (n + 3) (s + 24) → pT c τ t x 0 → gT t false (gg) → Q (.returned (some (va_rf (some x)))) (gpi (R 2) 8 (gi τ (R 2) 8 - iI 1) τ) := fun τ K' t x u1 u2 u3 u4 u5 u6 =>
          ok _ K' t x (heq _ _ u1) (by omega) ((kkF.t2 u3).t2 keep_in) u4.out1 (pT_mv (mv_keep (L := L) (keep_in (R := R)) u4.2.1.ok) _ _ _ u5) u6
        have fe : ∀ x τ K' e w', sNx X d dep (u, as) K4 = (K', .error e) → K4.life ≤ K'.life → flt τ x e (-1) → keep (isM R) F τ → MB G R τ X K' w' n s → Q (.threw x) τ := fun x τ K' e w' u1 u2 u3 u4 u5 =>
          er x τ K' e w' (heq _ _ u1) (by omega) u3 (kkF.t2 u4) u5
        obtain ⟨t14, hxH⟩ := pH_pV huF
        obtain ⟨ax, ex1, ex2, ex3⟩ := pH_tag hxH a8
        refine ⟨_, rfl, t14, ax, ex1, ex2, fun i8 => ?_, fun i8 => ⟨fun i9 => ?_, fun i9 => ?_⟩⟩
        · have h8 := i8.tag ex1
          obtain ⟨⟨p, dx, bx, rx, hbx⟩, -⟩ : (∃ p dx bx r, sBinds u = some (true, p, dx, bx, r)) ∧ gk F ax = 8 := by rcases ex3 with h | h | h <;> first | exact h | (exfalso; omega)
          have e9 := sNx_b (X := X) (d := d) (dep := dep) (x := (u, as)) (K := K4) hbx
          exact c_nlam (n := n) (s := s) ih' (by omega) hEF hLNF huF a8 hbx hXF (by omega) (bF.le (by omega) (by omega)) (fun τ K' t x u1 u2 u3 u4 u5 u6 _ => fl τ K' t x (e9.trans u1) u2 u3 u4 u5 u6) (fun x τ K' e w' u1 u2 u3 u4 u5 _ => fe x τ K' e w' (e9.trans u1) u2 u3 u4 u5)
        · have h9 := i9.tag ex1
          obtain ⟨⟨p, dx, bx, rx, hbx⟩, -⟩ : (∃ p dx bx r, sBinds u = some (false, p, dx, bx, r)) ∧ gk F ax = 9 := by rcases ex3 with h | h | h <;> first | exact h | (exfalso; omega)
          have e9 := sNx_b (X := X) (d := d) (dep := dep) (x := (u, as)) (K := K4) hbx
          obtain ⟨a', d', b', j1, -, j3, -⟩ := pH_binds hbx hxH
          have ja : ax = a' := by rw [ex1] at j1; cases j1; rfl
          subst ja
          obtain ⟨y1, y2, y3, y4⟩ := j3 rfl
          exact c_nprod (n := n) (s := s) ih' (by omega) hEF hLNF huF a8 hbx ex1 y1 y3 y4 hXF (by omega) (bF.le (by omega) (by omega)) (fun τ K' t x u1 u2 u3 u4 u5 u6 _ => fl τ K' t x (e9.trans u1) u2 u3 u4 u5 u6) (fun x τ K' e w' u1 u2 u3 u4 u5 _ => fe x τ K' e w' (e9.trans u1) u2 u3 u4 u5)
        · have hbn : sBinds u = none := by
            rcases ex3 with ⟨-, h⟩ | ⟨-, h⟩ | ⟨hn, -⟩
            · exact absurd ⟨ax, ex1, h⟩ i8
            · exact absurd ⟨ax, ex1, h⟩ i9
            · exact hn
          have k6' := bF.2.2.1.2.2
          exact c_nfront (n := n) (s := s) ih' (by omega) hEF hLNF hxH a8 hbn pF a9 (by omega) hXF (by omega) (bF.le (by omega) (by omega)) (fun τ K' t x u1 u2 u3 u4 u5 u6 _ => fl τ K' t x u1 u2 u3 u4 u5 u6) (fun x τ K' e w' u1 u2 u3 u4 u5 _ => fe x τ K' e w' u1 u2 u3 u4 u5)
      · exact er x τ K' e w (by rw [sNorm_suc, s1]; show sBind (sHd X v K2) _ = _; rw [a1]; rfl) (by omega) a3 (s4.t2 a4) (a5.le (by omega) (by omega))
    · rcases hc with ⟨hd, -⟩ | ⟨d', hd, s1⟩
      · omega
      · exact er x τ K e w (by rw [sNorm_suc, s1]; rfl) (Nat.le_refl _) hf hk (hm.le (by omega) (by omega))
end PN2
