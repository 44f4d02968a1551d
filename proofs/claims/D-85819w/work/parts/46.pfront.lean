/-! P OVER S (15): normal forms: what is applied -/
def vpre : List V → V → V
  | [], p => p
  | t :: ts, p => .append t (vpre ts p)
theorem vpre_snoc {p t : V} : ∀ (ts : List V), vpre (ts ++ [t]) p = vpre ts (.append t p) := by
  intro ts
  induction ts with
  | nil => rfl
  | cons x ts ih => exact congrArg (Std.Format.append x) ih
theorem vpre_len {p : V} : ∀ (ts : List V), vlen (vpre ts p) = ts.length + vlen p := by
  intro ts
  induction ts with
  | nil => simp [vpre]
  | cons x ts ih => show vlen (vpre ts p) + 1 = _; rw [ih]; simp; omega
theorem vpre_gT {g : List Bool} : ∀ (ts : List V), (∀ (j : Nat) (t : V), ts[j]? = some t → gT t false g) → gT (vpre ts .nil) false g := by
  intro ts
  induction ts with
  | nil => intro _; trivial
  | cons x ts ih => intro h; exact ⟨h 0 x rfl, ih (fun j t hj => h (j + 1) t hj)⟩
theorem vpre_pT {c : PC} {σ : GSt} {z : Nat} (h1 : gk σ z = 103) (h2 : ¬ c.E z) : ∀ (ts : List V) (i : Nat), (∀ (j : Nat) (t : V), ts[j]? = some t → ∃ b, gr σ z (i + j) = some b ∧ pT c σ t b 0) → pT c σ (vpre ts .nil) z (i + 1) := by
  intro ts
  induction ts with
  | nil => intro i _; trivial
  | cons x ts ih =>
    intro i h
    obtain ⟨b, e1, e2⟩ := h 0 x rfl
    refine ⟨h1, h2, b, e1, e2, ih (i + 1) (fun j t hj => ?_)⟩
    rw [show i + 1 + j = i + (j + 1) by omega]
    exact h (j + 1) t hj
/-- a list that is being made is left out -/
abbrev cX (c : PC) (u al z : Nat) : PC := ((fun a => c.E a ∨ a = u ∨ a = al ∨ a = z), c.2)
section PF
variable {G : GPl} {s0 : State} {l : Launch} {KK : Nat → Option Nat} {T : Nat → Nat} {lev d : Nat} {Q : Outcome → GSt → Prop} {R : Nat → Nat} {σ τ st0 : GSt} {X : SX} {K K' : KS} {w n s : Nat} {c c' : PC} {L L' : Nat → Nat → Prop} {W : Nat → Prop} {gg : List Bool}
theorem MS.kp (h : MS G R σ X K w) (hk : keep W σ τ) (hW : ∀ a, isM R a → ¬ W a) : MS G R τ X K w :=
  h.mv (fun a ha => by obtain ⟨e1, e2, e3, e4⟩ := hk a (h.tg ha) (hW a ha); exact ⟨e1, e2, e4⟩) (fun j _ => (hk (R 2) (h.tg (Or.inl rfl)) (hW _ (Or.inl rfl))).2.2.1 j)
theorem MS.h0 (h : MS G R σ X K w) (hz : gz σ) : G.h0.size ≤ gn σ := by
  have h1 := h.2.2.1.2.2
  have h2 := hz.lt (h.tg (Or.inr (Or.inr rfl)))
  omega
theorem tm_stO {b : Nat} (h : isTmA σ b) : stOK σ (some b) "java/lang/Object" := by
  obtain ⟨t, h1, h2⟩ := h
  refine stO h2 ?_
  revert h1
  unfold tmC
  simp
  omega
theorem c_use0 {x : Option Nat} (hl : 5 ≤ lev) (h : MB G R σ X K w (n + 3) (s + 9)) (ok : ∀ τ, keep nil0 σ τ → MB G R τ X K w n s → gn τ = gn σ + 3 → gk τ (gn σ) = 13 → gr τ (gn σ) 2 = x → gr τ (gn σ) 3 = some (gn σ + 1) → gk τ (gn σ + 1) = 22 → gr τ (gn σ + 1) 1 = some (gn σ + 2) → gi τ (gn σ + 1) 2 = iI 0 → gk τ (gn σ + 2) = 103 → gl τ (gn σ + 2) = 2 → Q (.returned none) τ) : CQ (wP G s0 l KK T) mX15_init lev (.ref (gn σ) :: [va_rf x]) (gmk 13 4 σ) Q := by
  obtain ⟨l', rfl⟩ := Nat.exists_eq_add_of_le' hl
  have hz := h.1
  have n0 : gk σ (gn σ) = 0 := hz.at
  have t13 : gk (gmk 13 4 σ) (gn σ) = 13 := gk_new (n := 4) n0
  have b0 : MB G R (gmk 13 4 σ) X K w (n + 2) (s + 5) := MB.mk h
  have hfr : ¬ isM R (gn σ) := h.2.1.fr hz (Nat.le_refl _)
  have b1 : MB G R (gpi (gn σ) 1 (iI (-1)) (gpi (gn σ) 0 (iI (-1)) (gmk 13 4 σ))) X K w (n + 2) (s + 5) := (b0.pi' hfr).pi' hfr
  have k1 : keep nil0 σ (gpi (gn σ) 1 (iI (-1)) (gpi (gn σ) 0 (iI (-1)) (gmk 13 4 σ))) := ((keep.rf.mk n0).pi (fun q => absurd n0 q)).pi (fun q => absurd n0 q)
  have u1 : gk (gpi (gn σ) 1 (iI (-1)) (gpi (gn σ) 0 (iI (-1)) (gmk 13 4 σ))) (gn σ) = 13 := t13
  have g1 : gn (gpi (gn σ) 1 (iI (-1)) (gpi (gn σ) 0 (iI (-1)) (gmk 13 4 σ))) = gn σ + 1 := rfl
  refine tX15_init (tX9_init ⟨⟨12, by decide, t13⟩, fun _ => ?_⟩)
  generalize gpi (gn σ) 1 (iI (-1)) (gpi (gn σ) 0 (iI (-1)) (gmk 13 4 σ)) = t1 at b1 k1 u1 g1
  have z1 := b1.1
  have n1 : gk t1 (gn t1) = 0 := z1.at
  refine ⟨(b1.2.2.2.le (n' := n + 1 + 1) (s' := s + 2 + 3) (by omega) (by omega)).gr z1, ?_⟩
  have t22 : gk (gmk 22 3 t1) (gn t1) = 22 := gk_new (n := 3) n1
  have hfr1 : ¬ isM R (gn t1) := b1.2.1.fr z1 (Nat.le_refl _)
  have b2 : MB G R (gpi (gn t1) 0 (iI 0) (gmk 22 3 t1)) X K w (n + 1) (s + 2) := ((b1.le (n' := n + 1 + 1) (s' := s + 2 + 3) (by omega) (by omega)).mk).pi' hfr1
  have k2 : keep nil0 t1 (gpi (gn t1) 0 (iI 0) (gmk 22 3 t1)) := (keep.rf.mk n1).pi (fun q => absurd n1 q)
  have u2 : gk (gpi (gn t1) 0 (iI 0) (gmk 22 3 t1)) (gn t1) = 22 := t22
  have g2 : gn (gpi (gn t1) 0 (iI 0) (gmk 22 3 t1)) = gn t1 + 1 := rfl
  have i2 : gi (gpi (gn t1) 0 (iI 0) (gmk 22 3 t1)) (gn t1) 2 = iI 0 := by rw [gi_pi, if_neg (by omega), gi_nw]; rfl
  refine tJ2_init_2 (tJ1_init (tJ0_init (fun _ => ⟨t22, fun _ => ?_⟩)))
  generalize gpi (gn t1) 0 (iI 0) (gmk 22 3 t1) = t2 at b2 k2 u2 g2 i2
  have z2 := b2.1
  have n2 : gk t2 (gn t2) = 0 := z2.at
  refine ⟨fun q => absurd q (by decide), fun _ => ?_⟩
  have e2 : (iI 2).toInt.toNat = 2 := by decide
  rw [e2]
  have t103 : gk (gmk 103 2 t2) (gn t2) = 103 := gk_new (n := 2) n2
  refine ⟨by unfold inr; decide, (b2.2.2.2.gr z2), by rw [gk_old (by omega)]; exact u2, fun _ => ?_⟩
  have u3 : gk (gmk 103 2 t2) (gn σ) = 13 := by rw [gk_old (by omega), (k2 (gn σ) (by omega) id).1]; exact u1
  refine ⟨u3, ?_⟩
  have q2 : gk t1 (gn t2) = 0 := z1 _ (by omega)
  have q3 : gk σ (gn t2) = 0 := hz _ (by omega)
  have q4 : gk σ (gn t1) = 0 := hz _ (by omega)
  have hfr2 : ¬ isM R (gn t2) := b2.2.1.fr z2 (Nat.le_refl _)
  have kF : keep nil0 σ (gpr (gn σ) 2 x (gpr (gn σ) 3 (some (gn t1)) (gpr (gn t1) 1 (some (gn t2)) (gmk 103 2 t2)))) := (((((k1.t2 k2).mk q3).pr (fun q => absurd q4 q)).pr (fun q => absurd n0 q)).pr (fun q => absurd n0 q))
  have bF : MB G R (gpr (gn σ) 2 x (gpr (gn σ) 3 (some (gn t1)) (gpr (gn t1) 1 (some (gn t2)) (gmk 103 2 t2)))) X K w n s := (((b2.mk (t := 103)).pr' hfr1).pr' hfr).pr' hfr
  have f1 : gn t1 = gn σ + 1 := g1
  have f2 : gn t2 = gn σ + 2 := by omega
  rw [← f1, ← f2] at ok
  refine ok _ kF bF (by show gn t2 + 1 = _; omega) u3 ?_ ?_ ?_ ?_ ?_ t103 (gl_nw (t := 103))
  · rw [gr_pr, if_pos ⟨rfl, rfl⟩]
  · rw [gr_pr, if_neg (by omega), gr_pr, if_pos ⟨rfl, rfl⟩]
  · rw [gk_pr, gk_pr, gk_pr, gk_old (by omega)]; exact u2
  · rw [gr_pr, if_neg (by omega), gr_pr, if_neg (by omega), gr_pr, if_pos ⟨rfl, rfl⟩]
  · rw [gi_pr, gi_pr, gi_pr, gi_mk (by omega)]; exact i2
theorem c_floop {u al dep : Nat} {x1 x2 x4 : Option Nat} (ih : CNorm G s0 l KK T R X lev d w) (hl : 7 ≤ lev) (hd : dep + d ≤ 1000) : ∀ (as : List V) (k : Nat) (ts : List V) (z cap : Nat) (x6 : Option Nat) (σ : GSt) (K : KS) (S : Nat), (∀ a, c.E a → a < gn σ) → LN L σ dep gg → pA (cX c u al z) L σ as x6 → gA as → pX (cX c u al z) σ X → gk σ u = 13 → gr σ u 3 = some al → gk σ al = 22 → gr σ al 1 = some z → gk σ z = 103 → ¬ c.E z → gl σ z = cap → gi σ al 2 = iI (k : Int) → k ≤ cap → 2 ≤ cap → 2 * cap ≤ 3 * k + 4 → k + as.length ≤ 60000 →
    ts.length = k → (∀ (j : Nat) (t : V), ts[j]? = some t → (∃ b, gr σ z j = some b ∧ pT (cX c u al z) σ t b 0) ∧ gT t false (gg)) → MB G R σ X K w (n + 3) S → s + 32 + 12 * k ≤ S + 4 * cap →
    (∀ τ K' ps z', sMap (fun c K => sNorm X d dep c K) as K = (K', .ok ps) → K.life ≤ K'.life → keep (fun a => isM R a ∨ a = al ∨ a = z) σ τ → MB G R τ X K' w (n + 3) (s + 24) → gk τ al = 22 → gr τ al 1 = some z' → gk τ z' = 103 → gi τ al 2 = iI ((k + as.length : Nat) : Int) → k + as.length ≤ gl τ z' → ¬ c.E z' → pT c τ (vpre ts ps) z' 1 → gT (vpre ts ps) false (gg) → vlen (vpre ts ps) = k + as.length → Q (.returned (some (va_rf (some u)))) τ) →
    (∀ x τ K' e w', sMap (fun c K => sNorm X d dep c K) as K = (K', .error e) → K.life ≤ K'.life → flt τ x e (-1) → keep (fun a => isM R a ∨ a = al ∨ a = z) σ τ → MB G R τ X K' w' n s → Q (.threw x) τ) → jX3_normalFront_56 G s0 l KK T lev st0 Q (R 2) x1 x2 (iI (dep : Int)) x4 (some u) x6 σ := by
  intro as
  induction as with
  | nil =>
    intro k ts z cap x6 σ K S hE hLN hA ga hX h1 h2 h3 h4 h5 hz5 h6 h7 h8 h9 h10 h11 h12 h13 h hS ok er
    cases x6 with
    | some q => exact hA.elim
    | none =>
      refine tX3_normalFront_56 ⟨fun _ => ?_, fun a1 e => (by cases e)⟩
      have mF : mv (cX c u al z) c L L σ σ := mv_keepE keep.rf (fun a q => (q : nil0 a).elim) (fun a _ hc q => hc (Or.inl q)) rfl
      refine ok σ K .nil z rfl (Nat.le_refl _) keep.rf (h.le (by omega) (by omega)) h3 h4 h5 (by simpa using h7) (by simp; omega) hz5 ?_ ?_ ?_
      · refine vpre_pT h5 hz5 ts 0 (fun j t hj => ?_)
        obtain ⟨⟨b, b1, b2⟩, -⟩ := h13 j t hj
        exact ⟨b, by rw [Nat.zero_add]; exact b1, pT_mv mF _ _ _ b2⟩
      · exact vpre_gT ts (fun j t hj => (h13 j t hj).2)
      · rw [vpre_len]; simp [vlen, h12]
  | cons a as iha =>
    intro k ts z cap x6 σ K S hE hLN hA ga hX h1 h2 h3 h4 h5 hz5 h6 h7 h8 h9 h10 h11 h12 h13 h hS ok er
    cases x6 with
    | none => exact hA.elim
    | some q6 =>
      obtain ⟨a1, a2, a3⟩ := hA
      refine tX3_normalFront_56 ⟨fun e => (by cases e), fun a1' e => ?_⟩
      cases e
      have gva := ga a List.mem_cons_self
      obtain ⟨ca, za⟩ := gV_C gva.1 gva.2
      have ea : ∃ p, gr σ q6 0 = some p := by
        cases hq : gr σ q6 0 with
        | some p => exact ⟨p, rfl⟩
        | none => rw [hq] at a2; exact absurd (pV_none a2) gva.2
      obtain ⟨pa, ea⟩ := ea
      have hz := h.1
      have lu : u < gn σ := hz.lt (by omega)
      have lal : al < gn σ := hz.lt (by omega)
      have lz : z < gn σ := hz.lt (by omega)
      have Mok : ∀ a, isM R a → gk σ a = 3 ∨ gk σ a = 101 ∨ gk σ a = 102 := fun a ha => by
        obtain ⟨⟨m1, m2, m3⟩, -⟩ := h.2.1
        rcases ha with rfl | rfl | rfl <;> omega
      have nal : ¬ isM R al := fun q => by have := Mok _ q; omega
      have nz : ¬ isM R z := fun q => by have := Mok _ q; omega
      have nu : ¬ isM R u := fun q => by have := Mok _ q; omega
      have nq : ¬ isM R q6 := fun q => by have := Mok _ q; omega
      refine ⟨u, rfl, h1, a1, h.2.1.1.1, ?_⟩
      rw [ea] at a2 ⊢
      refine ih (cX c u al z) a pa dep gg K σ (n + 2) (S - 8) L _ (fun b q => by
        rcases q with q | rfl | rfl | rfl
        · exact hE b q
        · exact lu
        · exact lal
        · exact lz) hLN a2 ca hX (by omega) (h.le (by omega) (by omega)) (fun t6 K6 t x s1 s2 s3 s4 s5 s6 hle6 => ?_) (fun x t6 K6 e w' s1 s2 s3 s4 s5 _ => ?_)
      · obtain ⟨al1, al2, al3, al4⟩ := s3 al (by omega) nal
        obtain ⟨z1, z2, z3, z4⟩ := s3 z (by omega) nz
        obtain ⟨u1, u2, u3, u4⟩ := s3 u (by omega) nu
        obtain ⟨q1, q2, q3, q4⟩ := s3 q6 (by omega) nq
        have m6 : mv (cX c u al z) (cX c u al z) L L σ t6 := mv_keep s3 h.2.1.ok
        refine ⟨al, h2, al1.trans h3, ?_⟩
        have b6 : MB G R t6 X K6 w (n + 5) (S + 16) := s4.le (by omega) (by omega)
        refine c_add (z := z) (k := k) (cap := cap) (by omega) b6.1 (b6.2.1.h0 b6.1) (al1.trans h3) (by rw [al3]; exact h4) (z1.trans h5) (by rw [z4]; exact h6) (by rw [al2]; exact h7) h8 h9 (by omega) (tm_stO (pT_tm s5)) (fun j hj => ?_) (fun hk => ?_) (fun t10 z' k10 z10 c1 c2 c3 c4 c5 c6 c7 hle10 => ?_)
        · obtain ⟨t', ht'⟩ : ∃ t', ts[j]? = some t' := ⟨ts[j]'(by omega), List.getElem?_eq_getElem (by omega)⟩
          obtain ⟨⟨b, b1, b2⟩, -⟩ := h13 j t' ht'
          rw [z3, b1]
          exact tm_stO (pT_tm (pT_mv m6 _ _ _ b2))
        · obtain ⟨r1, r2⟩ := b6.2.2.2
          exact ⟨by omega, by omega⟩
        · have hWM : ∀ a, isM R a → ¬ (a = al ∨ a = z) := fun a ha q => by
            rcases q with rfl | rfl
            · exact nal ha
            · exact nz ha
          have nM10 : MS G R t10 X K6 w := b6.2.1.kp k10 hWM
          have b10 : ∃ S', MB G R t10 X K6 w (n + 3) S' ∧ s + 32 + 12 * (k + 1) ≤ S' + 4 * gl t10 z' ∧ k + 1 ≤ gl t10 z' ∧ 2 ≤ gl t10 z' ∧ 2 * gl t10 z' ≤ 3 * (k + 1) + 4 ∧ ¬ c.E z' := by
            obtain ⟨r1, r2⟩ := b6.2.2.2
            rcases c7 with ⟨d1, d2, d3, d4, d5⟩ | ⟨d1, d2, d3, d4, d5⟩
            · subst d2
              exact ⟨S + 16, ⟨z10, nM10, b6.2.2.1, by rw [RO, d4, d5]; exact ⟨by omega, by omega⟩⟩, by omega, by omega, by omega, by omega, hz5⟩
            · refine ⟨S + 16 - (cap + cap / 2), ⟨z10, nM10, b6.2.2.1, by rw [RO, d4, d5]; exact ⟨by omega, by omega⟩⟩, by omega, by omega, by omega, by omega, fun q => ?_⟩
              have := hE z' q
              have := hle6.1.1
              omega
          obtain ⟨S', b10, i1, i2, i3, i4, i5⟩ := b10
          have mE : mv (cX c u al z) (cX c u al z') L L t6 t10 := mv_keepE k10 (fun a q => Or.inr (Or.inr (Or.inr (Or.inr (Or.inr (by
            rcases q with rfl | rfl
            · exact ⟨by rw [al1.trans h3]; rfl, Or.inr (Or.inr (Or.inl rfl))⟩
            · exact ⟨by rw [z1.trans h5]; rfl, Or.inr (Or.inr (Or.inr rfl))⟩)))))) (fun a ha hc q => by
            rcases q with q | rfl | rfl | rfl
            · exact hc (Or.inl q)
            · exact hc (Or.inr (Or.inl rfl))
            · exact hc (Or.inr (Or.inr (Or.inl rfl)))
            · rcases c7 with ⟨-, rfl, -⟩ | ⟨-, d2, -⟩
              · exact hc (Or.inr (Or.inr (Or.inr rfl)))
              · rw [d2, b6.1.at] at ha; cases ha) rfl
          have ne1 : u ≠ al := fun q => by rw [q] at h1; omega
          have ne2 : u ≠ z := fun q => by rw [q] at h1; omega
          have ne3 : q6 ≠ al := fun q => by rw [q] at a1; omega
          have ne4 : q6 ≠ z := fun q => by rw [q] at a1; omega
          obtain ⟨v1, v2, v3, v4⟩ := k10 u (by omega) (fun q => by rcases q with q | q; exact ne1 q; exact ne2 q)
          obtain ⟨w1, w2, w3, w4⟩ := k10 q6 (by omega) (fun q => by rcases q with q | q; exact ne3 q; exact ne4 q)
          have kk10 : keep (fun a => isM R a ∨ a = al ∨ a = z) σ t10 := (s3.wk (fun a q => Or.inl q)).tr k10 (fun a _ q => Or.inr q)
          rw [w3, q3]
          refine iha (k + 1) (ts ++ [t]) z' (gl t10 z') (gr σ q6 1) t10 K6 S' (fun a q => by have := hE a q; have := hle6.1.1; have := hle10.1.1; omega) ((hLN.mv m6).mv mE) (pA_mv mE _ _ (pA_mv m6 _ _ a3)) (fun v hv => ga v (List.mem_cons_of_mem _ hv)) (pX_mvE mE rfl (pX_mv m6 hX)) (v1.trans (u1.trans h1)) (by rw [v3, u3]; exact h2) c1 c2 c3 i5 rfl c4 i2 i3 i4 (by simp at h11; omega) (by simp [h12]) (fun j t' hj => ?_) b10 i1 (fun τ K' ps z'' e1 e2 e3 e4 e5 e6 e7 e8 e9 e10 e11 e12 e13 => ?_) (fun x τ K' e w' e1 e2 e3 e4 e5 => ?_)
          · rcases Nat.lt_or_ge j k with hjk | hjk
            · rw [List.getElem?_append_left (by omega)] at hj
              obtain ⟨⟨b, b1, b2⟩, b3⟩ := h13 j t' hj
              exact ⟨⟨b, by rw [c5 j hjk, z3]; exact b1, pT_mv mE _ _ _ (pT_mv m6 _ _ _ b2)⟩, b3⟩
            · rw [List.getElem?_append_right (by omega)] at hj
              have hj0 : j = k := by
                have := (List.getElem?_eq_some_iff.mp hj).1
                simp at this; omega
              subst hj0
              rw [h12] at hj
              simp at hj
              subst hj
              exact ⟨⟨x, c6, pT_mv mE _ _ _ s5⟩, s6⟩
          · refine ok τ K' (.append t ps) z'' (by unfold sMap; rw [s1]; show sBind (sMap _ as K6) _ = _; rw [e1]; rfl) (by omega) (kk10.tr e3 (fun a ha q => ?_)) e4 e5 e6 e7 (by rw [e8]; congr 2; simp; omega) (by simp; omega) e10 (by rw [vpre_snoc] at e11; exact e11) (by rw [vpre_snoc] at e12; exact e12) (by rw [vpre_snoc] at e13; rw [e13]; simp; omega)
            rcases q with q | q | q
            · exact Or.inl q
            · exact Or.inr (Or.inl q)
            · rcases c7 with ⟨-, rfl, -⟩ | ⟨-, d2, -⟩
              · exact Or.inr (Or.inr q)
              · rw [q, d2] at ha
                exact absurd (hz _ hle6.1.1) ha
          · refine er x τ K' e w' (by unfold sMap; rw [s1]; show sBind (sMap _ as K6) _ = _; rw [e1]; rfl) (by omega) e3 (kk10.tr e4 (fun a ha q => ?_)) e5
            rcases q with q | q | q
            · exact Or.inl q
            · exact Or.inr (Or.inl q)
            · rcases c7 with ⟨-, rfl, -⟩ | ⟨-, d2, -⟩
              · exact Or.inr (Or.inr q)
              · rw [q, d2] at ha
                exact absurd (hz _ hle6.1.1) ha
      · exact er x t6 K6 e w' (by unfold sMap; rw [s1]; rfl) s2 s3 (s4.wk (fun a q => Or.inl q)) (s5.le (by omega) (by omega))
end PF
