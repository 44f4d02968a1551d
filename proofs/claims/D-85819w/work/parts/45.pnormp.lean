/-! P OVER S (14): normal forms: products -/
section PNP
variable {G : GPl} {s0 : State} {l : Launch} {KK : Nat → Option Nat} {T : Nat → Nat} {lev d : Nat} {Q : Outcome → GSt → Prop} {R : Nat → Nat} {σ τ st0 : GSt} {X : SX} {K K' : KS} {w n s : Nat} {c c' : PC} {L L' : Nat → Nat → Prop} {W : Nat → Prop} {gg : List Bool}
theorem c_nprod {q dep p a16 : Nat} {x2 : Option Nat} {u dx bx r : V} (ih : CNorm G s0 l KK T R X lev d w) (hl : 4 ≤ lev) (hE : ∀ a, c.E a → a < gn σ) (hLN : LN L σ dep gg) (hu : pV c L σ u false (some q)) (gu : gR X u) (hb : sBinds u = some (false, p, dx, bx, r)) (h16 : x2 = some a16) (h9 : gk σ a16 = 9) (h94 : gi σ a16 4 = iI ((p / 8 : Nat) : Int)) (h95 : gi σ a16 5 = iI ((p % 8 : Nat) : Int)) (hX : pX c σ X) (hd : dep + 1 + d ≤ 1000) (h : MB G R σ X K w (n + swv u + 10) (s + 3 * swv u + 42))
    (ok : ∀ τ K' t x, (sBind (sNorm X d dep (vClo dx r) K) fun t K => sBind (sNorm X d (dep + 1) (vClo bx (.append (vLoc dep) r)) K) fun u K => (K, .ok (Std.Format.tag p (.group (.append t u) .fill)))) = (K', .ok t) → K.life ≤ K'.life → keep (isM R) σ τ → MB G R τ X K' w (n + 3) (s + 24) → pT c τ t x 0 → gT t false (gg) → Q (.returned (some (va_rf (some x)))) τ)
    (er : ∀ x τ K' e w', (sBind (sNorm X d dep (vClo dx r) K) fun t K => sBind (sNorm X d (dep + 1) (vClo bx (.append (vLoc dep) r)) K) fun u K => (K, .ok (Std.Format.tag p (.group (.append t u) .fill)))) = (K', .error e) → K.life ≤ K'.life → flt τ x e (-1) → keep (isM R) σ τ → MB G R τ X K' w' n s → Q (.threw x) τ) : CQ (wP G s0 l KK T) mX3_normalProduct (lev + 1) (.ref (R 2) :: [va_rf (some q), va_rf x2, .int (iI (dep : Int))]) σ Q := by
  obtain ⟨gd, gb, ge, gw⟩ := gR_binds gu hb
  have z1 : swv (vClo dx r) = 0 := sw_false _ _ gd
  have hz := h.1
  have n0 : gk σ (gn σ) = 0 := hz.at
  have l16 : a16 ≠ gn σ := hz.ne (by omega)
  have f16 : ¬ isM R a16 := fun q => by rcases h.2.1.ok (c := ((fun _ => False), fun _ => 0, 0, 0)) a16 q with e | e | e | e | e | ⟨_, e⟩ <;> first | omega | exact e
  have hfr : ¬ isM R (gn σ) := h.2.1.fr hz (Nat.le_refl _)
  have h0 : MB G R (gmk 9 6 σ) X K w (n + swv u + 9) (s + 3 * swv u + 36) := MB.mk h
  refine tX3_normalProduct ⟨(h.2.2.2.le (n' := n + swv u + 9 + 1) (s' := s + 3 * swv u + 36 + 6) (by omega) (by omega)).gr hz, ?_⟩
  have k0 : keep nil0 σ (gmk 9 6 σ) := keep.rf.mk n0
  have t8 : gk (gmk 9 6 σ) (gn σ) = 9 := gk_new (n := 6) n0
  have hn0 : gn (gmk 9 6 σ) = gn σ + 1 := rfl
  generalize hA : gn σ = A at *
  generalize gmk 9 6 σ = t0 at h0 k0 t8 hn0
  -- the term being made is left out
  have m0 : mv c ((fun a => c.E a ∨ a = A), c.2) L L σ t0 := mv_keepE k0 (fun _ q => q.elim) (fun a ha hc => fun q => by
    rcases q with q | rfl
    · exact hc q
    · rw [n0] at ha; cases ha) rfl
  have hE0 : ∀ a, (c.E a ∨ a = A) → a < gn t0 := fun a q => by
    rcases q with q | rfl
    · have := hE a q; omega
    · omega
  have hu0 := pV_mv m0 _ _ _ hu
  have hX0 : pX ((fun a => c.E a ∨ a = A), c.2) t0 X := pX_mvE m0 rfl hX
  have hL0 : LN L t0 dep gg := hLN.mv m0
  refine c_dom (c := ((fun a => c.E a ∨ a = A), c.2)) (L := L) (by omega) (h0.le (n' := n + swv u + 8 + 1) (s' := s + 3 * swv u + 34 + 2) (by omega) (by omega)) hu0 hb (fun t3 k3 b3 v3 g3 _ => ⟨b3.2.1.1.1, ?_⟩)
  have m3 : mv ((fun a => c.E a ∨ a = A), c.2) ((fun a => c.E a ∨ a = A), c.2) L L t0 t3 := k3.mv
  have kk3 : keep (isM R) σ t3 := (k0.t2 k3).wk (fun _ q => q.elim)
  refine ih ((fun a => c.E a ∨ a = A), c.2) (vClo dx r) _ dep gg K t3 (n + swv u + 7) (s + 3 * swv u + 26) L _ (fun a q => by have := hE0 a q; omega) (hL0.mv m3) v3 (Or.inr ⟨_, _, rfl, gT_up _ _ _ gd, ge⟩) (pX_mv m3 hX0) (by omega) (b3.le (by omega) (by omega)) (fun t6 K6 td xd s1 s2 s3 s4 s5 s6 hle6 => ?_) (fun x t6 K6 e w' s1 s2 s3 s4 s5 _ => ?_)
  · have m6 : mv ((fun a => c.E a ∨ a = A), c.2) ((fun a => c.E a ∨ a = A), c.2) L L t3 t6 := mv_keep s3 b3.2.1.ok
    have u0 : gk t3 A = 9 := (k3 A (by omega) id).1.trans t8
    have u6 : gk t6 A = 9 := ((s3 A (by omega) hfr).1).trans u0
    obtain ⟨l', rfl⟩ : ∃ l', lev = l' + 2 := ⟨lev - 2, by omega⟩
    refine tX11_init (tX9_init ⟨⟨8, by decide, u6⟩, fun _ => ⟨u6, fun _ => ?_⟩⟩)
    have k8 : keep (fun a => a = A) t6 (gpr A 2 (some xd) (gpi A 1 (iI (-1)) (gpi A 0 (iI (-1)) t6))) := (((keep.rf (W := fun a => a = A)).pi (fun _ => rfl)).pi (fun _ => rfl)).pr (fun _ => rfl)
    have b8 : MB G R (gpr A 2 (some xd) (gpi A 1 (iI (-1)) (gpi A 0 (iI (-1)) t6))) X K6 w (n + swv u + 10) (s + 3 * swv u + 50) := ((s4.pi' hfr).pi' hfr).pr' hfr
    have a8 : gr (gpr A 2 (some xd) (gpi A 1 (iI (-1)) (gpi A 0 (iI (-1)) t6))) A 2 = some xd := by rw [gr_pr, if_pos ⟨rfl, rfl⟩]
    have u8 : gk (gpr A 2 (some xd) (gpi A 1 (iI (-1)) (gpi A 0 (iI (-1)) t6))) A = 9 := u6
    have g8 : gn (gpr A 2 (some xd) (gpi A 1 (iI (-1)) (gpi A 0 (iI (-1)) t6))) = gn t6 := rfl
    generalize gpr A 2 (some xd) (gpi A 1 (iI (-1)) (gpi A 0 (iI (-1)) t6)) = t8 at k8 b8 a8 u8 g8
    have m8 : mv ((fun a => c.E a ∨ a = A), c.2) ((fun a => c.E a ∨ a = A), c.2) L L t6 t8 := mv_keep k8 (fun a q => by subst q; exact Or.inr (Or.inr (Or.inr (Or.inr (Or.inr ⟨by rw [u6]; rfl, Or.inr rfl⟩)))))
    have hu8 := pV_mv m8 _ _ _ (pV_mv m6 _ _ _ (pV_mv m3 _ _ _ hu0))
    have kk8 : keep (isM R) σ t8 := (kk3.t2 s3).tr k8 (fun a ha q => by subst q; exact absurd n0 ha)
    refine c_bound (by omega) (b8.le (n' := n + sw bx + 6 + 2) (s' := s + 3 * sw bx + 26 + 6) (by omega) (by omega)) (fun t10 k10 b10 c1 c2 c3 c4 c5 g10 _ => ?_)
    have m10 : mv ((fun a => c.E a ∨ a = A), c.2) ((fun a => c.E a ∨ a = A), c.2) L (fun j q' => L j q' ∨ (j = dep ∧ q' = gn t8 + 1)) t8 t10 := mv_L k10.mv
    have hl10 : pV ((fun a => c.E a ∨ a = A), c.2) (fun j q' => L j q' ∨ (j = dep ∧ q' = gn t8 + 1)) t10 (vLoc dep) false (some (gn t8)) := by
      rw [pV_loc]; exact ⟨c1, _, c2, c3, Or.inr ⟨rfl, rfl⟩⟩
    have hL10 : LN (fun j q' => L j q' ∨ (j = dep ∧ q' = gn t8 + 1)) t10 (dep + 1) (true :: gg) := by
      rintro i q (h1 | ⟨rfl, rfl⟩)
      · obtain ⟨h1, h2, h3⟩ := (((hL0.mv m3).mv m6).mv m8) i q h1
        obtain ⟨e1, e2, -⟩ := m10.cl h2 rfl
        refine ⟨⟨by omega, ?_⟩, e1, by rw [e2]; exact h3⟩
        have e9 : dep + 1 - 1 - i = (dep - 1 - i) + 1 := by omega
        rw [e9]; exact h1.2
      · exact ⟨⟨by omega, by rw [Nat.add_sub_cancel, Nat.sub_self]; rfl⟩, c3, c5⟩
    refine c_body (by omega) (b10.le (n' := n + sw bx + 4 + 2) (s' := s + 3 * sw bx + 21 + 5) (by omega) (by omega)) (pV_mv m10 _ _ _ hu8) hb hl10 (fun t12 k12 b12 v12 g12 _ => ?_)
    have kk12 : keep (isM R) σ t12 := kk8.t2 ((k10.t2 k12).wk (fun _ q => q.elim))
    have m12 : mv ((fun a => c.E a ∨ a = A), c.2) ((fun a => c.E a ∨ a = A), c.2) L L t8 t12 := mv_keep ((k10.t2 k12)) (fun _ q => q.elim)
    have hX12 : pX ((fun a => c.E a ∨ a = A), c.2) t12 X := pX_mv m12 (pX_mv m8 (pX_mv m6 (pX_mv m3 hX0)))
    have g3' : gn t0 ≤ gn t3 := by omega
    have g6' : gn t3 ≤ gn t6 := hle6.1.1
    rw [iI_suc]
    refine ih ((fun a => c.E a ∨ a = A), c.2) (vClo bx (.append (vLoc dep) r)) _ (dep + 1) (true :: gg) K6 t12 (n + 3) (s + 10) _ _ (fun a q => by have := hE0 a q; omega) (fun i q hq => by obtain ⟨h1, h2, h3⟩ := hL10 i q hq; obtain ⟨e1, e2, -⟩ := (k12.mv (c := c) (L := L)).cl h2 rfl; exact ⟨h1, e1, by rw [e2]; exact h3⟩) v12 (Or.inr ⟨_, _, rfl, gb, ⟨by rcases dep with _ | _ | _ | _ | i <;> trivial, ge⟩⟩) hX12 (by omega) (b12.le (by show n + 3 + sw bx + 1 ≤ _; omega) (by show s + 10 + 3 * sw bx + 8 ≤ _; omega)) (fun t14 K14 tb xb e1 e2 e3 e4 e5 e6 _ => ?_) (fun x t14 K14 e w' e1 e2 e3 e4 e5 _ => ?_)
    · have m14 : mv ((fun a => c.E a ∨ a = A), c.2) ((fun a => c.E a ∨ a = A), c.2) L L t12 t14 := mv_keep e3 b12.2.1.ok
      have u12 : gk t12 A = 9 ∧ gr t12 A 2 = some xd := by
        obtain ⟨i1, i2, i3, -⟩ := (k10.t2 k12) A (by omega) id
        exact ⟨i1.trans u8, by rw [i3]; exact a8⟩
      have u14 : gk t14 A = 9 ∧ gr t14 A 2 = some xd := by
        obtain ⟨i1, i2, i3, -⟩ := e3 A (by omega) hfr
        exact ⟨i1.trans u12.1, by rw [i3]; exact u12.2⟩
      obtain ⟨j1, j2, -⟩ := (kk12.t2 e3) a16 (by omega) f16
      have hnE : ¬ c.E A := fun q => by have := hE A q; omega
      refine ⟨a16, h16, j1.trans h9, ?_⟩
      have w1 : gi (gpr A 3 (some xb) t14) a16 4 = iI ((p / 8 : Nat) : Int) := by rw [gi_pr, j2]; exact h94
      have w2 : ∀ z, gi (gpi A 4 z (gpr A 3 (some xb) t14)) a16 5 = iI ((p % 8 : Nat) : Int) := fun z => by rw [gi_pi, if_neg (fun q => l16 q.1), gi_pr, j2]; exact h95
      rw [w2, w1]
      have kF : keep (fun a => a = A) t14 (gpi A 5 (iI ((p % 8 : Nat) : Int)) (gpi A 4 (iI ((p / 8 : Nat) : Int)) (gpr A 3 (some xb) t14))) := (((keep.rf (W := fun a => a = A)).pr (fun _ => rfl)).pi (fun _ => rfl)).pi (fun _ => rfl)
      have mF : mv ((fun a => c.E a ∨ a = A), c.2) c L L t14 (gpi A 5 (iI ((p % 8 : Nat) : Int)) (gpi A 4 (iI ((p / 8 : Nat) : Int)) (gpr A 3 (some xb) t14))) := mv_keepE kF (fun a q => by subst q; exact Or.inr (Or.inr (Or.inr (Or.inr (Or.inr ⟨by rw [u14.1]; rfl, Or.inr rfl⟩))))) (fun a _ hc q => hc (Or.inl q)) rfl
      refine ok _ K14 (.tag p (.group (.append td tb) .fill)) A (by rw [s1]; show sBind (sNorm X d (dep + 1) _ K6) _ = _; rw [e1]; rfl) (by omega) ((kk12.t2 e3).tr kF (fun a ha q => by subst q; exact absurd n0 ha)) ((((e4.pr' hfr).pi' hfr).pi' hfr).le (by omega) (by omega)) (by
        rw [pT_prod]
        refine ⟨u14.1, hnE, ?_, ?_, xd, xb, ?_, ?_, ?_, ?_⟩
        · rw [gi_pi, if_neg (by omega), gi_pi, if_pos ⟨rfl, rfl⟩]
        · rw [gi_pi, if_pos ⟨rfl, rfl⟩]
        · rw [gr_pi, gr_pi, gr_pr, if_neg (by omega)]; exact u14.2
        · rw [gr_pi, gr_pi, gr_pr, if_pos ⟨rfl, rfl⟩]
        · exact pT_mv mF _ _ _ (pT_mv m14 _ _ _ (pT_mv m12 _ _ _ (pT_mv m8 _ _ _ s5)))
        · exact pT_mv mF _ _ _ e5) (by
        have : gT (.tag p (.group (.append td tb) .fill)) false (gg) = (gT td false (gg) ∧ gT tb false (true :: gg)) := by rcases p with _ | _ | _ | p <;> rfl
        rw [this]
        exact ⟨s6, e6⟩)
    · exact er x t14 K14 e w' (by rw [s1]; show sBind (sNorm X d (dep + 1) _ K6) _ = _; rw [e1]; rfl) (by omega) e3 (kk12.t2 e4) (e5.le (by omega) (by omega))
  · exact er x t6 K6 e w' (by rw [s1]; rfl) s2 s3 (kk3.t2 s4) (s5.le (by omega) (by omega))
end PNP
