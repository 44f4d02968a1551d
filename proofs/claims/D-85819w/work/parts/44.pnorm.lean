/-! P OVER S (13): normal forms: binders -/
def sNx (X : SX) (d dep : Nat) (x : V × List V) (K : KS) : SR V := match sBinds x.1 with
  | some (l, p, dx, bx, r) => sBind (sNorm X d dep (vClo dx r) K) fun t K => sBind (sNorm X d (dep + 1) (vClo bx (.append (vLoc dep) r)) K) fun u K =>
      (K, .ok (if l then .tag 0 (.append t u) else .tag p (.group (.append t u) .fill)))
  | none =>
    let f : V := match x.1 with
      | .tag i (.align false) => .tag (dep - 1 - i) .line
      | .tag 3 (.append t _) => t
      | t => t
    if x.2.isEmpty then (K, .ok f) else sBind (sMap (fun c K => sNorm X d dep c K) x.2 K) fun ps K => (K, .ok (.tag 2 (.append f ps)))
theorem sNorm_suc {X : SX} {d dep : Nat} {v : V} {K : KS} : sNorm X (d + 1) dep v K = sBind (sSpend X 5 K) fun _ K => sBind (sHd X v K) fun x K => sNx X d dep x K := rfl
theorem sNx_b {X : SX} {d dep : Nat} {x : V × List V} {K : KS} {lm : Bool} {p : Nat} {dx bx r : V} (h : sBinds x.1 = some (lm, p, dx, bx, r)) : sNx X d dep x K = sBind (sNorm X d dep (vClo dx r) K) fun t K => sBind (sNorm X d (dep + 1) (vClo bx (.append (vLoc dep) r)) K) fun u K => (K, .ok (if lm then .tag 0 (.append t u) else .tag p (.group (.append t u) .fill))) := by unfold sNx; rw [h]
/-- a front as a term -/
def sFt (dep : Nat) (u : V) : V := match u with
  | .tag i (.align false) => .tag (dep - 1 - i) .line
  | .tag 3 (.append t _) => t
  | t => t
theorem sNx_n {X : SX} {d dep : Nat} {x : V × List V} {K : KS} (h : sBinds x.1 = none) : sNx X d dep x K = if x.2.isEmpty then (K, .ok (sFt dep x.1)) else sBind (sMap (fun c K => sNorm X d dep c K) x.2 K) fun ps K => (K, .ok (.tag 2 (.append (sFt dep x.1) ps))) := by unfold sNx; rw [h]; rfl
theorem sMap_fr {f : V → KS → SR V} {k0 : Nat × (Nat → Nat) × Nat} (hf : ∀ v K, K.2.2.2 = k0 → (f v K).1.2.2.2 = k0) : ∀ (as : List V) (K : KS), K.2.2.2 = k0 → (sMap f as K).1.2.2.2 = k0 := by
  intro as
  induction as with
  | nil => intro K h; exact h
  | cons a as ih => intro K h; exact sBind_fr (hf a K h) (fun _ K' h' => sBind_fr (ih K' h') (fun _ _ h => h))
theorem sNorm_fr {X : SX} : ∀ (d dep : Nat) (v : V) (K : KS), (sNorm X d dep v K).1.2.2.2 = K.2.2.2 := by
  intro d
  induction d with
  | zero => intro dep v K; rfl
  | succ d ih =>
    intro dep v K
    rw [sNorm_suc]
    refine sBind_fr sSpend_fr (fun _ K1 h1 => sBind_fr (by rw [sHd_fr]; exact h1) (fun x K2 h2 => ?_))
    cases hb : sBinds x.1 with
    | some z =>
      obtain ⟨lm, p, dx, bx, r⟩ := z
      rw [sNx_b hb]
      exact sBind_fr (by rw [ih]; exact h2) (fun _ K3 h3 => sBind_fr (by rw [ih]; exact h3) (fun _ _ h => h))
    | none =>
      rw [sNx_n hb]
      split
      · exact h2
      · exact sBind_fr (sMap_fr (fun v K h => by rw [ih]; exact h) _ _ h2) (fun _ _ h => h)
/-- locals: where they are bound -/
def LN (L : Nat → Nat → Prop) (σ : GSt) (dep : Nat) (gg : List Bool) : Prop := ∀ i q, L i q → (i < dep ∧ gg[dep - 1 - i]? = some true) ∧ gk σ q = 18 ∧ gi σ q 3 = iI (i : Int)
def CNorm (G : GPl) (s0 : State) (l : Launch) (KK : Nat → Option Nat) (T : Nat → Nat) (R : Nat → Nat) (X : SX) (lev d w : Nat) : Prop := ∀ (c : PC) (v : V) (q dep : Nat) (gg : List Bool) (K : KS) (σ : GSt) (n s : Nat) (L : Nat → Nat → Prop) (Q : Outcome → GSt → Prop), (∀ a, c.E a → a < gn σ) → LN L σ dep gg → pV c L σ v false (some q) → gC v → pX c σ X → dep + d ≤ 1000 → MB G R σ X K w (n + swv v + 1) (s + 3 * swv v + 8) →
  (∀ τ K' t x, sNorm X d dep v K = (K', .ok t) → K.life < K'.life → keep (isM R) σ τ → MB G R τ X K' w (n + 3) (s + 24) → pT c τ t x 0 → gT t false (gg) → Q (.returned (some (va_rf (some x)))) τ) →
  (∀ x τ K' e w', sNorm X d dep v K = (K', .error e) → K.life ≤ K'.life → flt τ x e (-1) → keep (isM R) σ τ → MB G R τ X K' w' n s → Q (.threw x) τ) → CQ (wP G s0 l KK T) mX3_normal lev (.ref (R 2) :: [va_rf (some q), .int (iI (dep : Int))]) σ Q
section PN
variable {G : GPl} {s0 : State} {l : Launch} {KK : Nat → Option Nat} {T : Nat → Nat} {lev d : Nat} {Q : Outcome → GSt → Prop} {R : Nat → Nat} {σ τ st0 : GSt} {X : SX} {K K' : KS} {w n s : Nat} {c c' : PC} {L L' : Nat → Nat → Prop} {W : Nat → Prop} {gg : List Bool}
theorem mv_keepE (hk : keep W σ τ) (hW : Wok c W σ) (hE : ∀ a, tmt (gk σ a) = true → ¬ c.E a → ¬ c'.E a) (h2 : c'.2 = c.2) : mv c c' L L σ τ := by
  obtain ⟨h3, h4, h5, h6, h7, h8⟩ := mv_keep (L := L) hk hW
  exact ⟨h3, fun a ha h => ⟨hE a ha h, (h4 a ha h).2⟩, by show c.2.2.1 ≤ c'.2.2.1; rw [h2]; exact Nat.le_refl _, by show c.2.2.2 ≤ c'.2.2.2; rw [h2]; exact Nat.le_refl _, fun k _ => by show c'.2.1 k = c.2.1 k; rw [h2], h8⟩
theorem pX_mvE (h : mv c c' L L' σ τ) (h2 : c'.2 = c.2) (hX : pX c σ X) : pX c' τ X := by
  obtain ⟨E, N⟩ := c
  obtain ⟨E', N'⟩ := c'
  cases h2
  refine ⟨fun k hk => ?_, hX.2⟩
  obtain ⟨h1, h2, h3⟩ := hX.1 k hk
  obtain ⟨e1, e2, e3, e4⟩ := h.cl h1 rfl
  refine ⟨e1, fun q => by rw [e3]; exact h2 q, fun t ht => ?_⟩
  obtain ⟨g1, b, g2, g3⟩ := h3 t ht
  exact ⟨g1, b, by rw [e3]; exact g2, pT_mv h _ _ _ g3⟩
theorem MB.pr' {a j : Nat} {x : Option Nat} (h : MB G R σ X K w n s) (ha : ¬ isM R a) : MB G R (gpr a j x σ) X K w n s := ⟨h.1, h.2.1.pr' ha, h.2.2.1, h.2.2.2⟩
theorem MB.pi' {a j : Nat} {v : Int32} (h : MB G R σ X K w n s) (ha : ¬ isM R a) : MB G R (gpi a j v σ) X K w n s := ⟨h.1, h.2.1.pi' ha, h.2.2.1, h.2.2.2⟩
theorem MB.mk {t k : Nat} (h : MB G R σ X K w (n + 1) (s + k)) : MB G R (gmk t k σ) X K w n s := ⟨h.1.mk, h.2.1.mk h.1, h.2.2.1, h.2.2.2.mk⟩
theorem LN.mv {dep : Nat} (h : LN L σ dep gg) (hm : mv c c' L L' σ τ) : LN L τ dep gg := fun i q hq => by
  obtain ⟨h1, h2, h3⟩ := h i q hq
  obtain ⟨e1, e2, -⟩ := hm.cl h2 rfl
  exact ⟨h1, e1, by rw [e2]; exact h3⟩
theorem c_nlam {q dep p : Nat} {u dx bx r : V} (ih : CNorm G s0 l KK T R X lev d w) (hl : 4 ≤ lev) (hE : ∀ a, c.E a → a < gn σ) (hLN : LN L σ dep gg) (hu : pV c L σ u false (some q)) (gu : gR X u) (hb : sBinds u = some (true, p, dx, bx, r)) (hX : pX c σ X) (hd : dep + 1 + d ≤ 1000) (h : MB G R σ X K w (n + swv u + 10) (s + 3 * swv u + 40))
    (ok : ∀ τ K' t x, (sBind (sNorm X d dep (vClo dx r) K) fun t K => sBind (sNorm X d (dep + 1) (vClo bx (.append (vLoc dep) r)) K) fun u K => (K, .ok (Std.Format.tag 0 (.append t u)))) = (K', .ok t) → K.life ≤ K'.life → keep (isM R) σ τ → MB G R τ X K' w (n + 3) (s + 24) → pT c τ t x 0 → gT t false (gg) → Q (.returned (some (va_rf (some x)))) τ)
    (er : ∀ x τ K' e w', (sBind (sNorm X d dep (vClo dx r) K) fun t K => sBind (sNorm X d (dep + 1) (vClo bx (.append (vLoc dep) r)) K) fun u K => (K, .ok (Std.Format.tag 0 (.append t u)))) = (K', .error e) → K.life ≤ K'.life → flt τ x e (-1) → keep (isM R) σ τ → MB G R τ X K' w' n s → Q (.threw x) τ) : CQ (wP G s0 l KK T) mX3_normalLambda (lev + 1) (.ref (R 2) :: [va_rf (some q), .int (iI (dep : Int))]) σ Q := by
  obtain ⟨gd, gb, ge, gw⟩ := gR_binds gu hb
  have z1 : swv (vClo dx r) = 0 := sw_false _ _ gd
  have hz := h.1
  have n0 : gk σ (gn σ) = 0 := hz.at
  have hfr : ¬ isM R (gn σ) := h.2.1.fr hz (Nat.le_refl _)
  have h0 : MB G R (gmk 8 4 σ) X K w (n + swv u + 9) (s + 3 * swv u + 36) := MB.mk h
  refine tX3_normalLambda ⟨(h.2.2.2.le (n' := n + swv u + 9 + 1) (s' := s + 3 * swv u + 36 + 4) (by omega) (by omega)).gr hz, ?_⟩
  have k0 : keep nil0 σ (gmk 8 4 σ) := keep.rf.mk n0
  have t8 : gk (gmk 8 4 σ) (gn σ) = 8 := gk_new (n := 4) n0
  have hn0 : gn (gmk 8 4 σ) = gn σ + 1 := rfl
  generalize hA : gn σ = A at *
  generalize gmk 8 4 σ = t0 at h0 k0 t8 hn0
  -- the term being made is left out
  have m0 : mv c ((fun a => c.E a ∨ a = A), c.2) L L σ t0 := mv_keepE k0 (fun _ q => q.elim) (fun a ha hc => fun q => by
    rcases q with q | rfl
    · exact hc q
    · rw [n0] at ha; cases ha) rfl
  have hE0 : ∀ a, (c.E a ∨ a = A) → a < gn t0 := fun a q => by
    rcases q with q | rfl
    · have := hE a q; omega
    · omega
  have hu0 := pV_mv m0 _ _ _ hu
  have hX0 : pX ((fun a => c.E a ∨ a = A), c.2) t0 X := pX_mvE m0 rfl hX
  have hL0 : LN L t0 dep gg := hLN.mv m0
  refine c_dom (c := ((fun a => c.E a ∨ a = A), c.2)) (L := L) (by omega) (h0.le (n' := n + swv u + 8 + 1) (s' := s + 3 * swv u + 34 + 2) (by omega) (by omega)) hu0 hb (fun t3 k3 b3 v3 g3 _ => ⟨b3.2.1.1.1, ?_⟩)
  have m3 : mv ((fun a => c.E a ∨ a = A), c.2) ((fun a => c.E a ∨ a = A), c.2) L L t0 t3 := k3.mv
  have kk3 : keep (isM R) σ t3 := (k0.t2 k3).wk (fun _ q => q.elim)
  refine ih ((fun a => c.E a ∨ a = A), c.2) (vClo dx r) _ dep gg K t3 (n + swv u + 7) (s + 3 * swv u + 26) L _ (fun a q => by have := hE0 a q; omega) (hL0.mv m3) v3 (Or.inr ⟨_, _, rfl, gT_up _ _ _ gd, ge⟩) (pX_mv m3 hX0) (by omega) (b3.le (by omega) (by omega)) (fun t6 K6 td xd s1 s2 s3 s4 s5 s6 hle6 => ?_) (fun x t6 K6 e w' s1 s2 s3 s4 s5 _ => ?_)
  · have m6 : mv ((fun a => c.E a ∨ a = A), c.2) ((fun a => c.E a ∨ a = A), c.2) L L t3 t6 := mv_keep s3 b3.2.1.ok
    have u0 : gk t3 A = 8 := (k3 A (by omega) id).1.trans t8
    have u6 : gk t6 A = 8 := ((s3 A (by omega) hfr).1).trans u0
    obtain ⟨l', rfl⟩ : ∃ l', lev = l' + 2 := ⟨lev - 2, by omega⟩
    refine tX10_init (tX9_init ⟨⟨7, by decide, u6⟩, fun _ => ⟨u6, fun _ => ?_⟩⟩)
    have k8 : keep (fun a => a = A) t6 (gpr A 2 (some xd) (gpi A 1 (iI (-1)) (gpi A 0 (iI (-1)) t6))) := (((keep.rf (W := fun a => a = A)).pi (fun _ => rfl)).pi (fun _ => rfl)).pr (fun _ => rfl)
    have b8 : MB G R (gpr A 2 (some xd) (gpi A 1 (iI (-1)) (gpi A 0 (iI (-1)) t6))) X K6 w (n + swv u + 10) (s + 3 * swv u + 50) := ((s4.pi' hfr).pi' hfr).pr' hfr
    have a8 : gr (gpr A 2 (some xd) (gpi A 1 (iI (-1)) (gpi A 0 (iI (-1)) t6))) A 2 = some xd := by rw [gr_pr, if_pos ⟨rfl, rfl⟩]
    have u8 : gk (gpr A 2 (some xd) (gpi A 1 (iI (-1)) (gpi A 0 (iI (-1)) t6))) A = 8 := u6
    have g8 : gn (gpr A 2 (some xd) (gpi A 1 (iI (-1)) (gpi A 0 (iI (-1)) t6))) = gn t6 := rfl
    generalize gpr A 2 (some xd) (gpi A 1 (iI (-1)) (gpi A 0 (iI (-1)) t6)) = t8 at k8 b8 a8 u8 g8
    have m8 : mv ((fun a => c.E a ∨ a = A), c.2) ((fun a => c.E a ∨ a = A), c.2) L L t6 t8 := mv_keep k8 (fun a q => by subst q; exact Or.inr (Or.inr (Or.inr (Or.inr (Or.inr ⟨by rw [u6]; rfl, Or.inr rfl⟩)))))
    have hu8 := pV_mv m8 _ _ _ (pV_mv m6 _ _ _ (pV_mv m3 _ _ _ hu0))
    have kk8 : keep (isM R) σ t8 := (kk3.t2 s3).tr k8 (fun a ha q => by subst q; exact absurd n0 ha)
    refine c_bound (by omega) (b8.le (n' := n + sw bx + 6 + 2) (s' := s + 3 * sw bx + 26 + 6) (by omega) (by omega)) (fun t10 k10 b10 c1 c2 c3 c4 c5 g10 _ => ?_)
    have m10 : mv ((fun a => c.E a ∨ a = A), c.2) ((fun a => c.E a ∨ a = A), c.2) L (fun j q' => L j q' ∨ (j = dep ∧ q' = gn t8 + 1)) t8 t10 := mv_L k10.mv
    have hl10 : pV ((fun a => c.E a ∨ a = A), c.2) (fun j q' => L j q' ∨ (j = dep ∧ q' = gn t8 + 1)) t10 (vLoc dep) false (some (gn t8)) := by
      rw [pV_loc]; exact ⟨c1, _, c2, c3, Or.inr ⟨rfl, rfl⟩⟩
    have hL10 : LN (fun j q' => L j q' ∨ (j = dep ∧ q' = gn t8 + 1)) t10 (dep + 1) (true :: gg) := by
      rintro i q (h1 | ⟨rfl, rfl⟩)
      · obtain ⟨h1, h2, h3⟩ := (((hL0.mv m3).mv m6).mv m8) i q h1
        obtain ⟨e1, e2, -⟩ := m10.cl h2 rfl
        refine ⟨⟨by omega, ?_⟩, e1, by rw [e2]; exact h3⟩
        have e9 : dep + 1 - 1 - i = (dep - 1 - i) + 1 := by omega
        rw [e9]; exact h1.2
      · exact ⟨⟨by omega, by rw [Nat.add_sub_cancel, Nat.sub_self]; rfl⟩, c3, c5⟩
    refine c_body (by omega) (b10.le (n' := n + sw bx + 4 + 2) (s' := s + 3 * sw bx + 21 + 5) (by omega) (by omega)) (pV_mv m10 _ _ _ hu8) hb hl10 (fun t12 k12 b12 v12 g12 _ => ?_)
    have kk12 : keep (isM R) σ t12 := kk8.t2 ((k10.t2 k12).wk (fun _ q => q.elim))
    have m12 : mv ((fun a => c.E a ∨ a = A), c.2) ((fun a => c.E a ∨ a = A), c.2) L L t8 t12 := mv_keep ((k10.t2 k12)) (fun _ q => q.elim)
    have hX12 : pX ((fun a => c.E a ∨ a = A), c.2) t12 X := pX_mv m12 (pX_mv m8 (pX_mv m6 (pX_mv m3 hX0)))
    have g3' : gn t0 ≤ gn t3 := by omega
    have g6' : gn t3 ≤ gn t6 := hle6.1.1
    rw [iI_suc]
    refine ih ((fun a => c.E a ∨ a = A), c.2) (vClo bx (.append (vLoc dep) r)) _ (dep + 1) (true :: gg) K6 t12 (n + 3) (s + 10) _ _ (fun a q => by have := hE0 a q; omega) (fun i q hq => by obtain ⟨h1, h2, h3⟩ := hL10 i q hq; obtain ⟨e1, e2, -⟩ := (k12.mv (c := c) (L := L)).cl h2 rfl; exact ⟨h1, e1, by rw [e2]; exact h3⟩) v12 (Or.inr ⟨_, _, rfl, gb, ⟨by rcases dep with _ | _ | _ | _ | i <;> trivial, ge⟩⟩) hX12 (by omega) (b12.le (by show n + 3 + sw bx + 1 ≤ _; omega) (by show s + 10 + 3 * sw bx + 8 ≤ _; omega)) (fun t14 K14 tb xb e1 e2 e3 e4 e5 e6 _ => ?_) (fun x t14 K14 e w' e1 e2 e3 e4 e5 _ => ?_)
    · have m14 : mv ((fun a => c.E a ∨ a = A), c.2) ((fun a => c.E a ∨ a = A), c.2) L L t12 t14 := mv_keep e3 b12.2.1.ok
      have u12 : gk t12 A = 8 ∧ gr t12 A 2 = some xd := by
        obtain ⟨i1, i2, i3, -⟩ := (k10.t2 k12) A (by omega) id
        exact ⟨i1.trans u8, by rw [i3]; exact a8⟩
      have u14 : gk t14 A = 8 ∧ gr t14 A 2 = some xd := by
        obtain ⟨i1, i2, i3, -⟩ := e3 A (by omega) hfr
        exact ⟨i1.trans u12.1, by rw [i3]; exact u12.2⟩
      have kF : keep (fun a => a = A) t14 (gpr A 3 (some xb) t14) := (keep.rf (W := fun a => a = A)).pr (fun _ => rfl)
      have mF : mv ((fun a => c.E a ∨ a = A), c.2) c L L t14 (gpr A 3 (some xb) t14) := mv_keepE kF (fun a q => by subst q; exact Or.inr (Or.inr (Or.inr (Or.inr (Or.inr ⟨by rw [u14.1]; rfl, Or.inr rfl⟩))))) (fun a _ hc q => hc (Or.inl q)) rfl
      have hnE : ¬ c.E A := fun q => by have := hE A q; omega
      refine ok _ K14 (.tag 0 (.append td tb)) A (by rw [s1]; show sBind (sNorm X d (dep + 1) _ K6) _ = _; rw [e1]; rfl) (by omega) ((kk12.t2 e3).tr kF (fun a ha q => by subst q; exact absurd n0 ha)) ((e4.pr' hfr).le (by omega) (by omega)) ⟨u14.1, hnE, xd, xb, ?_, ?_, ?_, ?_⟩ ⟨s6, e6⟩
      · rw [gr_pr, if_neg (by omega)]; exact u14.2
      · rw [gr_pr, if_pos ⟨rfl, rfl⟩]
      · exact pT_mv mF _ _ _ (pT_mv m14 _ _ _ (pT_mv m12 _ _ _ (pT_mv m8 _ _ _ s5)))
      · exact pT_mv mF _ _ _ e5
    · exact er x t14 K14 e w' (by rw [s1]; show sBind (sNorm X d (dep + 1) _ K6) _ = _; rw [e1]; rfl) (by omega) e3 (kk12.t2 e4) (e5.le (by omega) (by omega))
  · exact er x t6 K6 e w' (by rw [s1]; rfl) s2 s3 (kk3.t2 s4) (s5.le (by omega) (by omega))
end PN
