/-! P OVER S (18): Machine.tell -/
theorem sBind_as {α β γ : Type} {r : SR α} {f : α → KS → SR β} {g : β → KS → SR γ} : sBind (sBind r f) g = sBind r (fun a K => sBind (f a K) g) := by
  obtain ⟨K, r⟩ := r
  cases r <;> rfl
def sBnd (X : SX) (d nb : Nat) (lm : Bool) (dx bx r : V) (K : KS) : SR Unit :=
  sBind (sTell X d (vClo dx r) nb false true (sPut 58 (sNum 12 nb (sPut 95 (sPut (if lm then 92 else 33) K))))) fun _ K => sTell X d (vClo bx (.append (vLoc nb) r)) (nb + 1) false false (sPut 46 K)
def sTx (X : SX) (d nb : Nat) (parts binds : Bool) (x : V × List V) (K : KS) : SR Unit := match sBinds x.1 with
  | some (lm, _, dx, bx, r) => sBind (sBnd X d nb lm dx bx r (if binds then sPut 40 K else K)) fun _ K => (if binds then sPut 41 K else K, .ok ())
  | none => sBind (sEach (fun c K => sTell X d c nb true true K) x.2 (sName X x.1 (if parts && !x.2.isEmpty then sPut 40 K else K))) fun _ K => (if parts && !x.2.isEmpty then sPut 41 K else K, .ok ())
theorem sTell_suc {X : SX} {d nb : Nat} {v : V} {parts binds : Bool} {K : KS} : sTell X (d + 1) v nb parts binds K = sBind (sSpend X 5 K) fun _ K => sBind (sHd X v K) fun x K => sTx X d nb parts binds x K := by
  rw [sTell]
  congr 1
  funext _ K1
  congr 1
  funext x K2
  unfold sTx
  cases hb : sBinds x.1 with
  | none => rfl
  | some z =>
    obtain ⟨lm, p, dx, bx, r⟩ := z
    show _ = sBind (sBnd X d nb lm dx bx r (if binds = true then sPut 40 K2 else K2)) _
    unfold sBnd
    rw [sBind_as]
theorem sTx_b {X : SX} {d nb : Nat} {parts binds : Bool} {x : V × List V} {K : KS} {lm : Bool} {p : Nat} {dx bx r : V} (h : sBinds x.1 = some (lm, p, dx, bx, r)) : sTx X d nb parts binds x K = sBind (sBnd X d nb lm dx bx r (if binds then sPut 40 K else K)) fun _ K => (if binds then sPut 41 K else K, .ok ()) := by unfold sTx; rw [h]
theorem sTx_n {X : SX} {d nb : Nat} {parts binds : Bool} {x : V × List V} {K : KS} (h : sBinds x.1 = none) : sTx X d nb parts binds x K = sBind (sEach (fun c K => sTell X d c nb true true K) x.2 (sName X x.1 (if parts && !x.2.isEmpty then sPut 40 K else K))) fun _ K => (if parts && !x.2.isEmpty then sPut 41 K else K, .ok ()) := by unfold sTx; rw [h]
theorem OB.put {K : KS} {o ch : Nat} (h : OB K (o + 1)) : OB (sPut ch K) o := by unfold OB at h ⊢; rw [sPut_life.1, sPut_life.2]; omega
theorem OB.num {K : KS} {o f v : Nat} (h : OB K (o + f)) : OB (sNum f v K) o := by have := sNum_k f v K; unfold OB at h ⊢; rw [this.1]; omega
theorem OB.le {K : KS} {o o' : Nat} (h : OB K o) (h1 : o' ≤ o) : OB K o' := by unfold OB at h ⊢; omega
theorem OB.lt {K : KS} {o : Nat} (h : OB K o) : K.outs + o ≤ 2000000000 := by unfold OB at h; omega
theorem OB.life {K K' : KS} {o : Nat} (h : OB K o) (h1 : K'.outs = K.outs) (h2 : K.life ≤ K'.life) : OB K' o := by unfold OB at h ⊢; omega
theorem sName_k {X : SX} {u : V} {K : KS} (h : ∀ k, (X.nm k).length ≤ 12) (h2 : ∀ k, (X.sn k).length ≤ 12) : (sName X u K).life = K.life ∧ (sName X u K).outs ≤ K.outs + 13 := by
  unfold sName
  split
  · have := sNum_k 12 ‹Nat› (sPut 95 K)
    exact ⟨this.1, by rw [sPut_life.2] at this; omega⟩
  · have := sPuts_k (X.nm ‹Nat›) K
    have := h ‹Nat›
    omega
  · have := sPuts_k (X.sn ‹Nat›) K
    have := h2 ‹Nat›
    omega
  · exact ⟨rfl, by omega⟩
def CTell (G : GPl) (s0 : State) (l : Launch) (KK : Nat → Option Nat) (T : Nat → Nat) (R : Nat → Nat) (X : SX) (lev d w : Nat) : Prop := ∀ (c : PC) (v : V) (q nb : Nat) (parts binds : Bool) (K : KS) (σ : GSt) (n s o : Nat) (L : Nat → Nat → Prop) (Q : Outcome → GSt → Prop), LT L σ → pV c L σ v false (some q) → gC v → pX c σ X → pNm c R σ X → nb + d ≤ 1000 → OB K o → MB G R σ X K w (n + swv v + 1) (s + 3 * swv v + 8) →
  (∀ τ K', sTell X d v nb parts binds K = (K', .ok ()) → K.life ≤ K'.life → keep (isM R) σ τ → MB G R τ X K' w (n + 1) (s + 8) → OB K' (o + 2) → Q (.returned none) τ) →
  (∀ x τ K' e w', sTell X d v nb parts binds K = (K', .error e) → K.life ≤ K'.life → flt τ x e (-1) → keep (isM R) σ τ → MB G R τ X K' w' n s → OB K' o → Q (.threw x) τ) → CQ (wP G s0 l KK T) mX3_tell lev (.ref (R 2) :: [va_rf (some q), .int (iI (nb : Int)), .int (bI parts), .int (bI binds)]) σ Q
section PT2
variable {G : GPl} {s0 : State} {l : Launch} {KK : Nat → Option Nat} {T : Nat → Nat} {lev d : Nat} {Q : Outcome → GSt → Prop} {R : Nat → Nat} {σ τ st0 : GSt} {X : SX} {K K' : KS} {w n s o : Nat} {c c' : PC} {L L' : Nat → Nat → Prop} {W : Nat → Prop}
theorem c_binder {q nb p : Nat} {lm : Bool} {u dx bx r : V} (ih : CTell G s0 l KK T R X lev d w) (hl : 16 ≤ lev) (hLT : LT L σ) (hu : pV c L σ u false (some q)) (gu : gR X u) (hb : sBinds u = some (lm, p, dx, bx, r)) (hX : pX c σ X) (hN : pNm c R σ X) (hd : nb + 1 + d ≤ 1000) (hO : OB K (o + 20)) (h : MB G R σ X K w (n + swv u + 6) (s + 3 * swv u + 21))
    (ok : ∀ τ K', sBnd X d nb lm dx bx r K = (K', .ok ()) → K.life ≤ K'.life → keep (isM R) σ τ → MB G R τ X K' w (n + 1) (s + 8) → OB K' (o + 4) → Q (.returned none) τ)
    (er : ∀ x τ K' e w', sBnd X d nb lm dx bx r K = (K', .error e) → K.life ≤ K'.life → flt τ x e (-1) → keep (isM R) σ τ → MB G R τ X K' w' n s → OB K' o → Q (.threw x) τ) : CQ (wP G s0 l KK T) mX3_binder (lev + 1) (.ref (R 2) :: [va_rf (some q), .int (iI (nb : Int))]) σ Q := by
  obtain ⟨gd, gb, ge, gw⟩ := gR_binds gu hb
  have z1 : swv (vClo dx r) = 0 := sw_false _ _ gd
  obtain ⟨t14, hxH⟩ := pH_pV hu
  obtain ⟨ax, ex1, ex2, ex3⟩ := pH_tag hxH gu
  have hlt : K.outs + (o + 20) ≤ 2000000000 := hO.lt
  have main : ∀ ch : Nat, ch < 128 → ch = (if lm then 92 else 33) → CQ (wP G s0 l KK T) mX3_put lev (.ref (R 2) :: [.int (iI (ch : Int))]) σ (onV (fun t8 => gle σ t8 → (CQ (wP G s0 l KK T) mX3_put lev (.ref (R 2) :: [.int (iI 95)]) t8 (onV (fun t10 => gle t8 t10 → (CQ (wP G s0 l KK T) mX3_number lev (.ref (R 2) :: [.int (iI (nb : Int))]) t10 (onV (fun t12 => gle t10 t12 → (CQ (wP G s0 l KK T) mX3_put lev (.ref (R 2) :: [.int (iI 58)]) t12 (onV (fun t14 => gle t12 t14 → (CQ (wP G s0 l KK T) mX3_domain lev [va_rf (some q)] t14 (onR (fun r17 t16 => gle t14 t16 → (CQ (wP G s0 l KK T) mX3_tell lev (.ref (R 2) :: [va_rf r17, .int (iI (nb : Int)), .int (iI 0), .int (iI 1)]) t16 (onV (fun t18 => gle t16 t18 → (CQ (wP G s0 l KK T) mX3_put lev (.ref (R 2) :: [.int (iI 46)]) t18 (onV (fun t20 => gle t18 t20 → (CQ (wP G s0 l KK T) mX3_bound lev [.int (iI (nb : Int)), .int (iI (-1))] t20 (onR (fun r23 t22 => gle t20 t22 → (CQ (wP G s0 l KK T) mX3_body lev [va_rf (some q), va_rf r23] t22 (onR (fun r25 t24 => gle t22 t24 → (CQ (wP G s0 l KK T) mX3_tell lev (.ref (R 2) :: [va_rf r25, .int (iI (nb : Int) + iI 1), .int (iI 0), .int (iI 0)]) t24 (onV (fun t26 => gle t24 t26 → Q (.returned none) t26) (fun x t => gle t24 t → Q (.threw x) t)))) (fun x t => gle t22 t → Q (.threw x) t)))) (fun x t => gle t20 t → Q (.threw x) t)))) (fun x t => gle t18 t → Q (.threw x) t)))) (fun x t => gle t16 t → Q (.threw x) t)))) (fun x t => gle t14 t → Q (.threw x) t)))) (fun x t => gle t12 t → Q (.threw x) t)))) (fun x t => gle t10 t → Q (.threw x) t)))) (fun x t => gle t8 t → Q (.threw x) t)))) (fun x t => gle σ t → Q (.threw x) t)) := by
    intro ch hch hche
    refine c_put (show 1 ≤ lev by omega) hch (by omega) h (fun t8 k8 b8 g8 _ => ?_)
    refine c_put (ch := 95) (by omega) (by omega) (by rw [sPut_life.2]; omega) b8 (fun t10 k10 b10 g10 _ => ?_)
    refine c_num 11 nb lev t10 (sPut 95 (sPut ch K)) _ (by omega) (by omega) (by omega) (by rw [sPut_life.2, sPut_life.2]; omega) b10 (fun t12 k12 b12 g12 _ => ?_)
    have nk := sNum_k 12 nb (sPut 95 (sPut ch K))
    rw [sPut_life.1, sPut_life.1, sPut_life.2, sPut_life.2] at nk
    have nk2 : (sNum (11 + 1) nb (sPut 95 (sPut ch K))).outs ≤ K.outs + 1 + 1 + 12 := nk.2
    refine c_put (ch := 58) (by omega) (by omega) (by omega) b12 (fun t14 k14 b14 g14 _ => ?_)
    have kk14 : keep (isM R) σ t14 := ((k8.t2 k10).t2 k12).t2 k14
    have m14 : mv c c L L σ t14 := mv_keep kk14 h.2.1.ok
    have O14 : OB (sPut 58 (sNum 12 nb (sPut 95 (sPut ch K)))) (o + 3) := OB.put (OB.num (OB.put (OB.put (hO.le (by omega)))))
    have lf14 : (sPut 58 (sNum 12 nb (sPut 95 (sPut ch K)))).life = K.life := nk.1
    have eB : sBnd X d nb lm dx bx r K = sBind (sTell X d (vClo dx r) nb false true (sPut 58 (sNum 12 nb (sPut 95 (sPut ch K))))) fun _ K => sTell X d (vClo bx (.append (vLoc nb) r)) (nb + 1) false false (sPut 46 K) := by unfold sBnd; rw [hche]
    generalize sPut 58 (sNum 12 nb (sPut 95 (sPut ch K))) = K14 at b14 O14 lf14 eB
    refine c_dom (c := c) (L := L) (by omega) (b14.le (n' := n + swv u + 5 + 1) (s' := s + 3 * swv u + 19 + 2) (by omega) (by omega)) (pV_mv m14 _ _ _ hu) hb (fun t16 k16 b16 v16 g16 _ => ?_)
    have m16 : mv c c L L t14 t16 := k16.mv
    have kk16 : keep (isM R) σ t16 := kk14.t2 (k16.wk (fun _ q => q.elim))
    refine ih c (vClo dx r) _ nb false true K14 t16 (n + swv u + 4) (s + 3 * swv u + 11) (o + 3) L _ ((hLT.mv m14).mv m16) v16 (Or.inr ⟨_, _, rfl, gT_up _ _ _ gd, ge⟩) (pX_mv m16 (pX_mv m14 hX)) (hN.kp h.2.1 kk16) (by omega) O14 (b16.le (by omega) (by omega)) (fun t18 K18 s1 s2 s3 s4 s5 _ => ?_) (fun x t18 K18 e w' s1 s2 s3 s4 s5 s6 _ => ?_)
    · have m18 : mv c c L L t16 t18 := mv_keep s3 b16.2.1.ok
      have kk18 : keep (isM R) σ t18 := kk16.t2 s3
      have o18 := s5.lt
      refine c_put (ch := 46) (by omega) (by omega) (by omega) s4 (fun t20 k20 b20 g20 _ => ?_)
      have m20 : mv c c L L t18 t20 := mv_keep k20 s4.2.1.ok
      have O20 : OB (sPut 46 K18) (o + 4) := OB.put (s5.le (by omega))
      have hu20 := pV_mv m20 _ _ _ (pV_mv m18 _ _ _ (pV_mv m16 _ _ _ (pV_mv m14 _ _ _ hu)))
      refine c_bound (by omega) (b20.le (n' := n + sw bx + 3 + 2) (s' := s + 3 * sw bx + 13 + 6) (by omega) (by omega)) (fun t22 k22 b22 c1 c2 c3 c4 c5 g22 _ => ?_)
      have m22 : mv c c L (fun j q' => L j q' ∨ (j = nb ∧ q' = gn t20 + 1)) t20 t22 := mv_L k22.mv
      have hl22 : pV c (fun j q' => L j q' ∨ (j = nb ∧ q' = gn t20 + 1)) t22 (vLoc nb) false (some (gn t20)) := by
        rw [pV_loc]; exact ⟨c1, _, c2, c3, Or.inr ⟨rfl, rfl⟩⟩
      have hL22 : LT (fun j q' => L j q' ∨ (j = nb ∧ q' = gn t20 + 1)) t22 := by
        rintro i q (h1 | ⟨rfl, rfl⟩)
        · exact ((((hLT.mv m14).mv m16).mv m18).mv m20).mv m22 i q h1
        · exact ⟨by omega, c3, c4⟩
      refine c_body (c := c) (by omega) (b22.le (n' := n + sw bx + 1 + 2) (s' := s + 3 * sw bx + 8 + 5) (by omega) (by omega)) (pV_mv m22 _ _ _ hu20) hb hl22 (fun t24 k24 b24 v24 g24 _ => ?_)
      have kk24 : keep (isM R) σ t24 := (kk18.t2 k20).t2 ((k22.t2 k24).wk (fun _ q => q.elim))
      have hX24 : pX c t24 X := pX_mv (mv_keep (L := L) kk24 h.2.1.ok) hX
      rw [iI_suc]
      refine ih c (vClo bx (.append (vLoc nb) r)) _ (nb + 1) false false (sPut 46 K18) t24 n s (o + 4) _ _ (hL22.mv (c := c) (c' := c) k24.mv) v24 (Or.inr ⟨_, _, rfl, gb, ⟨by rcases nb with _ | _ | _ | _ | i <;> trivial, ge⟩⟩) hX24 (hN.kp h.2.1 kk24) (by omega) O20 b24 (fun t26 K26 u1 u2 u3 u4 u5 _ => ?_) (fun x t26 K26 e w' u1 u2 u3 u4 u5 u6 _ => ?_)
      · exact ok t26 K26 (by rw [eB, s1]; exact u1) (by rw [sPut_life.1] at u2; omega) (kk24.t2 u3) u4 (u5.le (by omega))
      · exact er x t26 K26 e w' (by rw [eB, s1]; exact u1) (by rw [sPut_life.1] at u2; omega) u3 (kk24.t2 u4) u5 (u6.le (by omega))
    · exact er x t18 K18 e w' (by rw [eB, s1]; rfl) (by omega) s3 (kk16.t2 s4) (s5.le (by omega) (by omega)) (s6.le (by omega))
  refine tX3_binder ⟨q, rfl, t14, ax, ex1, ex2, fun i8 => ⟨h.2.1.1.1, ?_⟩, fun i8 => ⟨h.2.1.1.1, ?_⟩⟩
  · have h8 := i8.tag ex1
    have hlm : lm = true := by
      rcases ex3 with ⟨⟨_, _, _, _, hh⟩, -⟩ | ⟨-, hh⟩ | ⟨-, hh, -⟩
      · rw [hb] at hh; cases hh; rfl
      · omega
      · omega
    exact main 92 (by omega) (by rw [hlm]; rfl)
  · have hlm : lm = false := by
      rcases ex3 with ⟨-, hh⟩ | ⟨⟨_, _, _, _, hh⟩, -⟩ | ⟨hh, -⟩
      · exact absurd ⟨ax, ex1, hh⟩ i8
      · rw [hb] at hh; cases hh; rfl
      · rw [hb] at hh; cases hh
    exact main 33 (by omega) (by rw [hlm]; rfl)
theorem c_each {nb : Nat} {x1 x2 : Option Nat} (ih : CTell G s0 l KK T R X lev d w) (hl : 2 ≤ lev) (hd : nb + d ≤ 1000) : ∀ (as : List V) (x4 : Option Nat) (σ : GSt) (K : KS), LT L σ → pA c L σ as x4 → gA as → pX c σ X → pNm c R σ X → OB K (o + 2) → MB G R σ X K w (n + 1) (s + 8) →
    (∀ τ K', sEach (fun c K => sTell X d c nb true true K) as K = (K', .ok ()) → K.life ≤ K'.life → keep (isM R) σ τ → MB G R τ X K' w (n + 1) (s + 8) → OB K' (o + 2) → Q (.returned none) τ) →
    (∀ x τ K' e w', sEach (fun c K => sTell X d c nb true true K) as K = (K', .error e) → K.life ≤ K'.life → flt τ x e (-1) → keep (isM R) σ τ → MB G R τ X K' w' n s → OB K' o → Q (.threw x) τ) → jX3_front_8 G s0 l KK T lev st0 Q (R 2) x1 x2 (iI (nb : Int)) x4 σ := by
  intro as
  induction as with
  | nil =>
    intro x4 σ K hLT hA ga hX hN hO h ok er
    cases x4 with
    | some q => exact hA.elim
    | none => exact tX3_front_8 ⟨fun _ => ok σ K rfl (Nat.le_refl _) keep.rf h hO, fun a1 e => (by cases e)⟩
  | cons a as iha =>
    intro x4 σ K hLT hA ga hX hN hO h ok er
    cases x4 with
    | none => exact hA.elim
    | some q4 =>
      obtain ⟨h1, h2, h3⟩ := hA
      refine tX3_front_8 ⟨fun e => (by cases e), fun a1 e => ?_⟩
      cases e
      have gva := ga a List.mem_cons_self
      obtain ⟨ca, za⟩ := gV_C gva.1 gva.2
      have ea : ∃ p, gr σ q4 0 = some p := by
        cases hq : gr σ q4 0 with
        | some p => exact ⟨p, rfl⟩
        | none => rw [hq] at h2; exact absurd (pV_none h2) gva.2
      obtain ⟨pa, ea⟩ := ea
      have hlt := hO.lt
      refine ⟨h.2.1.1.1, c_put (ch := 32) (by omega) (by omega) (by omega) h (fun t3 k3 b3 g3 _ => ?_)⟩
      have m3 : mv c c L L σ t3 := mv_keep k3 h.2.1.ok
      obtain ⟨i1, i2, i3, -⟩ := m3.cl h1 rfl
      refine ⟨i1, ?_⟩
      rw [i3, ea]
      rw [ea] at h2
      refine ih c a pa nb true true (sPut 32 K) t3 n s (o + 1) L _ (hLT.mv m3) (pV_mv m3 _ _ _ h2) ca (pX_mv m3 hX) (hN.kp h.2.1 k3) hd (OB.put (hO.le (by omega))) (b3.le (by omega) (by omega)) (fun t6 K6 s1 s2 s3 s4 s5 _ => ?_) (fun x t6 K6 e w' s1 s2 s3 s4 s5 s6 _ => ?_)
      · have m6 : mv c c L L t3 t6 := mv_keep s3 b3.2.1.ok
        rw [(m6.cl i1 rfl).2.2.1, i3]
        exact iha _ t6 K6 ((hLT.mv m3).mv m6) (pA_mv m6 _ _ (pA_mv m3 _ _ h3)) (fun v hv => ga v (List.mem_cons_of_mem _ hv)) (pX_mv m6 (pX_mv m3 hX)) (hN.kp h.2.1 (k3.t2 s3)) (s5.le (by omega)) s4 (fun τ K' u1 u2 u3 u4 u5 => ok τ K' (by unfold sEach; rw [s1]; exact u1) (by rw [sPut_life.1] at s2; omega) ((k3.t2 s3).t2 u3) u4 u5) (fun x τ K' e w' u1 u2 u3 u4 u5 u6 => er x τ K' e w' (by unfold sEach; rw [s1]; exact u1) (by rw [sPut_life.1] at s2; omega) u3 ((k3.t2 s3).t2 u4) u5 u6)
      · exact er x t6 K6 e w' (by unfold sEach; rw [s1]; rfl) (by rw [sPut_life.1] at s2; omega) s3 (k3.t2 s4) s5 (s6.le (by omega))
end PT2
