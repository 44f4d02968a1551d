/-! P OVER S (10): comparing, all of it -/
def CSame (G : GPl) (s0 : State) (l : Launch) (KK : Nat → Option Nat) (T : Nat → Nat) (R : Nat → Nat) (X : SX) (c : PC) (lev d w : Nat) : Prop := ∀ (a b : V) (qa qb : Nat) (K : KS) (σ : GSt) (n s : Nat) (L : Nat → Nat → Prop) (Q : Outcome → GSt → Prop), LF L σ K → pV c L σ a false (some qa) → pV c L σ b false (some qb) → gC a → gC b → pX c σ X → MB G R σ X K w (n + (swv a + swv b) + 1) (s + 3 * (swv a + swv b) + 8) →
  (∀ τ K' r, sSame X d a b K = (K', .ok r) → K.life ≤ K'.life → K.fr ≤ K'.fr → keep (isM R) σ τ → MB G R τ X K' w (n + 1) (s + 8) → Q (.returned (some (.int (bI r)))) τ) →
  (∀ x τ K' e w', sSame X d a b K = (K', .error e) → K.life ≤ K'.life → flt τ x e (-1) → keep (isM R) σ τ → MB G R τ X K' w' n s → Q (.threw x) τ) → CQ (wP G s0 l KK T) mX3_same lev (.ref (R 2) :: [va_rf (some qa), va_rf (some qb)]) σ Q
section PS2
variable {G : GPl} {s0 : State} {l : Launch} {KK : Nat → Option Nat} {T : Nat → Nat} {lev d : Nat} {Q : Outcome → GSt → Prop} {R : Nat → Nat} {σ τ st0 : GSt} {X : SX} {K K' : KS} {w n s : Nat} {c : PC} {L L' : Nat → Nat → Prop}
theorem bI_z {r : Bool} : bI r = 0 ↔ r = false := by cases r <;> decide
theorem bI_Z {r : Bool} : isZ (bI r) := by cases r; exact isZ0; exact isZ1
theorem mv_L {i q : Nat} (h : mv c c L L σ τ) : mv c c L (fun j q' => L j q' ∨ (j = i ∧ q' = q)) σ τ := ⟨h.1, h.2.1, h.2.2.1, h.2.2.2.1, h.2.2.2.2.1, fun j q' h1 h2 => Or.inl (h.2.2.2.2.2 j q' h1 h2)⟩
theorem c_parts {qx qy : Nat} {u v dx bx rx dy by' ry : V} {lm lm' : Bool} {p p' : Nat} (ih : CSame G s0 l KK T R X c lev d w) (hl : 4 ≤ lev) (hLF : LF L σ K) (hu : pV c L σ u false (some qx)) (hv : pV c L σ v false (some qy)) (gu : gR X u) (gv : gR X v) (hbu : sBinds u = some (lm, p, dx, bx, rx)) (hbv : sBinds v = some (lm', p', dy, by', ry)) (hX : pX c σ X) (h : MB G R σ X K w (n + (swv u + swv v) + 9) (s + 3 * (swv u + swv v) + 28))
    (ok : ∀ τ K' r, sParts X d dx bx rx dy by' ry K = (K', .ok r) → K.life ≤ K'.life → K.fr ≤ K'.fr → keep (isM R) σ τ → MB G R τ X K' w (n + 1) (s + 8) → Q (.returned (some (.int (bI r)))) τ)
    (er : ∀ x τ K' e w', sParts X d dx bx rx dy by' ry K = (K', .error e) → K.life ≤ K'.life → flt τ x e (-1) → keep (isM R) σ τ → MB G R τ X K' w' n s → Q (.threw x) τ) : CQ (wP G s0 l KK T) mX3_sameParts (lev + 1) (.ref (R 2) :: [va_rf (some qx), va_rf (some qy)]) σ Q := by
  obtain ⟨gd, gb, ge, gw⟩ := gR_binds gu hbu
  obtain ⟨fd, fb, fe, fw⟩ := gR_binds gv hbv
  have z1 : swv (vClo dx rx) = 0 := sw_false _ _ gd
  have z2 : swv (vClo dy ry) = 0 := sw_false _ _ fd
  refine tX3_sameParts (c_dom (c := c) (L := L) (by omega) (h.le (n' := n + (swv u + swv v) + 8 + 1) (s' := s + 3 * (swv u + swv v) + 26 + 2) (by omega) (by omega)) hu hbu (fun t1 k1 b1 v1 g1 _ => ?_))
  have hv1 := pV_mv (k1.mv (c := c) (L := L)) _ _ _ hv
  have hu1 := pV_mv (k1.mv (c := c) (L := L)) _ _ _ hu
  refine c_dom (c := c) (L := L) (by omega) (b1.le (n' := n + (swv u + swv v) + 7 + 1) (s' := s + 3 * (swv u + swv v) + 24 + 2) (by omega) (by omega)) hv1 hbv (fun t3 k3 b3 v3 g3 _ => ⟨b3.2.1.1.1, ?_⟩)
  have hv3 := pV_mv (k3.mv (c := c) (L := L)) _ _ _ hv1
  have hu3 := pV_mv (k3.mv (c := c) (L := L)) _ _ _ hu1
  have hX3 := pX_mv (k3.mv (L := L)) (pX_mv (k1.mv (L := L)) hX)
  have hL3 : LF L t3 K := (hLF.mv (c := c) k1.mv (Nat.le_refl _)).mv (c := c) k3.mv (Nat.le_refl _)
  have kk3 : keep (isM R) σ t3 := (k1.t2 k3).wk (fun _ q => q.elim)
  refine ih (vClo dx rx) (vClo dy ry) _ _ K t3 (n + (swv u + swv v) + 6) (s + 3 * (swv u + swv v) + 16) L _ hL3 (pV_mv (k3.mv (c := c) (L := L)) _ _ _ v1) v3 (Or.inr ⟨_, _, rfl, gT_up _ _ _ gd, ge⟩) (Or.inr ⟨_, _, rfl, gT_up _ _ _ fd, fe⟩) hX3 (b3.le (by omega) (by omega)) (fun t6 K6 r6 s1 s2 s3 s4 s5 _ => ⟨fun r0 => ?_, fun r0 => ?_⟩) (fun x t6 K6 e w' s1 s2 s3 s4 s5 _ => ?_)
  · rw [bI_z] at r0
    subst r0
    exact ok t6 K6 false (by unfold sParts; rw [s1]; rfl) s2 s3 (kk3.t2 s4) (s5.le (by omega) (by omega))
  · have r1 : r6 = true := by cases r6; exact absurd rfl (fun q => r0 (bI_z.mpr q)); rfl
    subst r1
    have m6 : mv c c L L t3 t6 := mv_keep s4 b3.2.1.ok
    have hv6 := pV_mv m6 _ _ _ hv3
    have hu6 := pV_mv m6 _ _ _ hu3
    refine c_bound (by omega) (s5.le (n' := n + (sw bx + sw by') + 5 + 2) (s' := s + 3 * (sw bx + sw by') + 18 + 6) (by omega) (by omega)) (fun t8 k8 b8 c1 c2 c3 c4 c5 g8 _ => ?_)
    have m8 : mv c c L (fun j q' => L j q' ∨ (j = 1000 + K6.fr ∧ q' = gn t6 + 1)) t6 t8 := mv_L k8.mv
    have hl8 : pV c (fun j q' => L j q' ∨ (j = 1000 + K6.fr ∧ q' = gn t6 + 1)) t8 (vLoc (1000 + K6.fr)) false (some (gn t6)) := by
      rw [pV_loc]; exact ⟨c1, _, c2, c3, Or.inr ⟨rfl, rfl⟩⟩
    have hL6 : LF L t6 K6 := hL3.mv (c := c) m6 s3
    have hL8 : LF (fun j q' => L j q' ∨ (j = 1000 + K6.fr ∧ q' = gn t6 + 1)) t8 (K6.1, K6.2.1, K6.2.2.1, K6.2.2.2.1, K6.2.2.2.2.1, K6.fr + 1) := by
      have n1 : gk t6 (gn t6 + 1) = 0 := s5.1 _ (by omega)
      refine ⟨?_, ?_, ?_⟩
      · rintro i q (h1 | ⟨rfl, rfl⟩)
        · obtain ⟨h2, h3⟩ := hL6.1 i q h1
          exact ⟨(m8.cl h2 rfl).1, by show i < 1000 + (K6.fr + 1); omega⟩
        · exact ⟨c3, by show 1000 + K6.fr < 1000 + (K6.fr + 1); omega⟩
      · rintro i q q' (h1 | ⟨rfl, rfl⟩) (h2 | ⟨h2, rfl⟩)
        · exact hL6.2.1 i q q' h1 h2
        · have := (hL6.1 i q h1).2; omega
        · have := (hL6.1 _ q' h2).2; omega
        · rfl
      · rintro i j q (h1 | ⟨rfl, rfl⟩) (h2 | ⟨rfl, h2⟩)
        · exact hL6.2.2 i j q h1 h2
        · have := (hL6.1 i q h1).1; subst h2; omega
        · have := (hL6.1 j _ h2).1; omega
        · rfl
    have hu8 := pV_mv m8 _ _ _ hu6
    have hv8 := pV_mv m8 _ _ _ hv6
    refine c_body (c := c) (by omega) (b8.le (n' := n + (sw bx + sw by') + 3 + 2) (s' := s + 3 * (sw bx + sw by') + 13 + 5) (by omega) (by omega)) hu8 hbu hl8 (fun t10 k10 b10 v10 g10 _ => ?_)
    refine c_body (c := c) (by omega) (b10.le (n' := n + (sw bx + sw by') + 1 + 2) (s' := s + 3 * (sw bx + sw by') + 8 + 5) (by omega) (by omega)) (pV_mv k10.mv _ _ _ hv8) hbv (pV_mv k10.mv _ _ _ hl8) (fun t12 k12 b12 v12 g12 _ => ?_)
    have hX12 : pX c t12 X := pX_mv (k12.mv (L := L)) (pX_mv (k10.mv (L := L)) (pX_mv (k8.mv (L := L)) (pX_mv m6 hX3)))
    have kk12 : keep (isM R) σ t12 := (kk3.t2 s4).t2 (((k8.t2 k10).t2 k12).wk (fun _ q => q.elim))
    refine ih (vClo bx (.append (vLoc (1000 + K6.fr)) rx)) (vClo by' (.append (vLoc (1000 + K6.fr)) ry)) _ _ (K6.1, K6.2.1, K6.2.2.1, K6.2.2.2.1, K6.2.2.2.2.1, K6.fr + 1) t12 n s _ _ ((hL8.mv (c := c) k10.mv (Nat.le_refl _)).mv (c := c) k12.mv (Nat.le_refl _)) (pV_mv k12.mv _ _ _ v10) v12 (Or.inr ⟨_, _, rfl, gb, ⟨by rcases (1000 + K6.fr) with _ | _ | _ | _ | i <;> trivial, ge⟩⟩) (Or.inr ⟨_, _, rfl, fb, ⟨by rcases (1000 + K6.fr) with _ | _ | _ | _ | i <;> trivial, fe⟩⟩) hX12 b12 (fun t14 K14 r14 u1 u2 u3 u4 u5 _ => ⟨bI_Z, ?_⟩) (fun x t14 K14 e w' u1 u2 u3 u4 u5 _ => ?_)
    · exact ok t14 K14 r14 (by unfold sParts; rw [s1]; exact u1) (Nat.le_trans s2 u2) (by have : K6.fr + 1 ≤ K14.fr := u3; omega) (kk12.t2 u4) u5
    · exact er x t14 K14 e w' (by unfold sParts; rw [s1]; exact u1) (Nat.le_trans s2 u2) u3 (kk12.t2 u4) u5
  · exact er x t6 K6 e w' (by unfold sParts; rw [s1]; rfl) s2 s3 (kk3.t2 s4) (s5.le (by omega) (by omega))
/-- how many -/
theorem c_size {as : List V} {x : Option Nat} (hl : 1 ≤ lev) (hA : pA c L σ as x) (ok : Q (.returned (some (.int (iI (as.length : Int))))) σ) : CQ (wP G s0 l KK T) mX19_size lev [va_rf x] σ Q := by
  obtain ⟨l', rfl⟩ := Nat.exists_eq_add_of_le' hl
  have key : ∀ (as : List V) (i : Nat) (y : Option Nat), pA c L σ as y → Q (.returned (some (.int (iI ((i + as.length : Nat) : Int))))) σ → jX19_size_4 G s0 l KK T l' σ Q x (iI (i : Int)) y σ := by
    intro as
    induction as with
    | nil =>
      intro i y h ok
      cases y with
      | none => exact tX19_size_4 ⟨fun _ => ok, fun a1 e => (by cases e)⟩
      | some q => exact h.elim
    | cons v as ih =>
      intro i y h ok
      cases y with
      | none => exact h.elim
      | some q =>
        refine tX19_size_4 ⟨fun e => (by cases e), fun a1 e => ?_⟩
        cases e
        refine ⟨h.1, ?_⟩
        rw [iI_suc]
        refine ih (i + 1) _ h.2.2 ?_
        rw [show i + 1 + as.length = i + (v :: as).length by simp; omega]
        exact ok
  exact tX19_size (key as 0 x hA (by rw [Nat.zero_add]; exact ok))
theorem c_sargs {x1 x2 : Option Nat} (ih : CSame G s0 l KK T R X c lev d w) : ∀ (as bs : List V) (x4 x3 : Option Nat) (σ : GSt) (K : KS), LF L σ K → pA c L σ as x4 → pA c L σ bs x3 → as.length = bs.length → gA as → gA bs → pX c σ X → MB G R σ X K w (n + 1) (s + 8) →
    (∀ τ K' r, sAll (sSame X d) as bs K = (K', .ok r) → K.life ≤ K'.life → K.fr ≤ K'.fr → keep (isM R) σ τ → MB G R τ X K' w (n + 1) (s + 8) → Q (.returned (some (.int (bI r)))) τ) →
    (∀ x τ K' e w', sAll (sSame X d) as bs K = (K', .error e) → K.life ≤ K'.life → flt τ x e (-1) → keep (isM R) σ τ → MB G R τ X K' w' n s → Q (.threw x) τ) → jX3_sameArgs_18 G s0 l KK T lev st0 Q (R 2) x1 x2 x3 x4 σ := by
  intro as
  induction as with
  | nil =>
    intro bs x4 x3 σ K hLF hA hB hlen ga gb hX h ok er
    cases x4 with
    | some q => exact hA.elim
    | none => exact tX3_sameArgs_18 ⟨fun _ => ok σ K true rfl (Nat.le_refl _) (Nat.le_refl _) keep.rf h, fun a1 e => (by cases e)⟩
  | cons a as iha =>
    intro bs x4 x3 σ K hLF hA hB hlen ga gb hX h ok er
    cases bs with
    | nil => simp at hlen
    | cons b bs =>
      cases x4 with
      | none => exact hA.elim
      | some q4 =>
        cases x3 with
        | none => exact hB.elim
        | some q3 =>
          obtain ⟨h1, h2, h3⟩ := hA
          obtain ⟨f1, f2, f3⟩ := hB
          refine tX3_sameArgs_18 ⟨fun e => (by cases e), fun a1 e => ?_⟩
          cases e
          have gva := ga a List.mem_cons_self
          have gvb := gb b List.mem_cons_self
          obtain ⟨ca, za⟩ := gV_C gva.1 gva.2
          obtain ⟨cb, zb⟩ := gV_C gvb.1 gvb.2
          have ea : ∃ p, gr σ q4 0 = some p := by
            cases hq : gr σ q4 0 with
            | some p => exact ⟨p, rfl⟩
            | none => rw [hq] at h2; exact absurd (pV_none h2) gva.2
          have eb : ∃ p, gr σ q3 0 = some p := by
            cases hq : gr σ q3 0 with
            | some p => exact ⟨p, rfl⟩
            | none => rw [hq] at f2; exact absurd (pV_none f2) gvb.2
          obtain ⟨pa, ea⟩ := ea
          obtain ⟨pb, eb⟩ := eb
          refine ⟨h1, q3, rfl, f1, h.2.1.1.1, ?_⟩
          rw [ea] at h2 ⊢
          rw [eb] at f2 ⊢
          refine ih a b pa pb K σ n s L _ hLF h2 f2 ca cb hX (h.le (by omega) (by omega)) (fun t6 K6 r6 s1 s2 s3 s4 s5 _ => ⟨fun r0 => ?_, fun r0 => ?_⟩) (fun x t6 K6 e w' s1 s2 s3 s4 s5 _ => ?_)
          · rw [bI_z] at r0
            subst r0
            exact ok t6 K6 false (by unfold sAll; rw [s1]; rfl) s2 s3 s4 s5
          · have r1 : r6 = true := by cases r6; exact absurd rfl (fun q => r0 (bI_z.mpr q)); rfl
            subst r1
            have m6 : mv c c L L σ t6 := mv_keep s4 h.2.1.ok
            rw [(m6.cl h1 rfl).2.2.1, (m6.cl f1 rfl).2.2.1]
            exact iha bs _ _ t6 K6 (hLF.mv (c := c) m6 s3) (pA_mv m6 _ _ h3) (pA_mv m6 _ _ f3) (by simpa using hlen) (fun v hv => ga v (List.mem_cons_of_mem _ hv)) (fun v hv => gb v (List.mem_cons_of_mem _ hv)) (pX_mv m6 hX) s5 (fun t K' r u1 u2 u3 u4 u5 => ok t K' r (by unfold sAll; rw [s1]; exact u1) (Nat.le_trans s2 u2) (Nat.le_trans s3 u3) (s4.t2 u4) u5) (fun x t K' e w' u1 u2 u3 u4 u5 => er x t K' e w' (by unfold sAll; rw [s1]; exact u1) (Nat.le_trans s2 u2) u3 (s4.t2 u4) u5)
          · exact er x t6 K6 e w' (by unfold sAll; rw [s1]; rfl) s2 s3 s4 s5
end PS2
