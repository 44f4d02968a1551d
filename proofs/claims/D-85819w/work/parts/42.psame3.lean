/-! P OVER S (11): Machine.same -/
theorem sAlike_bb {X : SX} {d : Nat} {x y : V × List V} {K : KS} {lm lm' : Bool} {p p' : Nat} {dx bx rx dy by' ry : V} (h1 : sBinds x.1 = some (lm, p, dx, bx, rx)) (h2 : sBinds y.1 = some (lm', p', dy, by', ry)) : sAlike X d x y K = if lm = lm' then sParts X d dx bx rx dy by' ry K else (K, .ok false) := by unfold sAlike; rw [h1, h2]
theorem sAlike_nn {X : SX} {d : Nat} {x y : V × List V} {K : KS} (h1 : sBinds x.1 = none) (h2 : sBinds y.1 = none) : sAlike X d x y K = if sFront x.1 y.1 && x.2.length == y.2.length then sAll (sSame X d) x.2 y.2 K else (K, .ok false) := by unfold sAlike; rw [h1, h2]
theorem sAlike_bn {X : SX} {d : Nat} {x y : V × List V} {K : KS} (h1 : ∃ z, sBinds x.1 = some z) (h2 : sBinds y.1 = none) : sAlike X d x y K = (K, .ok false) := by obtain ⟨⟨a, b, c, d, e⟩, h1⟩ := h1; unfold sAlike; rw [h1, h2]
theorem sAlike_nb {X : SX} {d : Nat} {x y : V × List V} {K : KS} (h1 : sBinds x.1 = none) (h2 : ∃ z, sBinds y.1 = some z) : sAlike X d x y K = (K, .ok false) := by obtain ⟨⟨a, b, c, d, e⟩, h2⟩ := h2; unfold sAlike; rw [h1, h2]
theorem sFront_b {X : SX} {u v : V} (gu : gR X u) (h1 : sBinds u = none) (h2 : ∃ z, sBinds v = some z) : sFront u v = false := by
  obtain ⟨⟨lm, p, dx, bx, r⟩, h2⟩ := h2
  unfold sBinds at h2
  split at h2
  · rcases gu with ⟨i, rfl⟩ | ⟨t, r', rfl, -, -, h3⟩
    · exact sFront_lc
    · rcases h3 with ⟨k, rfl, -⟩ | ⟨k, rfl⟩ | ⟨d, b, rfl⟩ | ⟨p', d, b, rfl⟩
      · rfl
      · rfl
      · cases h1
      · rw [sBinds_prod] at h1; cases h1
  · rcases gu with ⟨i, rfl⟩ | ⟨t, r', rfl, -, -, h3⟩
    · exact sFront_lc
    · rcases h3 with ⟨k, rfl, -⟩ | ⟨k, rfl⟩ | ⟨d, b, rfl⟩ | ⟨p', d, b, rfl⟩
      · rfl
      · rfl
      · cases h1
      · rw [sBinds_prod] at h1; cases h1
  · cases h2
section PS3
variable {G : GPl} {s0 : State} {l : Launch} {KK : Nat → Option Nat} {T : Nat → Nat} {R : Nat → Nat} {X : SX} {c : PC}
theorem c_same : ∀ (d w lev : Nat), w + d = 100 → 3 * d + 12 ≤ lev → CSame G s0 l KK T R X c lev d w := by
  intro d
  induction d with
  | zero =>
    intro w lev hw hl a b qa qb K σ n s L Q hLF ha hb ga gb hX h ok er
    obtain ⟨l', rfl⟩ : ∃ l', lev = l' + 1 := ⟨lev - 1, by omega⟩
    refine tX3_same ⟨h.2.1.1.1, c_looks (d := 0) (n := n + (swv a + swv b)) (s := s + 3 * (swv a + swv b)) (by omega) hw h (fun τ K' d' hd => (by omega)) (fun x τ e hc hf hk hm _ => ?_)⟩
    rcases hc with ⟨-, rfl⟩ | ⟨d', hd, -⟩
    · exact er x τ K 13 w rfl (Nat.le_refl _) hf hk (hm.le (by omega) (by omega))
    · omega
  | succ d ih =>
    intro w lev hw hl a b qa qb K σ n s L Q hLF ha hb ga gb hX h ok er
    obtain ⟨l', rfl⟩ : ∃ l', lev = l' + 1 := ⟨lev - 1, by omega⟩
    have ih' : CSame G s0 l KK T R X c (l' - 1) d (w + 1) := ih (w + 1) (l' - 1) (by omega) (by omega)
    refine tX3_same ⟨h.2.1.1.1, c_looks (d := d + 1) (n := n + (swv a + swv b)) (s := s + 3 * (swv a + swv b)) (by omega) hw h (fun t2 K2 d' hd s1 s2 s3 s4 s5 _ => ?_) (fun x τ e hc hf hk hm _ => ?_)⟩
    · have m2 : mv c c L L σ t2 := mv_keep s4 h.2.1.ok
      refine c_head (c := c) (L := L) (v := a) (n := n + swv b + 10) (s := s + 3 * swv b + 36) (by omega) (pV_mv m2 _ _ _ ha) ga (pX_mv m2 hX) (s5.le (by omega) (by omega)) (fun t4 K4 u as a1 a2 a3 a4 a5 a6 a7 a8 a9 a10 _ => ?_) (fun x τ K' e a1 a2 a3 a4 a5 _ => ?_)
      · have m4 : mv c c L L t2 t4 := mv_keep a4 s5.2.1.ok
        refine c_here (c := c) (L := L) (n := n + swv b + swv u + 10) (s := s + 3 * swv b + 3 * swv u + 42) (by omega) (a5.le (by omega) (by omega)) a6 (fun t6 k6 b6 v6 g6 _ => ?_)
        have m6 : mv c c L L t4 t6 := k6.mv
        have p6 : pA c L t6 as (gr t6 (R 2) 3) := by rw [(k6 (R 2) (a5.2.1.tg (Or.inl rfl)) id).2.2.1]; exact pA_mv m6 _ _ a7
        generalize gr t6 (R 2) 3 = xa at p6
        refine c_head (c := c) (L := L) (v := b) (n := n + swv u + 9) (s := s + 3 * swv u + 34) (by omega) (pV_mv m6 _ _ _ (pV_mv m4 _ _ _ (pV_mv m2 _ _ _ hb))) gb (pX_mv m6 (pX_mv m4 (pX_mv m2 hX))) (b6.le (by omega) (by omega)) (fun t8 K8 v bs e1 e2 e3 e4 e5 e6 e7 e8 e9a e10a _ => ?_) (fun x τ K' e e1 e2 e3 e4 e5 _ => ?_)
        · have m8 : mv c c L L t6 t8 := mv_keep e4 b6.2.1.ok
          refine c_here (c := c) (L := L) (n := n + swv u + swv v + 9) (s := s + 3 * swv u + 3 * swv v + 40) (by omega) (e5.le (by omega) (by omega)) e6 (fun t10 k10 b10 v10 g10 _ => ?_)
          have m10 : mv c c L L t8 t10 := k10.mv
          have p10 : pA c L t10 bs (gr t10 (R 2) 3) := by rw [(k10 (R 2) (e5.2.1.tg (Or.inl rfl)) id).2.2.1]; exact pA_mv m10 _ _ e7
          generalize gr t10 (R 2) 3 = xb at p10
          have kk10 : keep (isM R) σ t10 := ((((s4.t2 a4).t2 (k6.wk (fun _ q => q.elim))).t2 e4).t2 (k10.wk (fun _ q => q.elim)))
          have bF := b10.in1
          have kF : keep (isM R) t10 (gpi (R 2) 8 (gi t10 (R 2) 8 + iI 1) t10) := keep_in
          generalize gpi (R 2) 8 (gi t10 (R 2) 8 + iI 1) t10 = F at bF kF
          have mF : mv c c L L t10 F := mv_keep kF b10.2.1.ok
          have hxF := pV_mv mF _ _ _ (pV_mv m10 _ _ _ (pV_mv m8 _ _ _ v6))
          have hyF := pV_mv mF _ _ _ v10
          have pxF := pA_mv mF _ _ (pA_mv m10 _ _ (pA_mv m8 _ _ p6))
          have pyF := pA_mv mF _ _ p10
          have hXF : pX c F X := pX_mv mF (pX_mv m10 (pX_mv m8 (pX_mv m6 (pX_mv m4 (pX_mv m2 hX)))))
          have hLF' : LF L F K8 := (((((hLF.mv (c := c) m2 (K' := K2) (by omega)).mv (c := c) m4 (K' := K4) (by omega)).mv (c := c) m6 (Nat.le_refl _)).mv (c := c) m8 (K' := K8) (by omega)).mv (c := c) m10 (Nat.le_refl _)).mv (c := c) mF (Nat.le_refl _)
          have kkF : keep (isM R) σ F := kk10.t2 kF
          have heq : ∀ K' (r : Except Nat Bool), sAlike X d (u, as) (v, bs) K8 = (K', r) → sSame X (d + 1) a b K = (K', r) := fun K' r hr => by
            rw [sSame_suc, s1]
            show sBind (sHd X a K2) _ = _
            rw [a1]
            show sBind (sHd X b K4) _ = _
            rw [e1]
            exact hr
          obtain ⟨t14, hxH⟩ := pH_pV hxF
          obtain ⟨t14', hyH⟩ := pH_pV hyF
          obtain ⟨ax, ex1, ex2, ex3⟩ := pH_tag hxH a8
          obtain ⟨ay, ey1, ey2, ey3⟩ := pH_tag hyH e8
          have fl : ∀ τ K' r, sAlike X d (u, as) (v, bs) K8 = (K', .ok r) → K8.life ≤ K'.life → K8.fr ≤ K'.fr → keep (isM R) F τ → MB G R τ X K' (w + 1) (n + 1) (s + 8) → Q (.returned (some (.int (bI r)))) (gpi (R 2) 8 (gi τ (R 2) 8 - iI 1) τ) := fun τ K' r u1 u2 u3 u4 u5 =>
            ok _ K' r (heq _ _ u1) (by omega) (by omega) ((kkF.t2 u4).t2 keep_in) u5.out1
          have fe : ∀ x τ K' e w', sAlike X d (u, as) (v, bs) K8 = (K', .error e) → K8.life ≤ K'.life → flt τ x e (-1) → keep (isM R) F τ → MB G R τ X K' w' n s → Q (.threw x) τ := fun x τ K' e w' u1 u2 u3 u4 u5 =>
            er x τ K' e w' (heq _ _ u1) (by omega) u3 (kkF.t2 u4) u5
          have bF0 : MB G R F X K8 (w + 1) (n + 1) (s + 8) := bF.le (by omega) (by omega)
          refine ⟨_, rfl, t14, ax, ex1, ex2, fun i8 => ?_, fun i8 => ⟨fun i9 => ?_, fun i9 => ?_⟩⟩
          · -- a lambda
            have h8 := i8.tag ex1
            obtain ⟨⟨p, dx, bx, rx, hbx⟩, -⟩ : (∃ p dx bx r, sBinds u = some (true, p, dx, bx, r)) ∧ gk F ax = 8 := by rcases ex3 with h | h | h <;> first | exact h | (exfalso; omega)
            refine ⟨_, rfl, t14', ay, ey1, ey2, fun j8 => ?_, fun j8 => tX3_same_82 ⟨bF.2.1.1.1, ?_⟩⟩
            · have h8' := j8.tag ey1
              obtain ⟨⟨p', dy, by', ry, hby⟩, -⟩ : (∃ p dx bx r, sBinds v = some (true, p, dx, bx, r)) ∧ gk F ay = 8 := by rcases ey3 with h | h | h <;> first | exact h | (exfalso; omega)
              have e9 := sAlike_bb (X := X) (d := d) (x := (u, as)) (y := (v, bs)) (K := K8) hbx hby
              rw [if_pos rfl] at e9
              obtain ⟨l2, rfl⟩ : ∃ l2, l' = l2 + 1 := ⟨l' - 1, by omega⟩
              refine c_parts (n := n) (s := s) (ih (w + 1) l2 (by omega) (by omega)) (by omega) hLF' hxF hyF a8 e8 hbx hby hXF (bF.le (by omega) (by omega)) (fun τ K' r u1 u2 u3 u4 u5 _ => ⟨fun r0 => ?_, fun r0 => ?_⟩) (fun x τ K' e w' u1 u2 u3 u4 u5 _ => fe x τ K' e w' (e9.trans u1) u2 u3 u4 u5)
              · rw [bI_z] at r0; subst r0
                exact tX3_same_82 ⟨u5.2.1.1.1, fl τ K' false (e9.trans u1) u2 u3 u4 u5⟩
              · have r1 : r = true := by cases r; exact absurd rfl (fun q => r0 (bI_z.mpr q)); rfl
                subst r1
                exact fl τ K' true (e9.trans u1) u2 u3 u4 u5
            · refine fl F K8 false ?_ (Nat.le_refl _) (Nat.le_refl _) keep.rf bF0
              rcases ey3 with ⟨-, h⟩ | ⟨⟨p', dy, by', ry, hby⟩, -⟩ | ⟨hn, -⟩
              · exact absurd ⟨ay, ey1, h⟩ j8
              · rw [sAlike_bb (x := (u, as)) (y := (v, bs)) hbx hby, if_neg (by decide)]
              · exact sAlike_bn (x := (u, as)) (y := (v, bs)) ⟨_, hbx⟩ hn
          · -- a product
            have h9 := i9.tag ex1
            obtain ⟨⟨p, dx, bx, rx, hbx⟩, -⟩ : (∃ p dx bx r, sBinds u = some (false, p, dx, bx, r)) ∧ gk F ax = 9 := by rcases ex3 with h | h | h <;> first | exact h | (exfalso; omega)
            refine ⟨_, rfl, t14', ay, ey1, ey2, fun j8 => ?_, fun j8 => tX3_same_121 ⟨bF.2.1.1.1, ?_⟩⟩
            · have h8' := j8.tag ey1
              obtain ⟨⟨p', dy, by', ry, hby⟩, -⟩ : (∃ p dx bx r, sBinds v = some (false, p, dx, bx, r)) ∧ gk F ay = 9 := by rcases ey3 with h | h | h <;> first | exact h | (exfalso; omega)
              have e9 := sAlike_bb (X := X) (d := d) (x := (u, as)) (y := (v, bs)) (K := K8) hbx hby
              rw [if_pos rfl] at e9
              obtain ⟨l2, rfl⟩ : ∃ l2, l' = l2 + 1 := ⟨l' - 1, by omega⟩
              refine c_parts (n := n) (s := s) (ih (w + 1) l2 (by omega) (by omega)) (by omega) hLF' hxF hyF a8 e8 hbx hby hXF (bF.le (by omega) (by omega)) (fun τ K' r u1 u2 u3 u4 u5 _ => ⟨fun r0 => ?_, fun r0 => ?_⟩) (fun x τ K' e w' u1 u2 u3 u4 u5 _ => fe x τ K' e w' (e9.trans u1) u2 u3 u4 u5)
              · rw [bI_z] at r0; subst r0
                exact tX3_same_121 ⟨u5.2.1.1.1, fl τ K' false (e9.trans u1) u2 u3 u4 u5⟩
              · have r1 : r = true := by cases r; exact absurd rfl (fun q => r0 (bI_z.mpr q)); rfl
                subst r1
                exact fl τ K' true (e9.trans u1) u2 u3 u4 u5
            · refine fl F K8 false ?_ (Nat.le_refl _) (Nat.le_refl _) keep.rf bF0
              rcases ey3 with ⟨⟨p', dy, by', ry, hby⟩, -⟩ | ⟨-, h⟩ | ⟨hn, -⟩
              · rw [sAlike_bb (x := (u, as)) (y := (v, bs)) hbx hby, if_neg (by decide)]
              · exact absurd ⟨ay, ey1, h⟩ j8
              · exact sAlike_bn (x := (u, as)) (y := (v, bs)) ⟨_, hbx⟩ hn
          · -- a name
            have hbn : sBinds u = none := by
              rcases ex3 with ⟨-, h⟩ | ⟨-, h⟩ | ⟨hn, -⟩
              · exact absurd ⟨ax, ex1, h⟩ i8
              · exact absurd ⟨ax, ex1, h⟩ i9
              · exact hn
            refine ⟨_, rfl, t14', ?_⟩
            refine c_isFront (K := K8) (by omega) hLF' hXF hxH hyH a8 e8 hbn (fun _ => ⟨fun r0 => ?_, fun r0 => ?_⟩)
            · rw [bI_z] at r0
              refine tX3_same_155 ⟨bF.2.1.1.1, fl F K8 false ?_ (Nat.le_refl _) (Nat.le_refl _) keep.rf bF0⟩
              cases hbv : sBinds v with
              | none =>
                rw [sAlike_nn (x := (u, as)) (y := (v, bs)) hbn hbv]
                show (if sFront u v && _ then _ else _) = _
                rw [r0]
                rfl
              | some z => exact sAlike_nb (x := (u, as)) (y := (v, bs)) hbn ⟨z, hbv⟩
            · have r1 : sFront u v = true := by cases hs : sFront u v; exact absurd (bI_z.mpr hs) r0; rfl
              have hbv : sBinds v = none := by
                cases hbv : sBinds v with
                | none => rfl
                | some z => rw [sFront_b a8 hbn ⟨z, hbv⟩] at r1; cases r1
              have e9 := sAlike_nn (X := X) (d := d) (x := (u, as)) (y := (v, bs)) (K := K8) hbn hbv
              obtain ⟨l2, rfl⟩ : ∃ l2, l' = l2 + 1 := ⟨l' - 1, by omega⟩
              refine tX3_sameArgs (c_size (by omega) pxF (fun _ => c_size (by omega) pyF (fun _ => ⟨fun hl => ?_, fun hl => ?_⟩)))
              · have hll : as.length = bs.length := by
                  have k8 := bF.2.2.1.2.2
                  rw [iI_eq (by omega) (by omega) (by omega) (by omega)] at hl; omega
                have e10 : sAlike X d (u, as) (v, bs) K8 = sAll (sSame X d) as bs K8 := by
                  rw [e9]
                  show (if sFront u v && as.length == bs.length then _ else _) = _
                  rw [r1, hll]
                  simp
                refine c_sargs (n := n) (s := s) (ih (w + 1) l2 (by omega) (by omega)) as bs _ _ F K8 hLF' pxF pyF hll a9 e9a hXF bF0 (fun τ K' r u1 u2 u3 u4 u5 _ => ⟨fun r0 => ?_, fun r0 => ?_⟩) (fun x τ K' e w' u1 u2 u3 u4 u5 _ => fe x τ K' e w' (e10.trans u1) u2 u3 u4 u5)
                · rw [bI_z] at r0; subst r0
                  exact tX3_same_155 ⟨u5.2.1.1.1, fl τ K' false (e10.trans u1) u2 u3 u4 u5⟩
                · have r1 : r = true := by cases r; exact absurd rfl (fun q => r0 (bI_z.mpr q)); rfl
                  subst r1
                  exact fl τ K' true (e10.trans u1) u2 u3 u4 u5
              · have hll : as.length ≠ bs.length := fun q => hl (by rw [q])
                have e10 : sAlike X d (u, as) (v, bs) K8 = (K8, .ok false) := by
                  rw [e9]
                  show (if sFront u v && as.length == bs.length then _ else _) = _
                  rw [r1, beq_false_of_ne hll]
                  rfl
                exact fun _ => ⟨fun _ => tX3_same_155 ⟨bF.2.1.1.1, fl F K8 false e10 (Nat.le_refl _) (Nat.le_refl _) keep.rf bF0⟩, fun q => absurd rfl q⟩
        · exact er x τ K' e w (by rw [sSame_suc, s1]; show sBind (sHd X a K2) _ = _; rw [a1]; show sBind (sHd X b K4) _ = _; rw [e1]; rfl) (by omega) e3 (((s4.t2 a4).t2 (k6.wk (fun _ q => q.elim))).t2 e4) (e5.le (by omega) (by omega))
      · exact er x τ K' e w (by rw [sSame_suc, s1]; show sBind (sHd X a K2) _ = _; rw [a1]; rfl) (by omega) a3 (s4.t2 a4) (a5.le (by omega) (by omega))
    · rcases hc with ⟨hd, -⟩ | ⟨d', hd, s1⟩
      · omega
      · exact er x τ K e w (by rw [sSame_suc, s1]; rfl) (Nat.le_refl _) hf hk (hm.le (by omega) (by omega))
end PS3
