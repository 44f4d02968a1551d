/-! P OVER S (19): Machine.tell, all of it -/
section PT3
variable {G : GPl} {s0 : State} {l : Launch} {KK : Nat → Option Nat} {T : Nat → Nat} {lev d : Nat} {Q : Outcome → GSt → Prop} {R : Nat → Nat} {σ τ st0 : GSt} {X : SX} {K K' : KS} {w n s o : Nat} {c c' : PC} {L L' : Nat → Nat → Prop} {W : Nat → Prop}
theorem name_k {u : V} {x y : Option Nat} (hu : pH c L σ u x y) (gu : gR X u) (hN : pNm c R σ X) : (sName X u K).life = K.life ∧ (sName X u K).outs ≤ K.outs + 13 := by
  rcases gu with ⟨i, rfl⟩ | ⟨t, r', rfl, h1, h2, h3⟩
  · have eN : sName X (vLoc i) K = sNum 12 i (sPut 95 K) := by rcases i with _ | _ | _ | _ | i <;> rfl
    have := sNum_k 12 i (sPut 95 K)
    rw [eN]
    exact ⟨this.1, by rw [sPut_life.2] at this; omega⟩
  · obtain ⟨⟨a, e1, e2⟩, -⟩ := hu
    rcases h3 with ⟨k, rfl, -⟩ | ⟨k, rfl⟩ | ⟨d, b, rfl⟩ | ⟨p', d, b, rfl⟩
    · obtain ⟨n1, sa, n2, n3⟩ := hN.1 k e2.1
      have := n3.2.2.choose_spec.2.2.2.2.1
      have := sPuts_k (X.nm k) K
      show (sPuts (X.nm k) K).life = _ ∧ (sPuts (X.nm k) K).outs ≤ _
      omega
    · obtain ⟨n1, n2, n3, n4, n5, n6, n7⟩ := hN
      obtain ⟨sa, n8, n9⟩ := n7 k e2.1
      have := n9.2.2.choose_spec.2.2.2.2.1
      have := sPuts_k (X.sn k) K
      show (sPuts (X.sn k) K).life = _ ∧ (sPuts (X.sn k) K).outs ≤ _
      omega
    · exact ⟨rfl, by show K.outs ≤ _; omega⟩
    · exact ⟨rfl, by show K.outs ≤ _; omega⟩
theorem sHd_k {v : V} {r : Except Nat (V × List V)} (h : sHd X v K = (K', r)) : K'.outs = K.outs := by
  have := sHd_fr (X := X) (v := v) (K := K)
  rw [h] at this
  show K'.2.2.2.1 = _
  rw [this]
theorem sSpend_k {k : Nat} {r : Except Nat Unit} (h : sSpend X k K = (K', r)) : K'.outs = K.outs := by
  have := sSpend_fr (X := X) (c := k) (K := K)
  rw [h] at this
  show K'.2.2.2.1 = _
  rw [this]
theorem c_tell : ∀ (d w lev : Nat), w + d = 100 → 3 * d + 24 ≤ lev → CTell G s0 l KK T R X lev d w := by
  intro d
  induction d with
  | zero =>
    intro w lev hw hl c v q nb parts binds K σ n s o L Q hLT hv gv hX hN hd hO h ok er
    obtain ⟨l', rfl⟩ : ∃ l', lev = l' + 1 := ⟨lev - 1, by omega⟩
    refine tX3_tell ⟨h.2.1.1.1, c_looks (d := 0) (n := n + swv v) (s := s + 3 * swv v) (by omega) hw h (fun τ K' d' hd => (by omega)) (fun x τ e hc hf hk hm _ => ?_)⟩
    rcases hc with ⟨-, rfl⟩ | ⟨d', hd, -⟩
    · exact er x τ K 13 w rfl (Nat.le_refl _) hf hk (hm.le (by omega) (by omega)) hO
    · omega
  | succ d ih =>
    intro w lev hw hl c v q nb parts binds K σ n s o L Q hLT hv gv hX hN hd hO h ok er
    obtain ⟨l', rfl⟩ : ∃ l', lev = l' + 2 := ⟨lev - 2, by omega⟩
    have ih' : CTell G s0 l KK T R X l' d (w + 1) := ih (w + 1) l' (by omega) (by omega)
    refine tX3_tell ⟨h.2.1.1.1, c_looks (d := d + 1) (n := n + swv v) (s := s + 3 * swv v) (by omega) hw h (fun t2 K2 d' hd' s1 s2 s3 s4 s5 _ => ?_) (fun x τ e hc hf hk hm _ => ?_)⟩
    · have m2 : mv c c L L σ t2 := mv_keep s4 h.2.1.ok
      have ou2 := sSpend_k s1
      have O2 : OB K2 (o + 100) := by
        have l2 := s5.2.2.1.2.2
        unfold OB at hO ⊢; omega
      refine c_head (c := c) (L := L) (v := v) (n := n + 10) (s := s + 36) (by omega) (pV_mv m2 _ _ _ hv) gv (pX_mv m2 hX) (s5.le (by omega) (by omega)) (fun t4 K4 u as a1 a2 a3 a4 a5 a6 a7 a8 a9 a10 _ => ?_) (fun x τ K' e a1 a2 a3 a4 a5 _ => ?_)
      · have m4 : mv c c L L t2 t4 := mv_keep a4 s5.2.1.ok
        have ou4 := sHd_k a1
        have O4 : OB K4 (o + 100) := O2.life ou4 a2
        refine c_here (c := c) (L := L) (n := n + swv u + 10) (s := s + 3 * swv u + 42) (by omega) (a5.le (by omega) (by omega)) a6 (fun t6 k6 b6 v6 g6 _ => ?_)
        have m6 : mv c c L L t4 t6 := k6.mv
        have p6 : pA c L t6 as (gr t6 (R 2) 3) := by rw [(k6 (R 2) (a5.2.1.tg (Or.inl rfl)) id).2.2.1]; exact pA_mv m6 _ _ a7
        generalize gr t6 (R 2) 3 = xa at p6
        have bF := b6.in1
        have kF : keep (isM R) t6 (gpi (R 2) 8 (gi t6 (R 2) 8 + iI 1) t6) := keep_in
        have kk6 : keep (isM R) σ t6 := (s4.t2 a4).t2 (k6.wk (fun _ q => q.elim))
        have heq : ∀ K' (r : Except Nat Unit), sTx X d nb parts binds (u, as) K4 = (K', r) → sTell X (d + 1) v nb parts binds K = (K', r) := fun K' r hr => by
          rw [sTell_suc, s1]
          show sBind (sHd X v K2) _ = _
          rw [a1]
          exact hr
        obtain ⟨t14, hxH⟩ := pH_pV v6
        obtain ⟨ax, ex1, ex2, ex3⟩ := pH_tag hxH a8
        -- how it ends
        have fin : ∀ (br : Bool) (x7 : Int32) (τ : GSt) (K' : KS), keep (isM R) σ τ → MB G R τ X K' (w + 1) (n + 1) (s + 8) → OB K' (o + 3) → K4.life ≤ K'.life → sTx X d nb parts binds (u, as) K4 = (if br then sPut 41 K' else K', .ok ()) → jX3_tell_124 G s0 l KK T (l' + 1) σ Q (R 2) (some q) (iI (nb : Int)) (bI parts) (bI binds) (some (gn t4)) xa x7 (bI br) τ := by
          intro br x7 τ K' k1 b1 o1 l1 e1
          have hlt := o1.lt
          cases br with
          | false => exact tX3_tell_124 ⟨fun _ => ⟨b1.2.1.1.1, ok _ K' (heq _ _ e1) (by omega) (k1.t2 keep_in) b1.out1 (o1.le (by omega))⟩, fun q => absurd rfl q⟩
          | true =>
            refine tX3_tell_124 ⟨fun q => absurd q (by decide), fun _ => ⟨b1.2.1.1.1, c_put (ch := 41) (by omega) (by omega) (by omega) b1 (fun τ2 k2 b2 g2 _ => ?_)⟩⟩
            exact ok _ (sPut 41 K') (heq _ _ e1) (by rw [sPut_life.1]; omega) ((k1.t2 k2).t2 keep_in) b2.out1 (OB.put o1)
        have fe : ∀ x τ K' e w', sTx X d nb parts binds (u, as) K4 = (K', .error e) → K4.life ≤ K'.life → flt τ x e (-1) → keep (isM R) σ τ → MB G R τ X K' w' n s → OB K' o → Q (.threw x) τ := fun x τ K' e w' u1 u2 u3 u4 u5 u6 =>
          er x τ K' e w' (heq _ _ u1) (by omega) u3 u4 u5 u6
        -- a binder
        have bnd : ∀ lm p dx bx r, sBinds u = some (lm, p, dx, bx, r) → jX3_tell_43 G s0 l KK T (l' + 1) σ Q (R 2) (some q) (iI (nb : Int)) (bI parts) (bI binds) (some (gn t4)) xa t6 := by
          intro lm p dx bx r hb
          have e9 := sTx_b (X := X) (d := d) (nb := nb) (parts := parts) (binds := binds) (x := (u, as)) (K := K4) hb
          have go97 : ∀ (σ1 : GSt) (K1 : KS), keep (isM R) t6 σ1 → MB G R σ1 X K1 (w + 1) (n + swv u + 10) (s + 3 * swv u + 42) → OB K1 (o + 90) → K1.life = K4.life → K1 = (if binds then sPut 40 K4 else K4) → jX3_tell_97 G s0 l KK T (l' + 1) σ Q (R 2) (some q) (iI (nb : Int)) (bI parts) (bI binds) (some (gn t4)) xa (iI 1) (bI binds) σ1 := by
            intro σ1 K1 k1 b1 o1 l1 e1
            have m1 : mv c c L L t6 σ1 := mv_keep k1 b6.2.1.ok
            have kk1 : keep (isM R) σ σ1 := kk6.t2 k1
            refine tX3_tell_97 ⟨fun q => absurd q (by decide), fun _ => ⟨b1.2.1.1.1, ?_⟩⟩
            rw [← e1] at e9
            refine c_binder (o := o + 1) (n := n) (s := s) ih' (by omega) ((((hLT.mv m2).mv m4).mv m6).mv m1) (pV_mv m1 _ _ _ v6) a8 hb (pX_mv m1 (pX_mv m6 (pX_mv m4 (pX_mv m2 hX)))) (hN.kp h.2.1 kk1) (by omega) (o1.le (by omega)) (b1.le (by omega) (by omega)) (fun τ K' u1 u2 u3 u4 u5 _ => ?_) (fun x τ K' e w' u1 u2 u3 u4 u5 u6 _ => ?_)
            · exact fin binds _ τ K' (kk1.t2 u3) u4 (u5.le (by omega)) (by omega) (by rw [e9, u1]; rfl)
            · exact fe x τ K' e w' (by rw [e9, u1]; rfl) (by omega) u3 (kk1.t2 u4) u5 (u6.le (by omega))
          have hlt := O4.lt
          refine tX3_tell_43 ⟨b6.2.1.1.1, fun e => ?_, fun e => ?_⟩
          · rw [bI_z] at e
            exact go97 _ K4 kF bF (O4.le (by omega)) rfl (by rw [e]; rfl)
          · have e1 : binds = true := by cases hb' : binds; exact absurd (bI_z.mpr hb') e; rfl
            refine c_put (ch := 40) (by omega) (by omega) (by omega) bF (fun τ k1 b1 g1 _ => ?_)
            exact go97 τ (sPut 40 K4) (kF.t2 k1) b1 (OB.put (O4.le (by omega))) rfl (by rw [e1]; rfl)
        refine ⟨_, rfl, t14, ax, ex1, ex2, fun i8 => ?_, fun i8 => ⟨fun i9 => ?_, fun i9 => ?_⟩⟩
        · have h8 := i8.tag ex1
          obtain ⟨⟨p, dx, bx, rx, hbx⟩, -⟩ : (∃ p dx bx r, sBinds u = some (true, p, dx, bx, r)) ∧ gk t6 ax = 8 := by rcases ex3 with h | h | h <;> first | exact h | (exfalso; omega)
          exact bnd _ p dx bx rx hbx
        · have h9 := i9.tag ex1
          obtain ⟨⟨p, dx, bx, rx, hbx⟩, -⟩ : (∃ p dx bx r, sBinds u = some (false, p, dx, bx, r)) ∧ gk t6 ax = 9 := by rcases ex3 with h | h | h <;> first | exact h | (exfalso; omega)
          exact bnd _ p dx bx rx hbx
        · have hbn : sBinds u = none := by
            rcases ex3 with ⟨-, h⟩ | ⟨-, h⟩ | ⟨hn, -⟩
            · exact absurd ⟨ax, ex1, h⟩ i8
            · exact absurd ⟨ax, ex1, h⟩ i9
            · exact hn
          have e9 := sTx_n (X := X) (d := d) (nb := nb) (parts := parts) (binds := binds) (x := (u, as)) (K := K4) hbn
          have go97 : ∀ (br : Bool) (σ1 : GSt) (K1 : KS), br = (parts && !as.isEmpty) → keep (isM R) t6 σ1 → MB G R σ1 X K1 (w + 1) (n + swv u + 10) (s + 3 * swv u + 42) → OB K1 (o + 90) → K1.life = K4.life → K1 = (if br then sPut 40 K4 else K4) → jX3_tell_97 G s0 l KK T (l' + 1) σ Q (R 2) (some q) (iI (nb : Int)) (bI parts) (bI binds) (some (gn t4)) xa (iI 0) (bI br) σ1 := by
            intro br σ1 K1 ebr k1 b1 o1 l1 e1
            have m1 : mv c c L L t6 σ1 := mv_keep k1 b6.2.1.ok
            have kk1 : keep (isM R) σ σ1 := kk6.t2 k1
            have e10 : sTx X d nb parts binds (u, as) K4 = sBind (sEach (fun c K => sTell X d c nb true true K) as (sName X u K1)) fun _ K => (if br then sPut 41 K else K, .ok ()) := by
              rw [e9, e1, ebr]
            obtain ⟨t14', hxH'⟩ := pH_pV (pV_mv m1 _ _ _ v6)
            have hN1 := hN.kp h.2.1 kk1
            have nk := name_k (K := K1) hxH' a8 hN1
            have hlt := o1.lt
            have hLT1 : LT L σ1 := (((hLT.mv m2).mv m4).mv m6).mv m1
            have hX1 : pX c σ1 X := pX_mv m1 (pX_mv m6 (pX_mv m4 (pX_mv m2 hX)))
            refine tX3_tell_97 ⟨fun _ => ⟨_, rfl, t14', b1.2.1.1.1, tX3_front ⟨b1.2.1.1.1, c_name (by omega) hLT1 hxH' a8 hX1 hN1 (by omega) b1 (fun τ k2 b2 g2 _ => ?_)⟩⟩, fun q => absurd rfl q⟩
            have m2' : mv c c L L σ1 τ := mv_keep k2 b1.2.1.ok
            have O2' : OB (sName X u K1) (o + 1 + 2) := by unfold OB at o1 ⊢; omega
            refine c_each (o := o + 1) (n := n) (s := s) ih' (by omega) (by omega) as _ τ (sName X u K1) (hLT1.mv m2') (pA_mv m2' _ _ (pA_mv m1 _ _ p6)) a9 (pX_mv m2' hX1) (hN1.kp b1.2.1 k2) O2' (b2.le (by omega) (by omega)) (fun τ3 K3 u1 u2 u3 u4 u5 _ => ?_) (fun x τ3 K3 e w' u1 u2 u3 u4 u5 u6 _ => ?_)
            · exact fin br _ τ3 K3 ((kk1.t2 k2).t2 u3) u4 (u5.le (by omega)) (by omega) (by rw [e10, u1]; rfl)
            · exact fe x τ3 K3 e w' (by rw [e10, u1]; rfl) (by omega) u3 ((kk1.t2 k2).t2 u4) u5 (u6.le (by omega))
          have hlt := O4.lt
          refine ⟨fun e => ?_, fun e => ⟨fun exa => ?_, fun a16 exa => ?_⟩⟩
          · rw [bI_z] at e
            exact tX3_tell_73 ⟨b6.2.1.1.1, go97 false _ K4 (by rw [e]; rfl) kF bF (O4.le (by omega)) rfl rfl⟩
          · have has : as = [] := by
              cases as with
              | nil => rfl
              | cons v as => rw [exa] at p6; exact p6.elim
            exact tX3_tell_73 ⟨b6.2.1.1.1, go97 false _ K4 (by rw [has]; simp) kF bF (O4.le (by omega)) rfl rfl⟩
          · have has : as ≠ [] := by
              rintro rfl
              rw [exa] at p6; exact p6.elim
            have e1 : parts = true := by cases hb' : parts; exact absurd (bI_z.mpr hb') e; rfl
            refine c_put (ch := 40) (by omega) (by omega) (by omega) bF (fun τ k1 b1 g1 _ => ?_)
            exact go97 true τ (sPut 40 K4) (by rw [e1]; simp [has]) (kF.t2 k1) b1 (OB.put (O4.le (by omega))) rfl rfl
      · exact er x τ K' e w (by rw [sTell_suc, s1]; show sBind (sHd X v K2) _ = _; rw [a1]; rfl) (by omega) a3 (s4.t2 a4) (a5.le (by omega) (by omega)) ((O2.life (sHd_k a1) a2).le (by omega))
    · rcases hc with ⟨hd, -⟩ | ⟨d', hd, s1⟩
      · omega
      · exact er x τ K e w (by rw [sTell_suc, s1]; rfl) (Nat.le_refl _) hf hk (hm.le (by omega) (by omega)) hO
end PT3
