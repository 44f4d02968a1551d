/-! M OVER S (13): PureHouseModel.tell, the whole -/
section MT4
variable {P : MPl} {s0 : State} {l : Launch} {XX : Prop} {X : SX} {c : MC}
theorem m_tell : ∀ (d w lev : Nat), w + d = 100 → 2 * d + 20 ≤ lev → MTell P s0 l XX X c lev d w := by
  intro d
  induction d with
  | zero =>
    intro w lev hw' hl M v na qa nb parts binds K st ce wa x o Q hpb hM hv gv hX hN hd hO hJ hK hx ok er
    obtain ⟨l', rfl⟩ : ∃ l', lev = l' + 1 := ⟨lev - 1, by omega⟩
    refine tX5_tell (m_look (d := 0) (by omega) hw' hJ hK (fun st' K' d' hd => (by omega)) (fun st' e hc hf hz => ⟨fun _ => ?_, fun z => absurd rfl z⟩))
    rcases hc with ⟨-, rfl⟩ | ⟨d', hd, -⟩
    · exact er st' K 13 ce rfl (Nat.le_refl _) hf (Nat.le_refl _) hK.2.2.1 hz hO
    · omega
  | succ d ih =>
    intro w lev hw' hl M v na qa nb parts binds K st ce wa x o Q hpb hM hv gv hX hN hd hO hJ hK hx ok er
    obtain ⟨l', rfl⟩ : ∃ l', lev = l' + 1 := ⟨lev - 1, by omega⟩
    have ih' : MTell P s0 l XX X c l' d (w + 1) := ih (w + 1) l' (by omega) (by omega)
    have hnd := hX.2.2.2
    obtain ⟨kb, k2, k3, k4, k5, k6⟩ := hK
    refine tX5_tell (m_look (d := d + 1) (x := x) (by omega) hw' hJ ⟨kb, k2, k3, k4, k5, k6⟩ (fun t1 K1 d' hd' s1 s2 s2' s3 s4 s4' s5 s6 => ⟨fun z => absurd z (by decide), fun _ => ?_⟩) (fun st' e hc hf hz => ⟨fun _ => ?_, fun z => absurd rfl z⟩))
    · have hfr1 : K1.fr = K.fr := by show K1.2.2.2.2.2 = _; rw [s3]
      have ou1 : K1.outs = K.outs := by show K1.2.2.2.1 = _; rw [s3]
      have O1 : OB K1 (o + 100) := by
        have := s6.2.2
        unfold OB at hO ⊢; omega
      have hK1 : MK X K1 c.nd ce wa (x - 2) := ⟨s6, k2, by omega, by omega, by omega, by omega⟩
      have mv1 : mvE c c ce ce M M st t1 := s4.E hJ.2.2.2.2.1 (Nat.le_refl _)
      have e51 : fI t1 51 = iI (wa : Int) := s5.2.2.1.2.2
      rw [e51]
      refine m_head (c := c) (M := M) (v := v) (x := x - 2) (by omega) (mC_mv mv1 hv) gv (mXc_mv s4 hX) s5 hK1 (fun t3 K3 ce3 u as a1 a2 a3 a4 a5 a6 a7 a8 a9 a10 a11 => ⟨fun _ => ?_, fun z => absurd a6.2.2.2.1 z⟩) (fun t3 K3 e ce3 a1 a2 a3 a4 a5 a6 => ⟨fun z => absurd z a6.ne, fun _ => ?_⟩)
      · have hX3 := mXc_mv a4 (mXc_mv s4 hX)
        have F3 : mfr c.nd ce wa st t3 := s4.tr a4 (Nat.le_refl _) (Nat.le_refl _) (Nat.le_refl _)
        have hN3 := mNm_mv F3 hN
        have ou3 : K3.outs = K1.outs := by show K3.2.2.2.1 = _; rw [a3]
        have O3 : OB K3 (o + 100) := O1.life ou3 a2
        have e51b : fI t3 51 = iI ((wa + as.length : Nat) : Int) := a6.2.2.1.2.2
        have heq : ∀ K' (r : Except Nat Unit), sTx X d nb parts binds (u, as) K3 = (K', r) → sTell X (d + 1) v nb parts binds K = (K', r) := fun K' r hr => by
          rw [sTell_suc, s1]
          show sBind (sHd X v K1) _ = _
          rw [a1]
          exact hr
        obtain ⟨y1, y2, y3, y4, y5, y6⟩ := a7
        have hb2 : wa + as.length ≤ 20000 := by have := y1.1; have := y1.2.1; omega
        have hlt := O3.lt
        generalize fI t3 52 = n at a8
        generalize fI t3 53 = q at a8
        -- how it ends
        have fin : ∀ (br : Bool) (n1 q1 k1 b1 : Int32) (st' : MSt) (K' : KS) (ce' wa' : Nat), sTx X d nb parts binds (u, as) K3 = (if br then sPut 41 K' else K', .ok ()) → K3.life ≤ K'.life → mfr c.nd ce wa st st' → ce ≤ ce' → wa ≤ wa' → MJ st' X K' c.nd ce' wa' → MK X K' c.nd ce' wa' x → OB K' (o + 3) → jX5_tell_382 P s0 l XX l' st Q (iI (na : Int)) (iI (qa : Int)) (iI (w : Int)) (iI (nb : Int)) (iI (hw parts binds : Int)) (iI (wa : Int)) n1 q1 k1 b1 (if br then iI 1 else iI 0) st' := by
          intro br n1 q1 k1 b1 st' K' ce' wa' e1 e2 e3 e4 e5 e6 e7 e8
          have hlt := e8.lt
          have J1 : MJ (mput 51 (iI (wa : Int)) st') X K' c.nd ce' wa := e6.setw
          have F1 : mfr c.nd ce wa st (mput 51 (iI (wa : Int)) st') := e3.tr (mfr_put (nd := c.nd) (ce := ce) (wa := wa) (by omega)) (Nat.le_refl _) (Nat.le_refl _) (Nat.le_refl _)
          obtain ⟨w1, w2, w3, w4, w5, w6⟩ := e7
          refine tX5_tell_382 ⟨fun _ => ?_, fun z => absurd e6.2.2.2.1 z⟩
          cases br with
          | false => exact ⟨fun _ => ok _ K' ce' (heq _ _ e1) (by omega) F1 e4 J1 ⟨w1, w2, w3, w4, by omega, w6⟩ (e8.le (by omega)), fun z => absurd rfl z⟩
          | true =>
            refine ⟨fun z => absurd z (by decide), fun _ => m_out (ch := 41) (by omega) (by omega) J1.1 (fun s2 o2 j2 => ?_)⟩
            exact ok _ (sPut 41 K') ce' (heq _ _ e1) (by rw [sPut_life.1]; omega) (F1.tr (o2.fr (nd := c.nd) (ce := ce) (wa := wa)) (Nat.le_refl _) (Nat.le_refl _) (Nat.le_refl _)) e4 (J1.only o2 j2 rfl) ⟨w1, w2, w3, w4, by show wa ≤ K'.work; omega, w6⟩ (OB.put e8)
        have fe : ∀ (st' : MSt) (K' : KS) (e ce' : Nat), sTx X d nb parts binds (u, as) K3 = (K', .error e) → K3.life ≤ K'.life → mfr c.nd ce wa st st' → ce ≤ ce' → ce' ≤ 1 + 2 * K'.work + x → MZ st' X K' e c.nd ce' → OB K' o → Q (.returned none) st' := fun st' K' e ce' u1 u2 u3 u4 u5 u6 u7 =>
          er st' K' e ce' (heq _ _ u1) (by omega) u3 u4 u5 u6 u7
        rcases hd_fb a8 a10 with ⟨ku, cu, hfu, hbu⟩ | ⟨lm, p, dx, bx, rx, a, e, xx, yy, i, g, hbu⟩
        · -- a name
          have hku := fco_k hfu
          have e9 := sTx_n (X := X) (d := d) (nb := nb) (parts := parts) (binds := binds) (x := (u, as)) (K := K3) hbu
          have go : ∀ (br : Bool) (sx : MSt) (Kx : KS), br = (parts && !as.isEmpty) → Kx = (if br then sPut 40 K3 else K3) → mOnly t3 sx → MJ0 sx X Kx → jX5_tell_111 P s0 l XX l' st Q (iI (na : Int)) (iI (qa : Int)) (iI (w : Int)) (iI (nb : Int)) (iI (hw parts binds : Int)) (iI (wa : Int)) n q (iI ku) (iI 0) (if br then iI 1 else iI 0) sx := by
            intro br sx Kx ebr eK oS jS
            have kx : Kx.life = K3.life ∧ Kx.work = K3.work ∧ Kx.fr = K3.fr ∧ Kx.outs ≤ K3.outs + 1 := by
              rw [eK]; cases br
              · exact ⟨rfl, rfl, rfl, Nat.le_succ _⟩
              · exact ⟨rfl, rfl, rfl, Nat.le_refl _⟩
            have e10 : sTx X d nb parts binds (u, as) K3 = sBind (sEach (fun c K => sTell X d c nb true true K) as (sName X u Kx)) fun _ K => (if br then sPut 41 K else K, .ok ()) := by
              rw [e9, eK, ebr]
            have FS : mfr c.nd ce wa t3 sx := oS.fr
            have hfu' : fco c sx M u n ku cu := by
              rcases hfu with ⟨j, h1, h2, h3⟩ | ⟨k, r, h1, h2, h3, h4, a, h5, h6, h7, h8⟩ | ⟨k, r, h1, h2, h3, h4, a, h5, h6, h7, h8⟩
              · refine Or.inl ⟨j, h1, h2, ?_⟩
                rcases h3 with h3 | ⟨h3, h4, h5, a, h6, h7, h8, h9⟩
                · exact Or.inl h3
                · exact Or.inr ⟨h3, h4, h5, a, h6, h7, by rw [oS.2 30 _ (by omega)]; exact h8, by rw [oS.2 31 _ (by omega)]; exact h9⟩
              · exact Or.inr (Or.inl ⟨k, r, h1, h2, h3, h4, a, h5, h6, by rw [oS.2 30 _ (by omega)]; exact h7, by rw [oS.2 31 _ (by omega)]; exact h8⟩)
              · exact Or.inr (Or.inr ⟨k, r, h1, h2, h3, h4, a, h5, h6, by rw [oS.2 30 _ (by omega)]; exact h7, by rw [oS.2 31 _ (by omega)]; exact h8⟩)
            have nk : (sName X u Kx).life = Kx.life ∧ (sName X u Kx).outs ≤ Kx.outs + 13 := by
              rcases hfu with ⟨j, h1, -⟩ | ⟨k, r, h1, -, -, h4, -⟩ | ⟨k, r, h1, -, -, h4, -⟩
              · subst h1
                have eN : sName X (vLoc j) Kx = sNum 12 j (sPut 95 Kx) := by rcases j with _ | _ | _ | _ | j <;> rfl
                have := sNum_k 12 j (sPut 95 Kx)
                rw [eN]
                exact ⟨this.1, by rw [sPut_life.2] at this; omega⟩
              · subst h1
                have := (hN3.1 k h4).2.1
                have := sPuts_k (X.nm k) Kx
                show (sPuts (X.nm k) Kx).life = _ ∧ (sPuts (X.nm k) Kx).outs ≤ _
                omega
              · subst h1
                have := (hN3.2 k h4).2.1
                have := sPuts_k (X.sn k) Kx
                show (sPuts (X.sn k) Kx).life = _ ∧ (sPuts (X.sn k) Kx).outs ≤ _
                omega
            refine m_name (c := c) (M := M) (by omega) hnd ⟨hX.2.1, hX.2.2.1⟩ hM hfu' (mNm_mv FS hN3) (by omega) jS (fun s2 o2 j2 => tX5_tell_314 ?_)
            have O2 : mOnly t3 s2 := oS.t o2
            have F2 : mfr c.nd ce3 (wa + as.length) t3 s2 := O2.fr
            have nf := sName_fr (X := X) (K := Kx) (u := u)
            have J2 : MJ s2 X (sName X u Kx) c.nd ce3 (wa + as.length) := a6.only O2 j2 (by omega)
            have e51c : fI s2 51 = iI ((wa + as.length : Nat) : Int) := J2.2.2.1.2.2
            rw [e51c]
            have mv2 : mvE c c ce3 ce3 M M t3 s2 := F2.E a6.2.2.2.2.1 (Nat.le_refl _)
            have OB2 : OB (sName X u Kx) (o + 1 + 2) := by unfold OB at O3 ⊢; omega
            have K2 : MK X (sName X u Kx) c.nd ce3 (wa + as.length) x := MK.out (K := K3) ⟨y1, y2, by omega, k4, y5, by omega⟩ (by omega) (by omega) (by omega)
            exact m_each (many := as.length) (x := x) (o := o + 1) ih' (by omega) (by omega) (by omega) hM hb2 as 1 (sName X u Kx) s2 ce3 (by omega) (by omega) (mW_mv mv2 _ (fun k j z1 z2 z3 => O2.2 k j (by omega)) a9) a11 (mXc_mv F2 hX3) (mNm_mv F2 hN3) OB2 J2 K2 (fun st' K' ce' u1 u2 u3 u4 u5 u6 u7 => fin br _ _ _ _ st' K' ce' _ (by rw [e10, u1]; rfl) (by omega) (F3.tr (F2.tr u3 (Nat.le_refl _) (Nat.le_refl _) (Nat.le_refl _)) (Nat.le_refl _) a5 (by omega)) (by omega) (by omega) u5 u6 (u7.le (by omega))) (fun st' K' e ce' u1 u2 u3 u4 u5 u6 u7 => fe st' K' e ce' (by rw [e10, u1]; rfl) (by omega) (F3.tr (F2.tr u3 (Nat.le_refl _) (Nat.le_refl _) (Nat.le_refl _)) (Nat.le_refl _) a5 (by omega)) (by omega) u5 u6 (u7.le (by omega)))
          have go78 : jX5_tell_78 P s0 l XX l' st Q (iI (na : Int)) (iI (qa : Int)) (iI (w : Int)) (iI (nb : Int)) (iI (hw parts binds : Int)) (iI (wa : Int)) n q (iI ku) (iI 0) t3 := by
            refine tX5_tell_78 ⟨fun z => ?_, fun z => tX5_tell_97 (go false t3 K3 ?_ rfl mOnly.rf a6.1)⟩
            · have hp : parts = true := by
                rw [iI_eq (by omega) (by unfold hw; split <;> first | omega | (split <;> omega)) (by omega) (by omega)] at z
                unfold hw at z
                cases parts with
                | true => rfl
                | false => exfalso; revert z; cases binds <;> simp
              rw [e51b]
              refine ⟨fun z2 => tX5_tell_97 (go false t3 K3 ?_ rfl mOnly.rf a6.1), fun z2 => tX5_tell_93 (m_out (ch := 40) (by omega) (by omega) a6.1 (fun s2 o2 j2 => go true s2 (sPut 40 K3) ?_ rfl o2 j2))⟩
              · rw [iI_le (by omega) (by omega) (by omega) (by omega)] at z2
                have : as = [] := List.length_eq_zero_iff.mp (by omega)
                rw [this]; simp
              · rw [iI_le (by omega) (by omega) (by omega) (by omega)] at z2
                have : as ≠ [] := fun h => by rw [h] at z2; simp at z2
                rw [hp]; simp [this]
            · have hp : parts = false := by
                cases parts with
                | false => rfl
                | true => exact absurd rfl z
              rw [hp]; rfl
          refine m_kindf (by omega) hnd hfu ⟨fun z => ?_, fun _ => ⟨fun z => ?_, fun _ => go78⟩⟩
          · rw [iI_eq (by omega) (by omega) (by omega) (by omega)] at z; omega
          · rw [iI_eq (by omega) (by omega) (by omega) (by omega)] at z; omega
        · -- a binder
          have hbu0 := hbu
          obtain ⟨u1, u2, u3, u4, u5, u6, -⟩ := hbu
          have e9 := sTx_b (X := X) (d := d) (nb := nb) (parts := parts) (binds := binds) (x := (u, as)) (K := K3) u1
          have go : ∀ (sx : MSt) (Kx : KS), Kx = (if binds then sPut 40 K3 else K3) → mOnly t3 sx → MJ0 sx X Kx → jX5_tell_111 P s0 l XX l' st Q (iI (na : Int)) (iI (qa : Int)) (iI (w : Int)) (iI (nb : Int)) (iI (hw parts binds : Int)) (iI (wa : Int)) (iI (a : Int)) (iI (e : Int)) (if lm then iI 4 else iI 5) (iI 1) (if binds then iI 1 else iI 0) sx := by
            intro sx Kx eK oS jS
            have kx : Kx.life = K3.life ∧ Kx.work = K3.work ∧ Kx.fr = K3.fr ∧ Kx.outs ≤ K3.outs + 1 := by
              rw [eK]; cases binds
              · exact ⟨rfl, rfl, rfl, Nat.le_succ _⟩
              · exact ⟨rfl, rfl, rfl, Nat.le_refl _⟩
            rw [← eK] at e9
            have FS : mfr c.nd ce3 (wa + as.length) t3 sx := oS.fr
            have mvS : mvE c c ce3 ce3 M M t3 sx := FS.E a6.2.2.2.2.1 (Nat.le_refl _)
            have JS : MJ sx X Kx c.nd ce3 (wa + as.length) := a6.only oS jS (by omega)
            have hbS : bco c ce3 M sx u n q lm p dx bx rx a e xx yy i g := by
              obtain ⟨z1, z2, z3, z4, z5, z6, z7, z8, z9, z10, z11, z12, z13, z14, z15, z16⟩ := hbu0
              have nn : ∀ k, k ≠ 74 → sx.2 k a = t3.2 k a := fun k hk => oS.2 k a hk
              exact ⟨z1, z2, z3, z4, z5, by rw [nn 30 (by omega)]; exact z6, by rw [nn 32 (by omega)]; exact z7, by rw [nn 33 (by omega)]; exact z8, by rw [nn 38 (by omega)]; exact z9, z10, z11, z12, mT_mv mvS.1 _ _ _ _ z13, mT_mv mvS.1 _ _ _ _ z14, mE_mv mvS _ _ _ z5 z15, fun h => by rw [nn 36 (by omega), nn 37 (by omega)]; exact z16 h⟩
            exact m_bind (o := o + 1) (x := x) ih' (by omega) (by omega) (by omega) hM hbS a10 (mXc_mv FS hX3) (mNm_mv FS hN3) (by unfold OB at O3 ⊢; omega) JS (MK.out (K := K3) ⟨y1, y2, y3, y4, y5, y6⟩ (by omega) (by omega) (by omega)) (by omega) k4 (fun st' K' ce' v1 v2 v3 v4 v5 v6 v7 => fin binds _ _ _ _ st' K' ce' _ (by rw [e9, v1]; rfl) (by omega) (F3.tr (FS.tr v3 (Nat.le_refl _) (Nat.le_refl _) (Nat.le_refl _)) (Nat.le_refl _) a5 (by omega)) (by omega) (by omega) v5 v6 (v7.le (by omega))) (fun st' K' e' ce' v1 v2 v3 v4 v5 v6 v7 => fe st' K' e' ce' (by rw [e9, v1]; rfl) (by omega) (F3.tr (FS.tr v3 (Nat.le_refl _) (Nat.le_refl _) (Nat.le_refl _)) (Nat.le_refl _) a5 (by omega)) (by omega) v5 v6 (v7.le (by omega)))
          subst u2 u3
          have go61 : jX5_tell_61 P s0 l XX l' st Q (iI (na : Int)) (iI (qa : Int)) (iI (w : Int)) (iI (nb : Int)) (iI (hw parts binds : Int)) (iI (wa : Int)) (iI (a : Int)) (iI (e : Int)) (if lm then iI 4 else iI 5) t3 := by
            cases hbd : binds with
            | true =>
              rw [hbd] at go
              refine tX5_tell_61 ⟨fun _ => tX5_tell_93 (m_out (ch := 40) (by omega) (by omega) a6.1 (fun s2 o2 j2 => go s2 (sPut 40 K3) rfl o2 j2)), fun z => absurd ?_ z⟩
              unfold hw; cases parts <;> decide
            | false =>
              have hp : parts = false := by
                cases parts with
                | false => rfl
                | true => have := hpb rfl; rw [hbd] at this; cases this
              rw [hbd] at go
              subst hp
              exact tX5_tell_61 ⟨fun z => absurd z (by decide), fun _ => tX5_tell_78 ⟨fun z => absurd z (by decide), fun _ => tX5_tell_97 (go t3 K3 rfl mOnly.rf a6.1)⟩⟩
          refine m_kindb (by omega) (by omega) u6 ?_
          cases lm with
          | true => exact ⟨fun _ => go61, fun z => absurd rfl z⟩
          | false => exact ⟨fun z => absurd z (by decide), fun _ => ⟨fun _ => go61, fun z => absurd rfl z⟩⟩
      · exact er t3 K3 e ce3 (by rw [sTell_suc, s1]; show sBind (sHd X v K1) _ = _; rw [a1]; rfl) (by omega) (s4.tr a3 (Nat.le_refl _) (Nat.le_refl _) (Nat.le_refl _)) a4 (by omega) a6 ((O1.life (sHd_k a1) a2).le (by omega))
    · rcases hc with ⟨hd, -⟩ | ⟨d', hd, s1⟩
      · omega
      · exact er st' K e ce (by rw [sTell_suc, s1]; rfl) (Nat.le_refl _) hf (Nat.le_refl _) k3 hz hO
end MT4
