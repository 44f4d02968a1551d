/-! M OVER S (9): PureHouseModel.compare, all of it -/
section MC3
variable {P : MPl} {s0 : State} {l : Launch} {XX : Prop} {Q : Outcome → MSt → Prop} {st st' st0 : MSt} {X : SX} {K K' : KS} {nd ce ce' wa x base many : Nat} {c c' : MC} {M M' : Nat → Int → Prop}
theorem m_compare : ∀ (d w lev : Nat), w + d = 100 → 2 * d + 8 ≤ lev → MCmp P s0 l XX X c lev d w := by
  intro d
  induction d with
  | zero =>
    intro w lev hw hl M va vb na qa nb qb K st ce wa x Q hF ha hb ga gb hX hJ hK hx ok er
    obtain ⟨l', rfl⟩ : ∃ l', lev = l' + 1 := ⟨lev - 1, by omega⟩
    refine tX5_compare (m_look (d := 0) (by omega) hw hJ hK (fun st' K' d' hd => (by omega)) (fun st' e hc hf hz => ⟨fun _ => ?_, fun z => absurd rfl z⟩))
    rcases hc with ⟨-, rfl⟩ | ⟨d', hd, -⟩
    · exact er st' K 13 ce rfl (Nat.le_refl _) hf (Nat.le_refl _) hK.2.2.1 hz
    · omega
  | succ d ih =>
    intro w lev hw hl M va vb na qa nb qb K st ce wa x Q hF ha hb ga gb hX hJ hK hx ok er
    obtain ⟨l', rfl⟩ : ∃ l', lev = l' + 2 := ⟨lev - 2, by omega⟩
    have ih' : MCmp P s0 l XX X c l' d (w + 1) := ih (w + 1) l' (by omega) (by omega)
    have hnd := hX.2.2.2
    obtain ⟨kb, k2, k3, k4, k5, k6⟩ := hK
    refine tX5_compare (m_look (d := d + 1) (x := x) (by omega) hw hJ ⟨kb, k2, k3, k4, k5, k6⟩ (fun t1 K1 d' hd s1 s2 s2' s3 s4 s4' s5 s6 => ⟨fun z => absurd z (by decide), fun _ => ?_⟩) (fun st' e hc hf hz => ⟨fun _ => ?_, fun z => absurd rfl z⟩))
    · have hfr1 : K1.fr = K.fr := by show K1.2.2.2.2.2 = _; rw [s3]
      have hK1 : MK X K1 c.nd ce wa (x - 2) := ⟨s6, k2, by omega, by omega, by omega, by omega⟩
      have mv1 : mvE c c ce ce M M st t1 := s4.E hJ.2.2.2.2.1 (Nat.le_refl _)
      have e51 : fI t1 51 = iI (wa : Int) := s5.2.2.1.2.2
      have fin : ∀ (st' : MSt) (K' : KS) (ce' : Nat) (r : Bool), sSame X (d + 1) va vb K = (K', .ok r) → K.life ≤ K'.life → K.fr ≤ K'.fr → mfr c.nd ce wa st st' → ce ≤ ce' → ∀ wa', MJ st' X K' c.nd ce' wa' → MK X K' c.nd ce' wa' x → wa ≤ wa' → Q (.returned (some (.int (bI r)))) (mput 51 (fI t1 51) st') := fun st' K' ce' r u1 u2 u3 u4 u5 wa' u6 u7 u8 => by
        rw [e51]
        obtain ⟨y1, y2, y3, y4, y5, y6⟩ := u7
        exact ok _ K' ce' r u1 u2 u3 (u4.tr (mfr_put (nd := c.nd) (ce := ce) (wa := wa) (by omega)) (Nat.le_refl _) (Nat.le_refl _) (Nat.le_refl _)) u5 u6.setw ⟨y1, y2, y3, y4, by omega, y6⟩
      have fbad : ∀ (st' : MSt) (K' : KS) (e ce' : Nat), sSame X (d + 1) va vb K = (K', .error e) → K.life ≤ K'.life → mfr c.nd ce wa st st' → ce ≤ ce' → ce' ≤ 1 + 2 * K'.work + x → MZ st' X K' e c.nd ce' → Q (.returned (some (.int (iI 0)))) (mput 51 (fI t1 51) st') := fun st' K' e ce' u1 u2 u3 u4 u5 u6 =>
        er _ K' e ce' u1 u2 (u3.tr (mfr_put (nd := c.nd) (ce := ce) (wa := wa) (by omega)) (Nat.le_refl _) (Nat.le_refl _) (Nat.le_refl _)) u4 u5 u6.put
      refine m_head (c := c) (M := M) (v := va) (x := x - 2) (by omega) (mC_mv mv1 ha) ga (mXc_mv s4 hX) s5 hK1 (fun t3 K3 ce3 u as a1 a2 a3 a4 a5 a6 a7 a8 a9 a10 a11 => ?_) (fun t3 K3 e ce3 a1 a2 a3 a4 a5 a6 => ?_)
      · have mv3 : mvE c c ce ce3 M M t1 t3 := a4.E s5.2.2.2.2.1 a5
        have hX3 := mXc_mv a4 (mXc_mv s4 hX)
        have F3 : mfr c.nd ce wa st t3 := s4.tr a4 (Nat.le_refl _) (Nat.le_refl _) (Nat.le_refl _)
        refine m_head (c := c) (M := M) (v := vb) (x := x - 2) (by omega) (mC_mv mv3 (mC_mv mv1 hb)) gb hX3 a6 a7 (fun t5 K5 ce5 v bs b1 b2 b3 b4 b5 b6 b7 b8 b9 b10 b11 => ?_) (fun t5 K5 e ce5 b1 b2 b3 b4 b5 b6 => ?_)
        · have mv5 : mvE c c ce3 ce5 M M t3 t5 := b4.E a6.2.2.2.2.1 b5
          have F5 : mfr c.nd ce wa st t5 := F3.tr b4 (Nat.le_refl _) a5 (by omega)
          have hX5 := mXc_mv b4 hX3
          have hu5 := mHd_mv mv5 a8
          have hW5 : mW c ce5 M t5 wa as := mW_mv mv5 _ (fun k j z1 z2 z3 => b4.2 k j (fun w => by omega) (fun w => by omega) (fun _ => z3) (by omega)) a9
          have e51a : fI t3 51 = iI ((wa + as.length : Nat) : Int) := a6.2.2.1.2.2
          have e51b : fI t5 51 = iI ((wa + as.length + bs.length : Nat) : Int) := b6.2.2.1.2.2
          have heq : ∀ K' (r : Except Nat Bool), sAlike X d (u, as) (v, bs) K5 = (K', r) → sSame X (d + 1) va vb K = (K', r) := fun K' r hr => by
            rw [sSame_suc, s1]
            show sBind (sHd X va K1) _ = _
            rw [a1]
            show sBind (sHd X vb K3) _ = _
            rw [b1]
            exact hr
          have fr3 : K3.fr = K1.fr := by show K3.2.2.2.2.2 = _; rw [a3]
          have fr5 : K5.fr = K3.fr := by show K5.2.2.2.2.2 = _; rw [b3]
          have hF5 : MF M K5 := hF.mono (by omega)
          obtain ⟨y1, y2, y3, y4, y5, y6⟩ := b7
          have hK5 : MK X K5 c.nd ce5 (wa + as.length + bs.length) x := ⟨y1, y2, by omega, by omega, y5, by omega⟩
          refine ⟨fun _ => ?_, fun z => absurd b6.2.2.2.1 z⟩
          rw [e51a, e51]
          generalize fI t3 52 = n at hu5
          generalize fI t3 53 = q at hu5
          generalize fI t5 52 = n' at b8
          generalize fI t5 53 = q' at b8
          -- how it ends
          have ret : ∀ (st' : MSt) (K' : KS) (ce' : Nat) (r : Bool), sAlike X d (u, as) (v, bs) K5 = (K', .ok r) → K5.life ≤ K'.life → K5.fr ≤ K'.fr → mfr c.nd ce5 (wa + as.length + bs.length) t5 st' → ce5 ≤ ce' → MJ st' X K' c.nd ce' (wa + as.length + bs.length) → MK X K' c.nd ce' (wa + as.length + bs.length) x → onI (fun r8 t7 => (r8 = 0 → Q (.returned (some (.int (iI 0)))) (mput 51 (iI (wa : Int)) t7)) ∧ (¬ r8 = 0 → Q (.returned (some (.int (iI 1)))) (mput 51 (iI (wa : Int)) t7))) (fun x t => Q (.threw x) t) (.returned (some (.int (bI r)))) st' := fun st' K' ce' r u1 u2 u3 u4 u5 u6 u7 => by
            have := fin st' K' ce' r (heq _ _ u1) (by omega) (by omega) (F5.tr u4 (Nat.le_refl _) (by omega) (by omega)) (by omega) _ u6 u7 (by omega)
            rw [e51] at this
            refine ⟨fun z => ?_, fun z => ?_⟩
            · rw [bI_z] at z; subst z; exact this
            · have r1 : r = true := by cases r; exact absurd rfl (fun q => z (bI_z.mpr q)); rfl
              subst r1; exact this
          have rbad : ∀ (st' : MSt) (K' : KS) (e ce' : Nat), sAlike X d (u, as) (v, bs) K5 = (K', .error e) → K5.life ≤ K'.life → mfr c.nd ce5 (wa + as.length + bs.length) t5 st' → ce5 ≤ ce' → ce' ≤ 1 + 2 * K'.work + x → MZ st' X K' e c.nd ce' → onI (fun r8 t7 => (r8 = 0 → Q (.returned (some (.int (iI 0)))) (mput 51 (iI (wa : Int)) t7)) ∧ (¬ r8 = 0 → Q (.returned (some (.int (iI 1)))) (mput 51 (iI (wa : Int)) t7))) (fun x t => Q (.threw x) t) (.returned (some (.int (iI 0)))) st' := fun st' K' e ce' u1 u2 u3 u4 u5 u6 => by
            have := fbad st' K' e ce' (heq _ _ u1) (by omega) (F5.tr u3 (Nat.le_refl _) (by omega) (by omega)) (by omega) u5 u6
            rw [e51] at this
            exact ⟨fun _ => this, fun z => absurd rfl z⟩
          have nof : sAlike X d (u, as) (v, bs) K5 = (K5, .ok false) → onI (fun r8 t7 => (r8 = 0 → Q (.returned (some (.int (iI 0)))) (mput 51 (iI (wa : Int)) t7)) ∧ (¬ r8 = 0 → Q (.returned (some (.int (iI 1)))) (mput 51 (iI (wa : Int)) t7))) (fun x t => Q (.threw x) t) (.returned (some (.int (iI 0)))) t5 := fun h =>
            ret t5 K5 ce5 false h (Nat.le_refl _) (Nat.le_refl _) mfr.rf (Nat.le_refl _) b6 hK5
          have i45 : ∀ lm : Bool, (if lm then iI 4 else iI 5) = iI 4 ∨ (if lm then iI 4 else iI 5) = iI 5 := fun lm => by cases lm; exact Or.inr rfl; exact Or.inl rfl
          rcases hd_fb hu5 a10 with ⟨ku, cu, hfu, hbu⟩ | ⟨lm, p, dx, bx, rx, a, e, xx, yy, i, g, hbu⟩ <;> rcases hd_fb b8 b10 with ⟨kv, cv, hfv, hbv⟩ | ⟨lm', p', dy, by', ry, a', e', xx', yy', i', g', hbv⟩
          · -- two names
            have hku := fco_k hfu
            have hkv := fco_k hfv
            have go : jX5_alike_131 P s0 l XX l' t5 (onI (fun r8 t7 => (r8 = 0 → Q (.returned (some (.int (iI 0)))) (mput 51 (iI (wa : Int)) t7)) ∧ (¬ r8 = 0 → Q (.returned (some (.int (iI 1)))) (mput 51 (iI (wa : Int)) t7))) (fun x t => Q (.threw x) t)) n q (iI ((wa + as.length : Nat) : Int)) (iI (wa : Int)) n' q' (iI (w : Int)) (iI ku) (iI kv) t5 := by
              refine m_ff (Q := onI (fun r8 t7 => (r8 = 0 → Q (.returned (some (.int (iI 0)))) (mput 51 (iI (wa : Int)) t7)) ∧ (¬ r8 = 0 → Q (.returned (some (.int (iI 1)))) (mput 51 (iI (wa : Int)) t7))) (fun x t => Q (.threw x) t)) hnd ⟨hX.2.1, hX.2.2.1⟩ hF5 hfu hfv e51b (by have := y1.1; have := y1.2.1; omega) (fun hs hlen => ?_) (fun hs => nof ?_)
              · have e10 : sAlike X d (u, as) (v, bs) K5 = sAll (sSame X d) as bs K5 := by
                  rw [sAlike_nn (x := (u, as)) (y := (v, bs)) hbu hbv]
                  show (if sFront u v && as.length == bs.length then _ else _) = _
                  rw [hs, hlen]; simp
                refine tX5_alike_204 ?_
                rw [e51b]
                have hb3 : wa + as.length + as.length ≤ 20000 := by have := y1.1; have := y1.2.1; omega
                have e12 : wa + as.length + bs.length = wa + as.length + as.length := by omega
                rw [e12] at b6 hK5 ret rbad ⊢
                exact m_sargs (many := as.length) (x := x) ih' hb3 (by omega) as bs 1 K5 t5 ce5 hlen (by omega) (by omega) hF5 hW5 b9 a11 b11 hX5 b6 hK5 (fun st' K' ce' r u1 u2 u3 u4 u5 u6 u7 => ret st' K' ce' r (e10.trans u1) u2 u3 u4 u5 u6 u7) (fun st' K' e ce' u1 u2 u3 u4 u5 u6 => rbad st' K' e ce' (e10.trans u1) u2 u3 u4 u5 u6)
              · rw [sAlike_nn (x := (u, as)) (y := (v, bs)) hbu hbv]
                show (if sFront u v && as.length == bs.length then _ else _) = _
                rw [hs]; rfl
            refine tX5_alike (m_kindf (by omega) hnd hfu (m_kindf (by omega) hnd hfv ⟨fun _ => ⟨fun z => ?_, fun _ => ⟨fun z => ?_, fun _ => go⟩⟩, fun _ => go⟩))
            · rw [iI_eq (by omega) (by omega) (by omega) (by omega)] at z; omega
            · rw [iI_eq (by omega) (by omega) (by omega) (by omega)] at z; omega
          · have hbv0 := hbv
            obtain ⟨v1, v2, v3, v4, v5, v6, -⟩ := hbv
            have hku := fco_k hfu
            subst v2
            have hne : ¬ iI ku = (if lm' then iI 4 else iI 5) := fun z => by
              rcases i45 lm' with h | h <;> rw [h, iI_eq (by omega) (by omega) (by omega) (by omega)] at z <;> omega
            exact tX5_alike (m_kindf (by omega) hnd hfu (m_kindb (by omega) (by omega) v6 ⟨fun z => absurd z hne, fun _ => m_no2 hne (nof (sAlike_nb (x := (u, as)) (y := (v, bs)) hbu ⟨_, v1⟩))⟩))
          · obtain ⟨u1, u2, u3, u4, u5, u6, -⟩ := hbu
            have hkv := fco_k hfv
            subst u2
            have hne : ¬ (if lm then iI 4 else iI 5) = iI kv := fun z => by
              rcases i45 lm with h | h <;> rw [h, iI_eq (by omega) (by omega) (by omega) (by omega)] at z <;> omega
            exact tX5_alike (m_kindb (by omega) (by omega) u6 (m_kindf (by omega) hnd hfv ⟨fun z => absurd z hne, fun _ => m_no2 hne (nof (sAlike_bn (x := (u, as)) (y := (v, bs)) ⟨_, u1⟩ hbv))⟩))
          · have hbu0 := hbu
            have hbv0 := hbv
            obtain ⟨u1, u2, u3, u4, u5, u6, -⟩ := hbu
            obtain ⟨v1, v2, v3, v4, v5, v6, -⟩ := hbv
            have e9 := sAlike_bb (X := X) (d := d) (x := (u, as)) (y := (v, bs)) (K := K5) u1 v1
            by_cases hlm : lm = lm'
            · subst hlm
              rw [if_pos rfl] at e9
              have go : ∀ x8 x9, jX5_alike_34 P s0 l XX l' t5 (onI (fun r8 t7 => (r8 = 0 → Q (.returned (some (.int (iI 0)))) (mput 51 (iI (wa : Int)) t7)) ∧ (¬ r8 = 0 → Q (.returned (some (.int (iI 1)))) (mput 51 (iI (wa : Int)) t7))) (fun x t => Q (.threw x) t)) (iI (a : Int)) (iI (e : Int)) (iI ((wa + as.length : Nat) : Int)) (iI (wa : Int)) (iI (a' : Int)) (iI (e' : Int)) (iI (w : Int)) x8 x9 t5 := fun x8 x9 =>
                m_parts (x := x) ih' (by omega) (by omega) hF5 hbu0 hbv0 a10 b10 hX5 b6 ⟨y1, y2, y3, by omega, y5, y6⟩ (by omega) k4 (fun st' K' ce' r u1 u2 u3 u4 u5 u6 u7 => ret st' K' ce' r (e9.trans u1) u2 u3 u4 u5 u6 u7) (fun st' K' e ce' u1 u2 u3 u4 u5 u6 => rbad st' K' e ce' (e9.trans u1) u2 u3 u4 u5 u6)
              subst u2 u3 v2 v3
              refine tX5_alike (m_kindb (by omega) (by omega) u6 (m_kindb (by omega) (by omega) v6 ⟨fun _ => ⟨fun _ => go _ _, fun z => ⟨fun _ => go _ _, fun z2 => ?_⟩⟩, fun z => absurd rfl z⟩))
              rcases i45 lm with h | h
              · exact absurd h z
              · exact absurd h z2
            · rw [if_neg hlm] at e9
              subst u2 v2
              have hne : ¬ (if lm then iI 4 else iI 5) = (if lm' then iI 4 else iI 5) := by
                cases lm <;> cases lm' <;> first | exact absurd rfl hlm | (intro z; exact absurd z (by decide))
              exact tX5_alike (m_kindb (by omega) (by omega) u6 (m_kindb (by omega) (by omega) v6 ⟨fun z => absurd z hne, fun _ => m_no2 hne (nof e9)⟩))
        · refine ⟨fun z => absurd z b6.ne, fun _ => ?_⟩
          exact fbad t5 K5 e ce5 (by rw [sSame_suc, s1]; show sBind (sHd X va K1) _ = _; rw [a1]; show sBind (sHd X vb K3) _ = _; rw [b1]; rfl) (by omega) (F3.tr b3 (Nat.le_refl _) a5 (by omega)) (by omega) (by omega) b6
      · refine m_headZ (by omega) a6 ⟨fun z => absurd z (a6.put (k := 52)).put.ne, fun _ => ?_⟩
        exact fbad _ K3 e ce3 (by rw [sSame_suc, s1]; show sBind (sHd X va K1) _ = _; rw [a1]; rfl) (by omega) ((s4.tr a3 (Nat.le_refl _) (Nat.le_refl _) (Nat.le_refl _)).tr (mfr_put2 (nd := c.nd) (ce := ce) (wa := wa) (by omega) (by omega)) (Nat.le_refl _) (Nat.le_refl _) (Nat.le_refl _)) (by omega) (by omega) a6.put.put
    · rcases hc with ⟨hd, -⟩ | ⟨d', hd, s1⟩
      · omega
      · exact er st' K e ce (by rw [sSame_suc, s1]; rfl) (Nat.le_refl _) hf (Nat.le_refl _) k3 hz
end MC3
