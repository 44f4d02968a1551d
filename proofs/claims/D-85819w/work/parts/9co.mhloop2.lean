/-! THE HOUSE OVER S, M (15): all statements of a text (2) -/
section MHO
variable {P : MPl} {s0 : State} {l : Launch} {XX : Prop} {lev : Nat} {Q : Outcome → MSt → Prop} {st st' st'' st0 : MSt} {X X' : SX} {J : JX} {K K' : KS} {nd nd' ce ce' wa x y lo hi ns ch z o nn nd0 p nk lim : Nat} {t : TX} {tb tb' : HT} {cx cx' : List CN} {x1 x2 : Int32} {kn kn' : Nat → Nat} {cn : CN} {s1 : ST}
/-- a statement is read and done; what was read goes -/
theorem m_tstep {k k1 : TK} {R : MSt → Prop} (hW : IW P s0 l XX) (hl : 565 ≤ lev) (hb : ∀ j, j < t.2 → t.1 j < 256) (ht : t.2 ≤ 2000) (e1 : rStat t k = .ok (s1, k1)) (hk3 : k1.ki ≠ 3) (htk : tkL t k) (h : RG t st k) (h15 : fI st 15 = iI 1) (hc : mHc st lim tb cx kn K) (hlife : K.life ≤ 60000) (hy : kT kn cx.length + 2 * (60000 - K.life) + (203 + 4 * (t.2 - k.pl) + y) ≤ 140000) (hO : OB K (o + 60))
    (ok : ∀ st' K' tb' cx' kn', sDo lim t tb cx s1 (kBeg K) = (K', .ok (tb', cx')) → K.life ≤ K'.life → lfr st st' → fI st' 14 = fI st 14 → mHc st' lim tb' cx' kn' K' → K'.life ≤ 60000 → RG t st' k1 → kT kn' cx'.length + 2 * (60000 - K'.life) + (203 + 4 * (t.2 - k1.pl) + y) ≤ 140000 → OB K' o → R st')
    (er : ∀ st' K' e p, sDo lim t tb cx s1 (kBeg K) = (K', .error (e, p)) → K.life ≤ K'.life → lfr st st' → fI st' 14 = fI st 14 → mHc st' lim tb cx kn K' → fI st' 72 = iI (e : Int) → fI st' 73 = iI (if 12 ≤ e then (s1.2.1 : Int) else p) → 0 < e ∧ e < 100 → kT kn cx.length + 2 * (60000 - K'.life) + (203 + y) ≤ 140000 → OB K' o → R st') : CQ (wM P s0 l XX) mX5_begin lev (.ref P.mo :: []) st (onV (fun t1 => (CQ (wM P s0 l XX) mX5_readStatement lev (.ref P.mo :: []) t1 (onV (fun t3 => (CQ (wM P s0 l XX) mX5_doStatement lev (.ref P.mo :: []) t3 (onV (fun t5 => (CQ (wM P s0 l XX) mX5_drop lev (.ref P.mo :: []) t5 (onV (fun t7 => R t7) (fun x t => Q (.threw x) t)))) (fun x t => Q (.threw x) t)))) (fun x t => Q (.threw x) t)))) (fun x t => Q (.threw x) t)) := by
  obtain ⟨l', rfl⟩ : ∃ l', lev = l' + 1 := ⟨lev - 1, by omega⟩
  obtain ⟨L1, L2, L3, L4⟩ := rStat_L hb htk e1
  have k8 := kT_8 hc.2.1
  refine m_begin (by omega) hc h.2.2.2.1 (fun t1 b1 b2 b3 b4 b5 b6 b7 => onV_ret ?_)
  have g1 : RG t t1 k := h.mv (fun j p1 p2 => b1 j (by omega) (by omega) (by omega) (by omega) (by omega) (by omega) (by omega) (by omega)) (fun j => by rw [b2]) b3.2.2.2.1
  have f15 : fI t1 15 = iI 1 := (b1 15 (by omega) (by omega) (by omega) (by omega) (by omega) (by omega) (by omega) (by omega)).trans h15
  have l1 : lfr st t1 := ⟨fun j hj => b1 j (by omega) (by omega) (by omega) (by omega) (by omega) (by omega) (by omega) (by omega), fun j i _ => by rw [b2]⟩
  have f14 : fI t1 14 = fI st 14 := b1 14 (by omega) (by omega) (by omega) (by omega) (by omega) (by omega) (by omega) (by omega)
  have pl1 : k1.pl ≤ t.2 := L1.1.1
  refine m_stat (b := true) (nd := kT kn cx.length) hW (by omega) g1 f15 (fun _ => ⟨b3.2.2.1.1, by omega, fun e p q => ?_⟩) (fun t3 s k' nd' r1 r2 r3 r4 r5 r6 => onV_ret ?_) (fun _ _ _ q => by cases q)
  · rcases q with q | ⟨a, k2, q1, q2, q3, q4⟩
    · rw [e1] at q; cases q
    · rw [e1] at q1; cases q1; exact hk3 q2
  · rw [e1] at r1; cases r1
    obtain ⟨r7, r8, r9⟩ := r6 rfl
    have A : ∀ k j, (30 ≤ k ∧ k ≤ 38 → j < kT kn cx.length) → t3.2 k j = t1.2 k j := fun k j q => r4.2.2 k j (fun w _ => q w)
    have F : ∀ j, j < 6 ∨ (11 < j ∧ j ≠ 39 ∧ j ≠ 72 ∧ j ≠ 73 ∧ (j < 76 ∨ 82 < j)) → fI t3 j = fI t1 j := r4.1
    obtain ⟨⟨⟨c1, c2, c3, c4⟩, c5, c6⟩, c7, ⟨c8, c9, c10⟩, c11, c12, c13⟩ := b3
    have hM : MJ t3 (hX lim tb cx) (kBeg K) nd' 1 0 := ⟨⟨⟨(F 63 (by omega)).trans c1, (F 64 (by omega)).trans c2, (F 65 (by omega)).trans c3, fun j hj => (F (66 + j) (by omega)).trans (c4 j hj)⟩, (F 75 (by omega)).trans c5, fun j a b => (A 74 j (fun q => by omega)).trans (c6 j a b)⟩, (F 57 (by omega)).trans c7, ⟨r7, (F 48 (by omega)).trans c9, (F 51 (by omega)).trans c10⟩, r2.2.2.2.1, ⟨by omega, fun q _ _ => by omega⟩, by omega⟩
    have hTB3 : mTB t3 tb := b7.1.mv (F 20 (by omega)) (fun k j a b => A k j (fun q => by omega)) (fun k j a b e => A k j (fun _ => by omega))
    have hC3 : mCx t3 tb.1.length cx kn := b7.2.1.mv (fun k j a b _ _ => A k j (fun q => by omega)) (fun k i a b e _ => A k i (fun _ => e))
    refine m_do (o := o) (y := 203 + 4 * (t.2 - k1.pl) + y) (by omega) hTB3 hC3 r2.1 ((F 15 (by omega)).trans f15) ((F 27 (by omega)).trans b7.2.2.1) ((F 43 (by omega)).trans b4) ((F 59 (by omega)).trans b5) ((F 62 (by omega)).trans b6) hM ⟨rfl, rfl, hlife, hc.2.2.2.2.2⟩ r9 r5 L3 (by omega) (by omega) (by show nd' + 2 * (60000 - K.life) + _ ≤ _; omega) hO (fun t5 K' tb' cx' kn' d1 d2 d3 d4 d5 d6 d7 d8 d9 d10 d11 d12 => onV_ret ?_) (fun t5 K' e p d1 d2 d3 d4 d5 d6 d7 d8 d9 => onV_ret ?_)
    · refine tX5_drop ?_
      rw [d7]
      have G : ∀ j, j ≠ 39 → fI (mput 39 (iI (kT kn' cx'.length : Int)) t5) j = fI t5 j := fun j q => fI_put q
      have lf : lfr st (mput 39 (iI (kT kn' cx'.length : Int)) t5) := ((l1.tr r4.lf).tr d3.lf).tr (lfr.pt (by omega))
      refine onV_ret (ok _ K' tb' cx' kn' d1 d2 lf ((G 14 (by omega)).trans ((d3.1 14 (by omega)).trans ((F 14 (by omega)).trans f14))) ⟨d4.mv (G 20 (by omega)) (fun _ _ _ _ => rfl) (fun _ _ _ _ _ => rfl), d5.mv (fun _ _ _ _ _ _ => rfl) (fun _ _ _ _ _ _ => rfl), (G 27 (by omega)).trans d6, fI_self, ⟨⟨(G 63 (by omega)).trans d8.1.1, (G 64 (by omega)).trans d8.1.2.1, (G 65 (by omega)).trans d8.1.2.2.1, fun j hj => (G (66 + j) (by omega)).trans (d8.1.2.2.2 j hj)⟩, (G 75 (by omega)).trans d8.2.1, d8.2.2⟩, hc.2.2.2.2.2⟩ d9 (r2.mv (fun j p1 p2 => (G j (by omega)).trans (d3.1 j (by omega))) (fun j => d3.2 4 j (by omega)) ((G 72 (by omega)).trans d10)) d11 d12)
    · refine tX5_drop ?_
      rw [d7]
      have G : ∀ j, j ≠ 39 → fI (mput 39 (iI (kT kn cx.length : Int)) t5) j = fI t5 j := fun j q => fI_put q
      have lf : lfr st (mput 39 (iI (kT kn cx.length : Int)) t5) := ((l1.tr r4.lf).tr d3.lf).tr (lfr.pt (by omega))
      obtain ⟨d81, d82, d83, d84⟩ := d8
      have d2' : K.life ≤ K'.life := d2
      refine onV_ret (er _ K' e p d1 d2 lf ((G 14 (by omega)).trans ((d3.1 14 (by omega)).trans ((F 14 (by omega)).trans f14))) ⟨d4.mv (G 20 (by omega)) (fun _ _ _ _ => rfl) (fun _ _ _ _ _ => rfl), d5.mv (fun _ _ _ _ _ _ => rfl) (fun _ _ _ _ _ _ => rfl), (G 27 (by omega)).trans d6, fI_self, ⟨⟨(G 63 (by omega)).trans d81.1.1, (G 64 (by omega)).trans d81.1.2.1, (G 65 (by omega)).trans d81.1.2.2.1, fun j hj => (G (66 + j) (by omega)).trans (d81.1.2.2.2 j hj)⟩, (G 75 (by omega)).trans d81.2.1, d81.2.2⟩, hc.2.2.2.2.2⟩ ((G 72 (by omega)).trans d82) ((G 73 (by omega)).trans (d83.trans ?_)) d84 (by omega) d9)
      have h77 : fI t5 77 = iI (s1.2.1 : Int) := (d3.1 77 (by omega)).trans r9.1
      rcases eR_do (lim := lim) (t := t) (tb := tb) (cx := cx) (s := s1) (K := kBeg K) L3 (e, p) (by rw [d1]) with ⟨⟨w1, w2⟩, w3⟩ | ⟨w1, w2⟩
      · have w3' : p = -1 := w3
        have w1' : 12 ≤ e := w1
        rw [if_pos w3', if_pos w1', h77]
      · have w1' : e < 12 := w1
        have w2' : 0 ≤ p := w2
        rw [if_neg (by omega), if_neg (by omega)]
theorem m_tloop (hW : IW P s0 l XX) (hl : 565 ≤ lev) (hb : ∀ j, j < t.2 → t.1 j < 256) (ht : t.2 ≤ 2000) : ∀ (m : Nat) (k : TK) (ls : List ST) (tb : HT) (cx : List CN) (kn : Nat → Nat) (K : KS) (d : Nat) (st : MSt), t.2 - k.pl < m → rAll t m k = .ok ls → tkL t k → RG t st k → fI st 15 = iI 1 → mHc st lim tb cx kn K → K.life ≤ 60000 → fI st 14 = iI (d : Int) → kT kn cx.length + 2 * (60000 - K.life) + (203 + 4 * (t.2 - k.pl) + y) ≤ 140000 → OB K (o + 60 * (t.2 - k.pl)) →
    (∀ st' tb' cx' kn' K' d' r, sRuns lim t ls tb cx K d = (tb', cx', K', d', r) → lfr st st' → mHc st' lim tb' cx' kn' K' → K.life ≤ K'.life → fI st' 14 = iI ((d' : Nat) : Int) → (r = none → fI st' 72 = 0) → (∀ e p, r = some (e, p) → fI st' 72 = iI (e : Int) ∧ fI st' 73 = iI p ∧ 0 < e ∧ e < 100) → kT kn' cx'.length + 2 * (60000 - K'.life) + (203 + y) ≤ 140000 → OB K' o → jX5_text_154 P s0 l XX lev st0 Q x1 x2 st') → jX5_text_98 P s0 l XX lev st0 Q x1 x2 st := by
  intro m
  induction m with
  | zero => intro k ls tb cx kn K d st hm; omega
  | succ m ih =>
    intro k ls tb cx kn K d st hm hr htk h h15 hc hlife h14 hy hO ok
    have h72 := h.2.2.2.1
    refine tX5_text_98 ⟨fun _ => ⟨fun w => ?_, fun w => ?_⟩, fun w => absurd h72 w⟩
    · rw [rAll, if_pos (h.end.mp w)] at hr
      cases hr
      exact ok st tb cx kn K d none rfl lfr.rf hc (Nat.le_refl _) h14 (fun _ => h72) (fun e p q => by cases q) (by omega) (hO.le (by omega))
    · have hk5 : k.ki ≠ 5 := fun q => w (h.end.mpr q)
      obtain ⟨s, k1, p, k2, ls', e1, e2, e3, rfl⟩ := rAll_ok hr hk5
      have hk3 : k1.ki ≠ 3 := fun q => by rw [rNeed_3 q] at e2; cases e2
      obtain ⟨L1, L2, L3, L4⟩ := rStat_L hb htk e1
      obtain ⟨N1, N2, N3, N4⟩ := rNeed_L hb L1 e2
      have pl2 : k2.pl ≤ t.2 := N1.1.1
      refine m_tstep (P := P) (s0 := s0) (l := l) (XX := XX) (lim := lim) (tb := tb) (cx := cx) (kn := kn) (K := K) (y := y) (o := o + 60 * (t.2 - k2.pl)) (R := fun t7 => ((fI t7 72 = 0 → CQ (wM P s0 l XX) mX5_need lev (.ref P.mo :: [.int (iI 59)]) (mput 14 (fI t7 14 + iI 1) t7) (onV (fun t9 => jX5_text_98 P s0 l XX lev st0 Q x1 x2 t9) (fun x t => Q (.threw x) t))) ∧ (¬ fI t7 72 = 0 → jX5_text_98 P s0 l XX lev st0 Q x1 x2 t7))) hW hl hb ht e1 hk3 htk h h15 hc hlife hy (hO.le (by omega)) (fun t7 K' tb' cx' kn' d1 d2 d3 d4 d5 d6 d7 d8 d9 => ⟨fun _ => ?_, fun q => absurd d7.2.2.2.1 q⟩) (fun t7 K' e p d1 d2 d3 d4 d5 d6 d7 d8 d9 d10 => ⟨fun q => ?_, fun q => tX5_text_98 ⟨fun w => absurd w q, fun _ => ?_⟩⟩)
      · rw [d4, h14, iI_suc]
        have g7 : RG t (mput 14 (iI ((d + 1 : Nat) : Int)) t7) k1 := d7.mv (fun j p1 p2 => by rw [mput_f, if_neg (by omega)]) (fun _ => rfl) ((fI_put (by omega)).trans d7.2.2.2.1)
        refine m_need (s := 59) hW (by omega) g7 (by omega) (fun t9 n1 n2 n3 n4 => onV_ret ?_) (fun t9 e p hbd _ _ => ?_)
        · rw [e2] at n1
          cases n1
          have lf : lfr t7 t9 := (lfr.pt (by omega)).tr (n4.s (b := true) (nd := 0)).lf
          refine ih (sGo t k1.nx) ls' tb' cx' kn' K' (d + 1) t9 (by omega) e3 N1 n2 ((lf.1 15 (by omega)).trans ((d3.1 15 (by omega)).trans h15)) (d5.mv (fun j hj => (n4.1 j (by omega)).trans (by rw [mput_f, if_neg (by omega)])) (fun k j _ => by rw [n4.2]; rfl)) d6 ((n4.1 14 (by omega)).trans (by rw [mput_f, if_pos rfl])) (by omega) d9 (fun st' tb2 cx2 kn2 K2 d2' r i1 i2 i3 i4 i5 i6 i7 i8 i9 => ok st' tb2 cx2 kn2 K2 d2' r (by rw [sRuns, d1]; exact i1) ((d3.tr lf).tr i2) i3 (by omega) i5 i6 i7 i8 i9)
        · exfalso
          rcases hbd with q | ⟨a, k2', q1, q2, q3, q4⟩
          · rw [e2] at q; cases q
          · rw [e2] at q1; cases q1
            obtain ⟨m', rfl⟩ : ∃ m', m = m' + 1 := ⟨m - 1, by omega⟩
            rw [rAll_3 q2] at e3; cases e3
      · exfalso
        rw [d6, iI_z, iI_eq (by omega) (by omega) (by omega) (by omega)] at q; omega
      · exact ok t7 tb cx kn K' d (some (e, if 12 ≤ e then (s.2.1 : Int) else p)) (by rw [sRuns, d1]) d3 d5 d2 (d4.trans h14) (fun q => by cases q) (fun e' p' q => by cases q; exact ⟨d6, d7, d8⟩) (by omega) (d10.le (by omega))
end MHO
