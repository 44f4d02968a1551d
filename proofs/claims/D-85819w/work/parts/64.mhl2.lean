/-! M OVER S (5): PureHouseModel.head -/
section MHM
variable {P : MPl} {s0 : State} {l : Launch} {XX : Prop} {lev : Nat} {Q : Outcome → MSt → Prop} {st st' st0 : MSt} {X : SX} {K K' : KS} {nd ce ce' wa x base : Nat} {c c' : MC} {M M' : Nat → Int → Prop} {x1 x2 : Int32}
theorem sSpendN_w {X : SX} {k : Nat} : ∀ (i : Nat) (K K' : KS) (r : Except Nat Unit), sSpendN X k i K = (K', r) → K.work ≤ K'.work := by
  intro i
  induction i with
  | zero => intro K K' r h; cases h; exact Nat.le_refl _
  | succ i ih =>
    intro K K' r h
    unfold sSpendN at h
    cases hs : sSpend X k K with
    | mk K1 r1 =>
      rw [hs] at h
      cases r1 with
      | ok a => have e := sSpend_eq hs; have := ih K1 K' r h; rw [e] at this; have : K.work + 1 ≤ K'.work := this; omega
      | error e =>
        cases h
        unfold sSpend at hs
        split at hs
        · cases hs; exact Nat.le_refl _
        · split at hs
          · cases hs; exact Nat.le_refl _
          · cases hs
theorem mJ_put3 {a b d : Int32} {k1 k2 k3 : Nat} (h : MJ st X K nd ce wa) (h1 : 52 ≤ k1 ∧ k1 ≤ 56) (h2 : 52 ≤ k2 ∧ k2 ≤ 56) (h3 : 52 ≤ k3 ∧ k3 ≤ 56) : MJ (mput k1 a (mput k2 b (mput k3 d st))) X K nd ce wa := ((h.put h3).put h2).put h1
theorem mfr_put2 {a b : Int32} {k1 k2 : Nat} (h1 : 51 ≤ k1 ∧ k1 ≤ 57) (h2 : 51 ≤ k2 ∧ k2 ≤ 57) : mfr nd ce wa st (mput k1 a (mput k2 b st)) := (mfr_put (by omega)).tr (mfr_put (by omega)) (Nat.le_refl _) (Nat.le_refl _) (Nat.le_refl _)
theorem mfr_put3 {a b d : Int32} {k1 k2 k3 : Nat} (h1 : 51 ≤ k1 ∧ k1 ≤ 57) (h2 : 51 ≤ k2 ∧ k2 ≤ 57) (h3 : 51 ≤ k3 ∧ k3 ≤ 57) : mfr nd ce wa st (mput k1 a (mput k2 b (mput k3 d st))) := (mfr_put2 h2 h3).tr (mfr_put (by omega)) (Nat.le_refl _) (Nat.le_refl _) (Nat.le_refl _)
theorem mfr.wk {wa' : Nat} (h : mfr nd ce wa st st') (h1 : wa' ≤ wa) : mfr nd ce wa' st st' := ⟨h.1, fun k j a1 a2 a3 a4 => h.2 k j a1 a2 (fun q => Nat.lt_of_lt_of_le (a3 q) h1) a4⟩
theorem mfr.wc {ce' : Nat} (h : mfr nd ce wa st st') (h1 : ce' ≤ ce) : mfr nd ce' wa st st' := ⟨h.1, fun k j a1 a2 a3 a4 => h.2 k j a1 (fun q => Nat.lt_of_lt_of_le (a2 q) h1) a3 a4⟩
/-- a head that is a node -/
theorem mHd_n {v t r : V} {g : List Nat} {n q : Nat} (hv : v = vClo t r) (hq : q < ce) (hg : ∀ z ∈ g, z < 2147483648) (hT : mT c st t g n none) (hE : mE c ce M st r g q) (hch : mch st ce) : mHd c ce M (mput 53 (iI (q : Int)) (mput 52 (iI (n : Int)) st)) v (fI (mput 53 (iI (q : Int)) (mput 52 (iI (n : Int)) st)) 52) (fI (mput 53 (iI (q : Int)) (mput 52 (iI (n : Int)) st)) 53) := by
  have mv0 : mvE c c ce ce M M st (mput 53 (iI (q : Int)) (mput 52 (iI (n : Int)) st)) := (mfr_put2 (wa := 0) (by omega) (by omega)).E hch (Nat.le_refl _)
  refine Or.inl ⟨n, q, ?_, ?_, mC_mv mv0 ⟨t, r, g, hv, hq, hg, hT, hE⟩⟩
  · show (mput 53 _ (mput 52 _ st)).1 52 = _; rw [mput_f, if_neg (by omega), mput_f, if_pos rfl]
  · show (mput 53 _ (mput 52 _ st)).1 53 = _; rw [mput_f, if_pos rfl]
theorem mT_shape {t : V} {g : List Nat} {n : Nat} (h : mT c st t g n none) : (∃ k, t = .tag k .line) ∨ (∃ k, t = .tag k .nil) ∨ (∃ k, t = .tag k (.align true)) ∨ (∃ d b, t = .tag 0 (.append d b)) ∨ (∃ d b, t = .tag 1 (.append d b)) ∨ (∃ f ps, t = .tag 2 (.append f ps)) ∨ (∃ p d b, t = .tag p (.group (.append d b) .fill)) ∨ (∃ m t', t = .group (.tag m t') .allOrNone) ∨ (∃ t', t = .group t' .fill) := by
  unfold mT at h
  split at h
  · exact Or.inl ⟨_, rfl⟩
  · exact Or.inr (Or.inl ⟨_, rfl⟩)
  · exact Or.inr (Or.inr (Or.inl ⟨_, rfl⟩))
  · exact Or.inr (Or.inr (Or.inr (Or.inl ⟨_, _, rfl⟩)))
  · exact Or.inr (Or.inr (Or.inr (Or.inr (Or.inl ⟨_, _, rfl⟩))))
  · exact Or.inr (Or.inr (Or.inr (Or.inr (Or.inr (Or.inl ⟨_, _, rfl⟩)))))
  · exact Or.inr (Or.inr (Or.inr (Or.inr (Or.inr (Or.inr (Or.inl ⟨_, _, _, rfl⟩))))))
  · exact Or.inr (Or.inr (Or.inr (Or.inr (Or.inr (Or.inr (Or.inr (Or.inl ⟨_, _, rfl⟩)))))))
  · exact Or.inr (Or.inr (Or.inr (Or.inr (Or.inr (Or.inr (Or.inr (Or.inr ⟨_, rfl⟩)))))))
  · cases ‹none = some _›
  · cases ‹none = some _›
  · exact h.elim
theorem m_headL (hl : 4 ≤ lev) : ∀ (f k : Nat) (t r : V) (as : List V) (K : KS) (st : MSt) (n q : Nat) (g : List Nat) (ce : Nat) (y : Bool), SizeOf.sizeOf t < k → 60001 ≤ f + K.life → mT c st t g n none → mE c ce M st r g q → q < ce → (∀ z ∈ g, z < 2147483648) → gT t y (shp r) → gV r true → gA as → mW c ce M st base as → mXc c st X → MJ st X K c.nd ce (base + as.length) → MK X K c.nd ce (base + as.length) x →
    (∀ st' K' ce' v as', sHead X f t r as K = (K', .ok (v, as')) → K.life ≤ K'.life → mfr c.nd ce base st st' → ce ≤ ce' → MJ st' X K' c.nd ce' (base + as'.length) → MK X K' c.nd ce' (base + as'.length) x → mHd c ce' M st' v (fI st' 52) (fI st' 53) → mW c ce' M st' base as' → gR X v → gA as' → Q (.returned none) st') →
    (∀ st' K' e ce', sHead X f t r as K = (K', .error e) → K.life ≤ K'.life → mfr c.nd ce base st st' → ce ≤ ce' → ce' ≤ 1 + 2 * K'.work + x → MZ st' X K' e c.nd ce' → Q (.returned none) st') → jX5_head_25 P s0 l XX lev st0 Q x1 x2 (iI (base : Int)) (iI (n : Int)) (iI (q : Int)) (iI 1) st := by
  intro f
  induction f with
  | zero => intro k t r as K st n q g ce y _ hf _ _ _ _ _ _ _ _ _ _ hK; have := hK.1.2.2; omega
  | succ f ihf =>
    intro k
    induction k with
    | zero => intro t r as K st n q g ce y hk; omega
    | succ k ihk =>
      intro t r as K st n q g ce y hsz hf hT hE hq hg hgT hv hA hW hX hJ hK ok er
      have hch := hJ.2.2.2.2.1
      have hnd := hX.2.2.2
      have hkb := hK.1
      obtain ⟨kb, k2, k3, k4, k5, k6⟩ := hK
      obtain ⟨b1, b2, b3⟩ := kb
      have h51 := hJ.2.2.1.2.2
      have hn0 : n < c.nd := (mT_lt _ _ _ _ hT).1 rfl
      have hn : n < 140000 := by omega
      have ge0 : (0 : Int32) ≤ iI (n : Int) := by rw [iI_z, iI_le (by omega) (by omega) (by omega) (by omega)]; omega
      have wa0 : ∀ {st1 : MSt}, mfr c.nd ce (base + as.length) st st1 → mfr c.nd ce base st st1 := fun h => h.wk (by omega)
      -- after a step that was paid
      have next : ∀ {kk : Nat} {K1 : KS} (st1 : MSt) (t1 r1 : V) (as1 : List V) (n1 q1 : Nat) (g1 : List Nat) (ce1 : Nat), (∀ (K2 : KS) (res : Except Nat (V × List V)), sHead X f t1 r1 as1 K1 = (K2, res) → sHead X (f + 1) t r as K = (K2, res)) → K1.life = K.life + kk + 1 → mfr c.nd ce base st st1 → ce ≤ ce1 → mT c st1 t1 g1 n1 none → mE c ce1 M st1 r1 g1 q1 → q1 < ce1 → (∀ z ∈ g1, z < 2147483648) → gT t1 false (shp r1) → gV r1 true → gA as1 → mW c ce1 M st1 base as1 → MJ st1 X K1 c.nd ce1 (base + as1.length) → MK X K1 c.nd ce1 (base + as1.length) x → jX5_head_25 P s0 l XX lev st0 Q x1 x2 (iI (base : Int)) (iI (n1 : Int)) (iI (q1 : Int)) (iI 1) st1 := fun {kk} {K1} st1 t1 r1 as1 n1 q1 g1 ce1 e1 e2 e3 e4 e5 e6 e7 e8 e9 e10 e11 e12 e13 e14 =>
        ihf (SizeOf.sizeOf t1 + 1) t1 r1 as1 K1 st1 n1 q1 g1 ce1 false (Nat.lt_succ_self _) (by omega) e5 e6 e7 e8 e9 e10 e11 e12 (mXc_mv e3 hX) e13 e14 (fun st' K' ce' v as' u1 u2 u3 u4 u5 u6 u7 u8 u9 u10 => ok st' K' ce' v as' (e1 _ _ u1) (by omega) (e3.tr u3 (Nat.le_refl _) e4 (Nat.le_refl _)) (by omega) u5 u6 u7 u8 u9 u10) (fun st' K' e ce' u1 u2 u3 u4 u5 u6 => er st' K' e ce' (e1 _ _ u1) (by omega) (e3.tr u3 (Nat.le_refl _) e4 (Nat.le_refl _)) (by omega) u5 u6)
      -- a step that is not paid
      have wrongE : ∀ {kk : Nat} (e : Nat) (st1 : MSt) (a b : Int32), (∀ (res : Except Nat Unit), sSpend X kk K = (K, .error e) → sHead X (f + 1) t r as K = (K, .error e)) → sSpend X kk K = (K, .error e) → MZ st1 X K e c.nd ce → mfr c.nd ce (base + as.length) st st1 → Q (.returned none) (mput 53 a (mput 52 b st1)) := fun {kk} e st1 a b h1 h2 h3 h4 =>
        er _ K e ce (h1 (.ok ()) h2) (Nat.le_refl _) ((wa0 h4).tr (mfr_put2 (by omega) (by omega)) (Nat.le_refl _) (Nat.le_refl _) (Nat.le_refl _)) (Nat.le_refl _) k3 (h3.put.put)
      have mk1 : ∀ {kk : Nat} {K1 : KS}, sSpend X kk K = (K1, .ok ()) → KB X K1 → ∀ (ce1 wa1 : Nat), ce1 ≤ ce + 1 → wa1 ≤ base + as.length → MK X K1 c.nd ce1 wa1 x := fun {kk} {K1} h1 h2 ce1 wa1 h3 h4 => by
        have := sSpend_eq h1
        subst this
        exact ⟨h2, k2, by show ce1 ≤ 1 + 2 * (K.work + 1) + x; omega, k4, by show wa1 ≤ K.work + 1; omega, by show K.fr ≤ 2 * (K.work + 1) + x; omega⟩
      have hT0 := hT
      rcases mT_shape hT with ⟨k', rfl⟩ | ⟨k', rfl⟩ | ⟨k', rfl⟩ | ⟨d, b, rfl⟩ | ⟨d, b, rfl⟩ | ⟨f', ps, rfl⟩ | ⟨p, d, b, rfl⟩ | ⟨m, t', rfl⟩ | ⟨t', rfl⟩
      · -- bound
        obtain ⟨-, p2, i, p3, p4, p5⟩ := hT0
        have hg' : (shp r)[k']? = some true := hgT
        obtain ⟨g1, g2⟩ := gV_get r k' hv hg'
        obtain ⟨m1, m2⟩ := mE_get r g q k' hE
        refine tX5_head_25 ⟨fun z => absurd z (by decide), fun _ => ⟨fun _ => ⟨iI_in hn (by omega), ?_⟩, fun z => absurd ge0 z⟩⟩
        rw [aI_n (by omega), p2]
        refine ⟨fun z => absurd z (by decide), fun _ => ⟨fun _ => ⟨iI_in hn (by omega), ?_⟩, fun z => absurd rfl z⟩⟩
        rw [aI_n (by omega), p5]
        rcases (gV_C g1 g2).1 with ⟨j, hj⟩ | ⟨t', r', hc, -, -⟩
        · obtain ⟨i', e1, z, e2, e3⟩ := m1 j hj
          rw [p3] at e1
          cases e1
          refine m_find (by omega) hch hq (by omega) (fun h0 => ?_) (fun a ha h0 hace => ?_)
          · have ez : z = (i : Int) := by
              rcases e3 with ⟨_, _, h3, _⟩ | ⟨h3, _⟩
              · omega
              · exact h3
            have f56 : fI (mput 56 (iI 0) st) 56 = 0 := by show (mput 56 (iI 0) st).1 56 = 0; rw [mput_f, if_pos rfl]; rfl
            refine ⟨fun _ => tX5_head_173 ⟨fun _ => tX5_head_428 (m_end ?_), fun w => absurd f56 w⟩, fun w => absurd f56 w⟩
            refine ok _ K ce (vLoc j) as (sHead_bndL hj) (Nat.le_refl _) (mfr_put3 (by omega) (by omega) (by omega)) (Nat.le_refl _) (mJ_put3 hJ (by omega) (by omega) (by omega)) ⟨hkb, k2, k3, k4, k5, k6⟩ (Or.inr ⟨j, z, rfl, e2, Or.inr ⟨by omega, by omega, n, q, ?_, ?_, hq, hn0, p2, by rw [ez]; exact p5⟩⟩) (mW_mv ((mfr_put3 (by omega) (by omega) (by omega)).E (wa := 0) hch (Nat.le_refl _)) _ (fun _ _ _ _ _ => rfl) hW) (Or.inl ⟨j, rfl⟩) hA
            · show (mput 53 _ (mput 52 _ _)).1 52 = _; rw [mput_f, if_neg (by omega), mput_f, if_pos rfl]
            · show (mput 53 _ (mput 52 _ _)).1 53 = _; rw [mput_f, if_pos rfl]
          · have ez : -2000000 ≤ z ∧ z < 0 ∧ st.2 46 a = iI z := by
              rcases e3 with ⟨h1, h2, h3, h4, h5⟩ | ⟨_, h3⟩
              · exact ⟨h1, h2, by rw [← ha]; exact h5⟩
              · omega
            have f56 : fI (mput 55 (st.2 47 a) (mput 54 (st.2 46 a) (mput 56 (iI 1) st))) 56 = iI 1 := by show (mput 55 _ (mput 54 _ (mput 56 (iI 1) st))).1 56 = _; rw [mput_f, if_neg (by omega), mput_f, if_neg (by omega), mput_f, if_pos rfl]
            have f54 : fI (mput 55 (st.2 47 a) (mput 54 (st.2 46 a) (mput 56 (iI 1) st))) 54 = iI z := by show (mput 55 _ (mput 54 _ (mput 56 (iI 1) st))).1 54 = _; rw [mput_f, if_neg (by omega), mput_f, if_pos rfl]; exact ez.2.2
            refine ⟨fun w => absurd (f56.symm.trans w) (by decide), fun _ => ⟨fun w => ?_, fun _ => tX5_head_428 (m_end ?_)⟩⟩
            · rw [f54, iI_z, iI_le (by omega) (by omega) (by omega) (by omega)] at w; omega
            · rw [f54]
              have F5 : mfr c.nd ce base st (mput 53 (iI 0) (mput 52 (iI z) (mput 55 (st.2 47 a) (mput 54 (st.2 46 a) (mput 56 (iI 1) st))))) := (mfr_put3 (by omega) (by omega) (by omega)).tr (mfr_put2 (by omega) (by omega)) (Nat.le_refl _) (Nat.le_refl _) (Nat.le_refl _)
              refine ok _ K ce (vLoc j) as (sHead_bndL hj) (Nat.le_refl _) F5 (Nat.le_refl _) (((mJ_put3 hJ (by omega) (by omega) (by omega)).put (by omega)).put (by omega)) ⟨hkb, k2, k3, k4, k5, k6⟩ (Or.inr ⟨j, z, rfl, e2, Or.inl ⟨ez.1, ez.2.1, ?_⟩⟩) (mW_mv (F5.E hch (Nat.le_refl _)) _ (fun _ _ _ _ _ => rfl) hW) (Or.inl ⟨j, rfl⟩) hA
              show (mput 53 _ (mput 52 _ _)).1 52 = _; rw [mput_f, if_neg (by omega), mput_f, if_pos rfl]
        · obtain ⟨i', e1, e9⟩ := m2 t' r' hc
          rw [p3] at e1
          cases e1
          rcases e9 with e9 | ⟨a, n', q', g', a1, a2, a3, a4, a5, a6, a9, a7, a8⟩
          · omega
          have g1' := g1
          rw [hc] at g1'
          have hn' : n' < c.nd := (mT_lt _ _ _ _ a7).1 rfl
          refine m_find (by omega) hch hq (by omega) (fun h0 => (by omega)) (fun a' ha h0 hace => ?_)
          have : a' = a := by omega
          subst this
          have J6 : MJ (mput 55 (st.2 47 a') (mput 54 (st.2 46 a') (mput 56 (iI 1) st))) X K c.nd ce (base + as.length) := mJ_put3 hJ (by omega) (by omega) (by omega)
          have F6 : mfr c.nd ce (base + as.length) st (mput 55 (st.2 47 a') (mput 54 (st.2 46 a') (mput 56 (iI 1) st))) := mfr_put3 (by omega) (by omega) (by omega)
          have f56 : fI (mput 55 (st.2 47 a') (mput 54 (st.2 46 a') (mput 56 (iI 1) st))) 56 = iI 1 := by show (mput 55 _ (mput 54 _ (mput 56 (iI 1) st))).1 56 = _; rw [mput_f, if_neg (by omega), mput_f, if_neg (by omega), mput_f, if_pos rfl]
          have f54 : fI (mput 55 (st.2 47 a') (mput 54 (st.2 46 a') (mput 56 (iI 1) st))) 54 = iI (n' : Int) := by show (mput 55 _ (mput 54 _ (mput 56 (iI 1) st))).1 54 = _; rw [mput_f, if_neg (by omega), mput_f, if_pos rfl]; exact a4
          have f55 : fI (mput 55 (st.2 47 a') (mput 54 (st.2 46 a') (mput 56 (iI 1) st))) 55 = iI (q' : Int) := by show (mput 55 _ (mput 54 _ (mput 56 (iI 1) st))).1 55 = _; rw [mput_f, if_pos rfl]; exact a5
          generalize mput 55 (st.2 47 a') (mput 54 (st.2 46 a') (mput 56 (iI 1) st)) = st6 at J6 F6 f56 f54 f55
          have go : jX5_head_173 P s0 l XX lev st0 Q x1 x2 (iI (base : Int)) (iI (n : Int)) (iI (q : Int)) (iI 0) (iI 1) st6 := by
            refine tX5_head_173 ⟨fun w => absurd (f56.symm.trans w) (by decide), fun _ => m_may (k := 4) (by omega) J6 hkb (fun K1 s1 s2 s2' s2'' s3 => ⟨fun w => absurd w (by decide), fun _ => tX5_head_428 ?_⟩) (fun e st' s1 s2 s3 => ⟨fun _ => tX5_head_428 (m_end ?_), fun w => absurd rfl w⟩)⟩
            · have J1 := J6.spend (by omega : 4 < 6) s1
              have F1 : mfr c.nd ce (base + as.length) st (mput (66 + 4) (fI (mput 65 (fI st6 65 + iI 1) (mput 64 (fI st6 64 + iI 1) st6)) (66 + 4) + iI 1) (mput 65 (fI st6 65 + iI 1) (mput 64 (fI st6 64 + iI 1) st6))) := F6.tr (mfr_spend (by omega)) (Nat.le_refl _) (Nat.le_refl _) (Nat.le_refl _)
              have h54 : fI (mput 65 (fI st6 65 + iI 1) (mput 64 (fI st6 64 + iI 1) st6)) 54 = iI (n' : Int) := by show (mput 65 _ (mput 64 _ st6)).1 54 = _; rw [mput_f, if_neg (by omega), mput_f, if_neg (by omega)]; exact f54
              have h55 : fI (mput 65 (fI st6 65 + iI 1) (mput 64 (fI st6 64 + iI 1) st6)) 55 = iI (q' : Int) := by show (mput 65 _ (mput 64 _ st6)).1 55 = _; rw [mput_f, if_neg (by omega), mput_f, if_neg (by omega)]; exact f55
              rw [h54, h55]
              have mv1 := F1.E (M := M) hch (Nat.le_refl _)
              refine next (kk := 0) (K1 := K1) _ t' r' as n' q' g' ce (fun K2 res hr => by rw [sHead_bnd hc, s1]; exact hr) (by omega) (wa0 F1) (Nat.le_refl _) (mT_mv mv1.1 _ _ _ _ a7) (mE_mv mv1 _ _ _ a6 a8) a6 a9 g1'.1 g1'.2 hA (mW_mv mv1 _ (fun k j z1 z2 z3 => F1.2 k j (fun w => by omega) (fun w => by omega) (fun _ => z3) (by omega)) hW) J1 (mk1 s1 s3 _ _ (by omega) (by omega))
            · exact wrongE (kk := 4) e st' _ _ (fun _ h => by rw [sHead_bnd hc, h]; rfl) s1 s2 (F6.tr s3 (Nat.le_refl _) (Nat.le_refl _) (Nat.le_refl _))
          refine ⟨fun w => absurd (f56.symm.trans w) (by decide), fun _ => ⟨fun _ => go, fun w => ?_⟩⟩
          exact absurd (by rw [f54, iI_z, iI_le (by omega) (by omega) (by omega) (by omega)]; omega) w
      · -- a name of the context
        obtain ⟨-, p2, p3, p4⟩ := hT0
        obtain ⟨z1, z2⟩ := hX.1 k' p2
        have hnc := hX.2.1
        refine tX5_head_25 ⟨fun z => absurd z (by decide), fun _ => ⟨fun _ => ⟨iI_in hn (by omega), ?_⟩, fun z => absurd ge0 z⟩⟩
        rw [aI_n (by omega), p3]
        refine ⟨fun z => absurd z (by decide), fun _ => ⟨fun z => absurd z (by decide), fun _ => ⟨fun _ => ⟨iI_in hn (by omega), ?_⟩, fun z => absurd rfl z⟩⟩⟩
        rw [aI_n (by omega), p4, aI_n (by omega)]
        refine ⟨iI_in (by omega) (by omega), fun w => ?_, fun w => ?_⟩
        · cases hv' : X.val k' with
          | none =>
            refine m_fin (kd := 2) (by omega) ?_
            exact ok _ K ce _ as (sHead_knN hv') (Nat.le_refl _) (mfr_put2 (by omega) (by omega)) (Nat.le_refl _) ((hJ.put (by omega)).put (by omega)) ⟨hkb, k2, k3, k4, k5, k6⟩ (mHd_n rfl hq hg hT hE hch) (mW_mv ((mfr_put2 (by omega) (by omega)).E (wa := 0) hch (Nat.le_refl _)) _ (fun _ _ _ _ _ => rfl) hW) (Or.inr ⟨_, r, rfl, trivial, hv, Or.inl ⟨k', rfl, hv'⟩⟩) hA
          | some t' =>
            obtain ⟨_, n', e1, e2⟩ := z2 t' hv'
            have hn' : n' < c.nd := (mT_lt _ _ _ _ e2).1 rfl
            rw [e1, iI_z, iI_lt (by omega) (by omega) (by omega) (by omega)] at w
            omega
        · cases hv' : X.val k' with
          | none =>
            rw [z1 hv'] at w
            exact absurd (by decide) w
          | some t' =>
            obtain ⟨gt, n', e1, e2⟩ := z2 t' hv'
            have hn' : n' < c.nd := (mT_lt _ _ _ _ e2).1 rfl
            refine m_may (k := 1) (by omega) hJ hkb (fun K1 s1 s2 s2' s2'' s3 => ⟨fun w => absurd w (by decide), fun _ => ?_⟩) (fun e st' s1 s2 s3 => ⟨fun _ => tX5_head_428 (m_end ?_), fun w => absurd rfl w⟩)
            · have J1 := hJ.spend (by omega : 1 < 6) s1
              have F1 : mfr c.nd ce (base + as.length) st (mput (66 + 1) (fI (mput 65 (fI st 65 + iI 1) (mput 64 (fI st 64 + iI 1) st)) (66 + 1) + iI 1) (mput 65 (fI st 65 + iI 1) (mput 64 (fI st 64 + iI 1) st))) := mfr_spend (by omega)
              have e31 : aI (mput 65 (fI st 65 + iI 1) (mput 64 (fI st 64 + iI 1) st)) 31 (iI (n : Int)) = iI (k' : Int) := by rw [aI_n (by omega)]; exact p4
              have e25 : aI (mput 65 (fI st 65 + iI 1) (mput 64 (fI st 64 + iI 1) st)) 25 (iI (k' : Int)) = iI (n' : Int) := by rw [aI_n (by omega)]; exact e1
              rw [e31, e25]
              refine ⟨iI_in hn (by omega), iI_in (by omega) (by omega), tX5_head_428 ?_⟩
              have mv1 := F1.E (M := M) hch (Nat.le_refl _)
              exact next (kk := 0) (K1 := K1) _ t' .nil as n' 0 [] ce (fun K2 res hr => by rw [sHead_kn hv', s1]; exact hr) (by omega) (wa0 F1) (Nat.le_refl _) (mT_mv mv1.1 _ _ _ _ e2) trivial hJ.2.2.2.2.2 (fun z hz => by cases hz) gt trivial hA (mW_mv mv1 _ (fun k j z1 z2 z3 => F1.2 k j (fun w => by omega) (fun w => by omega) (fun _ => z3) (by omega)) hW) J1 (mk1 s1 s3 _ _ (by omega) (by omega))
            · exact wrongE (kk := 1) e st' _ _ (fun _ h => by rw [sHead_kn hv', h]; rfl) s1 s2 s3
      · -- a sort
        obtain ⟨-, p2, p3, p4⟩ := hT0
        refine tX5_head_25 ⟨fun z => absurd z (by decide), fun _ => ⟨fun _ => ⟨iI_in hn (by omega), ?_⟩, fun z => absurd ge0 z⟩⟩
        rw [aI_n (by omega), p3]
        refine ⟨fun z => absurd z (by decide), fun _ => ⟨fun z => absurd z (by decide), fun _ => ⟨fun z => absurd z (by decide), fun _ => m_fin (kd := 3) (by omega) ?_⟩⟩⟩
        exact ok _ K ce _ as sHead_so (Nat.le_refl _) (mfr_put2 (by omega) (by omega)) (Nat.le_refl _) ((hJ.put (by omega)).put (by omega)) ⟨hkb, k2, k3, k4, k5, k6⟩ (mHd_n rfl hq hg hT hE hch) (mW_mv ((mfr_put2 (by omega) (by omega)).E (wa := 0) hch (Nat.le_refl _)) _ (fun _ _ _ _ _ => rfl) hW) (Or.inr ⟨_, r, rfl, trivial, hv, Or.inr (Or.inl ⟨k', rfl⟩)⟩) hA
      · -- a lambda
        obtain ⟨-, p2, xd, yb, i, p3, p4, p5, p6, p7, p8, p9⟩ := hT0
        have hg' : gT d false (shp r) ∧ gT b false (true :: shp r) := hgT
        refine tX5_head_25 ⟨fun z => absurd z (by decide), fun _ => ⟨fun _ => ⟨iI_in hn (by omega), ?_⟩, fun z => absurd ge0 z⟩⟩
        rw [aI_n (by omega), p2]
        refine ⟨fun z => absurd z (by decide), fun _ => ⟨fun z => absurd z (by decide), fun _ => ⟨fun z => absurd z (by decide), fun _ => tX5_head_277 ⟨fun _ => ?_, fun z => absurd rfl z⟩⟩⟩⟩
        rw [h51]
        cases as with
        | nil =>
          refine ⟨fun _ => tX5_head_367 ⟨fun z => absurd z (by decide), fun _ => tX5_head_428 (m_end ?_)⟩, fun z => absurd (by rw [iI_le (by omega) (by omega) (by omega) (by omega)]; simp) z⟩
          exact ok _ K ce _ [] sHead_lamN (Nat.le_refl _) (mfr_put2 (by omega) (by omega)) (Nat.le_refl _) ((hJ.put (by omega)).put (by omega)) ⟨hkb, k2, k3, k4, k5, k6⟩ (mHd_n rfl hq hg hT hE hch) trivial (Or.inr ⟨_, r, rfl, hg', hv, Or.inr (Or.inr (Or.inl ⟨d, b, rfl⟩))⟩) hA
        | cons v as =>
          have hv1 := hA v List.mem_cons_self
          obtain ⟨⟨a, b', w1, w2, tv, rv, gv, w3, w4, w5, w6, w7⟩, hW2⟩ := hW
          have hln : base + (v :: as).length = base + as.length + 1 := by simp; omega
          rw [hln] at hJ k5 h51 ⊢
          refine ⟨fun z => ?_, fun _ => m_may (k := 0) (by omega) hJ hkb (fun K1 s1 s2 s2' s2'' s3 => ⟨fun w => absurd w (by decide), fun _ => ?_⟩) (fun e st' s1 s2 s3 => ⟨fun _ => tX5_head_428 (m_end ?_), fun w => absurd rfl w⟩)⟩
          · rw [iI_le (by omega) (by omega) (by omega) (by omega)] at z; omega
          · have J1 := (hJ.spend (by omega : 0 < 6) s1).setw (wa' := base + as.length)
            have F1 : mfr c.nd ce (base + as.length) st (mput 51 (iI ((base + as.length : Nat) : Int)) (mput (66 + 0) (fI (mput 65 (fI st 65 + iI 1) (mput 64 (fI st 64 + iI 1) st)) (66 + 0) + iI 1) (mput 65 (fI st 65 + iI 1) (mput 64 (fI st 64 + iI 1) st)))) := (mfr_spend (by omega)).tr (mfr_put (by omega)) (Nat.le_refl _) (Nat.le_refl _) (Nat.le_refl _)
            have e51 : fI (mput 65 (fI st 65 + iI 1) (mput 64 (fI st 64 + iI 1) st)) 51 = iI ((base + as.length + 1 : Nat) : Int) := by
              show (mput 65 _ (mput 64 _ st)).1 51 = _
              rw [mput_f, if_neg (by omega), mput_f, if_neg (by omega)]; exact h51
            have e38 : aI (mput 65 (fI st 65 + iI 1) (mput 64 (fI st 64 + iI 1) st)) 38 (iI (n : Int)) = iI (i : Int) := by rw [aI_n (by omega)]; exact p5
            rw [e51, iI_prd, e38]
            have e49 : aI (mput 65 (fI st 65 + iI 1) (mput 64 (fI st 64 + iI 1) st)) 49 (iI ((base + as.length : Nat) : Int)) = iI (a : Int) := by rw [aI_n (by omega)]; exact w1
            have e50 : aI (mput 65 (fI st 65 + iI 1) (mput 64 (fI st 64 + iI 1) st)) 50 (iI ((base + as.length : Nat) : Int)) = iI (b' : Int) := by rw [aI_n (by omega)]; exact w2
            rw [e49, e50]
            generalize mput 51 (iI ((base + as.length : Nat) : Int)) (mput (66 + 0) (fI (mput 65 (fI st 65 + iI 1) (mput 64 (fI st 64 + iI 1) st)) (66 + 0) + iI 1) (mput 65 (fI st 65 + iI 1) (mput 64 (fI st 64 + iI 1) st))) = st1 at J1 F1
            have hw2 : base + as.length < 21000 := by omega
            refine ⟨iI_in hn (by omega), iI_in hw2 (by omega), iI_in hw2 (by omega), m_cell (by omega) J1 (by omega) hq (fun st2 J2 F2 c1 c2 c3 c4 c5 c6 => ⟨iI_in hn (by omega), tX5_head_428 ?_⟩)⟩
            have F3 := F1.tr F2 (Nat.le_refl _) (Nat.le_refl _) (Nat.le_refl _)
            have mv2 := F3.E (M := M) (ce' := ce + 1) hch (by omega)
            have ch2 := J2.2.2.2.2.1
            have e33 : aI st2 33 (iI (n : Int)) = iI (yb : Int) := by rw [aI_n (by omega), mv2.1.2.2.2 33 n (by omega) (by omega) hn0]; exact p4
            rw [e33]
            have hi : i < 2147483648 := by omega
            refine next (kk := 0) (K1 := K1) st2 b (.append v r) as yb ce (i :: g) (ce + 1) (fun K2 res hr => by rw [sHead_lam, s1]; exact hr) (by omega) (F3.wk (by omega)) (by omega) (mT_mv mv2.1 _ _ _ _ p9) ?_ (by omega) (fun z hz => by rcases List.mem_cons.mp hz with rfl | h; exact hi; exact hg z h) (by rw [shp_cons hv1.2]; exact hg'.2) ⟨hv1.1, hv⟩ (fun u hu => hA u (List.mem_cons_of_mem _ hu)) (mW_mv mv2 _ (fun k j z1 z2 z3 => F3.2 k j (fun w => by omega) (fun w => by omega) (fun _ => z3) (by omega)) hW2) J2 (mk1 s1 s3 _ _ (by omega) (by simp))
            rw [w3]
            refine ⟨Or.inr ⟨ce, a, b', gv, ?_, hJ.2.2.2.2.2, by omega, c3, c4, by omega, w5, mT_mv mv2.1 _ _ _ _ w6, mE_mv mv2 _ _ _ w4 w7⟩, mE_push ch2 hJ.2.2.2.2.2 hq c1 c2 hi r g q rfl p7 hg (mE_mv mv2 _ _ _ hq hE)⟩
            rw [lk_new ch2 hJ.2.2.2.2.2 hq c1 c2 hi hi, if_pos rfl]
          · exact wrongE (kk := 0) e st' _ _ (fun _ h => by rw [sHead_lam, h]; rfl) s1 s2 (by rw [hln]; exact s3)
      · -- let
        obtain ⟨-, p2, xd, yb, i, p3, p4, p5, p6, p7, p8, p9⟩ := hT0
        have hg' : gT d false (shp r) ∧ gT b false (true :: shp r) := hgT
        have hxd : xd < c.nd := (mT_lt _ _ _ _ p8).1 rfl
        refine tX5_head_25 ⟨fun z => absurd z (by decide), fun _ => ⟨fun _ => ⟨iI_in hn (by omega), ?_⟩, fun z => absurd ge0 z⟩⟩
        rw [aI_n (by omega), p2]
        refine ⟨fun z => absurd z (by decide), fun _ => ⟨fun z => absurd z (by decide), fun _ => ⟨fun z => absurd z (by decide), fun _ => tX5_head_277 ⟨fun z => absurd z (by decide), fun _ => tX5_head_367 ⟨fun _ => ?_, fun z => absurd rfl z⟩⟩⟩⟩⟩
        refine m_may (k := 2) (by omega) hJ hkb (fun K1 s1 s2 s2' s2'' s3 => ⟨fun w => absurd w (by decide), fun _ => ?_⟩) (fun e st' s1 s2 s3 => ⟨fun _ => tX5_head_428 (m_end ?_), fun w => absurd rfl w⟩)
        · have J1 := hJ.spend (by omega : 2 < 6) s1
          have F1 : mfr c.nd ce (base + as.length) st (mput (66 + 2) (fI (mput 65 (fI st 65 + iI 1) (mput 64 (fI st 64 + iI 1) st)) (66 + 2) + iI 1) (mput 65 (fI st 65 + iI 1) (mput 64 (fI st 64 + iI 1) st))) := mfr_spend (by omega)
          have e38 : aI (mput 65 (fI st 65 + iI 1) (mput 64 (fI st 64 + iI 1) st)) 38 (iI (n : Int)) = iI (i : Int) := by rw [aI_n (by omega)]; exact p5
          have e32 : aI (mput 65 (fI st 65 + iI 1) (mput 64 (fI st 64 + iI 1) st)) 32 (iI (n : Int)) = iI (xd : Int) := by rw [aI_n (by omega)]; exact p3
          rw [e38, e32]
          generalize mput (66 + 2) (fI (mput 65 (fI st 65 + iI 1) (mput 64 (fI st 64 + iI 1) st)) (66 + 2) + iI 1) (mput 65 (fI st 65 + iI 1) (mput 64 (fI st 64 + iI 1) st)) = st1 at J1 F1
          refine ⟨iI_in hn (by omega), iI_in hn (by omega), m_cell (by omega) J1 (by omega) hq (fun st2 J2 F2 c1 c2 c3 c4 c5 c6 => ⟨iI_in hn (by omega), tX5_head_428 ?_⟩)⟩
          have F3 := F1.tr F2 (Nat.le_refl _) (Nat.le_refl _) (Nat.le_refl _)
          have mv2 := F3.E (M := M) (ce' := ce + 1) hch (by omega)
          have ch2 := J2.2.2.2.2.1
          have e33 : aI st2 33 (iI (n : Int)) = iI (yb : Int) := by rw [aI_n (by omega), mv2.1.2.2.2 33 n (by omega) (by omega) hn0]; exact p4
          rw [e33]
          have hi : i < 2147483648 := by omega
          refine next (kk := 0) (K1 := K1) st2 b (.append (vClo d r) r) as yb ce (i :: g) (ce + 1) (fun K2 res hr => by rw [sHead_let, s1]; exact hr) (by omega) (F3.wk (by omega)) (by omega) (mT_mv mv2.1 _ _ _ _ p9) ?_ (by omega) (fun z hz => by rcases List.mem_cons.mp hz with rfl | h; exact hi; exact hg z h) hg'.2 ⟨⟨hg'.1, hv⟩, hv⟩ hA (mW_mv mv2 _ (fun k j z1 z2 z3 => F3.2 k j (fun w => by omega) (fun w => by omega) (fun _ => z3) (by omega)) hW) J2 (mk1 s1 s3 _ _ (by omega) (by omega))
          refine ⟨Or.inr ⟨ce, xd, q, g, ?_, hJ.2.2.2.2.2, by omega, c3, c4, by omega, hg, mT_mv mv2.1 _ _ _ _ p8, mE_mv mv2 _ _ _ hq hE⟩, mE_push ch2 hJ.2.2.2.2.2 hq c1 c2 hi r g q rfl p7 hg (mE_mv mv2 _ _ _ hq hE)⟩
          rw [lk_new ch2 hJ.2.2.2.2.2 hq c1 c2 hi hi, if_pos rfl]
        · exact wrongE (kk := 2) e st' _ _ (fun _ h => by rw [sHead_let, h]; rfl) s1 s2 s3
      · -- use
        obtain ⟨m, p1, p2⟩ := hT0
        have hg' : gT f' false (shp r) ∧ gT ps false (shp r) ∧ 1 ≤ vlen ps := hgT
        obtain ⟨h, h1, h2, h3⟩ := mT_use ps g n m p2
        have hlen0 : (vmapC r (vdrop (vlen ps) ps) ++ as).length = as.length := by rw [vdrop_all]; simp
        rw [← h2]
        refine m_use (c := c) (M := M) (as := as) (r := r) (g := g) (by omega) hg hq (vlen ps) K st (Nat.le_refl _) h3 hE hnd (by rw [vdrop_all]; exact hW) (by rw [hlen0]; exact hJ) (by rw [hlen0]; exact ⟨hkb, k2, k3, k4, k5, k6⟩) (fun st' K' u1 u2 u3 u4 u5 u6 => ?_) (fun st' K' e u1 u2 u3 u4 => ?_)
        · rw [hlen0] at u3
          rw [h1]
          have mv1 := u3.E (M := M) (ce' := ce) hch (Nat.le_refl _)
          exact next (kk := vlen ps - 1) (K1 := K') st' f' r (vmapC r ps ++ as) m q g ce (fun K2 res hr => by rw [sHead_use, u1]; exact hr) (by omega) (wa0 u3) (Nat.le_refl _) (mT_mv mv1.1 _ _ _ _ p1) (mE_mv mv1 _ _ _ hq hE) hq hg hg'.1 hv (gA_map hv hA ps hg'.2.1) u6 u4 u5
        · rw [hlen0] at u3
          exact er st' K' e ce (by rw [sHead_use, u1]; rfl) u2 (wa0 u3) (Nat.le_refl _) (by have := sSpendN_w _ _ _ _ u1; omega) u4
      · -- product
        rw [mT_prod] at hT0
        obtain ⟨-, p2, -⟩ := hT0
        refine tX5_head_25 ⟨fun z => absurd z (by decide), fun _ => ⟨fun _ => ⟨iI_in hn (by omega), ?_⟩, fun z => absurd ge0 z⟩⟩
        rw [aI_n (by omega), p2]
        refine ⟨fun z => absurd z (by decide), fun _ => ⟨fun z => absurd z (by decide), fun _ => ⟨fun z => absurd z (by decide), fun _ => m_fin (kd := 5) (by omega) ?_⟩⟩⟩
        exact ok _ K ce _ as sHead_prod (Nat.le_refl _) (mfr_put2 (by omega) (by omega)) (Nat.le_refl _) ((hJ.put (by omega)).put (by omega)) ⟨hkb, k2, k3, k4, k5, k6⟩ (mHd_n rfl hq hg hT hE hch) (mW_mv ((mfr_put2 (by omega) (by omega)).E (wa := 0) hch (Nat.le_refl _)) _ (fun _ _ _ _ _ => rfl) hW) (Or.inr ⟨_, r, rfl, gT_up _ _ _ hgT, hv, Or.inr (Or.inr (Or.inr ⟨p, d, b, rfl⟩))⟩) hA
      · -- further out
        have hg' : y = true ∧ m ≤ (shp r).length ∧ gT t' true ((shp r).drop m) := hgT
        exact ihk t' (vdrop m r) as K st n q (g.drop m) ce true (by simp at hsz; omega) hf hT0 (mE_drop m r g q hE) hq (fun z hz => hg z (List.mem_of_mem_drop hz)) (by rw [shp_drop]; exact hg'.2.2) (gV_drop m r hv) hA hW hX hJ ⟨hkb, k2, k3, k4, k5, k6⟩ (fun st' K'' ce' v as' u1 => ok st' K'' ce' v as' (by rw [sHead_lft]; exact u1)) (fun st' K'' e ce' u1 => er st' K'' e ce' (by rw [sHead_lft]; exact u1))
      · -- further in
        have hg' : y = true ∧ gT t' true (false :: shp r) := gT_snk ▸ hgT
        rw [mT_snk] at hT0
        exact ihk t' (.append .line r) as K st n q (1000000 :: g) ce true (by simp at hsz; omega) hf hT0 hE hq (fun z hz => by rcases List.mem_cons.mp hz with rfl | h; omega; exact hg z h) hg'.2 ⟨trivial, hv⟩ hA hW hX hJ ⟨hkb, k2, k3, k4, k5, k6⟩ (fun st' K'' ce' v as' u1 => ok st' K'' ce' v as' (by rw [sHead_snk]; exact u1)) (fun st' K'' e ce' u1 => er st' K'' e ce' (by rw [sHead_snk]; exact u1))
end MHM
