/-! M OVER S (25): judging: product -/
section MJO
variable {P : MPl} {s0 : State} {l : Launch} {XX : Prop} {lev n m : Nat} {Q : Outcome → MSt → Prop} {st st' st'' st2 st0 : MSt} {X : SX} {J : JX} {K K' : KS} {nd nd' ce ce' wa x y lo hi lo' hi' lo1 hi1 lo2 hi2 ns ns' ch ch' q z : Nat} {c c' : MC} {M M' : Nat → Int → Prop} {E E' : Nat → Prop} {TN : Nat → List Nat} {sc : SC} {bl : List (Nat × Option Nat)}
theorem m_jprod {f p nn : Nat} {d b : V} (ih : ∀ lev, 3 * n + 230 ≤ lev → MJd P s0 l XX X J TN lev n) (hlv : 3 * n + 232 ≤ lev) (hr : mR TN st (.tag f (.tag p (.group (.append d b) .fill))) (bl.map (fun z => z.2)) nn lo hi none) (hg1 : rG d 0 sc.length n) (hg2 : rG b 0 (sc.length + 1) n) (hI : ∀ j, lo ≤ j → j < hi → E j) (hE : ∀ j, E j → 8 ≤ j ∧ j < c.nd) (h : JM lo hi E c ce st X J TN sc bl q ns) (hs : gSc c.ns z sc) (hz : ∀ k, k < c.nc → sw (J.ct k) ≤ z) (hd : sc.length + (n + 1) ≤ 300) (hJ : MJ st X K c.nd ce 0) (hK : MK X K c.nd ce 0 x) (hx : 202 ≤ x) (hx2 : x + (rN d + rN b + 1) ≤ 29000) (hy : 203 ≤ y) (hy2 : c.nd + 2 * (60000 - K.life) + (y + (rN d + rN b + 1)) ≤ 140000) (h59 : fI st 59 = iI (ch : Int)) (hch : ch + (rN d + rN b + 1) ≤ 4000) (hns : ns + max (rD d) (rD b + 1) ≤ 50)
    (ok : ∀ st' K' nd' ce' u ty r so tn, sJudge X J (n + 1) (.tag f (.tag p (.group (.append d b) .fill))) sc K = (K', .ok (u, ty, r, so)) → K.life ≤ K'.life → mjf lo hi c.nd ce ns ch st st' → c.nd ≤ nd' → ce ≤ ce' → MJ st' X K' nd' ce' 0 → MK X K' nd' ce' 0 (x + (rN d + rN b + 1)) → nd' + 2 * (60000 - K'.life) + y ≤ 140000 → fI st' 43 = fI st 43 → fI st' 59 = fI st 59 → (∀ st'', ag (cutE E lo hi) nd' ce' st' st'' → mT (nd', c.2) st'' u (bl.map (fun z => z.1)) nn none) → gT u false (List.replicate sc.length true) → fI st' 60 = iI ((tn : Nat) : Int) → fI st' 61 = iI so → mTy (cutE E lo hi) (nd', c.2) ce' st' sc bl ty r tn → tyG c.ns (z + (rB d + rB b)) (scEnv sc) ty r so → Q (.returned none) st')
    (er : ∀ st' K' e p', sJudge X J (n + 1) (.tag f (.tag p (.group (.append d b) .fill))) sc K = (K', .error (e, p')) → K.life ≤ K'.life → mjf lo hi c.nd ce ns ch st st' → MZj st' X K' e p' → Q (.returned none) st') : CQ (wM P s0 l XX) mX5_judgeProduct lev (.ref P.mo :: [.int (iI (nn : Int)), .int (iI (q : Int))]) st Q := by
  obtain ⟨l', rfl⟩ : ∃ l', lev = l' + 2 := ⟨lev - 2, by omega⟩
  obtain ⟨a1, a2, a3, a4, a5, a6, u, v, l1, l2, l3, o, ⟨b1, b2, b3, b4, b5⟩, hnm, a9, a10, r1, r2⟩ := hr
  have h14 := h.at.1.2.2.2
  have hns8 : c.ns ≤ 8 := h.at.1.2.2.1
  have hB := h.1
  have hSc := h.2.2.1
  have hnn : nn < c.nd := (hE nn (hI nn a1 a2)).2
  have hu := mR_lt r1
  have hvv := mR_lt r2
  have hl3 : l3 ≤ c.nd := by
    by_cases w : l3 = 0
    · omega
    · have := (hE (l3 - 1) (hI (l3 - 1) (by omega) (by omega))).2; omega
  have inn : inr (iI (nn : Int)) 140000 := iI_in (by omega) (by omega)
  have nid : nn ∉ bl.map (fun z => z.1) := fun w => by have := (mSc_at hSc nn w).2; omega
  refine tX5_judgeProduct ⟨inn, ?_⟩
  rw [aI_n (by omega), a9]
  have h1 : JM l1 l2 E c ce st X J TN sc bl q ns := h.sub (by omega) (by omega) (by omega) (fun _ w => w)
  refine m_jsort (y := y + rN b + 1) (ch := ch) (ih l' (by omega)) (by omega) r1 hg1 (fun j w1 w2 => hI j (by omega) (by omega)) hE h1 hs hz (by omega) hJ hK hx (by omega) (by omega) (by omega) h59 (by omega) (by omega) (fun t1 K1 nd1 ce1 ua sa e1 e2 e3 e4 e5 e6 e7 e8 e9 e10 e11 e12 e13 => ?_) (fun t1 K1 e p' e1 e2 e3 e4 => ⟨fun w => absurd w e4.ne, fun _ => ⟨fun w => absurd w e4.ne, fun _ => er t1 K1 e p' (by rw [sJudge_prod, e1]; rfl) e2 (e3.wk (by omega) (by omega)) e4⟩⟩)
  -- the domain is judged
  have hnd1 : nd1 ≤ 140000 := e8.2.1
  have h2 : JM l2 l3 (cutE E l1 l2) (nd1, c.2) ce1 t1 X J TN sc bl q ns := h.mv (c' := (nd1, c.2)) e4 e10 (by omega) (by omega) (fun j w1 w2 => hI j (by omega) (by omega)) (fun _ w => w.1) e5 rfl e6 (by omega) (by omega) hnd1 e7.2.2.2.2.1
  have r2a := e4.R r2 hl3 (Or.inr (Nat.le_refl _))
  have s1 : ∀ k j, 30 ≤ k → k ≤ 38 → j < c.nd → (j < l1 ∨ l2 ≤ j) → t1.2 k j = st.2 k j := fun k j w1 w2 w3 w4 => e4.2 k j (fun _ => by omega) (fun _ => by omega) (fun _ => by omega) (fun _ => by omega) (by omega) (fun _ => by omega) (by omega)
  refine ⟨fun _ => ⟨inn, ?_⟩, fun w => absurd e7.2.2.2.1 w⟩
  rw [aI_n (by omega), s1 32 nn (by omega) (by omega) hnn (by omega), a9]
  have hsh : shp (scEnv sc) = List.replicate sc.length true := scEnv_shp sc hs
  have hgV := scEnv_gV sc hs
  have gk1 : gKv (vClo ua (scEnv sc)) := ⟨ua, scEnv sc, rfl, by rw [hsh]; exact gT_up _ _ _ e13, hgV⟩
  refine m_jnorm (c := (nd1, c.2)) (y := y + rN b + 1) (x := x + rN d) (by omega) h2 (h2.C (e12 t1 ag.rf)) gk1 (by omega) e7 e8 (by omega) (by omega) (by omega) (by show nd1 + _ + _ ≤ _; omega) (fun t2 K2 nd2 ce2 t nt f1 f2 f3 f4 f5 f6 f7 f8 f9 f10 => ?_) (fun t2 K2 e r f1 f2 f3 f4 => ⟨fun w => absurd w f4.ne, fun _ => er t2 K2 e (-1) (by rw [sJudge_prod, e1]; show jBind (jNormal X ua sc K1) _ = _; rw [show jNormal X ua sc K1 = _ from f1]; rfl) (by omega) ((e4.wk (lo := lo) (hi := hi) (by omega) (by omega)).t2 f3.toJ e5 e6 (Nat.le_refl _) (Nat.le_refl _)) f4⟩)
  -- its normal form is made
  have f4' : nd1 ≤ nd2 := f4
  have hnd2 : nd2 ≤ 140000 := f7.2.1
  have h3 : JM l2 l3 (cutE E l1 l2) (nd2, c.2) ce2 t2 X J TN sc bl q ns := h2.mf (c := (nd1, c.2)) f3 f4 f5 hnd2 f6.2.2.2.2.1 b3
  have s2 : ∀ k j, 30 ≤ k → k ≤ 38 → j < nd1 → t2.2 k j = t1.2 k j := fun k j w1 w2 w3 => f3.2 k j (fun _ => w3) (fun _ => by omega) (fun _ => by omega) (by omega)
  have hE1 : ∀ j, cutE E l1 l2 j → 8 ≤ j ∧ j < nd1 := fun j w => by have := hE j w.1; omega
  have ft := f9 (cutE E l1 l2) hE1
  have gw : gSc c.ns z (jWith t sa sc) := ⟨by rcases sc.length with _ | _ | _ | _ | k <;> trivial, (fun w => by cases w), ⟨⟨0, rfl⟩, gT_up _ _ _ f10, hgV, (by show (-1 : Int) ≤ (sa : Int); omega), (by show (sa : Int) < 8; omega), (by show sw t ≤ z; rw [sw_false _ _ f10]; omega)⟩, hs⟩
  have F2 : mjf lo hi c.nd ce ns ch st t2 := (e4.wk (lo := lo) (hi := hi) (by omega) (by omega)).t2 f3.toJ e5 e6 (Nat.le_refl _) (Nat.le_refl _)
  have hIb : ∀ j, l2 ≤ j → j < l3 → cutE E l1 l2 j := fun j w1 w2 => ⟨hI j (by omega) (by omega), Or.inr w1⟩
  have r2c : mR TN t2 b (o :: bl.map (fun z => z.2)) v l2 l3 none := f3.toJ.R (lo2 := 0) (hi2 := 0) (ns := ns) (ch := ch) r2a (by show l3 ≤ nd1; omega) (Or.inr (Nat.zero_le _))
  have J43 : fI t2 43 = iI (ns : Int) := h3.2.2.2.1.2
  have t59 : fI t2 59 = iI (ch : Int) := (f3.1 59 (by omega)).trans (e11.trans h59)
  have in8 : cutE E l1 l2 nn := ⟨hI nn a1 a2, by omega⟩
  -- the second part, whether there is a name or not
  have fin : ∀ (t3 : MSt) (x5 : Nat), x5 ≤ 1 → MJ t3 X K2 nd2 ce2 0 → mjf nn (nn + 1) nd2 ce2 ns ch t2 t3 → (∀ k j, 30 ≤ k → k ≤ 38 → t3.2 k j = t2.2 k j) → JM l2 l3 (cutE E l1 l2) (nd2, c.2) ce2 t3 X J TN (jWith t sa sc) ((nn, o) :: bl) q (ns + x5) → fI t3 59 = iI (ch : Int) → jX5_judgeProduct_74 P s0 l XX (l' + 1) st Q (iI (nn : Int)) (iI (q : Int)) (iI (sa : Int)) (iI (nt : Int)) (iI (x5 : Int)) t3 := by
    intro t3 x5 hx5 g1 g2 s3 h4 g59
    have F13 : mjf lo hi c.nd ce ns ch st t3 := F2.t2 (g2.wk (by omega) (by omega)) (by omega) (by omega) (Nat.le_refl _) (Nat.le_refl _)
    have r2b : mR TN t3 b (o :: bl.map (fun z => z.2)) v l2 l3 none := g2.R r2c (by omega) (by omega)
    refine tX5_judgeProduct_74 ⟨inn, ?_⟩
    rw [aI_n (by omega), s3 33 nn (by omega) (by omega), s2 33 nn (by omega) (by omega) (by omega), s1 33 nn (by omega) (by omega) hnn (by omega), a10]
    have nz : ¬ x5 = 0 → ¬ iI (x5 : Int) = 0 := fun w1 w2 => by rw [iI_z, iI_eq (by omega) (by omega) (by omega) (by omega)] at w2; omega
    refine m_jsort (c := (nd2, c.2)) (y := y + 2) (ch := ch) (ns := ns + x5) (bl := (nn, o) :: bl) (sc := jWith t sa sc) (x := x + rN d) (ih l' (by omega)) (by omega) r2b hg2 hIb (fun j w => by have := hE1 j w; exact ⟨this.1, by show j < nd2; omega⟩) h4 gw hz (by show sc.length + 1 + n ≤ 300; omega) g1 f7 (by omega) (by omega) (by omega) (by show nd2 + _ + _ ≤ _; omega) g59 (by omega) (by omega) (fun t4 K4 nd4 ce4 ub sb i1 i1' i2 i3 i4 i5 i6 i7 i8 i9 i10 i11 i12 => ?_) (fun t4 K4 e p' i1 i2 i3 i4 => ?_)
    · -- it is judged
      have i1'' : sb < c.ns := i1'
      have i4' : nd2 ≤ nd4 := i4
      have hnd4 : nd4 ≤ 140000 := i7.2.1
      have F14 : mjf lo hi c.nd ce ns ch st t4 := F13.tr i3 (Nat.le_refl _) (Nat.le_refl _) (by omega) (by omega) (by show c.nd ≤ nd2; omega) (by omega) (by omega) (Nat.le_refl _)
      have s4 : ∀ k j, 30 ≤ k → k ≤ 38 → j < nd2 → (j < l2 ∨ l3 ≤ j) → t4.2 k j = t3.2 k j := fun k j w1 w2 w3 w4 => i3.2 k j (fun _ => ⟨w3, by omega⟩) (fun _ => by omega) (fun _ => by omega) (fun _ => by omega) (by omega) (fun _ => by omega) (by omega)
      have sn : ∀ k, 30 ≤ k → k ≤ 38 → t4.2 k nn = st.2 k nn := fun k w1 w2 => by rw [s4 k nn w1 w2 (by omega) (by omega), s3 k nn w1 w2, s2 k nn w1 w2 (by omega), s1 k nn w1 w2 hnn (by omega)]
      have eS : sJudge X J (n + 1) (.tag f (.tag p (.group (.append d b) .fill))) sc K = if J.ru sa sb = -1 then (K4, .error (9, (p : Int))) else (K4, .ok (.tag (8 * sa + sb) (.group (.append ua ub) .fill), .tag (J.ru sa sb).toNat (.align true), .nil, J.ax (J.ru sa sb).toNat)) := by
        rw [sJudge_prod, e1]; show jBind (jNormal X ua sc K1) _ = _; rw [show jNormal X ua sc K1 = _ from f1]; show jBind (jTypeSort (jFrom b) (sJudge X J n b (jWith t sa sc) K2)) _ = _; rw [i1]; rfl
      have hB4 : mTb (nd2, c.2) t4 X J TN := h4.1.mv i3 rfl
      obtain ⟨ru1, ru2, ru3⟩ := hB4.2.2.2.1 sa sb (by omega) (by omega)
      have ru3' : J.ru sa sb < (c.ns : Int) := ru3
      have ei : iI 8 * iI (sa : Int) + iI (sb : Int) = iI ((8 * sa + sb : Nat) : Int) := by rw [iI_mul, iI_add]; congr 1
      -- the end, whatever stands around now
      have fin2 : ∀ (t5 : MSt), MJ t5 X K4 nd4 ce4 0 → mjf lo hi c.nd ce ns ch st t5 → fI t5 43 = iI (ns : Int) → fI t5 59 = fI t4 59 → (∀ k j, t5.2 k j = t4.2 k j) → jX5_judgeProduct_102 P s0 l XX (l' + 1) st Q (iI (nn : Int)) (iI (q : Int)) (iI (sa : Int)) (iI (nt : Int)) (iI (x5 : Int)) (iI (sb : Int)) t5 := by
        intro t5 J5 F5 v43 v59 ar5
        have er19 : aI t5 19 (iI 8 * iI (sa : Int) + iI (sb : Int)) = iI (J.ru sa sb) := by rw [ei, aI_n (by omega), ar5]; exact ru1
        refine tX5_judgeProduct_102 ⟨fun _ => ⟨by rw [ei]; exact iI_in (by omega) (by omega), ?_⟩, fun w => absurd J5.2.2.2.1 w⟩
        rw [er19]
        by_cases hru : J.ru sa sb = -1
        · rw [if_pos hru] at eS
          refine ⟨fun w => ?_, fun _ => ⟨inn, ?_⟩⟩
          · rw [iI_z, iI_le (by omega) (by omega) (by omega) (by omega)] at w; omega
          · rw [aI_n (by omega), ar5, sn 35 (by omega) (by omega), a5]
            exact m_wrong (e := 9) (by omega) J5 (by omega) (by omega) (fun t6 z1 z2 => er t6 K4 9 p eS (by omega) (F5.t2 z2 (Nat.le_refl _) (Nat.le_refl _) (Nat.le_refl _) (Nat.le_refl _)) z1)
        obtain ⟨w, hw⟩ : ∃ w : Nat, J.ru sa sb = (w : Int) := ⟨(J.ru sa sb).toNat, by omega⟩
        rw [if_neg hru, hw, Int.toNat_natCast] at eS
        have hw' : w < c.ns := by omega
        obtain ⟨ax1, ax2, ax3⟩ := hB4.2.2.1 w (by omega)
        have ax3' : J.ax w < (c.ns : Int) := ax3
        rw [hw]
        refine ⟨fun _ => ⟨inn, inn, iI_in (by omega) (by omega), ?_⟩, fun w => absurd (by rw [iI_z, iI_le (by omega) (by omega) (by omega) (by omega)]; omega) w⟩
        rw [aI_n (by omega), ar5, ax1]
        refine tX5_becomes ?_
        have J7 : MJ (mput 61 (iI (J.ax w)) (mput 60 (iI (w : Int)) (mst 37 (iI (nn : Int)) (iI (sb : Int)) (mst 36 (iI (nn : Int)) (iI (sa : Int)) t5)))) X K4 nd4 ce4 0 := ((jmstx (jmstx J5 (by omega) (by omega)) (by omega) (by omega)).putx (by omega)).putx (by omega)
        have ar : ∀ k j, (mput 61 (iI (J.ax w)) (mput 60 (iI (w : Int)) (mst 37 (iI (nn : Int)) (iI (sb : Int)) (mst 36 (iI (nn : Int)) (iI (sa : Int)) t5)))).2 k j = if k = 37 ∧ j = nn then iI (sb : Int) else if k = 36 ∧ j = nn then iI (sa : Int) else t4.2 k j := fun k j => by
          rw [mput_a, mput_a, mst_a (by omega), mst_a (by omega), ar5]
        have v43' : fI (mput 61 (iI (J.ax w)) (mput 60 (iI (w : Int)) (mst 37 (iI (nn : Int)) (iI (sb : Int)) (mst 36 (iI (nn : Int)) (iI (sa : Int)) t5)))) 43 = fI st 43 := by rw [fI_put (by omega), fI_put (by omega)]; exact v43.trans h.2.2.2.1.2.symm
        have v59' : fI (mput 61 (iI (J.ax w)) (mput 60 (iI (w : Int)) (mst 37 (iI (nn : Int)) (iI (sb : Int)) (mst 36 (iI (nn : Int)) (iI (sa : Int)) t5)))) 59 = fI st 59 := by rw [fI_put (by omega), fI_put (by omega)]; exact v59.trans (i10.trans (g59.trans h59.symm))
        have v60 : fI (mput 61 (iI (J.ax w)) (mput 60 (iI (w : Int)) (mst 37 (iI (nn : Int)) (iI (sb : Int)) (mst 36 (iI (nn : Int)) (iI (sa : Int)) t5)))) 60 = iI (w : Int) := by rw [fI_put (by omega), fI_self]
        have v61 : fI (mput 61 (iI (J.ax w)) (mput 60 (iI (w : Int)) (mst 37 (iI (nn : Int)) (iI (sb : Int)) (mst 36 (iI (nn : Int)) (iI (sa : Int)) t5)))) 61 = iI (J.ax w) := fI_self
        have F7 : mjf lo hi c.nd ce ns ch t5 (mput 61 (iI (J.ax w)) (mput 60 (iI (w : Int)) (mst 37 (iI (nn : Int)) (iI (sb : Int)) (mst 36 (iI (nn : Int)) (iI (sa : Int)) t5)))) := (((mjf.mst (by omega) (by omega)).t2 (mjf.mst (by omega) (by omega)) (Nat.le_refl _) (Nat.le_refl _) (Nat.le_refl _) (Nat.le_refl _)).t2 (mjf.put (by omega)) (Nat.le_refl _) (Nat.le_refl _) (Nat.le_refl _) (Nat.le_refl _)).t2 (mjf.put (by omega)) (Nat.le_refl _) (Nat.le_refl _) (Nat.le_refl _) (Nat.le_refl _)
        generalize mput 61 (iI (J.ax w)) (mput 60 (iI (w : Int)) (mst 37 (iI (nn : Int)) (iI (sb : Int)) (mst 36 (iI (nn : Int)) (iI (sa : Int)) t5))) = tF at J7 ar v43' v59' v60 v61 F7
        have FF : mjf lo hi c.nd ce ns ch st tF := F5.t2 F7 (Nat.le_refl _) (Nat.le_refl _) (Nat.le_refl _) (Nat.le_refl _)
        have A4F : ∀ E' : Nat → Prop, E' nn → ag E' nd4 ce4 t4 tF := fun E' hE' k j hk => by
          rw [ar]
          have : ¬ (j = nn ∧ 30 ≤ k ∧ k ≤ 38) := fun ⟨w1, w2, w3⟩ => by
            subst w1
            rcases hk with w | ⟨_, _, _, w⟩ | w
            · omega
            · exact w hE'
            · omega
          rw [if_neg (by omega), if_neg (by omega)]
        have AB : ag (cutE E l1 l2) nd2 ce2 t2 t3 := g2.ag (E := cutE E l1 l2) (fun j w1 w2 => by
          have e : j = nn := by omega
          subst e
          exact in8)
        have A1F : ag (cutE E l1 l2) nd1 ce1 t1 tF := ((f3.toJ (lo := 0) (hi := 0) (ns := 0) (ch := 0)).ag (fun j w1 w2 => by omega)).tr (AB.tr ((i3.ag hIb).tr (A4F (cutE E l1 l2) in8) (fun _ w => w) i4 i5) (fun _ w => w) (Nat.le_refl _) (Nat.le_refl _)) (fun _ w => w) f4 f5
        obtain ⟨kb, k2, k3, k4, k5, k6⟩ := i7
        have subE : ∀ j, cutE E lo hi j → cutE E l1 l2 j := fun j w => ⟨w.1, by have := w.2; omega⟩
        have subE2 : ∀ j, cutE E lo hi j → cutE (cutE E l1 l2) l2 l3 j := fun j w => ⟨subE j w, by have := w.2; omega⟩
        have in9 : cutE (cutE E l1 l2) l2 l3 nn := ⟨in8, by omega⟩
        refine ok tF K4 nd4 ce4 _ _ .nil (J.ax w) w eS (by omega) FF (by omega) (by omega) J7 ⟨kb, by omega, by omega, by omega, k5, by omega⟩ (by omega) v43' v59' (fun st'' ha => ?_) ?_ v60 v61 ⟨sc.length, (scEnv_all sc).symm, fun st'' ha => ?_⟩ ⟨⟨sc.length, (scEnv_all sc).symm⟩, trivial, trivial, ax2, by omega, Nat.zero_le _⟩
        · have hz : ∀ k, 30 ≤ k → k ≤ 38 → st''.2 k nn = tF.2 k nn := fun k w1 w2 => ha k nn (Or.inr (Or.inl ⟨w1, w2, by omega, fun w => by have := w.2; omega⟩))
          have hm : ∀ k, 30 ≤ k → k ≤ 38 → k ≠ 36 → k ≠ 37 → st''.2 k nn = st.2 k nn := fun k w1 w2 w3 w4 => by rw [hz k w1 w2, ar, if_neg (by omega), if_neg (by omega)]; exact sn k w1 w2
          have d1 := e12 st'' (A1F.tr ha subE (by omega) (by omega))
          have d2 := i11 st'' ((A4F _ in9).tr ha subE2 (Nat.le_refl _) (Nat.le_refl _))
          rw [mT_prod]
          refine ⟨by show nn < nd4; omega, by rw [hm 30 (by omega) (by omega) (by omega) (by omega)]; exact a3, ?_, ?_, u, v, nn, by rw [hm 32 (by omega) (by omega) (by omega) (by omega)]; exact a9, by rw [hm 33 (by omega) (by omega) (by omega) (by omega)]; exact a10, by rw [hm 38 (by omega) (by omega) (by omega) (by omega)]; exact a6, by show nn < nd4; omega, nid, mT_up (c := (nd1, c.2)) (c' := (nd4, c.2)) (by show nd1 ≤ nd4; omega) rfl d1, d2⟩
          · rw [hz 36 (by omega) (by omega), ar, if_neg (by omega), if_pos ⟨rfl, rfl⟩, show (8 * sa + sb) / 8 = sa by omega]
          · rw [hz 37 (by omega) (by omega), ar, if_pos ⟨rfl, rfl⟩, show (8 * sa + sb) % 8 = sb by omega]
        · have e1 : ∀ g, gT (.tag (8 * sa + sb) (.group (.append ua ub) .fill)) false g = (gT ua false g ∧ gT ub false (true :: g)) := fun g => by rcases (8 * sa + sb) with _ | _ | _ | p <;> rfl
          rw [e1]
          exact ⟨e13, i12⟩
        · obtain ⟨-, o2, -⟩ := h.2.1 st'' ((FF.ag hI).tr ha (fun _ w => w.1) (by show c.nd ≤ nd4; omega) (by omega))
          obtain ⟨o3, o4⟩ := o2.1 w hw'
          have o5 := o2.2
          exact ⟨by show w < nd4; omega, hw', o3, o4⟩
      have v59 : fI t4 59 = fI t4 59 := rfl
      by_cases hx0 : x5 = 0
      · subst hx0
        exact ⟨fun _ => fin2 t4 i6 F14 (i9.trans h4.2.2.2.1.2) rfl (fun _ _ => rfl), fun w => absurd rfl w⟩
      · have hx1 : x5 = 1 := by omega
        subst hx1
        refine ⟨fun w => absurd w (nz (by omega)), fun _ => fin2 _ (i6.putx (by omega)) (F14.t2 (mjf.put (nd := c.nd) (ce := ce) (ns := ns) (ch := ch) (by omega)) (Nat.le_refl _) (Nat.le_refl _) (Nat.le_refl _) (Nat.le_refl _)) ?_ (fI_put (by omega)) (fun _ _ => rfl)⟩
        rw [fI_self, i9, h4.2.2.2.1.2, iI_prd]
    · have F14 : mjf lo hi c.nd ce ns ch st t4 := F13.tr i3 (Nat.le_refl _) (Nat.le_refl _) (by omega) (by omega) (by show c.nd ≤ nd2; omega) (by omega) (by omega) (Nat.le_refl _)
      have eS : sJudge X J (n + 1) (.tag f (.tag p (.group (.append d b) .fill))) sc K = (K4, .error (e, p')) := by
        rw [sJudge_prod, e1]; show jBind (jNormal X ua sc K1) _ = _; rw [show jNormal X ua sc K1 = _ from f1]; show jBind (jTypeSort (jFrom b) (sJudge X J n b (jWith t sa sc) K2)) _ = _; rw [i1]; rfl
      refine ⟨fun _ => tX5_judgeProduct_102 ⟨fun w => absurd w i4.ne, fun _ => er t4 K4 e p' eS (by omega) F14 i4⟩, fun _ => tX5_judgeProduct_102 ⟨fun w => absurd w (i4.put (by omega)).ne, fun _ => er _ K4 e p' eS (by omega) (F14.t2 (mjf.put (nd := c.nd) (ce := ce) (ns := ns) (ch := ch) (by omega)) (Nat.le_refl _) (Nat.le_refl _) (Nat.le_refl _) (Nat.le_refl _)) (i4.put (by omega))⟩⟩
  refine ⟨fun _ => ⟨inn, ?_⟩, fun w => absurd f6.2.2.2.1 w⟩
  rw [aI_n (by omega), s2 31 nn (by omega) (by omega) (by omega), s1 31 nn (by omega) (by omega) hnn (by omega)]
  rcases hnm with ⟨rfl, w31⟩ | ⟨x0, pb, rfl, p1, p2, p3, p4, p5, p6, p7⟩
  · rw [w31]
    refine ⟨fun _ => ?_, fun w => absurd (by decide) w⟩
    exact fin t2 0 (by omega) f6 mjf.rf (fun _ _ _ _ => rfl) (h3.arrow hnd2 ⟨by show nn < nd2; omega, by omega, nid⟩) t59
  · have hx0 : x0 < c.nd := (hE x0 (hI x0 p1 p2)).2
    rw [p5]
    refine ⟨fun w => ?_, fun _ => tX5_bind ⟨inn, inn, by rw [J43]; exact iI_in (by omega) (by omega), ?_⟩⟩
    · rw [iI_z, iI_lt (by omega) (by omega) (by omega) (by omega)] at w; omega
    obtain ⟨t3, g0, g1, g2, g3, g4, g5, g6, g7, g8, g9, g10⟩ := bindS (ch := ch) (lo := nn) (hi := nn + 1) (nb := nn) (v1 := iI (nt : Int)) (v2 := iI (sa : Int)) f6 J43 (by omega) (by omega) (Nat.le_refl _) (Nat.lt_succ_self _)
    rw [← g0]
    exact fin t3 1 (Nat.le_refl _) g1 g2 (fun k j w1 w2 => g5 k j (by omega)) (h3.bind (x0 := x0) hnd2 g2 g3 g5 g6 g7 g8 g9 g10 ⟨by show nn < nd2; omega, by omega, nid⟩ ⟨by show x0 < nd2; omega, by omega, p4, by rw [s2 31 nn (by omega) (by omega) (by omega), s1 31 nn (by omega) (by omega) hnn (by omega)]; exact p5, by rw [s2 31 x0 (by omega) (by omega) (by omega), s1 31 x0 (by omega) (by omega) hx0 (by omega)]; exact p6, by rw [s2 32 x0 (by omega) (by omega) (by omega), s1 32 x0 (by omega) (by omega) hx0 (by omega)]; exact p7⟩ ⟨0, rfl, ft⟩) (by rw [g4 59 (by omega)]; exact t59)
end MJO
