/-! M OVER S (26): judging: let -/
section MJE
variable {P : MPl} {s0 : State} {l : Launch} {XX : Prop} {lev n m : Nat} {Q : Outcome → MSt → Prop} {st st' st'' st2 st0 : MSt} {X : SX} {J : JX} {K K' : KS} {nd nd' ce ce' wa x y lo hi lo' hi' lo1 hi1 lo2 hi2 ns ns' ch ch' q z : Nat} {c c' : MC} {M M' : Nat → Int → Prop} {E E' : Nat → Prop} {TN : Nat → List Nat} {sc : SC} {bl : List (Nat × Option Nat)}
/-- what is put for a name comes to stand around -/
theorem JM.put {ua ty r : V} {so : Int} {nb pb x0 nt un : Nat} (h : JM lo hi E c ce st X J TN sc bl q ns) (h14 : c.nd ≤ 140000) (h0 : 0 < ce) (ha : ag E c.nd ce st st2) (hf : mjf lo1 hi1 c.nd ce ns ch st st2) (g1 : ∀ k j, k = 31 ∨ k = 32 → st2.2 k j = st.2 k j) (g2 : ∀ k j, k = 40 ∨ k = 41 → j ≠ nb → st2.2 k j = st.2 k j) (hc2 : mch st2 (ce + 1)) (h43 : fI st2 43 = iI ((ns + 1 : Nat) : Int)) (e1 : st2.2 40 nb = iI (nt : Int)) (e2 : st2.2 41 nb = iI so) (e3 : st2.2 42 ns = iI (nb : Int)) (e4 : ∀ j, j < ns → st2.2 42 j = st.2 42 j)
    (c1 : st2.2 44 ce = iI (q : Int)) (c2 : st2.2 45 ce = iI (nb : Int)) (c3 : st2.2 46 ce = iI (un : Int)) (c4 : st2.2 47 ce = iI (q : Int)) (hb : nb < c.nd ∧ (nb < lo ∨ hi ≤ nb) ∧ nb ∉ bl.map (fun z => z.1)) (hx : x0 < c.nd ∧ (x0 < lo ∨ hi ≤ x0) ∧ pb < 4000 ∧ st.2 31 nb = iI (x0 : Int) ∧ st.2 31 x0 = iI (pb : Int) ∧ st.2 32 x0 = iI ((TN pb).length : Int)) (ht : mTy E c ce st sc bl ty r nt) (hu : ∀ st'', ag E c.nd ce st st'' → mT c st'' ua (bl.map (fun z => z.1)) un none) : JM lo hi E c (ce + 1) st2 X J TN ((vClo ua (scEnv sc), ty, r, so) :: sc) ((nb, some pb) :: bl) ce (ns + 1) := by
  have hc := h.2.2.2.2.1
  have hq := h.2.2.2.2.2.1
  have hlk := h.2.2.2.2.2.2
  have hids : ∀ d ∈ bl.map (fun z => z.1), d < 2147483648 := fun d hd => by have := (mSc_at h.2.2.1 d hd).1; omega
  refine h.push ha hf g1 g2 (Nat.le_succ _) hc2 (Nat.lt_succ_self _) hb (Or.inr ⟨ua, scEnv sc, rfl⟩) (fun p hp => ?_) ⟨ns, rfl, e3, mSA_mv e4 _ _ (Nat.le_refl _) h.2.2.2.1.1⟩ h43 (fun i w1 w2 w3 => ?_) (fun st'' a2 hm => ?_)
  · cases hp
    obtain ⟨y1, y2, y3, y4, y5, y6⟩ := hx
    exact ⟨x0, nt, y1, y2, y3, by rw [g1 31 _ (by omega)]; exact y4, by rw [g1 31 _ (by omega)]; exact y5, by rw [g1 32 _ (by omega)]; exact y6, e1, e2, ht.mv ha (fun _ w => w) (Nat.le_refl _) rfl (Nat.le_succ _)⟩
  · rw [lk_new hc2 h0 hq c1 c2 (by omega) (by omega), if_neg (Ne.symm w2)]
    exact (lk_ag hc ha hq).trans (hlk i w1 w3)
  · have ac : ∀ k, 44 ≤ k → k ≤ 47 → st''.2 k ce = st2.2 k ce := fun k w1 w2 => a2 k ce (Or.inr (Or.inr ⟨w1, w2, Nat.lt_succ_self _⟩))
    have hc3 : mch st'' (ce + 1) := mch_ag hc2 a2
    have hcs : mch st'' ce := mch_ag hc (ha.tr a2 (fun _ w => w) (Nat.le_refl _) (Nat.le_succ _))
    have d1 : st''.2 44 ce = iI (q : Int) := (ac 44 (by omega) (by omega)).trans c1
    have d2 : st''.2 45 ce = iI (nb : Int) := (ac 45 (by omega) (by omega)).trans c2
    have hm' : mE c (ce + 1) (Msc ((vClo ua (scEnv sc), ty, r, so) :: sc) ((nb, some pb) :: bl)) st'' (scEnv sc) (bl.map (fun z => z.1)) q := mE_mv ⟨⟨Nat.le_refl _, Nat.le_refl _, Nat.le_refl _, fun _ _ _ _ _ => rfl⟩, hcs, Nat.le_succ _, fun _ _ _ _ _ => rfl, fun _ _ w => w.up⟩ _ _ _ hq hm
    refine ⟨Or.inr ⟨ce, un, q, bl.map (fun z => z.1), ?_, h0, Nat.lt_succ_self _, (ac 46 (by omega) (by omega)).trans c3, (ac 47 (by omega) (by omega)).trans c4, by omega, hids, hu st'' (ha.tr a2 (fun _ w => w) (Nat.le_refl _) (Nat.le_succ _)), hm'⟩, mE_push hc3 h0 hq d1 d2 (by omega) _ _ q rfl hb.2.2 hids hm'⟩
    rw [lk_new hc3 h0 hq d1 d2 (by omega) (by omega), if_pos rfl]
theorem m_jlet {f p nn : Nat} {d b : V} (ih : ∀ lev, 3 * n + 230 ≤ lev → MJd P s0 l XX X J TN lev n) (hlv : 3 * n + 232 ≤ lev) (hr : mR TN st (.tag f (.tag p (.group (.append d b) .allOrNone))) (bl.map (fun z => z.2)) nn lo hi none) (hg1 : rG d 0 sc.length n) (hg2 : rG b 0 (sc.length + 1) n) (hI : ∀ j, lo ≤ j → j < hi → E j) (hE : ∀ j, E j → 8 ≤ j ∧ j < c.nd) (h : JM lo hi E c ce st X J TN sc bl q ns) (hs : gSc c.ns z sc) (hz : ∀ k, k < c.nc → sw (J.ct k) ≤ z) (hd : sc.length + (n + 1) ≤ 300) (hJ : MJ st X K c.nd ce 0) (hK : MK X K c.nd ce 0 x) (hx : 202 ≤ x) (hx2 : x + (rN d + rN b + 1) ≤ 29000) (hy : 203 ≤ y) (hy2 : c.nd + 2 * (60000 - K.life) + (y + (rN d + rN b + 1)) ≤ 140000) (h59 : fI st 59 = iI (ch : Int)) (hch : ch + (rN d + rN b + 1) ≤ 4000) (hns : ns + max (rD d) (rD b + 1) ≤ 50)
    (ok : ∀ st' K' nd' ce' u ty r so tn, sJudge X J (n + 1) (.tag f (.tag p (.group (.append d b) .allOrNone))) sc K = (K', .ok (u, ty, r, so)) → K.life ≤ K'.life → mjf lo hi c.nd ce ns ch st st' → c.nd ≤ nd' → ce ≤ ce' → MJ st' X K' nd' ce' 0 → MK X K' nd' ce' 0 (x + (rN d + rN b + 1)) → nd' + 2 * (60000 - K'.life) + y ≤ 140000 → fI st' 43 = fI st 43 → fI st' 59 = fI st 59 → (∀ st'', ag (cutE E lo hi) nd' ce' st' st'' → mT (nd', c.2) st'' u (bl.map (fun z => z.1)) nn none) → gT u false (List.replicate sc.length true) → fI st' 60 = iI ((tn : Nat) : Int) → fI st' 61 = iI so → mTy (cutE E lo hi) (nd', c.2) ce' st' sc bl ty r tn → tyG c.ns (z + (rB d + rB b + 1)) (scEnv sc) ty r so → Q (.returned none) st')
    (er : ∀ st' K' e p', sJudge X J (n + 1) (.tag f (.tag p (.group (.append d b) .allOrNone))) sc K = (K', .error (e, p')) → K.life ≤ K'.life → mjf lo hi c.nd ce ns ch st st' → MZj st' X K' e p' → Q (.returned none) st') : CQ (wM P s0 l XX) mX5_judge (lev + 1) (.ref P.mo :: [.int (iI (nn : Int)), .int (iI (q : Int))]) st Q := by
  obtain ⟨a1, a2, a3, a4, a6, u, v, l1, l2, l3, o, ⟨b1, b2, b3, b4, b5⟩, ho, hnm, a9, a10, r1, r2⟩ := hr
  obtain ⟨x0, pb, rfl, p1, p2, p3, p4, p5, p6, p7⟩ : ∃ x p : Nat, o = some p ∧ lo ≤ x ∧ x < hi ∧ (x < l1 ∨ l3 ≤ x) ∧ p < 4000 ∧ st.2 31 nn = iI (x : Int) ∧ st.2 31 x = iI (p : Int) ∧ st.2 32 x = iI ((TN p).length : Int) := by
    rcases hnm with ⟨w, -⟩ | w
    · exact absurd w ho
    · exact w
  have h14 := h.at.1.2.2.2
  have hns8 : c.ns ≤ 8 := h.at.1.2.2.1
  have hSc := h.2.2.1
  have hnn : nn < c.nd := (hE nn (hI nn a1 a2)).2
  have hx0 : x0 < c.nd := (hE x0 (hI x0 p1 p2)).2
  have hu := mR_lt r1
  have hvv := mR_lt r2
  have hl3 : l3 ≤ c.nd := by
    by_cases w : l3 = 0
    · omega
    · have := (hE (l3 - 1) (hI (l3 - 1) (by omega) (by omega))).2; omega
  have inn : inr (iI (nn : Int)) 140000 := iI_in (by omega) (by omega)
  have nid : nn ∉ bl.map (fun z => z.1) := fun w => by have := (mSc_at hSc nn w).2; omega
  have e30 : aI st 30 (iI (nn : Int)) = iI 6 := by rw [aI_n (by omega)]; exact a3
  have e32 : aI st 32 (iI (nn : Int)) = iI (u : Int) := by rw [aI_n (by omega)]; exact a9
  refine tX5_judge ⟨fun _ => ⟨inn, ?_⟩, fun w => absurd hJ.2.2.2.1 w⟩
  rw [e30, e32]
  refine ⟨fun w => absurd w (by decide), fun w => absurd w (by decide), fun _ => ⟨inn, ?_⟩, fun w => absurd w (by decide), fun w => absurd w (by unfold tout; decide)⟩
  have h1 : JM l1 l2 E c ce st X J TN sc bl q ns := h.sub (by omega) (by omega) (by omega) (fun _ w => w)
  refine ih lev (by omega) E c d u l1 l2 sc bl q K st ce x (y + rN b + 1) ns ch z _ r1 hg1 (fun j w1 w2 => hI j (by omega) (by omega)) hE h1 hs hz (by omega) hJ hK hx (by omega) (by omega) (by omega) h59 (by omega) (by omega) (fun t1 K1 nd1 ce1 ua ty r so tn e1 e2 e4 e5 e6 e7 e8 e9 e10 e11 e12 e13 e14 e15 e16 e17 => ?_) (fun t1 K1 e p' e1 e2 e3 e4 => ⟨fun w => absurd w e4.ne, fun _ => er t1 K1 e p' (by rw [sJudge_let, e1]; rfl) e2 (e3.wk (by omega) (by omega)) e4⟩)
  -- what is put for the name is judged
  have hnd1 : nd1 ≤ 140000 := e8.2.1
  have h2 : JM l2 l3 (cutE E l1 l2) (nd1, c.2) ce1 t1 X J TN sc bl q ns := h.mv (c' := (nd1, c.2)) e4 e10 (by omega) (by omega) (fun j w1 w2 => hI j (by omega) (by omega)) (fun _ w => w.1) e5 rfl e6 (by omega) (by omega) hnd1 e7.2.2.2.2.1
  have r2a := e4.R r2 hl3 (Or.inr (Nat.le_refl _))
  have s1 : ∀ k j, 30 ≤ k → k ≤ 38 → j < c.nd → (j < l1 ∨ l2 ≤ j) → t1.2 k j = st.2 k j := fun k j w1 w2 w3 w4 => e4.2 k j (fun _ => by omega) (fun _ => by omega) (fun _ => by omega) (fun _ => by omega) (by omega) (fun _ => by omega) (by omega)
  have hsh : shp (scEnv sc) = List.replicate sc.length true := scEnv_shp sc hs
  have hgV := scEnv_gV sc hs
  have J43 : fI t1 43 = iI (ns : Int) := h2.2.2.2.1.2
  refine ⟨fun _ => ?_, fun w => absurd e7.2.2.2.1 w⟩
  obtain ⟨l', rfl⟩ : ∃ l', lev = l' + 1 := ⟨lev - 1, by omega⟩
  rw [e14, e15]
  refine tX5_bind ⟨inn, inn, by rw [J43]; exact iI_in (by omega) (by omega), ?_⟩
  obtain ⟨t2, g0, g1, g2, g3, g4, g5, g6, g7, g8, g9, g10⟩ := bindS (ch := ch) (lo := nn) (hi := nn + 1) (nb := nn) (v1 := iI (tn : Int)) (v2 := iI so) e7 J43 (by omega) (by omega) (Nat.le_refl _) (Nat.lt_succ_self _)
  rw [← g0]
  have s2 : ∀ k j, 30 ≤ k → k ≤ 38 → t2.2 k j = t1.2 k j := fun k j w1 w2 => g5 k j (by omega)
  refine ⟨inn, inn, ?_⟩
  rw [aI_n (by omega), aI_n (by omega), s2 32 nn (by omega) (by omega), s2 33 nn (by omega) (by omega), s1 32 nn (by omega) (by omega) hnn (by omega), s1 33 nn (by omega) (by omega) hnn (by omega), a9, a10]
  obtain ⟨kb, k2, k3, k4, k5, k6⟩ := e8
  have kw := kb.1
  have kw2 := kb.2.1
  have hq1 : q < ce1 := h2.2.2.2.2.2.1
  refine m_cell (by omega) g1 (by omega) hq1 (fun t3 J3 F3 c1 c2 c3 c4 c5 c6 => ?_)
  have F13 : mjf nn (nn + 1) nd1 ce1 ns ch t1 t3 := g2.t2 F3.toJ (Nat.le_refl _) (Nat.le_refl _) (Nat.le_refl _) (Nat.le_refl _)
  have in8 : cutE E l1 l2 nn := ⟨hI nn a1 a2, by omega⟩
  have A13 : ag (cutE E l1 l2) nd1 ce1 t1 t3 := F13.ag (fun j w1 w2 => by
    have e : j = nn := by omega
    subst e
    exact in8)
  have h3 : JM l2 l3 (cutE E l1 l2) (nd1, c.2) (ce1 + 1) t3 X J TN ((vClo ua (scEnv sc), ty, r, so) :: sc) ((nn, some pb) :: bl) ce1 (ns + 1) :=
    h2.put (x0 := x0) (nt := tn) (un := u) hnd1 e7.2.2.2.2.2 A13 F13 (fun k j w => by rw [c6 k j (by omega), g5 k j (by omega)]) (fun k j w1 w2 => by rw [c6 k j (by omega), g6 k j w1 w2]) J3.2.2.2.2.1 ((c5 43 (by omega)).trans g3) (by rw [c6 40 _ (by omega)]; exact g7) (by rw [c6 41 _ (by omega)]; exact g8) (by rw [c6 42 _ (by omega)]; exact g9) (fun j w => by rw [c6 42 _ (by omega)]; exact g10 j w) c1 c2 c3 c4 ⟨by show nn < nd1; omega, by omega, nid⟩ ⟨by show x0 < nd1; omega, by omega, p4, by rw [s1 31 nn (by omega) (by omega) hnn (by omega)]; exact p5, by rw [s1 31 x0 (by omega) (by omega) hx0 (by omega)]; exact p6, by rw [s1 32 x0 (by omega) (by omega) hx0 (by omega)]; exact p7⟩ e16 e12
  have hE1 : ∀ j, cutE E l1 l2 j → 8 ≤ j ∧ j < nd1 := fun j w => by have := hE j w.1; omega
  have hIb : ∀ j, l2 ≤ j → j < l3 → cutE E l1 l2 j := fun j w1 w2 => ⟨hI j (by omega) (by omega), Or.inr w1⟩
  have F1 : mjf lo hi c.nd ce ns ch st t3 := (e4.wk (lo := lo) (hi := hi) (by omega) (by omega)).t2 (F13.wk (by omega) (by omega)) e5 e6 (Nat.le_refl _) (Nat.le_refl _)
  have r2b : mR TN t3 b (some pb :: bl.map (fun z => z.2)) v l2 l3 none := F13.R r2a (by omega) (by omega)
  have t59 : fI t3 59 = iI (ch : Int) := by rw [show fI t3 59 = fI t2 59 from c5 59 (by omega), g4 59 (by omega)]; exact e11.trans h59
  have gw : gSc c.ns (z + rB d) ((vClo ua (scEnv sc), ty, r, so) :: sc) := ⟨⟨by rw [hsh]; exact e13, hgV⟩, (fun w => by cases w), e17, hs.le (by omega)⟩
  refine ih (l' + 1) (by omega) (cutE E l1 l2) (nd1, c.2) b v l2 l3 ((vClo ua (scEnv sc), ty, r, so) :: sc) ((nn, some pb) :: bl) ce1 K1 t3 (ce1 + 1) (x + rN d + 1) (y + 1) (ns + 1) ch (z + rB d) _ r2b hg2 hIb hE1 h3 gw (fun k hk => Nat.le_trans (hz k hk) (Nat.le_add_right _ _)) (by show sc.length + 1 + n ≤ 300; omega) J3 ⟨kb, k2, by omega, by omega, k5, by omega⟩ (by omega) (by omega) (by omega) (by show nd1 + _ + _ ≤ _; omega) t59 (by omega) (by omega) (fun t4 K4 nd4 ce4 ub cty cr so4 tn4 i1 i2 i3 i4 i5 i6 i7 i8 i9 i10 i11 i12 i13 i14 i15 i16 => ?_) (fun t4 K4 e p' i1 i2 i3 i4 => er _ K4 e p' (by rw [sJudge_let, e1]; show jBind (sJudge X J n b ((vClo ua (scEnv sc), ty, r, so) :: sc) K1) _ = _; rw [i1]; rfl) (by omega) ((F1.tr i3 (Nat.le_refl _) (Nat.le_refl _) (by omega) (by omega) e5 (by omega) (by omega) (Nat.le_refl _)).t2 (mjf.put (nd := c.nd) (ce := ce) (ns := ns) (ch := ch) (by omega)) (Nat.le_refl _) (Nat.le_refl _) (Nat.le_refl _) (Nat.le_refl _)) (i4.put (by omega)))
  -- the rest is judged
  have i4' : nd1 ≤ nd4 := i4
  have hnd4 : nd4 ≤ 140000 := i7.2.1
  have F4 : mjf lo hi c.nd ce ns ch st t4 := F1.tr i3 (Nat.le_refl _) (Nat.le_refl _) (by omega) (by omega) e5 (by omega) (by omega) (Nat.le_refl _)
  have s4 : ∀ k j, 30 ≤ k → k ≤ 38 → j < nd1 → (j < l2 ∨ l3 ≤ j) → t4.2 k j = t3.2 k j := fun k j w1 w2 w3 w4 => i3.2 k j (fun _ => ⟨w3, by omega⟩) (fun _ => by omega) (fun _ => by omega) (fun _ => by omega) (by omega) (fun _ => by omega) (by omega)
  have sn : ∀ k, 30 ≤ k → k ≤ 38 → t4.2 k nn = st.2 k nn := fun k w1 w2 => by rw [s4 k nn w1 w2 (by omega) (by omega), c6 k nn (by omega), s2 k nn w1 w2, s1 k nn w1 w2 hnn (by omega)]
  have eS : sJudge X J (n + 1) (.tag f (.tag p (.group (.append d b) .allOrNone))) sc K = (K4, .ok (.tag 1 (.append ua ub), if sc.length < vlen cr then (.group cty .fill, scEnv sc, so4) else (cty, cr, so4))) := by
    rw [sJudge_let, e1]; show jBind (sJudge X J n b ((vClo ua (scEnv sc), ty, r, so) :: sc) K1) _ = _; rw [i1]; rfl
  have e43 : fI t4 43 - iI 1 = iI (ns : Int) := by rw [i9, h3.2.2.2.1.2, iI_prd]
  have J5 : MJ (mput 43 (fI t4 43 - iI 1) t4) X K4 nd4 ce4 0 := i6.putx (by omega)
  have F5 : mjf lo hi c.nd ce ns ch st (mput 43 (fI t4 43 - iI 1) t4) := F4.t2 (mjf.put (nd := c.nd) (ce := ce) (ns := ns) (ch := ch) (by omega)) (Nat.le_refl _) (Nat.le_refl _) (Nat.le_refl _) (Nat.le_refl _)
  have v43 : fI (mput 43 (fI t4 43 - iI 1) t4) 43 = fI st 43 := by rw [fI_self, e43]; exact h.2.2.2.1.2.symm
  have v59 : fI (mput 43 (fI t4 43 - iI 1) t4) 59 = fI st 59 := by rw [fI_put (by omega)]; exact i10.trans (t59.trans h59.symm)
  have v60 : fI (mput 43 (fI t4 43 - iI 1) t4) 60 = iI (tn4 : Int) := by rw [fI_put (by omega)]; exact i13
  have v61 : fI (mput 43 (fI t4 43 - iI 1) t4) 61 = iI so4 := by rw [fI_put (by omega)]; exact i14
  have ar : ∀ k j, (mput 43 (fI t4 43 - iI 1) t4).2 k j = t4.2 k j := fun _ _ => rfl
  show Q (.returned none) (mput 43 (fI t4 43 - iI 1) t4)
  generalize mput 43 (fI t4 43 - iI 1) t4 = tF at J5 F5 v43 v59 v60 v61 ar
  have A4F : ∀ E' : Nat → Prop, ag E' nd4 ce4 t4 tF := fun E' k j _ => ar k j
  have A1F : ag (cutE E l1 l2) nd1 ce1 t1 tF := A13.tr ((i3.ag hIb).tr (A4F (cutE E l1 l2)) (fun _ w => w) i4 i5) (fun _ w => w) (Nat.le_refl _) (Nat.le_succ _)
  obtain ⟨kb, k2, k3, k4, k5, k6⟩ := i7
  have subE : ∀ j, cutE E lo hi j → cutE E l1 l2 j := fun j w => ⟨w.1, by have := w.2; omega⟩
  have subE2 : ∀ j, cutE E lo hi j → cutE (cutE E l1 l2) l2 l3 j := fun j w => ⟨subE j w, by have := w.2; omega⟩
  obtain ⟨mm, y1, y2⟩ := i15
  have vl : vlen cr = sc.length + 1 - mm := by rw [y1, vlen_drop, scEnv_len]; rfl
  have fin : ∀ ty' r', (if sc.length < vlen cr then ((.group cty .fill, scEnv sc, so4) : V × V × Int) else (cty, cr, so4)) = (ty', r', so4) → mTy (cutE E lo hi) (nd4, c.2) ce4 tF sc bl ty' r' tn4 → tyG c.ns (z + (rB d + rB b + 1)) (scEnv sc) ty' r' so4 → Q (.returned none) tF := fun ty' r' hif hT hG => by
    rw [hif] at eS
    refine ok tF K4 nd4 ce4 (.tag 1 (.append ua ub)) ty' r' so4 tn4 eS (by omega) F5 (by omega) (by omega) J5 ⟨kb, by omega, by omega, by omega, k5, by omega⟩ (by omega) v43 v59 (fun st'' ha => ?_) ⟨e13, i12⟩ v60 v61 hT hG
    have hz : ∀ k, 30 ≤ k → k ≤ 38 → st''.2 k nn = st.2 k nn := fun k w1 w2 => (ha k nn (Or.inr (Or.inl ⟨w1, w2, by omega, fun w => by have := w.2; omega⟩))).trans ((ar k nn).trans (sn k w1 w2))
    have d1 := e12 st'' (A1F.tr ha subE i4' (by omega))
    have d2 := i11 st'' ((A4F _).tr ha subE2 (Nat.le_refl _) (Nat.le_refl _))
    exact ⟨by show nn < nd4; omega, by rw [hz 30 (by omega) (by omega)]; exact a3, u, v, nn, by rw [hz 32 (by omega) (by omega)]; exact a9, by rw [hz 33 (by omega) (by omega)]; exact a10, by rw [hz 38 (by omega) (by omega)]; exact a6, by show nn < nd4; omega, nid, mT_up (c := (nd1, c.2)) (c' := (nd4, c.2)) i4' rfl d1, d2⟩
  by_cases hgt : sc.length < vlen cr
  · have hm0 : mm = 0 := by omega
    subst hm0
    refine fin (.group cty .fill) (scEnv sc) (if_pos hgt) ⟨0, rfl, fun st'' ha => ?_⟩ ⟨⟨0, rfl⟩, ?_, hgV, i16.2.2.2.1, i16.2.2.2.2.1, ?_⟩
    · show mT (nd4, c.2) st'' (.group cty .fill) (tgs sc bl) tn4 none
      rw [mT_snk]
      exact y2 st'' ((A4F _).tr ha subE2 (Nat.le_refl _) (Nat.le_refl _))
    · rw [gT_snk]
      refine ⟨rfl, ?_⟩
      have := i16.2.1
      rw [y1] at this
      exact this
    · have := i16.2.2.2.2.2
      rw [sw_snk]; omega
  · obtain ⟨m', rfl⟩ : ∃ m', mm = m' + 1 := ⟨mm - 1, by omega⟩
    exact fin cty cr (if_neg hgt) ⟨m', y1, fun st'' ha => y2 st'' ((A4F _).tr ha subE2 (Nat.le_refl _) (Nat.le_refl _))⟩ ⟨⟨m', y1⟩, i16.2.1, i16.2.2.1, i16.2.2.2.1, i16.2.2.2.2.1, by have := i16.2.2.2.2.2; omega⟩
end MJE
