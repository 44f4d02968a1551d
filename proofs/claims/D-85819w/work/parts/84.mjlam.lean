/-! M OVER S (24): judging: lambda -/
section MJL
variable {P : MPl} {s0 : State} {l : Launch} {XX : Prop} {lev n m : Nat} {Q : Outcome → MSt → Prop} {st st' st'' st2 st0 : MSt} {X : SX} {J : JX} {K K' : KS} {nd nd' ce ce' wa x y lo hi lo' hi' lo1 hi1 lo2 hi2 ns ns' ch ch' q z : Nat} {c c' : MC} {M M' : Nat → Int → Prop} {E E' : Nat → Prop} {TN : Nat → List Nat} {sc : SC} {bl : List (Nat × Option Nat)}
/-- fewer nodes are left to be judged -/
theorem JM.sub (h : JM lo hi E c ce st X J TN sc bl q ns) (b1 : lo ≤ lo') (b2 : hi' ≤ hi) (hlh : lo ≤ hi) (hE : ∀ j, E' j → E j) : JM lo' hi' E' c ce st X J TN sc bl q ns :=
  h.mv (ch := 0) (lo2 := lo) (hi2 := lo) mjf.rf rfl (Nat.le_refl _) hlh (fun j a b => by omega) hE (Nat.le_refl _) rfl (Nat.le_refl _) b1 b2 h.at.1.2.2.2 h.2.2.2.2.1
/-- the machine was asked -/
theorem JM.mf (h : JM lo hi E c ce st X J TN sc bl q ns) (hf : mfr c.nd ce wa st st') (h1 : c.nd ≤ nd') (h3 : ce ≤ ce') (hn : nd' ≤ 140000) (hc : mch st' ce') (hlh : lo ≤ hi) : JM lo hi E (nd', c.2) ce' st' X J TN sc bl q ns :=
  h.mv (ch := 0) (lo2 := lo) (hi2 := lo) (c' := (nd', c.2)) hf.toJ (hf.1 43 (by omega)) (Nat.le_refl _) hlh (fun j a b => by omega) (fun _ w => w) h1 rfl h3 (Nat.le_refl _) (Nat.le_refl _) hn hc
theorem mT_lifted {ty r env : V} {g : List Nat} {m tn : Nat} (hl : g.length = vlen env) (hr : r = vdrop m env) (h : mT c st ty (g.drop m) tn none) : mT c st (jLifted ty r (vlen env)) g tn none := by
  have e1 : vlen r = vlen env - m := by rw [hr, vlen_drop]
  unfold jLifted
  split
  · rename_i hk
    by_cases hm : m = 0
    · subst hm; exact h
    · have : g = [] := List.eq_nil_of_length_eq_zero (by omega)
      subst this
      simpa using h
  · show mT c st ty (g.drop (vlen env - vlen r)) tn none
    by_cases hm : m ≤ vlen env
    · rw [show vlen env - vlen r = m by omega]; exact h
    · rw [List.drop_of_length_le (by omega)] at h
      rw [List.drop_of_length_le (by omega)]
      exact h
theorem m_jlam {f p nn : Nat} {d b : V} (ih : ∀ lev, 3 * n + 230 ≤ lev → MJd P s0 l XX X J TN lev n) (hlv : 3 * n + 232 ≤ lev) (hr : mR TN st (.tag f (.tag p (.append d b))) (bl.map (fun z => z.2)) nn lo hi none) (hg1 : rG d 0 sc.length n) (hg2 : rG b 0 (sc.length + 1) n) (hI : ∀ j, lo ≤ j → j < hi → E j) (hE : ∀ j, E j → 8 ≤ j ∧ j < c.nd) (h : JM lo hi E c ce st X J TN sc bl q ns) (hs : gSc c.ns z sc) (hz : ∀ k, k < c.nc → sw (J.ct k) ≤ z) (hd : sc.length + (n + 1) ≤ 300) (hJ : MJ st X K c.nd ce 0) (hK : MK X K c.nd ce 0 x) (hx : 202 ≤ x) (hx2 : x + (rN d + rN b + 1) ≤ 29000) (hy : 203 ≤ y) (hy2 : c.nd + 2 * (60000 - K.life) + (y + (rN d + rN b + 1)) ≤ 140000) (h59 : fI st 59 = iI (ch : Int)) (hch : ch + (rN d + rN b + 1) ≤ 4000) (hns : ns + max (rD d) (rD b + 1) ≤ 50)
    (ok : ∀ st' K' nd' ce' u ty r so tn, sJudge X J (n + 1) (.tag f (.tag p (.append d b))) sc K = (K', .ok (u, ty, r, so)) → K.life ≤ K'.life → mjf lo hi c.nd ce ns ch st st' → c.nd ≤ nd' → ce ≤ ce' → MJ st' X K' nd' ce' 0 → MK X K' nd' ce' 0 (x + (rN d + rN b + 1)) → nd' + 2 * (60000 - K'.life) + y ≤ 140000 → fI st' 43 = fI st 43 → fI st' 59 = fI st 59 → (∀ st'', ag (cutE E lo hi) nd' ce' st' st'' → mT (nd', c.2) st'' u (bl.map (fun z => z.1)) nn none) → gT u false (List.replicate sc.length true) → fI st' 60 = iI ((tn : Nat) : Int) → fI st' 61 = iI so → mTy (cutE E lo hi) (nd', c.2) ce' st' sc bl ty r tn → tyG c.ns (z + (rB d + rB b)) (scEnv sc) ty r so → Q (.returned none) st')
    (er : ∀ st' K' e p', sJudge X J (n + 1) (.tag f (.tag p (.append d b))) sc K = (K', .error (e, p')) → K.life ≤ K'.life → mjf lo hi c.nd ce ns ch st st' → MZj st' X K' e p' → Q (.returned none) st') : CQ (wM P s0 l XX) mX5_judgeLambda lev (.ref P.mo :: [.int (iI (nn : Int)), .int (iI (q : Int))]) st Q := by
  obtain ⟨l', rfl⟩ : ∃ l', lev = l' + 2 := ⟨lev - 2, by omega⟩
  obtain ⟨a1, a2, a3, a4, a5, a6, u, v, l1, l2, l3, o, ⟨b1, b2, b3, b4, b5⟩, ho, hnm, a9, a10, r1, r2⟩ := hr
  obtain ⟨x0, pb, rfl, p1, p2, p3, p4, p5, p6, p7⟩ : ∃ x p : Nat, o = some p ∧ lo ≤ x ∧ x < hi ∧ (x < l1 ∨ l3 ≤ x) ∧ p < 4000 ∧ st.2 31 nn = iI (x : Int) ∧ st.2 31 x = iI (p : Int) ∧ st.2 32 x = iI ((TN p).length : Int) := by
    rcases hnm with ⟨w, -⟩ | w
    · exact absurd w ho
    · exact w
  have h14 := h.at.1.2.2.2
  have hns8 : c.ns ≤ 8 := h.at.1.2.2.1
  have hB := h.1
  have hSc := h.2.2.1
  have hnn : nn < c.nd := (hE nn (hI nn a1 a2)).2
  have hx0 : x0 < c.nd := (hE x0 (hI x0 p1 p2)).2
  have hu := mR_lt r1
  have hvv := mR_lt r2
  have hl3 : l3 ≤ c.nd := by
    by_cases w : l3 = 0
    · omega
    · have := (hE (l3 - 1) (hI (l3 - 1) (by omega) (by omega))).2; omega
  have inn : inr (iI (nn : Int)) 140000 := iI_in (by omega) (by omega)
  have nid : nn ∉ bl.map (fun z => z.1) := fun w => by have := (mSc_at hSc nn w).2; omega
  refine tX5_judgeLambda ⟨inn, ?_⟩
  rw [aI_n (by omega), a9]
  have h1 : JM l1 l2 E c ce st X J TN sc bl q ns := h.sub (by omega) (by omega) (by omega) (fun _ w => w)
  refine m_jsort (y := y + rN b + 1) (ch := ch) (ih l' (by omega)) (by omega) r1 hg1 (fun j w1 w2 => hI j (by omega) (by omega)) hE h1 hs hz (by omega) hJ hK hx (by omega) (by omega) (by omega) h59 (by omega) (by omega) (fun t1 K1 nd1 ce1 ua sa e1 e2 e3 e4 e5 e6 e7 e8 e9 e10 e11 e12 e13 => ?_) (fun t1 K1 e p' e1 e2 e3 e4 => ⟨fun w => absurd w e4.ne, fun _ => ⟨fun w => absurd w e4.ne, fun _ => er t1 K1 e p' (by rw [sJudge_lam, e1]; rfl) e2 (e3.wk (by omega) (by omega)) e4⟩⟩)
  -- the domain is judged
  have hnd1 : nd1 ≤ 140000 := e8.2.1
  have h2 : JM l2 l3 (cutE E l1 l2) (nd1, c.2) ce1 t1 X J TN sc bl q ns := h.mv (c' := (nd1, c.2)) e4 e10 (by omega) (by omega) (fun j w1 w2 => hI j (by omega) (by omega)) (fun _ w => w.1) e5 rfl e6 (by omega) (by omega) hnd1 e7.2.2.2.2.1
  have r2a := e4.R r2 hl3 (Or.inr (Nat.le_refl _))
  have s1 : ∀ k j, 30 ≤ k → k ≤ 38 → j < c.nd → (j < l1 ∨ l2 ≤ j) → t1.2 k j = st.2 k j := fun k j w1 w2 w3 w4 => e4.2 k j (fun _ => by omega) (fun _ => by omega) (fun _ => by omega) (fun _ => by omega) (by omega) (fun _ => by omega) (by omega)
  refine ⟨fun _ => ⟨inn, ?_⟩, fun w => absurd e7.2.2.2.1 w⟩
  rw [aI_n (by omega), s1 32 nn (by omega) (by omega) hnn (by omega), a9]
  have hsh : shp (scEnv sc) = List.replicate sc.length true := scEnv_shp sc hs
  have hgV := scEnv_gV sc hs
  have gk1 : gKv (vClo ua (scEnv sc)) := ⟨ua, scEnv sc, rfl, by rw [hsh]; exact gT_up _ _ _ e13, hgV⟩
  refine m_jnorm (c := (nd1, c.2)) (y := y + rN b + 1) (x := x + rN d) (by omega) h2 (h2.C (e12 t1 ag.rf)) gk1 (by omega) e7 e8 (by omega) (by omega) (by omega) (by show nd1 + _ + _ ≤ _; omega) (fun t2 K2 nd2 ce2 t nt f1 f2 f3 f4 f5 f6 f7 f8 f9 f10 => ?_) (fun t2 K2 e r f1 f2 f3 f4 => ⟨fun w => absurd w f4.ne, fun _ => er t2 K2 e (-1) (by rw [sJudge_lam, e1]; show jBind (jNormal X ua sc K1) _ = _; rw [show jNormal X ua sc K1 = _ from f1]; rfl) (by omega) ((e4.wk (lo := lo) (hi := hi) (by omega) (by omega)).t2 f3.toJ e5 e6 (Nat.le_refl _) (Nat.le_refl _)) f4⟩)
  -- its normal form is made
  have f4' : nd1 ≤ nd2 := f4
  have hnd2 : nd2 ≤ 140000 := f7.2.1
  have h3 : JM l2 l3 (cutE E l1 l2) (nd2, c.2) ce2 t2 X J TN sc bl q ns := h2.mf (c := (nd1, c.2)) f3 f4 f5 hnd2 f6.2.2.2.2.1 b3
  have s2 : ∀ k j, 30 ≤ k → k ≤ 38 → j < nd1 → t2.2 k j = t1.2 k j := fun k j w1 w2 w3 => f3.2 k j (fun _ => w3) (fun _ => by omega) (fun _ => by omega) (by omega)
  have hE1 : ∀ j, cutE E l1 l2 j → 8 ≤ j ∧ j < nd1 := fun j w => by have := hE j w.1; omega
  have ft := f9 (cutE E l1 l2) hE1
  have J43 : fI t2 43 = iI (ns : Int) := h3.2.2.2.1.2
  refine ⟨fun _ => tX5_bind ⟨inn, inn, by rw [J43]; exact iI_in (by omega) (by omega), ?_⟩, fun w => absurd f6.2.2.2.1 w⟩
  obtain ⟨t3, g0, g1, g2, g3, g4, g5, g6, g7, g8, g9, g10⟩ := bindS (ch := ch) (lo := nn) (hi := nn + 1) (nb := nn) (v1 := iI (nt : Int)) (v2 := iI (sa : Int)) f6 J43 (by omega) (by omega) (Nat.le_refl _) (Nat.lt_succ_self _)
  rw [← g0]
  refine ⟨inn, ?_⟩
  have s3 : ∀ k j, 30 ≤ k → k ≤ 38 → t3.2 k j = t2.2 k j := fun k j w1 w2 => g5 k j (by omega)
  rw [aI_n (by omega), s3 33 nn (by omega) (by omega), s2 33 nn (by omega) (by omega) (by omega), s1 33 nn (by omega) (by omega) hnn (by omega), a10]
  have h4 : JM l2 l3 (cutE E l1 l2) (nd2, c.2) ce2 t3 X J TN (jWith t sa sc) ((nn, some pb) :: bl) q (ns + 1) := h3.bind (x0 := x0) hnd2 g2 g3 g5 g6 g7 g8 g9 g10 ⟨by show nn < nd2; omega, by omega, nid⟩ ⟨by show x0 < nd2; omega, by omega, p4, by rw [s2 31 nn (by omega) (by omega) (by omega), s1 31 nn (by omega) (by omega) hnn (by omega)]; exact p5, by rw [s2 31 x0 (by omega) (by omega) (by omega), s1 31 x0 (by omega) (by omega) hx0 (by omega)]; exact p6, by rw [s2 32 x0 (by omega) (by omega) (by omega), s1 32 x0 (by omega) (by omega) hx0 (by omega)]; exact p7⟩ ⟨0, rfl, ft⟩
  have r2b := g2.R (f3.toJ.R (lo2 := 0) (hi2 := 0) (ns := ns) (ch := ch) r2a (by show l3 ≤ nd1; omega) (Or.inr (Nat.zero_le _))) (by omega) (by omega)
  have hw : gSc c.ns z (jWith t sa sc) := ⟨by rcases sc.length with _ | _ | _ | _ | k <;> trivial, (fun w => by cases w), ⟨⟨0, rfl⟩, gT_up _ _ _ f10, hgV, (by show (-1 : Int) ≤ (sa : Int); omega), (by show (sa : Int) < 8; omega), (by show sw t ≤ z; rw [sw_false _ _ f10]; omega)⟩, hs⟩
  have F13 : mjf lo hi c.nd ce ns ch st t3 := ((e4.wk (lo := lo) (hi := hi) (by omega) (by omega)).t2 f3.toJ e5 e6 (Nat.le_refl _) (Nat.le_refl _)).t2 (g2.wk (by omega) (by omega)) (by omega) (by omega) (Nat.le_refl _) (Nat.le_refl _)
  have g59 : fI t3 59 = iI (ch : Int) := by rw [g4 59 (by omega)]; exact (f3.1 59 (by omega)).trans (e11.trans h59)
  have hIb : ∀ j, l2 ≤ j → j < l3 → cutE E l1 l2 j := fun j w1 w2 => ⟨hI j (by omega) (by omega), Or.inr w1⟩
  refine ih (l' + 1) (by omega) (cutE E l1 l2) (nd2, c.2) b v l2 l3 (jWith t sa sc) ((nn, some pb) :: bl) q K2 t3 ce2 (x + rN d) (y + 2) (ns + 1) ch z _ r2b hg2 hIb (fun j w => by have := hE1 j w; exact ⟨this.1, by show j < nd2; omega⟩) h4 hw hz (by show sc.length + 1 + n ≤ 300; omega) g1 f7 (by omega) (by omega) (by omega) (by show nd2 + _ + _ ≤ _; omega) g59 (by omega) (by omega) (fun t4 K4 nd4 ce4 ub cty cr so tn i1 i2 i3 i4 i5 i6 i7 i8 i9 i10 i11 i12 i13 i14 i15 i16 => ?_) (fun t4 K4 e p' i1 i2 i3 i4 => ⟨fun w => absurd w i4.ne, fun _ => er _ K4 e p' (by rw [sJudge_lam, e1]; show jBind (jNormal X ua sc K1) _ = _; rw [show jNormal X ua sc K1 = _ from f1]; show jBind (sJudge X J n b (jWith t sa sc) K2) _ = _; rw [i1]; rfl) (by omega) ((F13.tr i3 (Nat.le_refl _) (Nat.le_refl _) (by omega) (by omega) (by show c.nd ≤ nd2; omega) (by omega) (by omega) (Nat.le_refl _)).t2 (mjf.put (nd := c.nd) (ce := ce) (ns := ns) (ch := ch) (by omega)) (Nat.le_refl _) (Nat.le_refl _) (Nat.le_refl _) (Nat.le_refl _)) (i4.put (by omega))⟩)
  -- the body is judged
  have i4' : nd2 ≤ nd4 := i4
  have hnd4 : nd4 ≤ 140000 := i7.2.1
  have F14 : mjf lo hi c.nd ce ns ch st t4 := F13.tr i3 (Nat.le_refl _) (Nat.le_refl _) (by omega) (by omega) (by show c.nd ≤ nd2; omega) (by omega) (by omega) (Nat.le_refl _)
  have s4 : ∀ k j, 30 ≤ k → k ≤ 38 → j < nd2 → (j < l2 ∨ l3 ≤ j) → t4.2 k j = t3.2 k j := fun k j w1 w2 w3 w4 => i3.2 k j (fun _ => ⟨w3, by omega⟩) (fun _ => by omega) (fun _ => by omega) (fun _ => by omega) (by omega) (fun _ => by omega) (by omega)
  have sn : ∀ k, 30 ≤ k → k ≤ 38 → t4.2 k nn = st.2 k nn := fun k w1 w2 => by rw [s4 k nn w1 w2 (by omega) (by omega), s3 k nn w1 w2, s2 k nn w1 w2 (by omega), s1 k nn w1 w2 hnn (by omega)]
  have eS : sJudge X J (n + 1) (.tag f (.tag p (.append d b))) sc K = if so = -1 then (K4, .error (7, (p : Int))) else if J.ru sa so.toNat = -1 then (K4, .error (9, (p : Int))) else (K4, .ok (.tag 0 (.append ua ub), .tag (8 * sa + so.toNat) (.group (.append t (jLifted cty cr (sc.length + 1))) .fill), scEnv sc, J.ru sa so.toNat)) := by
    rw [sJudge_lam, e1]; show jBind (jNormal X ua sc K1) _ = _; rw [show jNormal X ua sc K1 = _ from f1]; show jBind (sJudge X J n b (jWith t sa sc) K2) _ = _; rw [i1]; rfl
  have e43 : fI t4 43 - iI 1 = iI (ns : Int) := by rw [i9, g3, iI_prd]
  have J5 : MJ (mput 43 (fI t4 43 - iI 1) t4) X K4 nd4 ce4 0 := i6.putx (by omega)
  have F5 : mjf lo hi c.nd ce ns ch st (mput 43 (fI t4 43 - iI 1) t4) := F14.t2 (mjf.put (nd := c.nd) (ce := ce) (ns := ns) (ch := ch) (by omega)) (Nat.le_refl _) (Nat.le_refl _) (Nat.le_refl _) (Nat.le_refl _)
  have wr : ∀ (e : Nat), 0 < e ∧ e < 100 → sJudge X J (n + 1) (.tag f (.tag p (.append d b))) sc K = (K4, .error (e, (p : Int))) → CQ (wM P s0 l XX) mX5_wrong (l' + 1) (.ref P.mo :: [.int (iI (e : Int)), .int (aI t4 35 (iI (nn : Int)))]) (mput 43 (fI t4 43 - iI 1) t4) (onV (fun t => Q (.returned none) t) (fun x t => Q (.threw x) t)) := fun e he hS => by
    rw [aI_n (by omega), sn 35 (by omega) (by omega), a5]
    exact m_wrong (by omega) J5 he (by omega) (fun t6 z1 z2 => er t6 K4 e p hS (by omega) (F5.t2 z2 (Nat.le_refl _) (Nat.le_refl _) (Nat.le_refl _) (Nat.le_refl _)) z1)
  refine ⟨fun _ => ?_, fun w => absurd i6.2.2.2.1 w⟩
  have hso1 := i16.2.2.2.1
  have hso2 : so < 8 := i16.2.2.2.2.1
  rw [i14]
  by_cases hso : so = -1
  · rw [if_pos hso] at eS
    have w0 : ¬ (0 : Int32) ≤ iI so := fun w => by rw [iI_z, iI_le (by omega) (by omega) (by omega) (by omega)] at w; omega
    exact ⟨fun w => absurd w w0, fun _ => ⟨fun w => absurd w w0, fun _ => ⟨inn, wr 7 (by omega) eS⟩⟩⟩
  obtain ⟨sb, rfl⟩ : ∃ sb : Nat, so = (sb : Int) := ⟨so.toNat, by omega⟩
  rw [if_neg hso, Int.toNat_natCast] at eS
  have w0 : (0 : Int32) ≤ iI (sb : Int) := by rw [iI_z, iI_le (by omega) (by omega) (by omega) (by omega)]; omega
  have ei : iI 8 * iI (sa : Int) + iI (sb : Int) = iI ((8 * sa + sb : Nat) : Int) := by rw [iI_mul, iI_add]; congr 1
  have hB4 : mTb (nd2, c.2) t4 X J TN := h4.1.mv i3 rfl
  obtain ⟨ru1, ru2, ru3⟩ := hB4.2.2.2.1 sa sb (by omega) (by omega)
  have ru3' : J.ru sa sb < (c.ns : Int) := ru3
  have er19 : aI t4 19 (iI 8 * iI (sa : Int) + iI (sb : Int)) = iI (J.ru sa sb) := by rw [ei, aI_n (by omega)]; exact ru1
  refine ⟨fun _ => ⟨by rw [ei]; exact iI_in (by omega) (by omega), ?_⟩, fun w => absurd w0 w⟩
  rw [er19]
  by_cases hru : J.ru sa sb = -1
  · rw [if_pos hru] at eS
    have w1 : ¬ (0 : Int32) ≤ iI (J.ru sa sb) := fun w => by rw [iI_z, iI_le (by omega) (by omega) (by omega) (by omega)] at w; omega
    exact ⟨fun w => absurd w w1, fun _ => ⟨fun _ => ⟨inn, wr 9 (by omega) eS⟩, fun w => absurd w0 w⟩⟩
  rw [if_neg hru] at eS
  refine ⟨fun _ => ?_, fun w => absurd (by rw [iI_z, iI_le (by omega) (by omega) (by omega) (by omega)]; omega) w⟩
  rw [i13]
  -- the type is made
  have k15 : fI (mput 43 (fI t4 43 - iI 1) t4) 15 = iI 1 := by rw [fI_put (by omega)]; exact hB4.1.1
  refine m_node (by omega) k15 J5 (by omega) (fun t6 J6 F6 m1 m2 m3 m4 m5 m6 m7 => ?_)
  have in4 : inr (iI (nd4 : Int)) 140000 := iI_in (by omega) (by omega)
  refine ⟨in4, in4, in4, tX5_becomes ?_⟩
  have F6' : mjf lo hi nd4 ce4 ns ch (mput 43 (fI t4 43 - iI 1) t4) t6 := F6.toJ
  have J7 : MJ (mput 61 (iI (J.ru sa sb)) (mput 60 (iI (nd4 : Int)) (mst 37 (iI (nd4 : Int)) (iI (sb : Int)) (mst 36 (iI (nd4 : Int)) (iI (sa : Int)) (mst 38 (iI (nd4 : Int)) (iI (nn : Int)) t6))))) X K4 (nd4 + 1) ce4 0 := ((jmstx (jmstx (jmstx J6 (by omega) (by omega)) (by omega) (by omega)) (by omega) (by omega)).putx (by omega)).putx (by omega)
  have ar : ∀ k j, (mput 61 (iI (J.ru sa sb)) (mput 60 (iI (nd4 : Int)) (mst 37 (iI (nd4 : Int)) (iI (sb : Int)) (mst 36 (iI (nd4 : Int)) (iI (sa : Int)) (mst 38 (iI (nd4 : Int)) (iI (nn : Int)) t6))))).2 k j = if k = 37 ∧ j = nd4 then iI (sb : Int) else if k = 36 ∧ j = nd4 then iI (sa : Int) else if k = 38 ∧ j = nd4 then iI (nn : Int) else t6.2 k j := fun k j => by
    rw [mput_a, mput_a, mst_a (by omega), mst_a (by omega), mst_a (by omega)]
  have fr : ∀ k, k ≠ 60 → k ≠ 61 → fI (mput 61 (iI (J.ru sa sb)) (mput 60 (iI (nd4 : Int)) (mst 37 (iI (nd4 : Int)) (iI (sb : Int)) (mst 36 (iI (nd4 : Int)) (iI (sa : Int)) (mst 38 (iI (nd4 : Int)) (iI (nn : Int)) t6))))) k = fI t6 k := fun k w1 w2 => by rw [fI_put w2, fI_put w1]; rfl
  have v60 : fI (mput 61 (iI (J.ru sa sb)) (mput 60 (iI (nd4 : Int)) (mst 37 (iI (nd4 : Int)) (iI (sb : Int)) (mst 36 (iI (nd4 : Int)) (iI (sa : Int)) (mst 38 (iI (nd4 : Int)) (iI (nn : Int)) t6))))) 60 = iI (nd4 : Int) := by rw [fI_put (by omega), fI_self]
  have v61 : fI (mput 61 (iI (J.ru sa sb)) (mput 60 (iI (nd4 : Int)) (mst 37 (iI (nd4 : Int)) (iI (sb : Int)) (mst 36 (iI (nd4 : Int)) (iI (sa : Int)) (mst 38 (iI (nd4 : Int)) (iI (nn : Int)) t6))))) 61 = iI (J.ru sa sb) := fI_self
  have F7 : mjf lo hi nd4 ce4 ns ch t6 (mput 61 (iI (J.ru sa sb)) (mput 60 (iI (nd4 : Int)) (mst 37 (iI (nd4 : Int)) (iI (sb : Int)) (mst 36 (iI (nd4 : Int)) (iI (sa : Int)) (mst 38 (iI (nd4 : Int)) (iI (nn : Int)) t6))))) := ((((mjf.mst (by omega) (by omega)).t2 (mjf.mst (by omega) (by omega)) (Nat.le_refl _) (Nat.le_refl _) (Nat.le_refl _) (Nat.le_refl _)).t2 (mjf.mst (by omega) (by omega)) (Nat.le_refl _) (Nat.le_refl _) (Nat.le_refl _) (Nat.le_refl _)).t2 (mjf.put (by omega)) (Nat.le_refl _) (Nat.le_refl _) (Nat.le_refl _) (Nat.le_refl _)).t2 (mjf.put (by omega)) (Nat.le_refl _) (Nat.le_refl _) (Nat.le_refl _) (Nat.le_refl _)
  generalize mput 61 (iI (J.ru sa sb)) (mput 60 (iI (nd4 : Int)) (mst 37 (iI (nd4 : Int)) (iI (sb : Int)) (mst 36 (iI (nd4 : Int)) (iI (sa : Int)) (mst 38 (iI (nd4 : Int)) (iI (nn : Int)) t6)))) = tF at J7 ar fr v60 v61 F7
  have FF : mjf lo hi c.nd ce ns ch st tF := (F5.t2 F6' (by omega) (by omega) (Nat.le_refl _) (Nat.le_refl _)).t2 F7 (by omega) (by omega) (Nat.le_refl _) (Nat.le_refl _)
  have sF : ∀ k j, j ≠ nd4 ∨ k < 30 ∨ 38 < k → tF.2 k j = t4.2 k j := fun k j w => by rw [ar, if_neg (by omega), if_neg (by omega), if_neg (by omega), m7 k j (by omega)]; rfl
  have A4F : ∀ E' : Nat → Prop, ag E' nd4 ce4 t4 tF := fun E' k j hk => sF k j (by omega)
  have AB : ag (cutE E l1 l2) nd2 ce2 t2 t3 := g2.ag (E := cutE E l1 l2) (fun j w1 w2 => by
    have e : j = nn := by omega
    subst e
    exact ⟨hI j a1 a2, by omega⟩)
  have A1F : ag (cutE E l1 l2) nd1 ce1 t1 tF := ((f3.toJ (lo := 0) (hi := 0) (ns := 0) (ch := 0)).ag (fun j w1 w2 => by omega)).tr (AB.tr ((i3.ag hIb).tr (A4F (cutE E l1 l2)) (fun _ w => w) i4 i5) (fun _ w => w) (Nat.le_refl _) (Nat.le_refl _)) (fun _ w => w) f4 f5
  have hlen : (tgs sc bl).length = vlen (scEnv sc) := by rw [tgs_len (mSc_len hSc), scEnv_len]
  have sFn : ∀ k, 30 ≤ k → k ≤ 38 → tF.2 k nn = st.2 k nn := fun k w1 w2 => (sF k nn (by omega)).trans (sn k w1 w2)
  obtain ⟨kb, k2, k3, k4, k5, k6⟩ := i7
  have subE : ∀ j, cutE E lo hi j → cutE E l1 l2 j := fun j w => ⟨w.1, by have := w.2; omega⟩
  have subE2 : ∀ j, cutE E lo hi j → cutE (cutE E l1 l2) l2 l3 j := fun j w => ⟨subE j w, by have := w.2; omega⟩
  obtain ⟨mm, y1, y2⟩ := i15
  refine ok tF K4 (nd4 + 1) ce4 (.tag 0 (.append ua ub)) _ (scEnv sc) (J.ru sa sb) nd4 eS (by omega) FF (by omega) (by omega) J7 ⟨kb, by omega, by omega, by omega, k5, by omega⟩ (by omega) ?_ ?_ (fun st'' ha => ?_) ⟨e13, i12⟩ v60 v61 ⟨0, rfl, fun st'' ha => ?_⟩ ⟨⟨0, rfl⟩, ?_, hgV, ru2, by omega, ?_⟩
  · rw [fr 43 (by omega) (by omega)]
    refine (m6 43 (by omega)).trans ?_
    show fI (mput 43 _ t4) 43 = _
    rw [fI_self, e43]; exact h.2.2.2.1.2.symm
  · rw [fr 59 (by omega) (by omega)]
    refine (m6 59 (by omega)).trans ?_
    show fI (mput 43 _ t4) 59 = _
    rw [fI_put (by omega), i10, g59, h59]
  · have hz : ∀ k, 30 ≤ k → k ≤ 38 → st''.2 k nn = st.2 k nn := fun k w1 w2 => (ha k nn (Or.inr (Or.inl ⟨w1, w2, by omega, fun w => by have := w.2; omega⟩))).trans (sFn k w1 w2)
    have d1 := e12 st'' (A1F.tr ha subE (by omega) (by omega))
    have d2 := i11 st'' ((A4F _).tr ha subE2 (by omega) (Nat.le_refl _))
    exact ⟨by show nn < nd4 + 1; omega, by rw [hz 30 (by omega) (by omega)]; exact a3, u, v, nn, by rw [hz 32 (by omega) (by omega)]; exact a9, by rw [hz 33 (by omega) (by omega)]; exact a10, by rw [hz 38 (by omega) (by omega)]; exact a6, by show nn < nd4 + 1; omega, nid, mT_up (c := (nd1, c.2)) (c' := (nd4 + 1, c.2)) (by show nd1 ≤ nd4 + 1; omega) rfl d1, mT_up (c := (nd4, c.2)) (c' := (nd4 + 1, c.2)) (by show nd4 ≤ nd4 + 1; omega) rfl d2⟩
  · have ha : ag (cutE E lo hi) (nd4 + 1) ce4 tF st'' := ha
    have hz : ∀ k, 30 ≤ k → k ≤ 38 → st''.2 k nd4 = tF.2 k nd4 := fun k w1 w2 => ha k nd4 (Or.inr (Or.inl ⟨w1, w2, by show nd4 < nd4 + 1; omega, fun w => by have := hE _ w.1; omega⟩))
    have hm : ∀ k, 30 ≤ k → k ≤ 38 → k ≠ 36 → k ≠ 37 → k ≠ 38 → st''.2 k nd4 = t6.2 k nd4 := fun k w1 w2 w3 w4 w5 => by rw [hz k w1 w2, ar, if_neg (by omega), if_neg (by omega), if_neg (by omega)]
    have d1 := ft st'' ((AB.tr ((i3.ag hIb).tr (A4F (cutE E l1 l2)) (fun _ w => w) i4 i5) (fun _ w => w) (Nat.le_refl _) (Nat.le_refl _)).tr ha subE (by omega) (by omega))
    have d2 := y2 st'' ((A4F _).tr ha subE2 (by omega) (Nat.le_refl _))
    have d3 := mT_lifted (g := nn :: tgs sc bl) (env := scEnv (jWith t sa sc)) (by show (tgs sc bl).length + 1 = vlen (scEnv sc) + 1; rw [hlen]) y1 d2
    have el : vlen (scEnv (jWith t sa sc)) = sc.length + 1 := scEnv_len _
    rw [el] at d3
    show mT (nd4 + 1, c.2) st'' _ (tgs sc bl) nd4 none
    rw [mT_prod]
    refine ⟨by show nd4 < nd4 + 1; omega, by rw [hm 30 (by omega) (by omega) (by omega) (by omega) (by omega)]; exact m1, ?_, ?_, nt, tn, nn, by rw [hm 32 (by omega) (by omega) (by omega) (by omega) (by omega)]; exact m3, by rw [hm 33 (by omega) (by omega) (by omega) (by omega) (by omega)]; exact m4, ?_, by show nn < nd4 + 1; omega, fun w => ?_, mT_up (c := (nd2, c.2)) (c' := (nd4 + 1, c.2)) (by show nd2 ≤ nd4 + 1; omega) rfl d1, mT_up (c := (nd4, c.2)) (c' := (nd4 + 1, c.2)) (by show nd4 ≤ nd4 + 1; omega) rfl d3⟩
    · rw [hz 36 (by omega) (by omega), ar, if_neg (by omega), if_pos ⟨rfl, rfl⟩, show (8 * sa + sb) / 8 = sa by omega]
    · rw [hz 37 (by omega) (by omega), ar, if_pos ⟨rfl, rfl⟩, show (8 * sa + sb) % 8 = sb by omega]
    · rw [hz 38 (by omega) (by omega), ar, if_neg (by omega), if_neg (by omega), if_pos ⟨rfl, rfl⟩]
    · rcases mSc_tgs hSc nn w with w | w
      · exact nid w
      · omega
  · have e1 : ∀ g, gT (.tag (8 * sa + sb) (.group (.append t (jLifted cty cr (sc.length + 1))) .fill)) true g = (gT t false g ∧ gT (jLifted cty cr (sc.length + 1)) true (true :: g)) := fun g => by rcases (8 * sa + sb) with _ | _ | _ | p <;> rfl
    rw [e1]
    have e2 := gT_lifted y1 i16.2.1
    rw [scEnv_len] at e2
    exact ⟨f10, e2⟩
  · have e1 : sw (.tag (8 * sa + sb) (.group (.append t (jLifted cty cr (sc.length + 1))) .fill)) = sw (jLifted cty cr (sc.length + 1)) := by rcases (8 * sa + sb) with _ | _ | _ | p <;> rfl
    rw [e1, sw_lifted]
    have := i16.2.2.2.2.2
    omega
end MJL
