/-! M OVER S (27): judging: what a use is applied to -/
section MJA
variable {P : MPl} {s0 : State} {l : Launch} {XX : Prop} {lev n m : Nat} {Q : Outcome → MSt → Prop} {st st' st'' st2 st0 : MSt} {X : SX} {J : JX} {K K' : KS} {nd nd' ce ce' wa x y lo hi lo' hi' lo1 hi1 lo2 hi2 ns ns' ch ch' q z : Nat} {c c' : MC} {M M' : Nat → Int → Prop} {E E' : Nat → Prop} {TN : Nat → List Nat} {sc : SC} {bl : List (Nat × Option Nat)}
theorem gT_unw : ∀ (k : Nat) (t r : V), SizeOf.sizeOf t < k → gT t true (shp r) → gV r true → gT (sUnw t r).1 true (shp (sUnw t r).2) ∧ gV (sUnw t r).2 true := by
  intro k
  induction k with
  | zero => intro t r h; omega
  | succ k ih =>
    intro t r h hg hv
    by_cases h1 : ∃ m t', t = .group (.tag m t') .allOrNone
    · obtain ⟨m, t', rfl⟩ := h1
      rw [sUnw_lft]
      have hg' : (true : Bool) = true ∧ m ≤ (shp r).length ∧ gT t' true ((shp r).drop m) := hg
      exact ih t' _ (by simp at h; omega) (by rw [shp_drop]; exact hg'.2.2) (gV_drop m r hv)
    · by_cases h2 : ∃ t', t = .group t' .fill
      · obtain ⟨t', rfl⟩ := h2
        rw [sUnw_snk]
        have hg' : (true : Bool) = true ∧ gT t' true (false :: shp r) := gT_snk ▸ hg
        exact ih t' _ (by simp at h; omega) hg'.2 ⟨trivial, hv⟩
      · rw [sUnw_id (fun m t' e => h1 ⟨m, t', e⟩) (fun t' e => h2 ⟨t', e⟩)]
        exact ⟨hg, hv⟩
theorem tyG.unw {env t r : V} {so : Int} {nz : Nat} (h : tyG nz z env t r so) : gT (sUnw t r).1 true (shp (sUnw t r).2) ∧ gV (sUnw t r).2 true := gT_unw _ t r (Nat.lt_succ_self _) h.sh h.2.2.1
/-- one more that it is applied to -/
theorem m_applied {pp : V} {k a mm tn lp at_ : Nat} {ty r fu : V} {so : Int} (ih : ∀ lev, 3 * n + 230 ≤ lev → MJd P s0 l XX X J TN lev n) (hlv : 3 * n + 231 ≤ lev) (hr : mR TN st pp (bl.map (fun z => z.2)) a lo lp none) (hlp : lo ≤ lp ∧ lp ≤ hi) (hg : rG pp 0 sc.length n) (hI : ∀ j, lo ≤ j → j < hi → E j) (hE : ∀ j, E j → 8 ≤ j ∧ j < c.nd) (h : JM lo hi E c ce st X J TN sc bl q ns) (hs : gSc c.ns z sc) (hz : ∀ k, k < c.nc → sw (J.ct k) ≤ z) (hd : sc.length + n ≤ 300) (hJ : MJ st X K c.nd ce 0) (hK : MK X K c.nd ce 0 x) (hx : 202 ≤ x) (hx2 : x + (rN pp + 1) ≤ 29000) (hy : 203 ≤ y) (hy2 : c.nd + 2 * (60000 - K.life) + (y + rN pp) ≤ 140000) (h59 : fI st 59 = iI (ch : Int)) (hch : ch + rN pp ≤ 4000) (hns : ns + rD pp ≤ 50)
    (h60 : fI st 60 = iI (tn : Int)) (hT : mTy E c ce st sc bl ty r tn) (hG : tyG c.ns m (scEnv sc) ty r so) (hk : k < c.nd) (k33 : st.2 33 k = iI (a : Int)) (k32 : st.2 32 k = iI (mm : Int)) (hmm : mm < c.nd) (k34 : st.2 34 mm = iI (at_ : Int))
    (ok : ∀ st' K' nd' ce' cu t nt (qq : Nat), (∀ ps F, jParts X (at_ : Int) sc (fun p K => sJudge X J n p sc K) ps (fu, t, scEnv sc, ((qq % 8 : Nat) : Int)) K' = F → jParts X (at_ : Int) sc (fun p K => sJudge X J n p sc K) (.append pp ps) (fu, ty, r, so) K = jBind F (fun z K => (K, .ok (.append cu z.1, z.2)))) → K.life ≤ K'.life → mjf lo lp c.nd ce ns ch st st' → c.nd ≤ nd' → ce ≤ ce' → MJ st' X K' nd' ce' 0 → MK X K' nd' ce' 0 (x + (rN pp + 1)) → nd' + 2 * (60000 - K'.life) + y ≤ 140000 → fI st' 43 = fI st 43 → fI st' 59 = fI st 59 → (∀ st'', ag (cutE E lo lp) nd' ce' st' st'' → mT (nd', c.2) st'' cu (bl.map (fun z => z.1)) a none) → gT cu false (List.replicate sc.length true) → fI st' 60 = iI ((nt : Nat) : Int) → fI st' 61 = iI ((qq % 8 : Nat) : Int) → mTy (cutE E lo lp) (nd', c.2) ce' st' sc bl t (scEnv sc) nt → gT t false (lsh (scEnv sc)) → Q (.returned none) st')
    (er : ∀ st' K' e p', (∀ ps, jParts X (at_ : Int) sc (fun p K => sJudge X J n p sc K) (.append pp ps) (fu, ty, r, so) K = (K', .error (e, p'))) → K.life ≤ K'.life → mjf lo lp c.nd ce ns ch st st' → MZj st' X K' e p' → Q (.returned none) st') : CQ (wM P s0 l XX) mX5_applied lev (.ref P.mo :: [.int (iI (k : Int)), .int (iI (q : Int))]) st Q := by
  obtain ⟨l', rfl⟩ : ∃ l', lev = l' + 1 := ⟨lev - 1, by omega⟩
  have h14 := h.at.1.2.2.2
  have hns8 : c.ns ≤ 8 := h.at.1.2.2.1
  have hSc := h.2.2.1
  have ha := mR_lt hr
  have haE := (hE a (hI a (by omega) (by omega))).2
  obtain ⟨m0, y1, y2⟩ := hT
  have mt := y2 st ag.rf
  have htn : tn < c.nd := (mT_lt _ _ _ _ mt).1 rfl
  have ink : inr (iI (k : Int)) 140000 := iI_in (by omega) (by omega)
  have inT : inr (iI (tn : Int)) 140000 := iI_in (by omega) (by omega)
  have ina : inr (iI (a : Int)) 140000 := iI_in (by omega) (by omega)
  have e30 : aI st 30 (iI (tn : Int)) = st.2 30 tn := aI_n (by omega)
  have e33 : aI st 33 (iI (k : Int)) = iI (a : Int) := by rw [aI_n (by omega)]; exact k33
  have e32 : aI st 32 (iI (k : Int)) = iI (mm : Int) := by rw [aI_n (by omega)]; exact k32
  have e34 : aI st 34 (iI (mm : Int)) = iI (at_ : Int) := by rw [aI_n (by omega)]; exact k34
  refine tX5_applied ?_
  rw [h60, e30, e33, e32, e34]
  refine ⟨inT, ?_⟩
  have bad : (∀ p d b, (sUnw ty r).1 ≠ .tag p (.group (.append d b) .fill)) → CQ (wM P s0 l XX) mX5_wrong l' (.ref P.mo :: [.int (iI 10), .int (iI (at_ : Int))]) st (onV (fun t9 => Q (.returned none) t9) (fun x t => Q (.threw x) t)) := fun hno =>
    m_wrong (e := 10) (by omega) hJ (by omega) (by omega) (fun t2 z1 z2 => er t2 K 10 at_ (fun ps => jParts_nf hno) (Nat.le_refl _) z2 z1)
  by_cases hpr : ∃ p d b, (sUnw ty r).1 = .tag p (.group (.append d b) .fill)
  case neg =>
    rcases mT_kind (r := r) _ _ _ _ _ hG.2.1 mt with ⟨s, k1, k2, k3, k4⟩ | ⟨pq, dx, bx, k1, k2⟩ | ⟨k1, k2, kd, k3, k4, k5, k6⟩
    · exact ⟨fun w => absurd (k2.symm.trans w) (by decide), fun _ => ⟨ink, iI_in (by omega) (by omega), bad (fun p d b w => by rw [k1] at w; cases w)⟩⟩
    · exact absurd ⟨pq, dx, bx, k1⟩ hpr
    · refine ⟨fun w => ?_, fun _ => ⟨ink, iI_in (by omega) (by omega), bad k2⟩⟩
      have w' := k3.symm.trans w
      rw [iI_eq (by omega) (by omega) (by omega) (by omega)] at w'
      omega
  obtain ⟨pq, dx, bx, k1⟩ := hpr
  have k2 : st.2 30 tn = iI 5 := by
    rcases mT_kind (r := r) _ _ _ _ _ hG.2.1 mt with ⟨s, w1, w2, w3, w4⟩ | ⟨pq, dx, bx, w1, w2⟩ | ⟨w1, w2, -⟩
    · rw [k1] at w1; cases w1
    · exact w2
    · exact absurd k1 (w2 _ _ _)
  refine ⟨fun _ => ⟨ink, ?_⟩, fun w => absurd k2 w⟩
  obtain ⟨ur, hur⟩ : ∃ ur, ur = (sUnw ty r).2 := ⟨_, rfl⟩
  have eU : sUnw ty r = (.tag pq (.group (.append dx bx) .fill), ur) := by rw [hur, ← k1]
  obtain ⟨gU, gUv⟩ := hG.unw
  rw [eU] at gU gUv
  rw [gT_prod] at gU
  -- the product, whenever it is looked at
  have look : ∀ {E' : Nat → Prop} {c' : MC} {ce' ns' lo' hi' : Nat} {st' : MSt}, JM lo' hi' E' c' ce' st' X J TN sc bl q ns' → 0 < ce' → mTy E' c' ce' st' sc bl ty r tn → st'.2 37 tn = iI ((pq % 8 : Nat) : Int) ∧ ∃ (xx yy i : Nat) (g : List Nat), st'.2 32 tn = iI (xx : Int) ∧ st'.2 33 tn = iI (yy : Int) ∧ st'.2 38 tn = iI (i : Int) ∧ i < c'.nd ∧ i ∉ g ∧ (∀ d ∈ g, d < 2147483648) ∧ mT c' st' dx g xx none ∧ mT c' st' bx (i :: g) yy none ∧ mE c' ce' (Msc sc bl) st' ur g 0 := fun hj h0 hty => by
    obtain ⟨-, g, g1, g2, g3⟩ := hj.T h0 hty
    rw [eU] at g2 g3
    rw [mT_prod] at g2
    obtain ⟨-, -, -, q1, xx, yy, i, q2, q3, q4, q5, q6, q7, q8⟩ := g2
    exact ⟨q1, xx, yy, i, g, q2, q3, q4, q5, q6, g1, q7, q8, g3⟩
  have h0 : JM lo lp E c ce st X J TN sc bl q ns := h.sub (Nat.le_refl _) hlp.2 (by omega) (fun _ w => w)
  refine ih l' (by omega) E c pp a lo lp sc bl q K st ce x y ns ch z _ hr hg (fun j w1 w2 => hI j w1 (by omega)) hE h0 hs hz hd hJ hK hx (by omega) hy hy2 h59 hch hns (fun t1 K1 nd1 ce1 cu cty cr cso ct e1 e2 e4 e5 e6 e7 e8 e9 e10 e11 e12 e13 e14 e15 e16 e17 => ?_) (fun t1 K1 e p' e1 e2 e3 e4 => ⟨fun w => absurd w e4.ne, fun _ => er t1 K1 e p' (fun ps => by rw [jParts_go eU, e1]; rfl) e2 e3 e4⟩)
  -- the part is judged
  have hnd1 : nd1 ≤ 140000 := e8.2.1
  have hI0 : ∀ j, lo ≤ j → j < lp → E j := fun j w1 w2 => hI j w1 (by omega)
  have h1 : JM lp lp (cutE E lo lp) (nd1, c.2) ce1 t1 X J TN sc bl q ns := h0.mv (c' := (nd1, c.2)) e4 e10 (Nat.le_refl _) (Nat.le_refl _) hI0 (fun _ w => w.1) e5 rfl e6 hlp.1 (Nat.le_refl _) hnd1 e7.2.2.2.2.1
  have hT1 : mTy (cutE E lo lp) (nd1, c.2) ce1 t1 sc bl ty r tn := mTy.mv ⟨m0, y1, y2⟩ (e4.ag hI0) (fun _ w => w.1) e5 rfl e6
  have c0 : 0 < ce1 := e7.2.2.2.2.2
  have hct : ct < nd1 := by obtain ⟨m1, -, w⟩ := e16; exact (mT_lt _ _ _ _ (w t1 ag.rf)).1 rfl
  obtain ⟨q1, xx, yy, i, g, q2, q3, q4, q5, q6, q7, q8, q9, q10⟩ := look h1 c0 hT1
  refine ⟨fun _ => ⟨inT, ?_⟩, fun w => absurd e7.2.2.2.1 w⟩
  rw [aI_n (by omega), q2, e14]
  obtain ⟨gC, gCv⟩ := e17.unw
  have es : ∀ K' r', sSame X 100 (vClo dx ur) (vClo (sUnw cty cr).1 (sUnw cty cr).2) K1 = (K', r') → ∀ ps, jParts X (at_ : Int) sc (fun p K => sJudge X J n p sc K) (.append pp ps) (fu, ty, r, so) K = jBind (jOf (K', r')) (fun same K => if same then jBind (jOf (sNorm X 100 sc.length (vClo bx (.append (vClo cu (scEnv sc)) ur)) K)) (fun t K =>
        jBind (jParts X (at_ : Int) sc (fun p K => sJudge X J n p sc K) ps (fu, t, scEnv sc, ((pq % 8 : Nat) : Int)) K) fun z K => (K, .ok (.append cu z.1, z.2))) else (K, .error (11, jFrom pp))) := fun K' r' hs ps => by
    rw [jParts_go eU, e1]
    show jBind (jOf (sSame X 100 (vClo dx ur) (vClo (sUnw cty cr).1 (sUnw cty cr).2) K1)) _ = _
    rw [hs]
  refine m_compare (c := (nd1, c.2)) 100 0 l' (by omega) (by omega) (Msc sc bl) (vClo dx ur) (vClo (sUnw cty cr).1 (sUnw cty cr).2) xx 0 ct 0 K1 t1 ce1 0 (x + rN pp) _ (h1.2.2.1.MF (by omega)) ⟨dx, ur, g, rfl, c0, q7, q8, q10⟩ (h1.T c0 e16).1 ⟨dx, ur, rfl, gT_up _ _ _ gU.1, gUv⟩ ⟨_, _, rfl, gC, gCv⟩ h1.at.1 e7 e8 (by omega) (fun t3 K3 ce3 sm u1 u2 u3 u4 u5 u6 u7 => ?_) (fun t3 K3 e ce3 u1 u2 u3 u4 u5 u6 => ?_)
  · -- it was compared
    have h3 : JM lp lp (cutE E lo lp) (nd1, c.2) ce3 t3 X J TN sc bl q ns := h1.mf (c := (nd1, c.2)) u4 (Nat.le_refl _) u5 hnd1 u6.2.2.2.2.1 (Nat.le_refl _)
    have F3 : mjf lo lp c.nd ce ns ch st t3 := e4.t2 u4.toJ e5 e6 (Nat.le_refl _) (Nat.le_refl _)
    have A13 : ∀ E' : Nat → Prop, ag E' nd1 ce1 t1 t3 := fun E' => (u4.toJ (lo := 0) (hi := 0) (ns := 0) (ch := 0)).ag (fun j w1 w2 => by omega)
    have hT3 : mTy (cutE E lo lp) (nd1, c.2) ce3 t3 sc bl ty r tn := hT1.mv (A13 _) (fun _ w => w) (Nat.le_refl _) rfl u5
    cases sm with
    | false =>
      refine ⟨fun _ => ⟨ina, ?_⟩, fun w => absurd rfl w⟩
      obtain ⟨o1, o2⟩ := mR_from hr
      have e34a : aI t3 34 (iI (a : Int)) = iI (jFrom pp) := by
        rw [aI_n (by omega), F3.2 34 a (fun _ => by omega) (fun _ => by omega) (fun _ => by omega) (fun _ => by omega) (by omega) (fun _ => by omega) (by omega)]; exact o1
      rw [e34a]
      refine m_wrong (e := 11) (by omega) u6 (by omega) o2 (fun t5 z1 z2 => tX5_applied_93 ⟨fun w => absurd w z1.ne, fun _ => ⟨inT, ?_⟩⟩)
      obtain ⟨l2, rfl⟩ : ∃ l2, l' = l2 + 1 := ⟨l' - 1, by omega⟩
      exact tX5_becomes (er _ K3 11 (jFrom pp) (fun ps => by rw [es _ _ u1]; rfl) (by omega) (((F3.t2 z2 (Nat.le_refl _) (Nat.le_refl _) (Nat.le_refl _) (Nat.le_refl _)).t2 (mjf.put (nd := c.nd) (ce := ce) (ns := ns) (ch := ch) (by omega)) (Nat.le_refl _) (Nat.le_refl _) (Nat.le_refl _) (Nat.le_refl _)).t2 (mjf.put (nd := c.nd) (ce := ce) (ns := ns) (ch := ch) (by omega)) (Nat.le_refl _) (Nat.le_refl _) (Nat.le_refl _) (Nat.le_refl _)) ((z1.put (by omega)).put (by omega)))
    | true =>
      refine ⟨fun w => absurd w (by decide), fun _ => tX5_applied_93 ⟨fun _ => ⟨inT, inT, ?_⟩, fun w => absurd u6.2.2.2.1 w⟩⟩
      obtain ⟨q1, xx, yy, i, g, q2, q3, q4, q5, q6, q7, q8, q9, q10⟩ := look h3 u6.2.2.2.2.2 hT3
      have q5' : i < nd1 := q5
      rw [aI_n (by omega), aI_n (by omega), q4, q3]
      obtain ⟨kb, k2', k3', k4', k5', k6'⟩ := u7
      have kw := kb.1
      have kw2 := kb.2.1
      have c03 : 0 < ce3 := u6.2.2.2.2.2
      have hq3 : q < ce3 := h3.2.2.2.2.2.1
      refine m_cell (q := 0) (b := i) (by omega) u6 (by omega) c03 (fun t5 J5 F5 w1 w2 w3 w4 w5 w6 => ?_)
      have h5 : JM lp lp (cutE E lo lp) (nd1, c.2) (ce3 + 1) t5 X J TN sc bl q ns := h3.mf (c := (nd1, c.2)) F5 (Nat.le_refl _) (Nat.le_succ _) hnd1 J5.2.2.2.2.1 (Nat.le_refl _)
      have A35 : ∀ E' : Nat → Prop, ag E' nd1 ce3 t3 t5 := fun E' => (F5.toJ (lo := 0) (hi := 0) (ns := 0) (ch := 0)).ag (fun j w1 w2 => by omega)
      have hT5 : mTy (cutE E lo lp) (nd1, c.2) (ce3 + 1) t5 sc bl ty r tn := hT3.mv (A35 _) (fun _ w => w) (Nat.le_refl _) rfl (Nat.le_succ _)
      have A15 : ag (cutE E lo lp) nd1 ce1 t1 t5 := (A13 _).tr (A35 _) (fun _ w => w) (Nat.le_refl _) u5
      have mcu := e12 t5 A15
      have ch5 := J5.2.2.2.2.1
      have hids : ∀ d ∈ bl.map (fun z => z.1), d < 2147483648 := fun d hd => by have := (mSc_at hSc d hd).1; omega
      have mv5 : mvE (nd1, c.2) (nd1, c.2) ce3 (ce3 + 1) (Msc sc bl) (Msc sc bl) t3 t5 := F5.E (c := (nd1, c.2)) u6.2.2.2.2.1 (Nat.le_succ _)
      have gsh : shp (scEnv sc) = List.replicate sc.length true := scEnv_shp sc hs
      have hgV := scEnv_gV sc hs
      have vC : mC (nd1, c.2) (ce3 + 1) (Msc sc bl) t5 (vClo bx (.append (vClo cu (scEnv sc)) ur)) yy ce3 := by
        refine ⟨bx, _, i :: g, rfl, Nat.lt_succ_self _, fun d hd => by rcases List.mem_cons.mp hd with rfl | hd; omega; exact q7 d hd, mT_mv mv5.1 _ _ _ _ q9, Or.inr ⟨ce3, a, q, bl.map (fun z => z.1), ?_, c03, Nat.lt_succ_self _, w3, w4, by omega, hids, mcu, h5.at.2.2.2⟩, mE_push ch5 c03 c03 w1 w2 (by omega) ur g 0 rfl q6 q7 (mE_mv mv5 _ _ _ c03 q10)⟩
        rw [lk_new ch5 c03 c03 w1 w2 (by omega) (by omega), if_pos rfl]
      have gV5 : gKv (vClo bx (.append (vClo cu (scEnv sc)) ur)) := ⟨bx, _, rfl, by rw [shp_cons (by intro w; cases w)]; exact gU.2, ⟨⟨by rw [gsh]; exact e13, hgV⟩, gUv⟩⟩
      refine m_jnorm (c := (nd1, c.2)) (y := y) (x := x + rN pp + 1) (by omega) h5 vC gV5 (by omega) J5 ⟨kb, k2', by omega, by omega, k5', by omega⟩ (by omega) (by omega) (by omega) (by show nd1 + _ + _ ≤ _; omega) (fun t7 K7 nd7 ce7 t nt f1 f2 f3 f4 f5 f6 f7 f8 f9 f10 => ?_) (fun t7 K7 e rr f1 f2 f3 f4 => ⟨inT, ?_⟩)
      · have f4' : nd1 ≤ nd7 := f4
        have hnd7 : nd7 ≤ 140000 := f7.2.1
        have h7 : JM lp lp (cutE E lo lp) (nd7, c.2) ce7 t7 X J TN sc bl q ns := h5.mf (c := (nd1, c.2)) f3 f4 f5 hnd7 f6.2.2.2.2.1 (Nat.le_refl _)
        have A57 : ∀ E' : Nat → Prop, ag E' nd1 (ce3 + 1) t5 t7 := fun E' => (f3.toJ (lo := 0) (hi := 0) (ns := 0) (ch := 0)).ag (fun j w1 w2 => by omega)
        have hT7 : mTy (cutE E lo lp) (nd7, c.2) ce7 t7 sc bl ty r tn := hT5.mv (A57 _) (fun _ w => w) f4 rfl f5
        obtain ⟨v1, -⟩ := look h7 f6.2.2.2.2.2 hT7
        refine ⟨inT, ?_⟩
        rw [aI_n (by omega), v1]
        obtain ⟨l2, rfl⟩ : ∃ l2, l' = l2 + 1 := ⟨l' - 1, by omega⟩
        refine tX5_becomes ?_
        have J9 : MJ (mput 61 (iI ((pq % 8 : Nat) : Int)) (mput 60 (iI (nt : Int)) t7)) X K7 nd7 ce7 0 := (f6.putx (by omega)).putx (by omega)
        have F9 : mjf lo lp c.nd ce ns ch st (mput 61 (iI ((pq % 8 : Nat) : Int)) (mput 60 (iI (nt : Int)) t7)) := (((F3.t2 F5.toJ e5 (by omega) (Nat.le_refl _) (Nat.le_refl _)).t2 f3.toJ e5 (by omega) (Nat.le_refl _) (Nat.le_refl _)).t2 (mjf.put (nd := c.nd) (ce := ce) (ns := ns) (ch := ch) (by omega)) (Nat.le_refl _) (Nat.le_refl _) (Nat.le_refl _) (Nat.le_refl _)).t2 (mjf.put (nd := c.nd) (ce := ce) (ns := ns) (ch := ch) (by omega)) (Nat.le_refl _) (Nat.le_refl _) (Nat.le_refl _) (Nat.le_refl _)
        have A79 : ∀ E' : Nat → Prop, ag E' nd7 ce7 t7 (mput 61 (iI ((pq % 8 : Nat) : Int)) (mput 60 (iI (nt : Int)) t7)) := fun E' k j _ => rfl
        have hE1 : ∀ j, cutE E lo lp j → 8 ≤ j ∧ j < nd1 := fun j w => by have := hE j w.1; omega
        have ft := f9 (cutE E lo lp) hE1
        refine ok _ K7 nd7 ce7 cu t nt pq (fun ps F hF => ?_) (by omega) F9 (by omega) (by omega) J9 ⟨f7.1, f7.2.1, by have := f7.2.2.1; omega, by omega, f7.2.2.2.2.1, by have := f7.2.2.2.2.2; omega⟩ (by omega) ?_ ?_ (fun st'' hz => ?_) e13 (by rw [fI_put (by omega), fI_self]) fI_self ⟨0, rfl, fun st'' hz => ft st'' ((A79 _).tr hz (fun _ w => w) (Nat.le_refl _) (Nat.le_refl _))⟩ f10
        · rw [es _ _ u1]
          show jBind (jOf (sNorm X 100 sc.length (vClo bx (.append (vClo cu (scEnv sc)) ur)) K3)) _ = _
          rw [f1]
          show jBind (jParts X (at_ : Int) sc (fun p K => sJudge X J n p sc K) ps (fu, t, scEnv sc, ((pq % 8 : Nat) : Int)) K7) _ = _
          rw [hF]
        · rw [fI_put (by omega), fI_put (by omega)]
          exact (h7.2.2.2.1.2).trans h.2.2.2.1.2.symm
        · rw [fI_put (by omega), fI_put (by omega)]
          exact (f3.1 59 (by omega)).trans ((w5 59 (by omega)).trans ((u4.1 59 (by omega)).trans e11))
        · exact mT_up (c := (nd1, c.2)) (c' := (nd7, c.2)) f4 rfl (e12 st'' ((A15.tr ((A57 _).tr (A79 _) (fun _ w => w) f4 f5) (fun _ w => w) (Nat.le_refl _) (by omega)).tr hz (fun _ w => w) f4' (by omega)))
      · obtain ⟨l2, rfl⟩ : ∃ l2, l' = l2 + 1 := ⟨l' - 1, by omega⟩
        refine tX5_becomes (er _ K7 e (-1) (fun ps => ?_) (by omega) ((((F3.t2 F5.toJ e5 (by omega) (Nat.le_refl _) (Nat.le_refl _)).t2 f3.toJ e5 (by omega) (Nat.le_refl _) (Nat.le_refl _)).t2 (mjf.put (nd := c.nd) (ce := ce) (ns := ns) (ch := ch) (by omega)) (Nat.le_refl _) (Nat.le_refl _) (Nat.le_refl _) (Nat.le_refl _)).t2 (mjf.put (nd := c.nd) (ce := ce) (ns := ns) (ch := ch) (by omega)) (Nat.le_refl _) (Nat.le_refl _) (Nat.le_refl _) (Nat.le_refl _)) ((f4.put (by omega)).put (by omega)))
        rw [es _ _ u1]
        show jBind (jOf (sNorm X 100 sc.length (vClo bx (.append (vClo cu (scEnv sc)) ur)) K3)) _ = _
        rw [f1]
        rfl
  · -- comparing went wrong
    have F3 : mjf lo lp c.nd ce ns ch st t3 := e4.t2 u3.toJ e5 e6 (Nat.le_refl _) (Nat.le_refl _)
    refine ⟨fun _ => ⟨ina, m_wrongZ (by omega) u6.j (tX5_applied_93 ⟨fun w => absurd w u6.ne, fun _ => ⟨inT, ?_⟩⟩)⟩, fun w => absurd rfl w⟩
    obtain ⟨l2, rfl⟩ : ∃ l2, l' = l2 + 1 := ⟨l' - 1, by omega⟩
    exact tX5_becomes (er _ K3 e (-1) (fun ps => by rw [es _ _ u1]; rfl) (by omega) ((F3.t2 (mjf.put (nd := c.nd) (ce := ce) (ns := ns) (ch := ch) (by omega)) (Nat.le_refl _) (Nat.le_refl _) (Nat.le_refl _) (Nat.le_refl _)).t2 (mjf.put (nd := c.nd) (ce := ce) (ns := ns) (ch := ch) (by omega)) (Nat.le_refl _) (Nat.le_refl _) (Nat.le_refl _) (Nat.le_refl _)) ((u6.j.put (by omega)).put (by omega)))
end MJA
