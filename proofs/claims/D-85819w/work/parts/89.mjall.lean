/-! M OVER S (29): judging, all of it -/
/-- down a use and up again -/
def MJu (P : MPl) (s0 : State) (l : Launch) (XX : Prop) (X : SX) (J : JX) (TN : Nat → List Nat) (lev n : Nat) : Prop :=
  ∀ (E : Nat → Prop) (c : MC) (t : V) (nn lo hi : Nat) (sc : SC) (bl : List (Nat × Option Nat)) (q : Nat) (K : KS) (st st0 : MSt) (ce x y ns ch z base : Nat) (x1 : Int32) (Q : Outcome → MSt → Prop),
  mR TN st t (bl.map (fun z => z.2)) nn lo hi none → rG t 0 sc.length n → (∀ j, lo ≤ j → j < hi → E j) → (∀ j, E j → 8 ≤ j ∧ j < c.nd) → JM lo hi E c ce st X J TN sc bl q ns → gSc c.ns z sc → (∀ k, k < c.nc → sw (J.ct k) ≤ z) → sc.length + n ≤ 300 → MJ st X K c.nd ce 0 → MK X K c.nd ce 0 x → 202 ≤ x → x + rN t ≤ 29000 → 203 ≤ y → c.nd + 2 * (60000 - K.life) + (y + rN t) ≤ 140000 → fI st 59 = iI (ch : Int) → ch + rN t ≤ 4000 → ns + rD t ≤ 50 → base ≤ ch →
  (∀ st' K' nd' ce' u ty r so tn ch9, sJudge X J n t sc K = (K', .ok (u, ty, r, so)) → K.life ≤ K'.life → mjf lo hi c.nd ce ns ch st st' → c.nd ≤ nd' → ce ≤ ce' → MJ st' X K' nd' ce' 0 → MK X K' nd' ce' 0 (x + rN t) → nd' + 2 * (60000 - K'.life) + y ≤ 140000 → fI st' 43 = fI st 43 → (fI st' 59 = iI ((ch9 : Nat) : Int) ∧ ch ≤ ch9 ∧ ch9 ≤ ch + rN t) → (∀ st'', ag (cutE E lo hi) nd' ce' st' st'' → mT (nd', c.2) st'' u (bl.map (fun z => z.1)) nn none) → gT u false (List.replicate sc.length true) → fI st' 60 = iI ((tn : Nat) : Int) → fI st' 61 = iI so → mTy (cutE E lo hi) (nd', c.2) ce' st' sc bl ty r tn → tyG c.ns (z + rB t) (scEnv sc) ty r so → ∀ x4, jX5_judgeUse_68 P s0 l XX lev st0 Q x1 (iI (q : Int)) (iI (base : Int)) x4 (iI ((ch : Int) - 1)) st') →
  (∀ st' K' e p, sJudge X J n t sc K = (K', .error (e, p)) → K.life ≤ K'.life → mjf lo hi c.nd ce ns ch st st' → MZj st' X K' e p → ∀ x4 x5, jX5_judgeUse_68 P s0 l XX lev st0 Q x1 (iI (q : Int)) (iI (base : Int)) x4 x5 st') →
  jX5_judgeUse_8 P s0 l XX lev st0 Q x1 (iI (q : Int)) (iI (base : Int)) (iI (nn : Int)) st
section MJX
variable {P : MPl} {s0 : State} {l : Launch} {XX : Prop} {lev n m : Nat} {Q : Outcome → MSt → Prop} {st st' st'' st2 st0 : MSt} {X : SX} {J : JX} {K K' : KS} {nd nd' ce ce' wa x y lo hi lo' hi' lo1 hi1 lo2 hi2 ns ns' ch ch' q z : Nat} {c c' : MC} {M M' : Nat → Int → Prop} {E E' : Nat → Prop} {TN : Nat → List Nat} {sc : SC} {bl : List (Nat × Option Nat)}
theorem mR_kind {t : V} {bs : List (Option Nat)} {nn : Nat} (h : mR TN st t bs nn lo hi none) : (∃ f p g ps, t = .tag f (.tag p (.group (.group (.append g ps) .fill) .fill))) ∨ (∃ kd : Nat, st.2 30 nn = iI (kd : Int) ∧ kd < 7) := by
  unfold mR at h
  split at h
  · exact Or.inr ⟨0, h.2.2.1, by omega⟩
  · exact Or.inr ⟨0, h.2.2.1, by omega⟩
  · exact Or.inr ⟨4, h.2.2.1, by omega⟩
  · exact Or.inr ⟨5, h.2.2.1, by omega⟩
  · exact Or.inr ⟨6, h.2.2.1, by omega⟩
  · exact Or.inl ⟨_, _, _, _, rfl⟩
  · rename_i e; cases e
  · rename_i e; cases e
  · exact h.elim
/-- what is no use -/
theorem m_ju0 (ih : MJd P s0 l XX X J TN lev n) : ∀ (E : Nat → Prop) (c : MC) (t : V) (nn lo hi : Nat) (sc : SC) (bl : List (Nat × Option Nat)) (q : Nat) (K : KS) (st st0 : MSt) (ce x y ns ch z base : Nat) (x1 : Int32) (Q : Outcome → MSt → Prop), (∃ kd : Nat, st.2 30 nn = iI (kd : Int) ∧ kd < 7) →
  mR TN st t (bl.map (fun z => z.2)) nn lo hi none → rG t 0 sc.length n → (∀ j, lo ≤ j → j < hi → E j) → (∀ j, E j → 8 ≤ j ∧ j < c.nd) → JM lo hi E c ce st X J TN sc bl q ns → gSc c.ns z sc → (∀ k, k < c.nc → sw (J.ct k) ≤ z) → sc.length + n ≤ 300 → MJ st X K c.nd ce 0 → MK X K c.nd ce 0 x → 202 ≤ x → x + rN t ≤ 29000 → 203 ≤ y → c.nd + 2 * (60000 - K.life) + (y + rN t) ≤ 140000 → fI st 59 = iI (ch : Int) → ch + rN t ≤ 4000 → ns + rD t ≤ 50 → base ≤ ch →
  (∀ st' K' nd' ce' u ty r so tn ch9, sJudge X J n t sc K = (K', .ok (u, ty, r, so)) → K.life ≤ K'.life → mjf lo hi c.nd ce ns ch st st' → c.nd ≤ nd' → ce ≤ ce' → MJ st' X K' nd' ce' 0 → MK X K' nd' ce' 0 (x + rN t) → nd' + 2 * (60000 - K'.life) + y ≤ 140000 → fI st' 43 = fI st 43 → (fI st' 59 = iI ((ch9 : Nat) : Int) ∧ ch ≤ ch9 ∧ ch9 ≤ ch + rN t) → (∀ st'', ag (cutE E lo hi) nd' ce' st' st'' → mT (nd', c.2) st'' u (bl.map (fun z => z.1)) nn none) → gT u false (List.replicate sc.length true) → fI st' 60 = iI ((tn : Nat) : Int) → fI st' 61 = iI so → mTy (cutE E lo hi) (nd', c.2) ce' st' sc bl ty r tn → tyG c.ns (z + rB t) (scEnv sc) ty r so → ∀ x4, jX5_judgeUse_68 P s0 l XX lev st0 Q x1 (iI (q : Int)) (iI (base : Int)) x4 (iI ((ch : Int) - 1)) st') →
  (∀ st' K' e p, sJudge X J n t sc K = (K', .error (e, p)) → K.life ≤ K'.life → mjf lo hi c.nd ce ns ch st st' → MZj st' X K' e p → ∀ x4 x5, jX5_judgeUse_68 P s0 l XX lev st0 Q x1 (iI (q : Int)) (iI (base : Int)) x4 x5 st') →
  jX5_judgeUse_8 P s0 l XX lev st0 Q x1 (iI (q : Int)) (iI (base : Int)) (iI (nn : Int)) st := by
  intro E c t nn lo hi sc bl q K st st0 ce x y ns ch z base x1 Q hkd hr hg hI hE h hs hz hd hJ hK hx hx2 hy hy2 h59 hch hns hb ok er
  obtain ⟨kd, k1, k2⟩ := hkd
  have h14 := h.at.1.2.2.2
  have hlt := mR_lt hr
  have hnn := (hE nn (hI nn hlt.1 hlt.2)).2
  refine tX5_judgeUse_8 ⟨iI_in (by omega) (by omega), fun w => ?_, fun _ => ih E c t nn lo hi sc bl q K st ce x y ns ch z _ hr hg hI hE h hs hz hd hJ hK hx hx2 hy hy2 h59 hch hns (fun t1 K1 nd1 ce1 u ty r so tn e1 e2 e3 e4 e5 e6 e7 e8 e9 e10 e11 e12 e13 e14 e15 e16 => ?_) (fun t1 K1 e p e1 e2 e3 e4 => er t1 K1 e p e1 e2 e3 e4 _ _)⟩
  · rw [aI_n (by omega), k1, iI_eq (by omega) (by omega) (by omega) (by omega)] at w; omega
  · show jX5_judgeUse_68 P s0 l XX lev st0 Q x1 (iI (q : Int)) (iI (base : Int)) (iI (nn : Int)) (fI t1 59 - iI 1) t1
    rw [e10, h59, iI_sub]
    exact ok t1 K1 nd1 ce1 u ty r so tn ch e1 e2 e3 e4 e5 e6 e7 e8 e9 ⟨e10.trans h59, Nat.le_refl _, Nat.le_add_right _ _⟩ e11 e12 e13 e14 e15 e16 _
/-- a use -/
theorem m_ju1 (ihj : ∀ lev, 3 * n + 230 ≤ lev → MJd P s0 l XX X J TN lev n) (ihu : MJu P s0 l XX X J TN lev n) (hlv : 3 * n + 231 ≤ lev) {f p nn base : Nat} {g ps : V} {x1 : Int32} (hr : mR TN st (.tag f (.tag p (.group (.group (.append g ps) .fill) .fill))) (bl.map (fun z => z.2)) nn lo hi none) (hg1 : rG g 0 sc.length n) (hg2 : rG ps 1 sc.length n) (hI : ∀ j, lo ≤ j → j < hi → E j) (hE : ∀ j, E j → 8 ≤ j ∧ j < c.nd) (h : JM lo hi E c ce st X J TN sc bl q ns) (hs : gSc c.ns z sc) (hz : ∀ k, k < c.nc → sw (J.ct k) ≤ z) (hd : sc.length + (n + 1) ≤ 300) (hJ : MJ st X K c.nd ce 0) (hK : MK X K c.nd ce 0 x) (hx : 202 ≤ x) (hx2 : x + (rN g + rN ps + 1) ≤ 29000) (hy : 203 ≤ y) (hy2 : c.nd + 2 * (60000 - K.life) + (y + (rN g + rN ps + 1)) ≤ 140000) (h59 : fI st 59 = iI (ch : Int)) (hch : ch + (rN g + rN ps + 1) ≤ 4000) (hns : ns + max (rD g) (rD ps) ≤ 50) (hb : base ≤ ch)
    (ok : ∀ st' K' nd' ce' u ty r so tn ch9, sJudge X J (n + 1) (.tag f (.tag p (.group (.group (.append g ps) .fill) .fill))) sc K = (K', .ok (u, ty, r, so)) → K.life ≤ K'.life → mjf lo hi c.nd ce ns ch st st' → c.nd ≤ nd' → ce ≤ ce' → MJ st' X K' nd' ce' 0 → MK X K' nd' ce' 0 (x + (rN g + rN ps + 1)) → nd' + 2 * (60000 - K'.life) + y ≤ 140000 → fI st' 43 = fI st 43 → (fI st' 59 = iI ((ch9 : Nat) : Int) ∧ ch ≤ ch9 ∧ ch9 ≤ ch + (rN g + rN ps + 1)) → (∀ st'', ag (cutE E lo hi) nd' ce' st' st'' → mT (nd', c.2) st'' u (bl.map (fun z => z.1)) nn none) → gT u false (List.replicate sc.length true) → fI st' 60 = iI ((tn : Nat) : Int) → fI st' 61 = iI so → mTy (cutE E lo hi) (nd', c.2) ce' st' sc bl ty r tn → tyG c.ns (z + (rB g + rB ps)) (scEnv sc) ty r so → ∀ x4, jX5_judgeUse_68 P s0 l XX lev st0 Q x1 (iI (q : Int)) (iI (base : Int)) x4 (iI ((ch : Int) - 1)) st')
    (er : ∀ st' K' e p', sJudge X J (n + 1) (.tag f (.tag p (.group (.group (.append g ps) .fill) .fill))) sc K = (K', .error (e, p')) → K.life ≤ K'.life → mjf lo hi c.nd ce ns ch st st' → MZj st' X K' e p' → ∀ x4 x5, jX5_judgeUse_68 P s0 l XX lev st0 Q x1 (iI (q : Int)) (iI (base : Int)) x4 x5 st') :
    jX5_judgeUse_8 P s0 l XX lev st0 Q x1 (iI (q : Int)) (iI (base : Int)) (iI (nn : Int)) st := by
  obtain ⟨a1, a2, a3, a4, hps, m, l1, b1, b2, b3, b4, r1, r2⟩ := hr
  have h14 := h.at.1.2.2.2
  have hpV := vlen_rN ps
  have hnn := (hE nn (hI nn a2 a3)).2
  have hhi : hi ≤ c.nd := by
    have := (hE (hi - 1) (hI (hi - 1) (by omega) (by omega))).2; omega
  refine ju_walk (ch := ch) (by omega) ps l1 m st r2 h59 (by omega) (by omega) (fun st1 d1 d2 d3 d4 d5 => ?_)
  have F01 : mjf lo hi c.nd ce ns ch st st1 := ⟨fun k hk => d3 k (by omega), fun k j p1 p2 p3 p4 p5 p6 p7 => d4 k j (by omega)⟩
  have J1 := d5 hJ
  have h1 : JM lo hi E c ce st1 X J TN sc bl q ns := h.mv F01 (d3 43 (by omega)) (Nat.le_refl _) (Nat.le_refl _) hI (fun _ w => w) (Nat.le_refl _) rfl (Nat.le_refl _) (Nat.le_refl _) (Nat.le_refl _) h14 J1.2.2.2.2.1
  have r11 : mR TN st1 g (bl.map (fun z => z.2)) m lo l1 none := mR_mv _ _ _ _ _ _ r1 (fun k j w1 w2 w3 w4 => d4 k j (by omega)) (fun _ _ w => by cases w)
  refine ihu E c g m lo l1 sc bl q K st1 st0 ce x (y + rN ps + 1) ns (ch + vlen ps) z base x1 Q r11 hg1 (fun j w1 w2 => hI j w1 (by omega)) hE (h1.sub (Nat.le_refl _) b2 (by omega) (fun _ w => w)) hs hz (by omega) J1 hK hx (by omega) (by omega) (by omega) d2 (by omega) (by omega) (by omega) (fun t2 K2 nd2 ce2 fu ty r so tn c9 e1 e2 e3 e4 e5 e6 e7 e8 e9 e10 e11 e12 e13 e14 e15 e16 x4 => ?_) (fun t2 K2 e p' e1 e2 e3 e4 x4 x5 => er t2 K2 e p' (by rw [sJudge_use, e1]; rfl) e2 (F01.tr e3 (Nat.le_refl _) (Nat.le_refl _) (Nat.le_refl _) b2 (Nat.le_refl _) (Nat.le_refl _) (Nat.le_refl _) (by omega)) e4 x4 x5)
  -- what is applied is judged
  obtain ⟨v59, v1, v2⟩ := e10
  have hnd2 : nd2 ≤ 140000 := e7.2.1
  have h2 : JM l1 hi (cutE E lo l1) (nd2, c.2) ce2 t2 X J TN sc bl q ns := h1.mv (c' := (nd2, c.2)) e3 e9 (Nat.le_refl _) b2 (fun j w1 w2 => hI j w1 (by omega)) (fun _ w => w.1) e4 rfl e5 b1 (Nat.le_refl _) hnd2 e6.2.2.2.2.1
  have kn : ∀ k j, 30 ≤ k → k ≤ 38 → j < c.nd → (j < lo ∨ l1 ≤ j) → t2.2 k j = st1.2 k j := fun k j w1 w2 w3 w4 => e3.2 k j (fun _ => by omega) (fun _ => by omega) (fun _ => by omega) (fun _ => by omega) (by omega) (fun _ => by omega) (by omega)
  have rp : mRp TN t2 (bl.map (fun z => z.2)) nn hi p ch ps l1 m := mRp_mv ps l1 m d1 (fun k j w1 w2 w3 w4 => kn k j w1 w2 (by omega) (by omega)) (e3.2 34 m (fun _ => by omega) (fun _ => by omega) (fun _ => by omega) (fun _ => by omega) (by omega) (fun _ => by omega) (by omega)) (fun j hj => e3.2 58 j (fun _ => by omega) (fun _ => by omega) (fun _ => by omega) (fun _ => by omega) (by omega) (fun _ => hj) (by omega))
  have F02 : mjf lo hi c.nd ce ns ch st t2 := F01.tr e3 (Nat.le_refl _) (Nat.le_refl _) (Nat.le_refl _) b2 (Nat.le_refl _) (Nat.le_refl _) (Nat.le_refl _) (by omega)
  refine ju_parts (ch := ch) (ch9 := c9) (zz := z + rB g) (fu := fu) (base := base) ihj hlv (by omega) rfl hb (by omega) (by omega) ps l1 m (cutE E lo l1) (nd2, c.2) ce2 (x + rN g) (y + 1) tn ty r so K2 t2 rp (by show m < nd2; omega) (by show hi ≤ nd2; omega) b2 hg2 (fun j w1 w2 => ⟨hI j (by omega) w2, Or.inr w1⟩) (fun j w => by have := hE j w.1; exact ⟨this.1, by show j < nd2; omega⟩) h2 hs hz e6 e7 (by omega) (by omega) (by omega) (by show nd2 + _ + _ ≤ _; omega) v59 (by omega) (by omega) (by omega) e13 e14 e15 e16 (fun t3 K3 nd3 ce3 ps' ty' r' so' tn' i1 i2 i3 i4 i5 i6 i7 i8 i9 i10 i11 i12 i13 i14 i15 i16 i17 => ?_) (fun t3 K3 e p' i1 i2 i3 i4 x5 => er t3 K3 e p' (by rw [sJudge_use, e1]; show jBind (jParts X (p : Int) sc _ ps (fu, ty, r, so) K2) _ = _; rw [i1]; rfl) (by omega) (F02.tr i3 (Nat.le_refl _) (Nat.le_refl _) b1 (Nat.le_refl _) e4 e5 (Nat.le_refl _) (by omega)) i4 x4 x5)
  -- all is judged
  have i4' : nd2 ≤ nd3 := i4
  obtain ⟨kb, k2, k3, k4, k5, k6⟩ := i7
  have subE : ∀ j, cutE E lo hi j → cutE E lo l1 j := fun j w => ⟨w.1, by have := w.2; omega⟩
  have subE2 : ∀ j, cutE E lo hi j → cutE (cutE E lo l1) l1 hi j := fun j w => ⟨subE j w, by have := w.2; omega⟩
  have A23 : ag (cutE E lo l1) nd2 ce2 t2 t3 := i3.ag (fun j w1 w2 => ⟨hI j (by omega) w2, Or.inr w1⟩)
  refine ok t3 K3 nd3 ce3 (.tag 2 (.append fu ps')) ty' r' so' tn' c9 (by rw [sJudge_use, e1]; show jBind (jParts X (p : Int) sc _ ps (fu, ty, r, so) K2) _ = _; rw [i1]; rfl) (by omega) (F02.tr i3 (Nat.le_refl _) (Nat.le_refl _) b1 (Nat.le_refl _) e4 e5 (Nat.le_refl _) (by omega)) (by omega) (by omega) i6 ⟨kb, k2, by omega, by omega, k5, by omega⟩ (by omega) (i9.trans (e9.trans (d3 43 (by omega)))) ⟨i10.trans v59, by omega, by omega⟩ (fun st'' ha => ?_) ⟨e12, i12, by omega⟩ i14 i15 (i16.mv ag.rf subE2 (Nat.le_refl _) rfl (Nat.le_refl _)) (i17.le (by omega)) x4
  exact ⟨m, mT_up (c := (nd2, c.2)) (c' := (nd3, c.2)) i4' rfl (e11 st'' (A23.tr ha subE i4' i5)), i11 st'' (ag.tr (ag.rf (E := cutE (cutE E lo l1) l1 hi)) ha subE2 (Nat.le_refl _) (Nat.le_refl _))⟩
/-- what judging does -/
theorem m_judge_all : ∀ (n : Nat), (∀ lev, 3 * n + 230 ≤ lev → MJd P s0 l XX X J TN lev n) ∧ (∀ lev, 3 * n + 230 ≤ lev → MJu P s0 l XX X J TN lev n) := by
  intro n
  induction n with
  | zero =>
    refine ⟨fun lev hl E c t nn lo hi sc bl q K st ce x y ns ch z Q hr hg => ?_, fun lev hl E c t nn lo hi sc bl q K st st0 ce x y ns ch z base x1 Q hr hg => ?_⟩
    · obtain ⟨n', e, -⟩ := rG_shape hg
      omega
    · obtain ⟨n', e, -⟩ := rG_shape hg
      omega
  | succ n ih =>
    obtain ⟨ihj, ihu⟩ := ih
    have hj : ∀ lev, 3 * (n + 1) + 230 ≤ lev → MJd P s0 l XX X J TN lev (n + 1) := by
      intro lev hl E c t nn lo hi sc bl q K st ce x y ns ch z Q hr hg hI hE h hs hz hd hJ hK hx hx2 hy hy2 h59 hch hns ok er
      obtain ⟨l', rfl⟩ : ∃ l', lev = l' + 1 := ⟨lev - 1, by omega⟩
      have h14 := h.at.1.2.2.2
      have hlt := mR_lt hr
      have hnn := (hE nn (hI nn hlt.1 hlt.2)).2
      have inn : inr (iI (nn : Int)) 140000 := iI_in (by omega) (by omega)
      have h72 := hJ.2.2.2.1
      obtain ⟨kb, k2, k3, k4, k5, k6⟩ := hK
      obtain ⟨n', e, hsh⟩ := rG_shape hg
      cases e
      have leaf : ((∃ f k, t = .tag f (.tag k .line)) ∨ ∃ f p, t = .tag f (.tag p .nil)) → st.2 30 nn = iI 0 → rN t = 1 → CQ (wM P s0 l XX) mX5_judge (l' + 1) (.ref P.mo :: [.int (iI (nn : Int)), .int (iI (q : Int))]) st Q := fun hlf hk hN => by
        have e30 : aI st 30 (iI (nn : Int)) = iI 0 := by rw [aI_n (by omega)]; exact hk
        refine tX5_judge ⟨fun _ => ⟨inn, ?_⟩, fun w => absurd h72 w⟩
        rw [e30]
        refine ⟨fun w => absurd w (by decide), fun w => absurd w (by decide), fun w => absurd w (by decide), fun w => absurd w (by decide), fun _ => ?_⟩
        exact m_jname (n := n) (ch := ch) (by omega) hlf hr hg hI hE h hs hz hJ (by omega) (fun st' u ty r so tn e1 e2 e3 e4 e5 e6 e7 e8 e9 e10 e11 => ok st' K c.nd ce u ty r so tn e1 (Nat.le_refl _) e2 (Nat.le_refl _) (Nat.le_refl _) e3 ⟨kb, k2, by omega, by omega, k5, by omega⟩ (by omega) e4 e5 e6 e7 e8 e9 e10 e11) (fun st' e p e1 e2 e3 => er st' K e p e1 (Nat.le_refl _) e2 e3)
      rcases hsh with ⟨f, k, rfl, hk⟩ | ⟨f, p, rfl⟩ | ⟨f, p, d, b, rfl, g1, g2⟩ | ⟨f, p, d, b, rfl, g1, g2⟩ | ⟨f, p, d, b, rfl, g1, g2⟩ | ⟨f, p, g, ps, rfl, g1, g2⟩
      · exact leaf (Or.inl ⟨f, k, rfl⟩) hr.2.2.1 rfl
      · exact leaf (Or.inr ⟨f, p, rfl⟩) hr.2.2.1 rfl
      · have e30 : aI st 30 (iI (nn : Int)) = iI 4 := by rw [aI_n (by omega)]; exact hr.2.2.1
        refine tX5_judge ⟨fun _ => ⟨inn, ?_⟩, fun w => absurd h72 w⟩
        rw [e30]
        exact ⟨fun _ => m_jlam (ch := ch) ihj (by omega) hr g1 g2 hI hE h hs hz hd hJ ⟨kb, k2, k3, k4, k5, k6⟩ hx hx2 hy hy2 h59 hch hns ok er, fun w => absurd w (by decide), fun w => absurd w (by decide), fun w => absurd w (by decide), fun w => absurd w (by unfold tout; decide)⟩
      · have e30 : aI st 30 (iI (nn : Int)) = iI 5 := by rw [aI_n (by omega)]; exact hr.2.2.1
        refine tX5_judge ⟨fun _ => ⟨inn, ?_⟩, fun w => absurd h72 w⟩
        rw [e30]
        exact ⟨fun w => absurd w (by decide), fun _ => m_jprod (ch := ch) ihj (by omega) hr g1 g2 hI hE h hs hz hd hJ ⟨kb, k2, k3, k4, k5, k6⟩ hx hx2 hy hy2 h59 hch hns ok er, fun w => absurd w (by decide), fun w => absurd w (by decide), fun w => absurd w (by unfold tout; decide)⟩
      · exact m_jlet (ch := ch) ihj (by omega) hr g1 g2 hI hE h hs hz hd hJ ⟨kb, k2, k3, k4, k5, k6⟩ hx hx2 hy hy2 h59 hch hns ok er
      · have e30 : aI st 30 (iI (nn : Int)) = iI 7 := by rw [aI_n (by omega)]; exact hr.2.2.2.1
        refine tX5_judge ⟨fun _ => ⟨inn, ?_⟩, fun w => absurd h72 w⟩
        rw [e30]
        refine ⟨fun w => absurd w (by decide), fun w => absurd w (by decide), fun w => absurd w (by decide), fun _ => ?_, fun w => absurd w (by unfold tout; decide)⟩
        obtain ⟨l2, rfl⟩ : ∃ l2, l' = l2 + 1 := ⟨l' - 1, by omega⟩
        refine tX5_judgeUse ?_
        rw [h59]
        refine m_ju1 (ch := ch) (base := ch) ihj (ihu l2 (by omega)) (by omega) hr g1 g2 hI hE h hs hz hd hJ ⟨kb, k2, k3, k4, k5, k6⟩ hx hx2 hy hy2 h59 hch hns (Nat.le_refl _) (fun st' K' nd' ce' u ty r so tn ch9 e1 e2 e3 e4 e5 e6 e7 e8 e9 e10 e11 e12 e13 e14 e15 e16 x4 => ?_) (fun st' K' e p' e1 e2 e3 e4 x4 x5 => ?_)
        · refine tX5_judgeUse_68 ⟨fun _ => ⟨fun _ => ?_, fun w => absurd (by rw [iI_lt (by omega) (by omega) (by omega) (by omega)]; omega) w⟩, fun w => absurd e6.2.2.2.1 w⟩
          refine ok _ K' nd' ce' u ty r so tn e1 e2 (e3.t2 (mjf.put (nd := c.nd) (ce := ce) (ns := ns) (ch := ch) (by omega)) (Nat.le_refl _) (Nat.le_refl _) (Nat.le_refl _) (Nat.le_refl _)) e4 e5 (e6.putx (by omega)) e7 e8 (by rw [fI_put (by omega)]; exact e9) (by rw [fI_self]; exact h59.symm) (fun st'' ha => e11 st'' ha) e12 (by rw [fI_put (by omega)]; exact e13) (by rw [fI_put (by omega)]; exact e14) (e15.mv (fun _ _ _ => rfl) (fun _ w => w) (Nat.le_refl _) rfl (Nat.le_refl _)) e16
        · exact tX5_judgeUse_68 ⟨fun w => absurd w e4.ne, fun _ => er _ K' e p' e1 e2 (e3.t2 (mjf.put (nd := c.nd) (ce := ce) (ns := ns) (ch := ch) (by omega)) (Nat.le_refl _) (Nat.le_refl _) (Nat.le_refl _) (Nat.le_refl _)) (e4.put (by omega))⟩
    refine ⟨hj, fun lev hl => ?_⟩
    intro E c t nn lo hi sc bl q K st st0 ce x y ns ch z base x1 Q hr hg hI hE h hs hz hd hJ hK hx hx2 hy hy2 h59 hch hns hb ok er
    rcases mR_kind hr with ⟨f, p, g, ps, rfl⟩ | hkd
    · obtain ⟨n', e, g1, g2⟩ : ∃ n', n + 1 = n' + 1 ∧ rG g 0 sc.length n' ∧ rG ps 1 sc.length n' := hg
      cases e
      exact m_ju1 (ch := ch) (base := base) ihj (ihu lev (by omega)) (by omega) hr g1 g2 hI hE h hs hz hd hJ hK hx hx2 hy hy2 h59 hch hns hb ok er
    · exact m_ju0 (hj lev hl) E c t nn lo hi sc bl q K st st0 ce x y ns ch z base x1 Q hkd hr hg hI hE h hs hz hd hJ hK hx hx2 hy hy2 h59 hch hns hb ok er
theorem m_judge (n lev : Nat) (hl : 3 * n + 230 ≤ lev) : MJd P s0 l XX X J TN lev n := (m_judge_all n).1 lev hl
end MJX
