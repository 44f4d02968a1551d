/-! M OVER S (33): reading: binders -/
/-- the contract of reading a term -/
def MRt (P : MPl) (s0 : State) (l : Launch) (XX : Prop) (t : TX) (b : Bool) (lev n : Nat) : Prop := ∀ (bs : List (Option Nat)) (k : TK) (st : MSt) (nd : Nat) (Q : Outcome → MSt → Prop), RG t st k → fI st 15 = iI (if b then 1 else 0) → (b = true → fI st 39 = iI (nd : Int) ∧ nd + 2 * (t.2 - k.pl) ≤ 140000 ∧ ∀ e p, ¬ rBad (rTerm t n bs k) e p) →
  (∀ st' v k' vn nd', rTerm t n bs k = .ok (v, k') → RG t st' k' → k.pl < k'.pl → rfr b nd st st' → nd ≤ nd' → (b = true → fI st' 39 = iI ((nd' : Nat) : Int) ∧ mR (tname t) st' v bs vn nd nd' none ∧ nd' + 2 * (t.2 - k'.pl) + 1 ≤ nd + 2 * (t.2 - k.pl)) → Q (.returned (some (.int (iI ((vn : Nat) : Int))))) st') →
  (∀ st' e p r, b = false → rBad (rTerm t n bs k) e p → RB t st' e p → rfr b nd st st' → Q (.returned (some (.int r))) st') → CQ (wM P s0 l XX) mX5_readTerm lev (.ref P.mo :: [.int (iI (40 - (n : Int)))]) st Q
theorem rNeed_3 {t : TX} {s : Nat} {k : TK} (h : k.ki = 3) : rNeed t s k = .error (2, (k.pl : Int)) := by
  unfold rNeed rWrong isSg
  rw [h]
  rfl
theorem rName_3 {t : TX} {k : TK} (h : k.ki = 3) : rName t k = .error (2, (k.pl : Int)) := by
  unfold rName rWrong
  rw [h]
  rfl
theorem rAtom_3 {t : TX} {tm : List (Option Nat) → TK → RR V} {bs : List (Option Nat)} {k : TK} (h : k.ki = 3) : rAtom t tm bs k = .error (2, (k.pl : Int)) := by
  unfold rAtom
  have e : isSg k 40 = false := by unfold isSg; rw [h]; rfl
  rw [e, rName_3 h]
  rfl
theorem rTerm_3 {t : TX} {n : Nat} {bs : List (Option Nat)} {k : TK} (h : k.ki = 3) : rTerm t n bs k = .error (2, (k.pl : Int)) := by
  cases n with
  | zero => unfold rTerm; rw [h]; rfl
  | succ n =>
    unfold rTerm
    have e : ∀ s, isSg k s = false := fun s => by unfold isSg; rw [h]; rfl
    have e2 : ∀ w, isWd t k w = false := fun w => by unfold isWd; rw [h]; rfl
    rw [e, e, e2]
    show rBind (rUse t (rTerm t n) bs k) _ = _
    unfold rUse
    rw [rAtom_3 h]
    rfl
section MRM
variable {P : MPl} {s0 : State} {l : Launch} {XX : Prop} {lev n nd : Nat} {Q : Outcome → MSt → Prop} {st st' st'' st0 : MSt} {t : TX} {k : TK} {b : Bool} {bs : List (Option Nat)}
theorem m_termB {x : Int32} {e p : Nat} (hl : 3 ≤ lev) (h : RB t st e p) (ok : Q (.returned (some (.int (iI 0)))) st) : CQ (wM P s0 l XX) mX5_readTerm lev (.ref P.mo :: [.int x]) st Q := by
  obtain ⟨l', rfl⟩ : ∃ l', lev = l' + 2 := ⟨lev - 2, by omega⟩
  have j29 : jX5_readTerm_29 P s0 l XX (l' + 1) st Q x st := tX5_readTerm_29 ⟨fun w => absurd w h.ne, fun _ => ok⟩
  exact tX5_readTerm ⟨fun _ => ⟨fun _ => m_cantB (by omega) h j29, fun _ => tX5_wrong ⟨fun w => absurd w h.ne, fun _ => j29⟩⟩, fun _ => j29⟩
theorem m_nodeG {kd y1 y2 y3 y4 : Int32} (hl : 1 ≤ lev) (h : RG t st k) (h15 : fI st 15 = iI (if b then 1 else 0)) (hb : b = true → fI st 39 = iI (nd : Int) ∧ nd < 140000)
    (ok : ∀ s1 r, RG t s1 k → rfr b nd st s1 → (∀ j, j ≠ 39 → fI s1 j = fI st j) → (b = true → r = nd ∧ fI s1 39 = iI ((nd + 1 : Nat) : Int) ∧ s1.2 30 nd = kd ∧ s1.2 31 nd = y1 ∧ s1.2 32 nd = y2 ∧ s1.2 33 nd = y3 ∧ s1.2 34 nd = y4 ∧ s1.2 35 nd = y4 ∧ s1.2 38 nd = iI (nd : Int)) → Q (.returned (some (.int (iI ((r : Nat) : Int))))) s1) : CQ (wM P s0 l XX) mX5_node lev (.ref P.mo :: [.int kd, .int y1, .int y2, .int y3, .int y4]) st Q := by
  obtain ⟨l', rfl⟩ : ∃ l', lev = l' + 1 := ⟨lev - 1, by omega⟩
  cases b with
  | false => exact tX5_node ⟨fun _ => ok st 0 h rfr.rf (fun _ _ => rfl) (fun w => by cases w), fun w => absurd h15 w⟩
  | true =>
    obtain ⟨h39, hnd⟩ := hb rfl
    refine tX5_node ⟨fun w => absurd (h15.symm.trans w) (by decide), fun _ => ?_⟩
    rw [h39]
    have hin := iI_in (a := nd) (n := 140000) hnd (by omega)
    refine ⟨hin, hin, hin, hin, hin, hin, hin, ?_⟩
    have e9 : iI (nd : Int) + iI 1 - iI 1 = iI (nd : Int) := by rw [iI_suc, iI_prd]
    rw [e9, iI_suc]
    have ar : ∀ k' j, (mput 39 (iI ((nd + 1 : Nat) : Int)) (mst 38 (iI (nd : Int)) (iI (nd : Int)) (mst 35 (iI (nd : Int)) y4 (mst 34 (iI (nd : Int)) y4 (mst 33 (iI (nd : Int)) y3 (mst 32 (iI (nd : Int)) y2 (mst 31 (iI (nd : Int)) y1 (mst 30 (iI (nd : Int)) kd st)))))))).2 k' j = if k' = 38 ∧ j = nd then iI (nd : Int) else if k' = 35 ∧ j = nd then y4 else if k' = 34 ∧ j = nd then y4 else if k' = 33 ∧ j = nd then y3 else if k' = 32 ∧ j = nd then y2 else if k' = 31 ∧ j = nd then y1 else if k' = 30 ∧ j = nd then kd else st.2 k' j := fun k' j => by
      rw [mput_a, mst_a (by omega), mst_a (by omega), mst_a (by omega), mst_a (by omega), mst_a (by omega), mst_a (by omega), mst_a (by omega)]
    have fr : ∀ j, j ≠ 39 → fI (mput 39 (iI ((nd + 1 : Nat) : Int)) (mst 38 (iI (nd : Int)) (iI (nd : Int)) (mst 35 (iI (nd : Int)) y4 (mst 34 (iI (nd : Int)) y4 (mst 33 (iI (nd : Int)) y3 (mst 32 (iI (nd : Int)) y2 (mst 31 (iI (nd : Int)) y1 (mst 30 (iI (nd : Int)) kd st)))))))) j = fI st j := fun j hj => by rw [fI_put hj]; rfl
    have v39 : fI (mput 39 (iI ((nd + 1 : Nat) : Int)) (mst 38 (iI (nd : Int)) (iI (nd : Int)) (mst 35 (iI (nd : Int)) y4 (mst 34 (iI (nd : Int)) y4 (mst 33 (iI (nd : Int)) y3 (mst 32 (iI (nd : Int)) y2 (mst 31 (iI (nd : Int)) y1 (mst 30 (iI (nd : Int)) kd st)))))))) 39 = iI ((nd + 1 : Nat) : Int) := fI_self
    generalize mput 39 (iI ((nd + 1 : Nat) : Int)) (mst 38 (iI (nd : Int)) (iI (nd : Int)) (mst 35 (iI (nd : Int)) y4 (mst 34 (iI (nd : Int)) y4 (mst 33 (iI (nd : Int)) y3 (mst 32 (iI (nd : Int)) y2 (mst 31 (iI (nd : Int)) y1 (mst 30 (iI (nd : Int)) kd st))))))) = s1 at ar fr v39
    have F1 : rfr true nd st s1 := ⟨fun j hj => fr j (by omega), (fun w => by cases w), fun k' j w => by
      rw [ar, if_neg (fun q => by have := w (by omega) rfl; omega), if_neg (fun q => by have := w (by omega) rfl; omega), if_neg (fun q => by have := w (by omega) rfl; omega), if_neg (fun q => by have := w (by omega) rfl; omega), if_neg (fun q => by have := w (by omega) rfl; omega), if_neg (fun q => by have := w (by omega) rfl; omega), if_neg (fun q => by have := w (by omega) rfl; omega)]⟩
    obtain ⟨hx, ⟨h9, hp, a0, h60, ha0, hcs⟩, h3, h4, h5⟩ := h
    have G1 : RG t s1 k := by
      refine ⟨hx.rv F1, ⟨(fr 9 (by omega)).trans h9, hp, a0, (fr 6 (by omega)).trans h60, ha0, ?_⟩, h3, (fr 72 (by omega)).trans h4, h5⟩
      rw [fr 7 (by omega), fr 8 (by omega), fr 10 (by omega), fr 11 (by omega)]
      exact hcs
    refine ok s1 nd G1 F1 fr (fun _ => ⟨rfl, v39, ?_, ?_, ?_, ?_, ?_, ?_, ?_⟩)
    · rw [ar, if_neg (by omega), if_neg (by omega), if_neg (by omega), if_neg (by omega), if_neg (by omega), if_neg (by omega), if_pos ⟨rfl, rfl⟩]
    · rw [ar, if_neg (by omega), if_neg (by omega), if_neg (by omega), if_neg (by omega), if_neg (by omega), if_pos ⟨rfl, rfl⟩]
    · rw [ar, if_neg (by omega), if_neg (by omega), if_neg (by omega), if_neg (by omega), if_pos ⟨rfl, rfl⟩]
    · rw [ar, if_neg (by omega), if_neg (by omega), if_neg (by omega), if_pos ⟨rfl, rfl⟩]
    · rw [ar, if_neg (by omega), if_neg (by omega), if_pos ⟨rfl, rfl⟩]
    · rw [ar, if_neg (by omega), if_pos ⟨rfl, rfl⟩]
    · rw [ar, if_pos ⟨rfl, rfl⟩]
/-- \ and ! and let -/
theorem m_bind3 {kd : Int32} {s1 fr0 : Nat} {mds : MD} {as2 : List Value} {rSep : TK → RR Nat} {F : V → V → V} {x1 : Int32} (ih : MRt P s0 l XX t b lev n) (hx1 : x1 + iI 1 = iI (40 - (n : Int))) (hW : IW P s0 l XX) (hl : 8 ≤ lev) (hs1 : s1 ≤ 257)
    (hsep : ∀ (k : TK) (st : MSt) (Q : Outcome → MSt → Prop), RG t st k → (∀ st' x, rSep k = .ok (x, sGo t k.nx) → RG t st' (sGo t k.nx) → k.pl < (sGo t k.nx).pl → mrf st st' → Q (.returned none) st') → (∀ st' e p, rBad (rSep k) e p → RB t st' e p → mrf st st' → Q (.returned none) st') → CQ (wM P s0 l XX) mds lev (.ref P.mo :: as2) st Q)
    (hsepB : ∀ (st : MSt) (e p : Nat) (Q : Outcome → MSt → Prop), RB t st e p → (∀ st', RB t st' e p → mrf st st' → Q (.returned none) st') → CQ (wM P s0 l XX) mds lev (.ref P.mo :: as2) st Q)
    (hsep3 : ∀ k, k.ki = 3 → rBad (rSep k) 2 k.pl) (h : RG t st k) (hk : k.ki ≤ 2) (h15 : fI st 15 = iI (if b then 1 else 0))
    (hb : b = true → fI st 39 = iI (nd : Int) ∧ nd + 2 * (t.2 - k.pl) ≤ 140000 ∧ ∀ e p, ¬ rBad (rBind (rName t (sGo t k.nx)) fun x k1 => rBind (rNeed t s1 k1) fun _ k2 => rBind (rTerm t n bs k2) fun d k3 => rBind (rSep k3) fun _ k4 => rBind (rTerm t n (some x :: bs) k4) fun bb k5 => .ok (F d bb, k5)) e p)
    (ok : ∀ st' x d bb k' vn nd', (rBind (rName t (sGo t k.nx)) fun x k1 => rBind (rNeed t s1 k1) fun _ k2 => rBind (rTerm t n bs k2) fun d k3 => rBind (rSep k3) fun _ k4 => rBind (rTerm t n (some x :: bs) k4) fun bb k5 => .ok (F d bb, k5)) = .ok (F d bb, k') → RG t st' k' → k.pl < k'.pl → rfr b nd st st' → nd ≤ nd' →
      (b = true → vn = nd ∧ fI st' 39 = iI ((nd' : Nat) : Int) ∧ nd' + 2 * (t.2 - k'.pl) + 1 ≤ nd + 2 * (t.2 - k.pl) ∧ st'.2 30 nd = kd ∧ st'.2 34 nd = iI (fr0 : Int) ∧ st'.2 35 nd = iI (fr0 : Int) ∧ st'.2 38 nd = iI (nd : Int) ∧ nmO (tname t) st' nd (some x) nd nd' (nd + 2) nd' ∧ ∃ u v l2 : Nat, nd + 2 ≤ l2 ∧ l2 ≤ nd' ∧ st'.2 32 nd = iI (u : Int) ∧ st'.2 33 nd = iI (v : Int) ∧ mR (tname t) st' d bs u (nd + 2) l2 none ∧ mR (tname t) st' bb (some x :: bs) v l2 nd' none) → Q (.returned (some (.int (iI ((vn : Nat) : Int))))) st')
    (er : ∀ st' e p r, b = false → rBad (rBind (rName t (sGo t k.nx)) fun x k1 => rBind (rNeed t s1 k1) fun _ k2 => rBind (rTerm t n bs k2) fun d k3 => rBind (rSep k3) fun _ k4 => rBind (rTerm t n (some x :: bs) k4) fun bb k5 => .ok (F d bb, k5)) e p → RB t st' e p → rfr b nd st st' → Q (.returned (some (.int r))) st') :
    CQ (wM P s0 l XX) mX5_node lev (.ref P.mo :: [.int kd, .int (iI 0), .int (iI 0), .int (iI 0), .int (iI (fr0 : Int))]) st (onI (fun r4 t3 => (CQ (wM P s0 l XX) mX5_next lev (.ref P.mo :: []) t3 (onV (fun t5 => (CQ (wM P s0 l XX) mX5_nameNode lev (.ref P.mo :: []) t5 (onI (fun r8 t7 => (CQ (wM P s0 l XX) mX5_need lev (.ref P.mo :: [.int (iI (sgM s1 : Int))]) t7 (onV (fun t9 => (CQ (wM P s0 l XX) mX5_readTerm lev (.ref P.mo :: [.int (x1 + (iI 1))]) t9 (onI (fun r12 t11 => (CQ (wM P s0 l XX) mds lev (.ref P.mo :: as2) t11 (onV (fun t13 => (CQ (wM P s0 l XX) mX5_readTerm lev (.ref P.mo :: [.int (x1 + (iI 1))]) t13 (onI (fun r16 t15 => (CQ (wM P s0 l XX) mX5_parts lev (.ref P.mo :: [.int r4, .int r8, .int r12, .int r16]) t15 (onI (fun r18 t17 => Q (.returned (some (.int r18))) t17) (fun x t => Q (.threw x) t)))) (fun x t => Q (.threw x) t)))) (fun x t => Q (.threw x) t)))) (fun x t => Q (.threw x) t)))) (fun x t => Q (.threw x) t)))) (fun x t => Q (.threw x) t)))) (fun x t => Q (.threw x) t)))) (fun x t => Q (.threw x) t)) := by
  obtain ⟨l', rfl⟩ : ∃ l', lev = l' + 1 := ⟨lev - 1, by omega⟩
  have hx := h.1
  have hx2 := hx.2.1
  obtain ⟨w1, w2, w3⟩ := h.at hk
  generalize hR : (rBind (rName t (sGo t k.nx)) fun x k1 => rBind (rNeed t s1 k1) fun _ k2 => rBind (rTerm t n bs k2) fun d k3 => rBind (rSep k3) fun _ k4 => rBind (rTerm t n (some x :: bs) k4) fun bb k5 => (.ok (F d bb, k5) : RR V)) = RES at hb ok er
  -- nothing is built when something is wrong
  have bf : ∀ {e p : Nat}, rBad RES e p → b = false := fun hbd => by
    cases hbb : b with
    | false => rfl
    | true => exact absurd hbd ((hb hbb).2.2 _ _)
  -- the rest, when something is wrong
  have B5 : ∀ (r4 r8 r12 : Int32) (s : MSt) (e p : Nat), rBad RES e p → RB t s e p → rfr b nd st s → CQ (wM P s0 l XX) mX5_readTerm (l' + 1) (.ref P.mo :: [.int (x1 + (iI 1))]) s (onI (fun r16 t15 => (CQ (wM P s0 l XX) mX5_parts (l' + 1) (.ref P.mo :: [.int r4, .int r8, .int r12, .int r16]) t15 (onI (fun r18 t17 => Q (.returned (some (.int r18))) t17) (fun x t => Q (.threw x) t)))) (fun x t => Q (.threw x) t)) := fun r4 r8 r12 s e p hbd hB hF => by
    have b0 := bf hbd
    refine m_termB (by omega) hB (tX5_parts ⟨fun _ => er s e p r4 b0 hbd hB hF, fun w => absurd ((hF.1 15 (by omega)).trans h15) ?_⟩)
    rw [b0]
    exact fun q => w q
  have B4 : ∀ (r4 r8 r12 : Int32) (s : MSt) (e p : Nat), rBad RES e p → RB t s e p → rfr b nd st s → CQ (wM P s0 l XX) mds (l' + 1) (.ref P.mo :: as2) s (onV (fun t13 => (CQ (wM P s0 l XX) mX5_readTerm (l' + 1) (.ref P.mo :: [.int (x1 + (iI 1))]) t13 (onI (fun r16 t15 => (CQ (wM P s0 l XX) mX5_parts (l' + 1) (.ref P.mo :: [.int r4, .int r8, .int r12, .int r16]) t15 (onI (fun r18 t17 => Q (.returned (some (.int r18))) t17) (fun x t => Q (.threw x) t)))) (fun x t => Q (.threw x) t)))) (fun x t => Q (.threw x) t)) := fun r4 r8 r12 s e p hbd hB hF =>
    hsepB s e p _ hB (fun s' g1 g2 => B5 r4 r8 r12 s' e p hbd g1 (hF.tr g2.r (Nat.le_refl _)))
  have B3 : ∀ (r4 r8 : Int32) (s : MSt) (e p : Nat), rBad RES e p → RB t s e p → rfr b nd st s → CQ (wM P s0 l XX) mX5_readTerm (l' + 1) (.ref P.mo :: [.int (x1 + (iI 1))]) s (onI (fun r12 t11 => (CQ (wM P s0 l XX) mds (l' + 1) (.ref P.mo :: as2) t11 (onV (fun t13 => (CQ (wM P s0 l XX) mX5_readTerm (l' + 1) (.ref P.mo :: [.int (x1 + (iI 1))]) t13 (onI (fun r16 t15 => (CQ (wM P s0 l XX) mX5_parts (l' + 1) (.ref P.mo :: [.int r4, .int r8, .int r12, .int r16]) t15 (onI (fun r18 t17 => Q (.returned (some (.int r18))) t17) (fun x t => Q (.threw x) t)))) (fun x t => Q (.threw x) t)))) (fun x t => Q (.threw x) t)))) (fun x t => Q (.threw x) t)) := fun r4 r8 s e p hbd hB hF =>
    m_termB (by omega) hB (B4 r4 r8 _ s e p hbd hB hF)
  refine m_nodeG (b := b) (nd := nd) (by omega) h h15 (fun hbb => ⟨(hb hbb).1, by have := (hb hbb).2.1; omega⟩) (fun sa ra ga Fa oa na => ?_)
  obtain ⟨wa1, -, -⟩ := ga.at hk
  refine m_nextG hW (by omega) ga.1 ga.2.2.2.1 wa1 w2 (fun sb gb pb Fb => ?_) (fun sb gb1 gb2 Fb => ?_)
  rotate_left
  · -- the name's token is too long
    have hbd : rBad RES 2 (sGo t k.nx).pl := by rw [← hR]; exact rBad.er (rName_3 gb1)
    have b0 := bf hbd
    have F2 : rfr b nd st sb := Fa.tr Fb.r (Nat.le_refl _)
    refine m_nameB hW (by omega) gb2 (((F2.1 15 (by omega)).trans h15).trans (by rw [b0]; rfl)) (fun sc r8 gc Fc => ?_)
    have F3 : rfr b nd st sc := F2.tr Fc.r (Nat.le_refl _)
    exact m_needB hW (by omega) gc (fun sd gd Fd => B3 _ r8 sd _ _ hbd gd (F3.tr Fd.r (Nat.le_refl _)))
  -- the name
  have F2 : rfr b nd st sb := Fa.tr Fb.r (Nat.le_refl _)
  have h15b : fI sb 15 = iI (if b then 1 else 0) := (F2.1 15 (by omega)).trans h15
  refine m_nameG (b := b) (nd := nd + 1) hW (by omega) gb h15b (fun hbb => ⟨(Fb.1 39 (by omega)).trans (na hbb).2.1, by have := (hb hbb).2.1; have := gb.2.2.1.1; omega, fun e p hbd => (hb hbb).2.2 e p (by rw [← hR]; exact hbd.bind (fun _ k1 h3 => rBad.er (rNeed_3 h3)))⟩) (fun sc vx ec kc gc pc Fc nc => ?_) (fun sc e p r8 b0 hbd' gc Fc => ?_)
  rotate_left
  · have hbd : rBad RES e p := by rw [← hR]; exact hbd'.bind (fun _ k1 h3 => rBad.er (rNeed_3 h3))
    have F3 : rfr b nd st sc := F2.tr Fc (Nat.le_succ _)
    exact m_needB hW (by omega) gc (fun sd gd Fd => B3 _ r8 sd e p hbd gd (F3.tr Fd.r (Nat.le_refl _)))
  have F3 : rfr b nd st sc := F2.tr Fc (Nat.le_succ _)
  have hR1 : (rBind (rNeed t s1 (sGo t (sGo t k.nx).nx)) fun _ k2 => rBind (rTerm t n bs k2) fun d k3 => rBind (rSep k3) fun _ k4 => rBind (rTerm t n (some (sGo t k.nx).pl :: bs) k4) fun bb k5 => (.ok (F d bb, k5) : RR V)) = RES := by rw [← hR, ec]; rfl
  generalize hkx : sGo t k.nx = kx at *
  refine m_need hW (by omega) gc hs1 (fun sd ed gd pd Fd => ?_) (fun sd e p hbd' gd Fd => ?_)
  rotate_left
  · have hbd : rBad RES e p := by rw [← hR1]; exact hbd'.bind (fun _ k1 h3 => rBad.er (rTerm_3 h3))
    exact B3 _ _ sd e p hbd gd (F3.tr Fd.r (Nat.le_refl _))
  have F4 : rfr b nd st sd := F3.tr Fd.r (Nat.le_refl _)
  have hR2 : (rBind (rTerm t n bs (sGo t (sGo t kx.nx).nx)) fun d k3 => rBind (rSep k3) fun _ k4 => rBind (rTerm t n (some kx.pl :: bs) k4) fun bb k5 => (.ok (F d bb, k5) : RR V)) = RES := by rw [← hR1, ed]; rfl
  rw [hx1]
  have b3 : ∀ d k3, k3.ki = 3 → rBad (rBind (rSep k3) fun _ k4 => rBind (rTerm t n (some kx.pl :: bs) k4) fun bb k5 => (.ok (F d bb, k5) : RR V)) 2 k3.pl := fun d k3 h3 => (hsep3 k3 h3).bind (fun _ k4 h4 => rBad.er (rTerm_3 h4))
  refine ih bs (sGo t (sGo t kx.nx).nx) sd (nd + 2) _ gd ((F4.1 15 (by omega)).trans h15) (fun hbb => ⟨(Fd.1 39 (by omega)).trans (nc hbb).2.1, by have := (hb hbb).2.1; have := gd.2.2.1.1; omega, fun e p hbd => (hb hbb).2.2 e p (by rw [← hR2]; exact hbd.bind b3)⟩) (fun se d k3 vd nde ee ge pe Fe hne ne => ?_) (fun se e p r b0 hbd' ge Fe => ?_)
  rotate_left
  · have hbd : rBad RES e p := by rw [← hR2]; exact hbd'.bind b3
    have := B4 (iI (ra : Int)) (iI (vx : Int)) r se e p hbd ge (F4.tr Fe (by omega))
    rw [hx1] at this
    exact this
  have F5 : rfr b nd st se := F4.tr Fe (by omega)
  have hR3 : (rBind (rSep k3) fun _ k4 => rBind (rTerm t n (some kx.pl :: bs) k4) fun bb k5 => (.ok (F d bb, k5) : RR V)) = RES := by rw [← hR2, ee]; rfl
  refine hsep k3 se _ ge (fun sf xf ef gf pf Ff => ?_) (fun sf e p hbd' gf Ff => ?_)
  rotate_left
  · have hbd : rBad RES e p := by rw [← hR3]; exact hbd'.bind (fun _ k4 h4 => rBad.er (rTerm_3 h4))
    have := B5 (iI (ra : Int)) (iI (vx : Int)) (iI (vd : Int)) sf e p hbd gf (F5.tr Ff.r (Nat.le_refl _))
    rw [hx1] at this
    exact this
  have F6 : rfr b nd st sf := F5.tr Ff.r (Nat.le_refl _)
  have hR4 : (rBind (rTerm t n (some kx.pl :: bs) (sGo t k3.nx)) fun bb k5 => (.ok (F d bb, k5) : RR V)) = RES := by rw [← hR3, ef]; rfl
  have b5 : ∀ bb k5, k5.ki = 3 → rBad (.ok (F d bb, k5) : RR V) 2 k5.pl := fun bb k5 h5 => Or.inr ⟨_, _, rfl, h5, rfl, rfl⟩
  refine ih (some kx.pl :: bs) (sGo t k3.nx) sf nde _ gf ((F6.1 15 (by omega)).trans h15) (fun hbb => ⟨(Ff.1 39 (by omega)).trans (ne hbb).1, by have := (hb hbb).2.1; have := (ne hbb).2.2; have := gf.2.2.1.1; omega, fun e p hbd => (hb hbb).2.2 e p (by rw [← hR4]; exact hbd.bind b5)⟩) (fun sg bb k5 vb ndg eg gg pg Fg hng ng => ?_) (fun sg e p r b0 hbd' gg Fg => ?_)
  rotate_left
  · have hbd : rBad RES e p := by rw [← hR4]; exact hbd'.bind b5
    refine tX5_parts ⟨fun _ => er sg e p _ b0 hbd gg (F6.tr Fg (by omega)), fun w => absurd (((F6.tr Fg (by omega)).1 15 (by omega)).trans h15) ?_⟩
    rw [b0]
    exact fun q => w q
  have F7 : rfr b nd st sg := F6.tr Fg (by omega)
  have eR : RES = .ok (F d bb, k5) := by rw [← hR4, eg]; rfl
  have h15g : fI sg 15 = iI (if b then 1 else 0) := (F7.1 15 (by omega)).trans h15
  cases b with
  | false =>
    refine tX5_parts ⟨fun _ => ok sg kx.pl d bb k5 ra ndg eR gg (by omega) F7 (by omega) (fun w => by cases w), fun w => absurd h15g w⟩
  | true =>
    obtain ⟨a1, a2, a3, a4, a5, a6, a7, a8, a9⟩ := na rfl
    obtain ⟨c1, c2, c3, c4, c5, c6⟩ := nc rfl
    obtain ⟨d1, d2, d3⟩ := ne rfl
    obtain ⟨g1, g2, g3⟩ := ng rfl
    obtain ⟨i1, i2, -⟩ := hb rfl
    subst a1
    subst c1
    have hra : ra < 140000 := by omega
    have inr' : inr (iI (ra : Int)) 140000 := iI_in hra (by omega)
    refine tX5_parts ⟨fun w => absurd (h15g.symm.trans w) (by decide), fun _ => ⟨inr', inr', inr', ?_⟩⟩
    have ar : ∀ k' j, (mst 33 (iI (ra : Int)) (iI (vb : Int)) (mst 32 (iI (ra : Int)) (iI (vd : Int)) (mst 31 (iI (ra : Int)) (iI ((ra + 1 : Nat) : Int)) sg))).2 k' j = if k' = 33 ∧ j = ra then iI (vb : Int) else if k' = 32 ∧ j = ra then iI (vd : Int) else if k' = 31 ∧ j = ra then iI ((ra + 1 : Nat) : Int) else sg.2 k' j := fun k' j => by
      rw [mst_a (by omega), mst_a (by omega), mst_a (by omega)]
    have fr : ∀ j, fI (mst 33 (iI (ra : Int)) (iI (vb : Int)) (mst 32 (iI (ra : Int)) (iI (vd : Int)) (mst 31 (iI (ra : Int)) (iI ((ra + 1 : Nat) : Int)) sg))) j = fI sg j := fun j => rfl
    generalize mst 33 (iI (ra : Int)) (iI (vb : Int)) (mst 32 (iI (ra : Int)) (iI (vd : Int)) (mst 31 (iI (ra : Int)) (iI ((ra + 1 : Nat) : Int)) sg)) = sh at ar fr
    have F8 : rfr true ra sg sh := ⟨fun j _ => fr j, (fun w => by cases w), fun k' j w => by
      rw [ar, if_neg (fun q => by have := w (by omega) rfl; omega), if_neg (fun q => by have := w (by omega) rfl; omega), if_neg (fun q => by have := w (by omega) rfl; omega)]⟩
    have G8 : RG t sh k5 := by
      obtain ⟨hx, ⟨h9, hp, a0, h60, ha0, hcs⟩, h3, h4, h5⟩ := gg
      refine ⟨hx.rv F8, ⟨(fr 9).trans h9, hp, a0, (fr 6).trans h60, ha0, ?_⟩, h3, (fr 72).trans h4, h5⟩
      rw [fr 7, fr 8, fr 10, fr 11]
      exact hcs
    -- old nodes
    have oa : ∀ k', 30 ≤ k' → k' ≤ 38 → k' ≠ 31 → k' ≠ 32 → k' ≠ 33 → sh.2 k' ra = sa.2 k' ra := fun k' z1 z2 z3 z4 z5 => by
      rw [ar, if_neg (by omega), if_neg (by omega), if_neg (by omega), Fg.2.2 k' ra (fun _ _ => by omega), Ff.2, Fe.2.2 k' ra (fun _ _ => by omega), Fd.2, Fc.2.2 k' ra (fun _ _ => by omega), Fb.2]
    have oc : ∀ k', 30 ≤ k' → k' ≤ 38 → sh.2 k' (ra + 1) = sc.2 k' (ra + 1) := fun k' z1 z2 => by
      rw [ar, if_neg (by omega), if_neg (by omega), if_neg (by omega), Fg.2.2 k' (ra + 1) (fun _ _ => by omega), Ff.2, Fe.2.2 k' (ra + 1) (fun _ _ => by omega), Fd.2]
    refine ok sh kx.pl d bb k5 ra ndg eR G8 (by omega) (F7.tr F8 (Nat.le_refl _)) (by omega) (fun _ => ⟨rfl, (fr 39).trans g1, by omega, (oa 30 (by omega) (by omega) (by omega) (by omega) (by omega)).trans a3, (oa 34 (by omega) (by omega) (by omega) (by omega) (by omega)).trans a7, (oa 35 (by omega) (by omega) (by omega) (by omega) (by omega)).trans a8, (oa 38 (by omega) (by omega) (by omega) (by omega) (by omega)).trans a9, Or.inr ⟨ra + 1, kx.pl, rfl, by omega, by omega, by omega, by have := gb.2.2.1; have := this.2 (by omega); omega, by rw [ar, if_neg (by omega), if_neg (by omega), if_pos ⟨rfl, rfl⟩], (oc 31 (by omega) (by omega)).trans c4, (oc 32 (by omega) (by omega)).trans c5⟩, vd, vb, nde, by omega, by omega, by rw [ar, if_neg (by omega), if_pos ⟨rfl, rfl⟩], by rw [ar, if_pos ⟨rfl, rfl⟩], ?_, ?_⟩)
    · refine mR_mv _ _ _ _ _ _ d2 (fun k' j z1 z2 z3 z4 => ?_) (fun _ _ w => by cases w)
      rw [ar, if_neg (by omega), if_neg (by omega), if_neg (by omega), Fg.2.2 k' j (fun _ _ => by omega), Ff.2]
    · refine mR_mv _ _ _ _ _ _ g2 (fun k' j z1 z2 z3 z4 => ?_) (fun _ _ w => by cases w)
      rw [ar, if_neg (by omega), if_neg (by omega), if_neg (by omega)]
end MRM
