/-! M OVER S (16): PureHouseModel.normal -/
theorem sBind_kb {α β : Type} {X : SX} {r : SR α} {f : α → KS → SR β} (h : KB X r.1) (hf : ∀ a K, KB X K → KB X (f a K).1) : KB X (sBind r f).1 := by
  obtain ⟨K, r⟩ := r
  cases r with
  | ok a => exact hf a K h
  | error e => exact h
theorem sSpend_kb {X : SX} {c : Nat} {K : KS} (h : KB X K) : KB X (sSpend X c K).1 := by
  obtain ⟨h1, h2, h3⟩ := h
  unfold sSpend
  split
  · exact ⟨h1, h2, h3⟩
  · split
    · exact ⟨h1, h2, h3⟩
    · exact ⟨by show K.work + 1 ≤ X.lim; omega, h2, by show K.life + 1 ≤ 60000; omega⟩
theorem sSpendN_kb {X : SX} {c : Nat} : ∀ (n : Nat) (K : KS), KB X K → KB X (sSpendN X c n K).1 := by
  intro n
  induction n with
  | zero => intro K h; exact h
  | succ n ih => intro K h; exact sBind_kb (sSpend_kb h) (fun _ K' h' => ih K' h')
theorem sHead_kb {X : SX} : ∀ (f : Nat) (t r : V) (as : List V) (K : KS), KB X K → KB X (sHead X f t r as K).1 := by
  intro f
  induction f with
  | zero => intro t r as K h; exact h
  | succ f ih =>
    intro t r as K h
    unfold sHead
    split
    · split
      · exact h
      · exact sBind_kb (sSpend_kb h) (fun _ K' h' => ih _ _ _ _ h')
      · exact h
    · split
      · exact h
      · exact sBind_kb (sSpend_kb h) (fun _ K' h' => ih _ _ _ _ h')
    · split
      · exact h
      · exact sBind_kb (sSpend_kb h) (fun _ K' h' => ih _ _ _ _ h')
    · exact sBind_kb (sSpend_kb h) (fun _ K' h' => ih _ _ _ _ h')
    · exact sBind_kb (sSpendN_kb _ _ h) (fun _ K' h' => ih _ _ _ _ h')
    · exact h
theorem sHd_kb {X : SX} {v : V} {K : KS} (h : KB X K) : KB X (sHd X v K).1 := by
  unfold sHd
  split
  · exact sHead_kb _ _ _ _ _ h
  · exact h
theorem mT_snoc {c : MC} {st : MSt} {g : List Nat} {t : V} {k a n : Nat} (hk : k < c.nd) (h1 : st.2 30 k = iI 7) (h2 : st.2 32 k = iI (n : Int)) (h3 : st.2 33 k = iI (a : Int)) (h4 : mT c st t g a none) : ∀ (ts : List V) (m : Nat), mT c st (vpre ts .nil) g n (some m) → mT c st (vpre ts (.append t .nil)) g k (some m) := by
  intro ts
  induction ts with
  | nil =>
    intro m h
    have h' : m = n := h
    subst h'
    exact ⟨k, a, hk, h1, h2, h3, h4, rfl⟩
  | cons x ts ih =>
    intro m h
    obtain ⟨k0, a0, e1, e2, e3, e4, e5, e6⟩ := h
    exact ⟨k0, a0, e1, e2, e3, e4, e5, ih k0 e6⟩
theorem nT_snoc {t : V} (h : nT t) : ∀ (ts : List V), nT (vpre ts .nil) → nT (vpre ts (.append t .nil)) := by
  intro ts
  induction ts with
  | nil => intro _; exact ⟨h, trivial⟩
  | cons x ts ih => intro hx; exact ⟨hx.1, ih hx.2⟩
theorem sMap_len {f : V → KS → SR V} : ∀ (as : List V) (K K' : KS) (ps : V), sMap f as K = (K', .ok ps) → vlen ps = as.length := by
  intro as
  induction as with
  | nil => intro K K' ps h; cases h; rfl
  | cons a as ih =>
    intro K K' ps h
    unfold sMap at h
    generalize f a K = r at h
    obtain ⟨K1, e | t⟩ := r
    · cases h
    · have h' : sBind (sMap f as K1) (fun ts K => (K, .ok (.append t ts))) = (K', .ok ps) := h
      generalize hm : sMap f as K1 = r2 at h'
      obtain ⟨K2, e | ts⟩ := r2
      · cases h'
      · cases h'
        show vlen ts + 1 = _
        rw [ih _ _ _ hm]; rfl
section MN3
variable {P : MPl} {s0 : State} {l : Launch} {XX : Prop} {lev d w : Nat} {Q : Outcome → MSt → Prop} {st st' st0 : MSt} {X : SX} {K K' : KS} {nd ce ce' wa x y base many o dep : Nat} {c c' : MC} {M M' : Nat → Int → Prop} {x1 x2 x5 x6 x7 : Int32}
/-- what it is applied to -/
theorem m_nloop {g0 : List Nat} {f : V} {m : Nat} (ih : MNorm P s0 l XX X lev d (w + 1)) (hl : 4 ≤ lev) (hd : dep + d ≤ 1000) (hx : 2 * d + 4 ≤ x) (hx3 : x ≤ 29000) (hy : 2 * d + 4 ≤ y) (hbm : base + many ≤ 20000) (h8 : 8 ≤ c.nd) (hm : m < 140000) : ∀ (ra : List V) (i n : Nat) (ts : List V) (K : KS) (st : MSt) (ce nd : Nat), i + ra.length = many + 1 → 1 ≤ i → c.nd ≤ nd → MN M g0 dep (nd, c.2) → mW (nd, c.2) ce M st base ra → gA ra → mXc (nd, c.2) st X → mSo (nd, c.2) st → fI st 15 = iI 1 → MJ st X K nd ce (base + many) → MK X K nd ce (base + many) x → nd + 2 * (60000 - K.life) + (y + 1) ≤ 140000 → n < nd → mTf (nd, c.2) c.nd st f g0 m none → mTf (nd, c.2) c.nd st (vpre ts .nil) g0 n (some m) →
    (∀ st' K' ce' nd' ps n', sMap (fun c K => sNorm X d dep c K) ra K = (K', .ok ps) → K.life ≤ K'.life → mfr nd ce base st st' → ce ≤ ce' → nd ≤ nd' → MJ st' X K' nd' ce' base → MK X K' nd' ce' base x → nd' + 2 * (60000 - K'.life) + (y + 1) ≤ 140000 → n' < nd' → mTf (nd', c.2) c.nd st' f g0 m none → mTf (nd', c.2) c.nd st' (vpre ts ps) g0 n' (some m) → Q (.returned (some (.int (iI (n' : Int))))) st') →
    (∀ st' K' e ce' nd' r', sMap (fun c K => sNorm X d dep c K) ra K = (K', .error e) → K.life ≤ K'.life → mfr nd ce base st st' → ce ≤ ce' → ce' ≤ 1 + 2 * K'.work + x + (2 * d + 4) → nd ≤ nd' → nd' + 2 * (60000 - K'.life) + y ≤ 140000 + (2 * d + 4) → nd' ≤ 140000 → MZ st' X K' e nd' ce' → KB X K' → Q (.returned (some (.int r'))) st') → jX5_normal_229 P s0 l XX lev st0 Q x1 x2 (iI (w : Int)) (iI (base : Int)) x5 x6 x7 (iI (n : Int)) (iI ((base + many : Nat) : Int)) (iI (i : Int)) st := by
  intro ra
  induction ra with
  | nil =>
    intro i n ts K st ce nd hi h1 hnd hM hW ga hX hS h15 hJ hK hy2 hn hf ht ok er
    simp at hi
    have e1 : iI ((base + many : Nat) : Int) - iI (base : Int) = iI (many : Int) := by rw [iI_sub]; congr 1; omega
    refine tX5_normal_229 ⟨fun _ => ?_, fun z => absurd hJ.2.2.2.1 z⟩
    rw [e1]
    refine ⟨fun _ => ?_, fun z => absurd (by rw [iI_lt (by omega) (by omega) (by omega) (by omega)]; omega) z⟩
    obtain ⟨w1, w2, w3, w4, w5, w6⟩ := hK
    exact ok _ K ce nd .nil n rfl (Nat.le_refl _) (mfr_put (by omega)) (Nat.le_refl _) (Nat.le_refl _) hJ.setw ⟨w1, w2, w3, w4, by omega, w6⟩ hy2 hn (hf.mv (Nat.le_refl _) rfl (Nat.le_refl _) (fun _ _ _ _ _ => rfl)) (ht.mv (Nat.le_refl _) rfl (Nat.le_refl _) (fun _ _ _ _ _ => rfl))
  | cons a ra iha =>
    intro i n ts K st ce nd hi h1 hnd hM hW ga hX hS h15 hJ hK hy2 hn hf ht ok er
    simp at hi
    obtain ⟨⟨na, qa, a1, a2, a3⟩, a4⟩ := hW
    have gva := ga a List.mem_cons_self
    have hka : gKv a := by
      obtain ⟨t, r, g, h1, -⟩ := a3
      subst h1
      exact ⟨t, r, rfl, gT_up _ _ _ gva.1.1, gva.1.2⟩
    have e1 : iI ((base + many : Nat) : Int) - iI (base : Int) = iI (many : Int) := by rw [iI_sub]; congr 1; omega
    have i1 : iI ((base + many : Nat) : Int) - iI (i : Int) = iI ((base + ra.length : Nat) : Int) := by rw [iI_sub]; congr 1; omega
    refine tX5_normal_229 ⟨fun _ => ?_, fun z => absurd hJ.2.2.2.1 z⟩
    rw [e1, i1]
    refine ⟨fun z => ?_, fun _ => ⟨iI_in (by omega) (by omega), iI_in (by omega) (by omega), ?_⟩⟩
    · rw [iI_lt (by omega) (by omega) (by omega) (by omega)] at z; omega
    · rw [aI_n (by omega), aI_n (by omega), a1, a2, iI_suc]
      refine ih (nd, c.2) M a na qa dep g0 K st ce (base + many) x (y + 1) _ hM a3 hka hX hS h15 (by omega) hJ hK (by omega) hx3 (by omega) hy2 (fun t1 K1 ce1 nd1 t n1 s1 s2 s3 s4 s5 s6 s7 s8 s9 s10 => ?_) (fun t1 K1 e ce1 nd1 r1 s1 s2 s3 s4 s5 s6 s7 s8 s9 s10 => ?_)
      · have s5' : nd ≤ nd1 := s5
        have s3' : mfr nd ce (base + many) st t1 := s3
        have b15 : fI t1 15 = iI 1 := (s3.1 15 (by omega)).trans h15
        obtain ⟨w1, w2, w3, w4, w5, w6⟩ := s7
        refine m_node (by omega) b15 s6 (by omega) (fun t3 J3 F3 m1 m2 m3 m4 m5 m6 m7 => ?_)
        have F13 : mfr nd ce (base + many) st t3 := s3'.tr F3 s5' s4 (Nat.le_refl _)
        have mv3 : mvE (nd, c.2) (nd1 + 1, c.2) ce ce1 M M st t3 := ⟨⟨by show nd ≤ nd1 + 1; omega, Nat.le_refl _, Nat.le_refl _, fun k j z1 z2 z3 => F13.2 k j (fun _ => z3) (fun q => by omega) (fun q => by omega) (by omega)⟩, hJ.2.2.2.2.1, s4, fun k j z1 z2 z3 => F13.2 k j (fun q => by omega) (fun _ => z3) (fun q => by omega) (by omega), fun _ _ z => z⟩
        have old : ∀ k j, 30 ≤ k → k ≤ 38 → j < nd → t3.2 k j = st.2 k j := fun k j z1 z2 z3 => F13.2 k j (fun _ => z3) (fun q => by omega) (fun q => by omega) (by omega)
        have hX3 : mXc (nd1 + 1, c.2) t3 X := mXc_up (c := (nd, c.2)) (c' := (nd1 + 1, c.2)) (mXc_mv (c := (nd, c.2)) F13 hX) (by show nd ≤ nd1 + 1; omega) rfl (by show nd1 + 1 ≤ 140000; omega)
        have hf3 : mTf (nd1 + 1, c.2) c.nd t3 f g0 m none := hf.mv (c' := (nd1 + 1, c.2)) (by show nd ≤ nd1 + 1; omega) rfl (Nat.le_refl _) (fun k j z1 z2 hj => old k j z1 z2 (by rcases hj with ⟨w1, w2⟩ | w; exact w2; omega))
        have ht3 : mTf (nd1 + 1, c.2) c.nd t3 (vpre (ts ++ [t]) .nil) g0 nd1 (some m) := ⟨fun st'' hst => by
          rw [vpre_snoc]
          have hk : ∀ k, 30 ≤ k → k ≤ 38 → st''.2 k nd1 = t3.2 k nd1 := fun k z1 z2 => hst k nd1 z1 z2 (Or.inl ⟨by omega, by show nd1 < nd1 + 1; omega⟩)
          refine mT_snoc (n := n) (a := n1) (by show nd1 < nd1 + 1; omega) (by rw [hk 30 (by omega) (by omega)]; exact m1) (by rw [hk 32 (by omega) (by omega)]; exact m3) (by rw [hk 33 (by omega) (by omega)]; exact m4) ?_ ts m ?_
          · exact (s10.mv (c' := (nd1 + 1, c.2)) (st' := t3) (lo' := c.nd) (by show nd1 ≤ nd1 + 1; omega) rfl hnd (fun k j z1 z2 hj => m7 k j (by
              rcases hj with ⟨w1, w2⟩ | w
              · have w2' : j < nd1 := w2
                omega
              · omega))).1 st'' hst
          · exact (ht.mv (c' := (nd1 + 1, c.2)) (st' := t3) (lo' := c.nd) (by show nd ≤ nd1 + 1; omega) rfl (Nat.le_refl _) (fun k j z1 z2 hj => old k j z1 z2 (by rcases hj with ⟨w1, w2⟩ | w; exact w2; omega))).1 st'' hst, by rw [vpre_snoc]; exact nT_snoc s10.2 ts ht.2⟩
        rw [iI_suc]
        refine iha (i + 1) nd1 (ts ++ [t]) K1 t3 ce1 (nd1 + 1) (by omega) (by omega) (by omega) (hM.up (c' := (nd1 + 1, c.2)) (by show nd ≤ nd1 + 1; omega)) (mW_mv mv3 _ (fun k j z1 z2 z3 => F13.2 k j (fun w => by omega) (fun w => by omega) (fun _ => by omega) (by omega)) a4) (fun v hv => ga v (List.mem_cons_of_mem _ hv)) hX3 (hS.mv (c := (nd, c.2)) (c' := (nd1 + 1, c.2)) F13 (by show nd ≤ nd1 + 1; omega) rfl) ((F13.1 15 (by omega)).trans h15) J3 ⟨w1, by omega, w3, w4, w5, w6⟩ (by omega) (by omega) hf3 ht3 (fun st' K' ce' nd' ps n' v1 v2 v3 v4 v5 v6 v7 v8 v9 v10 v11 => ?_) (fun st' K' e ce' nd' r' v1 v2 v3 v4 v5 v6 v7 v8 v9 v10 => ?_)
        · exact ok st' K' ce' nd' (.append t ps) n' (by unfold sMap; rw [s1]; show sBind (sMap _ ra K1) _ = _; rw [v1]; rfl) (by omega) ((F13.wk (by omega)).tr v3 (by omega) s4 (Nat.le_refl _)) (by omega) (by omega) v6 v7 v8 v9 v10 (by rw [vpre_snoc] at v11; exact v11)
        · exact er st' K' e ce' nd' r' (by unfold sMap; rw [s1]; show sBind (sMap _ ra K1) _ = _; rw [v1]; rfl) (by omega) ((F13.wk (by omega)).tr v3 (by omega) s4 (Nat.le_refl _)) (by omega) v5 (by omega) v7 v8 v9 v10
      · have b15 : fI t1 15 = iI 1 := (s3.1 15 (by omega)).trans h15
        have s3' : mfr nd ce (base + many) st t1 := s3
        have s6' : nd ≤ nd1 := s6
        have kl := s10.2.2
        refine m_nodeZ (by omega) b15 s9 (by omega) (fun r3 t3 Z3 F3 => tX5_normal_229 ⟨fun z => absurd z Z3.ne, fun _ => ?_⟩)
        refine er _ K1 e ce1 (nd1 + 1) _ (by unfold sMap; rw [s1]; rfl) s2 (((s3'.tr (F3 nd ce (base + many) s6') (Nat.le_refl _) (Nat.le_refl _) (Nat.le_refl _)).wk (by omega)).tr (mfr_put (nd := nd) (ce := ce) (wa := base) (by omega)) (Nat.le_refl _) (Nat.le_refl _) (Nat.le_refl _)) s4 (by omega) (by omega) (by omega) (by omega) Z3.put s10
theorem m_normal : ∀ (d w lev : Nat), w + d = 100 → d ≤ 100 → 2 * d + 8 ≤ lev → MNorm P s0 l XX X lev d w := by
  intro d
  induction d with
  | zero =>
    intro w lev hw' _ hl c M v na qa dep g0 K st ce wa x y Q hM hv gv hX hS h15 hd hJ hK hx hx3 hy hy2 ok er
    obtain ⟨l', rfl⟩ : ∃ l', lev = l' + 1 := ⟨lev - 1, by omega⟩
    refine tX5_normal (m_look (d := 0) (by omega) hw' hJ hK (fun st' K' d' hd => (by omega)) (fun st' e hc hf hz => ⟨fun _ => ?_, fun z => absurd rfl z⟩))
    rcases hc with ⟨-, rfl⟩ | ⟨d', hd, -⟩
    · exact er st' K 13 ce c.nd _ rfl (Nat.le_refl _) hf (Nat.le_refl _) (by have := hK.2.2.1; omega) (Nat.le_refl _) (by omega) hK.2.1 hz hK.1
    · omega
  | succ d ih =>
    intro w lev hw' hd100 hl c M v na qa dep g0 K st ce wa x y Q hM hv gv hX hS h15 hd hJ hK hx hx3 hy hy2 ok er
    obtain ⟨l', rfl⟩ : ∃ l', lev = l' + 1 := ⟨lev - 1, by omega⟩
    have ih' : MNorm P s0 l XX X l' d (w + 1) := ih (w + 1) l' (by omega) (by omega) (by omega)
    have hnd := hX.2.2.2
    obtain ⟨kb, k2, k3, k4, k5, k6⟩ := hK
    refine tX5_normal (m_look (d := d + 1) (x := x) (by omega) hw' hJ ⟨kb, k2, k3, k4, k5, k6⟩ (fun t1 K1 d' hd' s1 s2 s2' s3 s4 s4' s5 s6 => ⟨fun z => absurd z (by decide), fun _ => ?_⟩) (fun st' e hc hf hz => ⟨fun _ => ?_, fun z => absurd rfl z⟩))
    · have hfr1 : K1.fr = K.fr := by show K1.2.2.2.2.2 = _; rw [s3]
      have hK1 : MK X K1 c.nd ce wa (x - 2) := ⟨s6, k2, by omega, by omega, by omega, by omega⟩
      have mv1 : mvE c c ce ce M M st t1 := s4.E hJ.2.2.2.2.1 (Nat.le_refl _)
      have e51 : fI t1 51 = iI (wa : Int) := s5.2.2.1.2.2
      have kl1 := s6.2.2
      rw [e51]
      refine m_head (c := c) (M := M) (v := v) (x := x - 2) (by omega) (mC_mv mv1 hv) gv (mXc_mv s4 hX) s5 hK1 (fun t3 K3 ce3 u as a1 a2 a3 a4 a5 a6 a7 a8 a9 a10 a11 => ⟨fun _ => ?_, fun z => absurd a6.2.2.2.1 z⟩) (fun t3 K3 e ce3 a1 a2 a3 a4 a5 a6 => ⟨fun z => absurd z a6.ne, fun _ => ?_⟩)
      · have F3 : mfr c.nd ce wa st t3 := s4.tr a4 (Nat.le_refl _) (Nat.le_refl _) (Nat.le_refl _)
        have hX3 := mXc_mv F3 hX
        have hS3 : mSo c t3 := hS.mv F3 (Nat.le_refl _) rfl
        have t15 : fI t3 15 = iI 1 := (F3.1 15 (by omega)).trans h15
        have heq : ∀ K' (r : Except Nat V), sNx X d dep (u, as) K3 = (K', r) → sNorm X (d + 1) dep v K = (K', r) := fun K' r hr => by
          rw [sNorm_suc, s1]
          show sBind (sHd X v K1) _ = _
          rw [a1]
          exact hr
        obtain ⟨y1, y2, y3, y4, y5, y6⟩ := a7
        have kl3 := y1.2.2
        have hb2 : wa + as.length ≤ 20000 := by have := y1.1; have := y1.2.1; omega
        have hroom : c.nd + 2 * (60000 - K3.life) + (y + 2) ≤ 140000 := by omega
        have h8 := hS.2.1
        generalize fI t3 52 = n at a8
        generalize fI t3 53 = q at a8
        have fin : ∀ (st' : MSt) (K' : KS) (ce' nd' : Nat) (t : V) (n : Nat), sNx X d dep (u, as) K3 = (K', .ok t) → K3.life ≤ K'.life → mfr c.nd ce3 wa t3 st' → ce3 ≤ ce' → c.nd ≤ nd' → MJ st' X K' nd' ce' wa → MK X K' nd' ce' wa x → nd' + 2 * (60000 - K'.life) + (y + 1) ≤ 140000 → n < nd' → mTf (nd', c.2) c.nd st' t g0 n none → Q (.returned (some (.int (iI (n : Int))))) st' := fun st' K' ce' nd' t n u1 u2 u3 u4 u5 u6 u7 u8 u9 u10 =>
          ok st' K' ce' nd' t n (heq _ _ u1) (by omega) (F3.tr u3 (Nat.le_refl _) a5 (Nat.le_refl _)) (by omega) u5 u6 u7 u8 u9 u10
        have fe : ∀ (st' : MSt) (K' : KS) (e ce' nd' : Nat) (r : Int32), sNx X d dep (u, as) K3 = (K', .error e) → K3.life ≤ K'.life → mfr c.nd ce3 wa t3 st' → ce3 ≤ ce' → ce' ≤ 1 + 2 * K'.work + x + (2 * d + 4) → c.nd ≤ nd' → nd' + 2 * (60000 - K'.life) + y ≤ 140000 + (2 * d + 4) → nd' ≤ 140000 → MZ st' X K' e nd' ce' → KB X K' → Q (.returned (some (.int r))) st' := fun st' K' e ce' nd' r u1 u2 u3 u4 u5 u6 u7 u8 u9 u10 =>
          er st' K' e ce' nd' r (heq _ _ u1) (by omega) (F3.tr u3 (Nat.le_refl _) a5 (Nat.le_refl _)) (by omega) (by omega) u6 (by omega) u8 u9 u10
        rcases hd_fb a8 a10 with ⟨ku, cu, hfu, hbu⟩ | ⟨lm, p, dx, bx, rx, a, e, xx, yy, i, g, hbu⟩
        · -- a name
          have e9 := sNx_n (X := X) (d := d) (dep := dep) (x := (u, as)) (K := K3) hbu
          have e51b : fI t3 51 = iI ((wa + as.length : Nat) : Int) := a6.2.2.1.2.2
          -- the front is made: f, at the node m
          have go : ∀ (sx : MSt) (ndx m : Nat) (f : V), f = sFt dep u → c.nd ≤ ndx → ndx ≤ c.nd + 1 → MJ sx X K3 ndx ce3 (wa + as.length) → mfr c.nd ce3 (wa + as.length) t3 sx → m < ndx → mTf (ndx, c.2) c.nd sx f g0 m none → jX5_normal_229 P s0 l XX l' st Q (iI (na : Int)) (iI (qa : Int)) (iI (w : Int)) (iI (wa : Int)) n q (iI ku) (iI (m : Int)) (fI sx 51) (iI 1) sx := by
            intro sx ndx m f hf h1 h2 Jx Fx hm hT
            have e51x : fI sx 51 = iI ((wa + as.length : Nat) : Int) := Jx.2.2.1.2.2
            rw [e51x]
            have mvx : mvE c (ndx, c.2) ce3 ce3 M M t3 sx := ⟨⟨h1, Nat.le_refl _, Nat.le_refl _, fun k j z1 z2 z3 => Fx.2 k j (fun _ => z3) (fun q => by omega) (fun q => by omega) (by omega)⟩, a6.2.2.2.2.1, Nat.le_refl _, fun k j z1 z2 z3 => Fx.2 k j (fun q => by omega) (fun _ => z3) (fun q => by omega) (by omega), fun _ _ z => z⟩
            refine m_nloop (c := c) (M := M) (many := as.length) (x := x) (y := y) (f := f) (m := m) (dep := dep) (g0 := g0) ih' (by omega) (by omega) (by omega) hx3 (by omega) hb2 h8 (by omega) as 1 m [] K3 sx ce3 ndx (by omega) (by omega) h1 (hM.up (c' := (ndx, c.2)) h1) (mW_mv mvx _ (fun k j z1 z2 z3 => Fx.2 k j (fun w => by omega) (fun w => by omega) (fun _ => z3) (by omega)) a9) a11 (mXc_up (c := c) (c' := (ndx, c.2)) (mXc_mv Fx hX3) h1 rfl (by show ndx ≤ 140000; omega)) (hS3.mv (c' := (ndx, c.2)) Fx h1 rfl) ((Fx.1 15 (by omega)).trans t15) Jx ⟨y1, by omega, by omega, by omega, y5, by omega⟩ (by omega) hm hT ⟨fun _ _ => rfl, trivial⟩ (fun st' K' ce' nd' ps n' v1 v2 v3 v4 v5 v6 v7 v8 v9 v10 v11 => ?_) (fun st' K' e ce' nd' r' v1 v2 v3 v4 v5 v6 v7 v8 v9 v10 => ?_)
            · have Ff : mfr c.nd ce3 wa t3 st' := (Fx.wk (by omega)).tr v3 h1 (Nat.le_refl _) (Nat.le_refl _)
              cases as with
              | nil =>
                have v1' : (K3, Except.ok (Std.Format.nil : V)) = (K', Except.ok ps) := v1
                cases v1'
                refine fin st' K3 ce' nd' f n' (by rw [e9, hf]; rfl) (Nat.le_refl _) Ff v4 (by omega) v6 v7 v8 v9 ⟨fun st'' hst => ?_, v10.2⟩
                have d1 := v10.1 st'' hst
                have d2 : m = n' := v11.1 st'' hst
                rw [← d2]
                exact d1
              | cons a0 as0 =>
                refine fin st' K' ce' nd' (.tag 2 (.append f ps)) n' (by rw [e9]; show (if (a0 :: as0).isEmpty then _ else _) = _; rw [if_neg (by simp)]; show sBind (sMap _ (a0 :: as0) K3) _ = _; rw [v1, hf]; rfl) v2 Ff v4 (by omega) v6 v7 v8 v9 ⟨fun st'' hst => ?_, ⟨v10.2, v11.2, by rw [sMap_len _ _ _ _ v1]; simp⟩⟩
                exact ⟨m, v10.1 st'' hst, v11.1 st'' hst⟩
            · have Ff : mfr c.nd ce3 wa t3 st' := (Fx.wk (by omega)).tr v3 h1 (Nat.le_refl _) (Nat.le_refl _)
              cases as with
              | nil => cases v1
              | cons a0 as0 =>
                exact fe st' K' e ce' nd' r' (by rw [e9]; show (if (a0 :: as0).isEmpty then _ else _) = _; rw [if_neg (by simp)]; show sBind (sMap _ (a0 :: as0) K3) _ = _; rw [v1]; rfl) v2 Ff v4 v5 (by omega) v7 v8 v9 v10
          -- a node for it
          have goN : ∀ (kd : Int32) (id : Int32) (f : V), f = sFt dep u → nT f → (∀ st'' : MSt, st''.2 30 c.nd = kd → st''.2 31 c.nd = id → mT (c.nd + 1, c.2) st'' f g0 c.nd none) → CQ (wM P s0 l XX) mX5_node l' (.ref P.mo :: [.int kd, .int id, .int (iI 0), .int (iI 0), .int (iI 0)]) t3 (onI (fun r8 t7 => jX5_normal_229 P s0 l XX l' st Q (iI (na : Int)) (iI (qa : Int)) (iI (w : Int)) (iI (wa : Int)) n q (iI ku) r8 (fI t7 51) (iI 1) t7) (fun x t => Q (.threw x) t)) := by
            intro kd id f hf hnT hT
            refine m_node (by omega) t15 a6 (by omega) (fun t7 J7 F7 m1 m2 m3 m4 m5 m6 m7 => go t7 (c.nd + 1) c.nd f hf (by omega) (Nat.le_refl _) J7 F7 (by omega) ⟨fun st'' hst => ?_, hnT⟩)
            exact hT st'' ((hst 30 c.nd (by omega) (by omega) (Or.inl ⟨Nat.le_refl _, Nat.lt_succ_self _⟩)).trans m1) ((hst 31 c.nd (by omega) (by omega) (Or.inl ⟨Nat.le_refl _, Nat.lt_succ_self _⟩)).trans m2)
          have hfu0 := hfu
          refine m_kindf (by omega) hnd hfu0 ?_
          rcases hfu with ⟨j, rfl, hj, ⟨rfl, h1, h2, rfl⟩ | ⟨rfl, h1, h2, a, rfl, h3, h4, h5⟩⟩ | ⟨k, r, rfl, rfl, rfl, hk, a, rfl, h3, h4, h5⟩ | ⟨k, r, rfl, rfl, rfl, hk, a, rfl, h3, h4, h5⟩
          · obtain ⟨j1, id, j2, hid, j3⟩ := hM.2.2 j cu hj
            have ec : iI (-2) - iI cu = iI (id : Int) := by rw [iI_sub]; congr 1; omega
            have eF : sFt dep (vLoc j) = .tag (dep - 1 - j) .line := by rcases j with _ | _ | _ | _ | j <;> rfl
            refine ⟨fun z => absurd z (by decide), fun _ => ⟨fun z => absurd z (by decide), fun _ => ⟨fun z => absurd z (by decide), fun _ => ⟨fun z => absurd z (by decide), fun _ => ⟨fun _ => ?_, fun z => absurd rfl z⟩⟩⟩⟩⟩
            rw [ec]
            exact goN _ _ _ eF.symm trivial (fun st'' z1 z2 => ⟨Nat.lt_succ_self _, z1, id, j2, by omega, z2⟩)
          · obtain ⟨j1, id, j2, hid, j3⟩ := hM.2.2 j cu hj
            have ec : cu = (id : Int) := by omega
            have eF : sFt dep (vLoc j) = .tag (dep - 1 - j) .line := by rcases j with _ | _ | _ | _ | j <;> rfl
            refine ⟨fun z => absurd z (by decide), fun _ => ⟨fun z => absurd z (by decide), fun _ => ⟨fun z => absurd z (by decide), fun _ => ⟨fun z => absurd z (by decide), fun _ => ⟨fun z => absurd z (by decide), fun _ => ⟨iI_in (by omega) (by omega), ?_⟩⟩⟩⟩⟩⟩
            rw [aI_n (by omega), h5, ec]
            exact goN _ _ _ eF.symm trivial (fun st'' z1 z2 => ⟨Nat.lt_succ_self _, z1, id, j2, by omega, z2⟩)
          · refine ⟨fun z => absurd z (by decide), fun _ => ⟨fun z => absurd z (by decide), fun _ => ⟨fun z => absurd z (by decide), fun _ => ⟨fun _ => ⟨fun z => absurd z (by decide), fun _ => ⟨iI_in (by omega) (by omega), ?_⟩⟩, fun z => absurd rfl z⟩⟩⟩⟩
            rw [aI_n (by omega), h5]
            exact goN _ _ _ rfl trivial (fun st'' z1 z2 => ⟨Nat.lt_succ_self _, hk, z1, z2⟩)
          · refine ⟨fun z => absurd z (by decide), fun _ => ⟨fun z => absurd z (by decide), fun _ => ⟨fun _ => ⟨iI_in (by omega) (by omega), ?_⟩, fun z => absurd rfl z⟩⟩⟩
            rw [aI_n (by omega), h5]
            have hns := hS.2.2
            obtain ⟨b1, b2⟩ := hS3.1 k hk
            exact go t3 c.nd k _ rfl (Nat.le_refl _) (Nat.le_succ _) a6 mfr.rf (by omega) ⟨fun st'' hst => ⟨by show k < c.nd; omega, hk, (hst 30 k (by omega) (by omega) (Or.inr (by omega))).trans b1, (hst 31 k (by omega) (by omega) (Or.inr (by omega))).trans b2⟩, trivial⟩
        · -- a binder
          have hbu0 := hbu
          obtain ⟨u1, u2, u3, u4, u5, u6, -⟩ := hbu
          have e9 := sNx_b (X := X) (d := d) (dep := dep) (x := (u, as)) (K := K3) u1
          have go : jX5_normal_63 P s0 l XX l' st Q (iI (na : Int)) (iI (qa : Int)) (iI (w : Int)) (iI (wa : Int)) (iI (a : Int)) (iI (e : Int)) (if lm then iI 4 else iI 5) t3 :=
            m_nbind (x := x) (y := y) (base := wa) (dep := dep) (g0 := g0) ih' (by omega) (by omega) (by omega) hM hbu0 a10 hX3 hS3 t15 a6 ⟨y1, y2, y3, y4, y5, y6⟩ (by omega) hx3 (by omega) hroom (by omega) (fun st' K' ce' nd' t n v1 v2 v3 v4 v5 v6 v7 v8 v9 v10 => fin st' K' ce' nd' t n (e9.trans v1) v2 v3 v4 v5 v6 v7 v8 v9 v10) (fun st' K' e ce' nd' r' v1 v2 v3 v4 v5 v6 v7 v8 v9 v10 => fe st' K' e ce' nd' r' (e9.trans v1) v2 v3 v4 v5 v6 v7 v8 v9 v10)
          subst u2 u3
          refine m_kindb (by omega) (by omega) u6 ?_
          cases lm with
          | true => exact ⟨fun _ => go, fun z => absurd rfl z⟩
          | false => exact ⟨fun z => absurd z (by decide), fun _ => ⟨fun _ => go, fun z => absurd rfl z⟩⟩
      · have kb3 : KB X K3 := by have := sHd_kb (v := v) s6; rw [a1] at this; exact this
        have kl3 := kb3.2.2
        exact er t3 K3 e ce3 c.nd _ (by rw [sNorm_suc, s1]; show sBind (sHd X v K1) _ = _; rw [a1]; rfl) (by omega) (s4.tr a3 (Nat.le_refl _) (Nat.le_refl _) (Nat.le_refl _)) a4 (by omega) (Nat.le_refl _) (by omega) k2 a6 kb3
    · rcases hc with ⟨hd, -⟩ | ⟨d', hd, s1⟩
      · omega
      · exact er st' K e ce c.nd _ (by rw [sNorm_suc, s1]; rfl) (Nat.le_refl _) hf (Nat.le_refl _) (by omega) (Nat.le_refl _) (by omega) k2 hz kb
end MN3
