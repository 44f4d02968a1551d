/-! M OVER S (22): judging: a binder comes to stand around; sorts of types -/
section MJP
variable {P : MPl} {s0 : State} {l : Launch} {XX : Prop} {lev n m : Nat} {Q : Outcome → MSt → Prop} {st st' st'' st2 st0 : MSt} {X : SX} {J : JX} {K K' : KS} {nd nd' ce ce' wa x y lo hi lo' hi' lo1 hi1 lo2 hi2 ns ns' ch ch' q z : Nat} {c c' : MC} {M M' : Nat → Int → Prop} {E E' : Nat → Prop} {TN : Nat → List Nat} {sc : SC} {bl : List (Nat × Option Nat)}
theorem mE_M {r : V} {g : List Nat} (h : mE c ce M st r g q) (hc : mch st ce) (hq : q < ce) (hM : ∀ i k, M i k → M' i k) : mE c ce M' st r g q :=
  mE_mv ⟨⟨Nat.le_refl _, Nat.le_refl _, Nat.le_refl _, fun _ _ _ _ _ => rfl⟩, hc, Nat.le_refl _, fun _ _ _ _ _ => rfl, hM⟩ _ _ _ hq h
theorem JM.push {e : V × V × V × Int} {nb q2 ce2 ns2 : Nat} {o : Option Nat} (h : JM lo hi E c ce st X J TN sc bl q ns) (ha : ag E c.nd ce st st2) (hf : mjf lo1 hi1 c.nd ce ns ch st st2) (g1 : ∀ k j, k = 31 ∨ k = 32 → st2.2 k j = st.2 k j) (g2 : ∀ k j, k = 40 ∨ k = 41 → j ≠ nb → st2.2 k j = st.2 k j) (hce : ce ≤ ce2) (hc2 : mch st2 ce2) (hq2 : q2 < ce2)
    (hb : nb < c.nd ∧ (nb < lo ∨ hi ≤ nb) ∧ nb ∉ bl.map (fun z => z.1)) (he : e.1 = vLoc sc.length ∨ ∃ t r, e.1 = vClo t r) (ho : ∀ p, o = some p → ∃ x nn : Nat, x < c.nd ∧ (x < lo ∨ hi ≤ x) ∧ p < 4000 ∧ st2.2 31 nb = iI (x : Int) ∧ st2.2 31 x = iI (p : Int) ∧ st2.2 32 x = iI ((TN p).length : Int) ∧ st2.2 40 nb = iI (nn : Int) ∧ st2.2 41 nb = iI e.2.2.2 ∧ mTy E c ce2 st2 sc bl e.2.1 e.2.2.1 nn)
    (hA : mSA st2 ((nb, o) :: bl) ns2) (h43 : fI st2 43 = iI (ns2 : Int)) (hlk : ∀ i, i < 140000 → i ≠ nb → i ∉ bl.map (fun z => z.1) → lk st2 q2 i = 0)
    (hEn : ∀ st'', ag E c.nd ce2 st2 st'' → mE c ce (Msc sc bl) st'' (scEnv sc) (bl.map (fun z => z.1)) q → mE c ce2 (Msc (e :: sc) ((nb, o) :: bl)) st'' (scEnv (e :: sc)) (nb :: bl.map (fun z => z.1)) q2) : JM lo hi E c ce2 st2 X J TN (e :: sc) ((nb, o) :: bl) q2 ns2 := by
  obtain ⟨k1, k2, k3, ⟨k4, k5⟩, k6, k7, k8⟩ := h
  refine ⟨k1.mv hf rfl, fun st'' a2 => ?_, ⟨hb, he, fun p hp => ho p hp, mSc_mv0 ha (fun _ w => w) (Nat.le_refl _) rfl hce (Nat.le_refl _) (Nat.le_refl _) (fun k j z1 _ _ => g1 k j z1) sc bl (fun k j z1 z2 => g2 k j z1 (fun w => by subst w; exact hb.2.2 z2)) k3⟩, ⟨hA, h43⟩, hc2, hq2, fun i hi hn => hlk i hi (fun w => hn (w ▸ List.mem_cons_self)) (fun w => hn (List.mem_cons_of_mem _ w))⟩
  obtain ⟨w1, w2, w3, w4⟩ := k2 st'' (ha.tr a2 (fun _ w => w) (Nat.le_refl _) hce)
  exact ⟨w1, w2, w3, hEn st'' a2 w4⟩
/-- the state after bind -/
theorem bindS {nb : Nat} {v1 v2 : Int32} (hJ : MJ st X K nd ce wa) (h43 : fI st 43 = iI (ns : Int)) (hns : ns < 50) (hnb : nb < 140000) (h1 : lo ≤ nb) (h2 : nb < hi) :
    ∃ st2, st2 = mput 43 (fI st 43 + iI 1) (mst 42 (fI st 43) (iI (nb : Int)) (mst 41 (iI (nb : Int)) v2 (mst 40 (iI (nb : Int)) v1 st))) ∧ MJ st2 X K nd ce wa ∧ mjf lo hi nd ce ns ch st st2 ∧ fI st2 43 = iI ((ns + 1 : Nat) : Int) ∧ (∀ k, k ≠ 43 → fI st2 k = fI st k) ∧ (∀ k j, k < 40 ∨ 42 < k → st2.2 k j = st.2 k j) ∧ (∀ k j, k = 40 ∨ k = 41 → j ≠ nb → st2.2 k j = st.2 k j) ∧ st2.2 40 nb = v1 ∧ st2.2 41 nb = v2 ∧ st2.2 42 ns = iI (nb : Int) ∧ ∀ j, j < ns → st2.2 42 j = st.2 42 j := by
  rw [h43, iI_suc]
  have ar : ∀ k j, (mput 43 (iI ((ns + 1 : Nat) : Int)) (mst 42 (iI (ns : Int)) (iI (nb : Int)) (mst 41 (iI (nb : Int)) v2 (mst 40 (iI (nb : Int)) v1 st)))).2 k j = if k = 42 ∧ j = ns then iI (nb : Int) else if k = 41 ∧ j = nb then v2 else if k = 40 ∧ j = nb then v1 else st.2 k j := fun k j => by
    rw [mput_a, mst_a (by omega), mst_a (by omega), mst_a (by omega)]
  refine ⟨_, rfl, (jmstx (jmstx (jmstx hJ (by omega) (by omega)) (by omega) (by omega)) (by omega) (by omega)).putx (by omega), ?_, fI_self, fun k hk => by rw [fI_put hk]; rfl, fun k j hk => ?_, fun k j hk hj => ?_, ?_, ?_, ?_, fun j hj => ?_⟩
  · exact (((mjf.mst (by omega) (by omega)).t2 (mjf.mst (by omega) (by omega)) (Nat.le_refl _) (Nat.le_refl _) (Nat.le_refl _) (Nat.le_refl _)).t2 (mjf.mst (by omega) (by omega)) (Nat.le_refl _) (Nat.le_refl _) (Nat.le_refl _) (Nat.le_refl _)).t2 (mjf.put (by omega)) (Nat.le_refl _) (Nat.le_refl _) (Nat.le_refl _) (Nat.le_refl _)
  · rw [ar, if_neg (by omega), if_neg (by omega), if_neg (by omega)]
  · rw [ar, if_neg (by omega), if_neg (by omega), if_neg (by omega)]
  · rw [ar, if_neg (by omega), if_neg (by omega), if_pos ⟨rfl, rfl⟩]
  · rw [ar, if_neg (by omega), if_pos ⟨rfl, rfl⟩]
  · rw [ar, if_pos ⟨rfl, rfl⟩]
  · rw [ar, if_neg (by omega), if_neg (by omega), if_neg (by omega)]
/-- a local comes to stand around -/
theorem mE_local {nb : Nat} {o : Option Nat} {t : V × V × Int} (hnb : nb < 140000) (hc : mch st ce) (hq : q < ce) (hlk : lk st q nb = 0) (h : mE c ce (Msc sc bl) st (scEnv sc) (bl.map (fun z => z.1)) q) (hln : sc.length = bl.length) : mE c ce (Msc ((vLoc sc.length, t) :: sc) ((nb, o) :: bl)) st (scEnv ((vLoc sc.length, t) :: sc)) (nb :: bl.map (fun z => z.1)) q := by
  show mE c ce _ st (.append (vLoc sc.length) (scEnv sc)) (nb :: bl.map (fun z => z.1)) q
  rw [mE_loc]
  refine ⟨⟨nb, ⟨by simp, nb, ?_, hnb, rfl⟩, Or.inr ⟨rfl, hlk⟩⟩, mE_M h hc hq (fun i k w => w.up)⟩
  rw [tgs_loc, show ((vLoc sc.length, t) :: sc).length - 1 - sc.length = 0 by simp]; rfl
theorem lk_ag {i : Nat} (hc : mch st ce) (ha : ag E nd ce st st') (hq : q < ce) : lk st' q i = lk st q i :=
  lk_same hc (mch_ag hc ha) (fun k j a b d => ha k j (Or.inr (Or.inr ⟨a, b, d⟩))) q hq
/-- .. with a name -/
theorem JM.bind {t : V} {sa nb pb x0 nt : Nat} (h : JM lo hi E c ce st X J TN sc bl q ns) (h14 : c.nd ≤ 140000) (hf : mjf lo1 hi1 c.nd ce ns ch st st2) (h43 : fI st2 43 = iI ((ns + 1 : Nat) : Int)) (hs1 : ∀ k j, k < 40 ∨ 42 < k → st2.2 k j = st.2 k j) (hs2 : ∀ k j, k = 40 ∨ k = 41 → j ≠ nb → st2.2 k j = st.2 k j) (e1 : st2.2 40 nb = iI (nt : Int)) (e2 : st2.2 41 nb = iI (sa : Int)) (e3 : st2.2 42 ns = iI (nb : Int)) (e4 : ∀ j, j < ns → st2.2 42 j = st.2 42 j)
    (hb : nb < c.nd ∧ (nb < lo ∨ hi ≤ nb) ∧ nb ∉ bl.map (fun z => z.1)) (hx : x0 < c.nd ∧ (x0 < lo ∨ hi ≤ x0) ∧ pb < 4000 ∧ st.2 31 nb = iI (x0 : Int) ∧ st.2 31 x0 = iI (pb : Int) ∧ st.2 32 x0 = iI ((TN pb).length : Int)) (ht : mTy E c ce st sc bl t (scEnv sc) nt) : JM lo hi E c ce st2 X J TN (jWith t sa sc) ((nb, some pb) :: bl) q (ns + 1) := by
  have ha : ag E c.nd ce st st2 := fun k j hk => hs1 k j (by omega)
  have hc := h.2.2.2.2.1
  have hq := h.2.2.2.2.2.1
  have hlk := h.2.2.2.2.2.2
  have hc2 := mch_ag hc ha
  refine h.push ha hf (fun k j hk => hs1 k j (by omega)) hs2 (Nat.le_refl _) hc2 hq hb (Or.inl rfl) (fun p hp => ?_) ⟨ns, rfl, e3, mSA_mv e4 _ _ (Nat.le_refl _) h.2.2.2.1.1⟩ h43 (fun i w1 w2 w3 => (lk_ag hc ha hq).trans (hlk i w1 w3)) (fun st'' a2 hm => ?_)
  · cases hp
    obtain ⟨y1, y2, y3, y4, y5, y6⟩ := hx
    exact ⟨x0, nt, y1, y2, y3, by rw [hs1 31 _ (by omega)]; exact y4, by rw [hs1 31 _ (by omega)]; exact y5, by rw [hs1 32 _ (by omega)]; exact y6, e1, e2, ht.mv ha (fun _ w => w) (Nat.le_refl _) rfl (Nat.le_refl _)⟩
  · exact mE_local (by omega) (mch_ag hc2 a2) hq ((lk_ag hc2 a2 hq).trans ((lk_ag hc ha hq).trans (hlk nb (by omega) hb.2.2))) hm (mSc_len h.2.2.1)
/-- .. without one -/
theorem JM.arrow {t : V} {sa nb : Nat} (h : JM lo hi E c ce st X J TN sc bl q ns) (h14 : c.nd ≤ 140000) (hb : nb < c.nd ∧ (nb < lo ∨ hi ≤ nb) ∧ nb ∉ bl.map (fun z => z.1)) : JM lo hi E c ce st X J TN (jWith t sa sc) ((nb, none) :: bl) q ns := by
  have hc := h.2.2.2.2.1
  have hq := h.2.2.2.2.2.1
  have hlk := h.2.2.2.2.2.2
  exact h.push (ch := 0) (lo1 := 0) (hi1 := 0) ag.rf mjf.rf (fun _ _ _ => rfl) (fun _ _ _ _ => rfl) (Nat.le_refl _) hc hq hb (Or.inl rfl) (fun p hp => by cases hp) h.2.2.2.1.1 h.2.2.2.1.2 (fun i w1 w2 w3 => hlk i w1 w3) (fun st'' a2 hm => mE_local (by omega) (mch_ag hc a2) hq ((lk_ag hc a2 hq).trans (hlk nb (by omega) hb.2.2)) hm (mSc_len h.2.2.1))
/-- what a type's node is -/
theorem mT_kind : ∀ (ty : V) (y : Bool) (gg : List Bool) (g : List Nat) (r : V) (n : Nat), gT ty y gg → mT c st ty g n none →
    (∃ s : Nat, (sUnw ty r).1 = .tag s (.align true) ∧ st.2 30 n = iI 3 ∧ st.2 31 n = iI (s : Int) ∧ s < c.ns) ∨ (∃ p d b, (sUnw ty r).1 = .tag p (.group (.append d b) .fill) ∧ st.2 30 n = iI 5) ∨ ((∀ s, (sUnw ty r).1 ≠ .tag s (.align true)) ∧ (∀ p d b, (sUnw ty r).1 ≠ .tag p (.group (.append d b) .fill)) ∧ ∃ kd : Nat, st.2 30 n = iI (kd : Int) ∧ kd < 8 ∧ kd ≠ 3 ∧ kd ≠ 5) := by
  intro ty
  generalize hs : SizeOf.sizeOf ty = s
  induction s using Nat.strongRecOn generalizing ty with
  | ind s ih =>
    intro y gg g r n hg hT
    subst hs
    rcases mT_shape hT with ⟨k', rfl⟩ | ⟨k', rfl⟩ | ⟨k', rfl⟩ | ⟨d, b, rfl⟩ | ⟨d, b, rfl⟩ | ⟨f', ps, rfl⟩ | ⟨p, d, b, rfl⟩ | ⟨m, t', rfl⟩ | ⟨t', rfl⟩
    · exact Or.inr (Or.inr ⟨fun s w => (by cases w), fun p d b w => (by cases w), 1, hT.2.1, by omega⟩)
    · exact Or.inr (Or.inr ⟨fun s w => (by cases w), fun p d b w => (by cases w), 2, hT.2.2.1, by omega⟩)
    · exact Or.inl ⟨k', rfl, hT.2.2.1, hT.2.2.2, hT.2.1⟩
    · exact Or.inr (Or.inr ⟨fun s w => (by cases w), fun p d b w => (by cases w), 4, hT.2.1, by omega⟩)
    · exact Or.inr (Or.inr ⟨fun s w => (by cases w), fun p d b w => (by cases w), 6, hT.2.1, by omega⟩)
    · refine Or.inr (Or.inr ⟨fun s w => (by cases w), fun p d b w => (by cases w), 7, ?_, by omega⟩)
      obtain ⟨m, -, h2⟩ := hT
      obtain ⟨hh, -, h4, h5⟩ := mT_use ps g n m h2
      have h6 : 1 ≤ vlen ps := hg.2.2
      have := (h5 (vlen ps - 1) (by omega)).2.1
      rw [show vlen ps - 1 + 1 = vlen ps by omega, h4] at this
      exact this
    · rw [mT_prod] at hT
      exact Or.inr (Or.inl ⟨p, d, b, rfl, hT.2.1⟩)
    · have hg' : y = true ∧ m ≤ gg.length ∧ gT t' true (gg.drop m) := hg
      exact ih (SizeOf.sizeOf t') (by simp; omega) t' rfl true _ (g.drop m) (vdrop m r) n hg'.2.2 hT
    · have hg' : y = true ∧ gT t' true (false :: gg) := gT_snk ▸ hg
      rw [mT_snk] at hT
      rw [sUnw_snk]
      exact ih (SizeOf.sizeOf t') (by simp; omega) t' rfl true _ (1000000 :: g) (.append .line r) n hg'.2 hT
/-- a type that must be a sort -/
theorem m_jsort {t : V} {nn : Nat} (ih : MJd P s0 l XX X J TN lev n) (hlv : 1 ≤ lev) (hr : mR TN st t (bl.map (fun z => z.2)) nn lo hi none) (hg : rG t 0 sc.length n) (hI : ∀ j, lo ≤ j → j < hi → E j) (hE : ∀ j, E j → 8 ≤ j ∧ j < c.nd) (h : JM lo hi E c ce st X J TN sc bl q ns) (hs : gSc c.ns z sc) (hz : ∀ k, k < c.nc → sw (J.ct k) ≤ z) (hd : sc.length + n ≤ 300) (hJ : MJ st X K c.nd ce 0) (hK : MK X K c.nd ce 0 x) (hx : 202 ≤ x) (hx2 : x + rN t ≤ 29000) (hy : 203 ≤ y) (hy2 : c.nd + 2 * (60000 - K.life) + (y + rN t) ≤ 140000) (h59 : fI st 59 = iI (ch : Int)) (hch : ch + rN t ≤ 4000) (hns : ns + rD t ≤ 50)
    (ok : ∀ st' K' nd' ce' u so, jTypeSort (jFrom t) (sJudge X J n t sc K) = (K', .ok (u, so)) → so < c.ns → K.life ≤ K'.life → mjf lo hi c.nd ce ns ch st st' → c.nd ≤ nd' → ce ≤ ce' → MJ st' X K' nd' ce' 0 → MK X K' nd' ce' 0 (x + rN t) → nd' + 2 * (60000 - K'.life) + y ≤ 140000 → fI st' 43 = fI st 43 → fI st' 59 = fI st 59 → (∀ st'', ag (cutE E lo hi) nd' ce' st' st'' → mT (nd', c.2) st'' u (bl.map (fun z => z.1)) nn none) → gT u false (List.replicate sc.length true) → Q (.returned (some (.int (iI (so : Int))))) st')
    (er : ∀ st' K' e p, jTypeSort (jFrom t) (sJudge X J n t sc K) = (K', .error (e, p)) → K.life ≤ K'.life → mjf lo hi c.nd ce ns ch st st' → MZj st' X K' e p → Q (.returned (some (.int (iI 0)))) st') : CQ (wM P s0 l XX) mX5_judgeSort (lev + 1) (.ref P.mo :: [.int (iI (nn : Int)), .int (iI (q : Int))]) st Q := by
  have h14 := h.at.1.2.2.2
  have hlt := mR_lt hr
  have hnn : nn < c.nd := (hE nn (hI nn hlt.1 hlt.2)).2
  obtain ⟨f1, f2⟩ := mR_from hr
  refine tX5_judgeSort (ih E c t nn lo hi sc bl q K st ce x y ns ch z _ hr hg hI hE h hs hz hd hJ hK hx hx2 hy hy2 h59 hch hns (fun t1 K1 nd1 ce1 u ty r so tn e1 e2 e3 e4 e5 e6 e7 e8 e9 e10 e11 e12 e13 e14 e15 e16 => ?_) (fun t1 K1 e p e1 e2 e3 e4 => ⟨fun w => absurd w e4.ne, fun _ => tX5_judgeSort_30 ⟨iI_in (by omega) (by omega), m_wrongZ hlv e4 (tX5_judgeSort_48 ⟨fun _ => er t1 K1 e p (by unfold jTypeSort; rw [e1]; rfl) e2 e3 e4, fun w => absurd rfl w⟩)⟩⟩))
  obtain ⟨mm, m1, m2⟩ := e15
  have mt := m2 t1 ag.rf
  have htn : tn < nd1 := (mT_lt _ _ _ _ mt).1 rfl
  have hnd1 : nd1 ≤ 140000 := e7.2.1
  refine ⟨fun _ => ?_, fun w => absurd e6.2.2.2.1 w⟩
  rw [e13]
  have a30 : aI t1 30 (iI (tn : Int)) = t1.2 30 tn := aI_n (by omega)
  rw [a30]
  have bad : jSortOf ty r = none → jX5_judgeSort_30 P s0 l XX lev st Q (iI (nn : Int)) (iI (q : Int)) t1 := fun hno => by
    have a34 : aI t1 34 (iI (nn : Int)) = iI (jFrom t) := by
      rw [aI_n (by omega), e3.2 34 nn (fun _ => by omega) (fun _ => by omega) (fun _ => by omega) (fun _ => by omega) (by omega) (fun _ => by omega) (by omega)]; exact f1
    refine tX5_judgeSort_30 ⟨iI_in (by omega) (by omega), ?_⟩
    rw [a34]
    refine m_wrong (e := 8) hlv e6 (by omega) f2 (fun t2 z1 z2 => tX5_judgeSort_48 ⟨fun _ => er t2 K1 8 (jFrom t) ?_ e2 (e3.t2 z2 e4 e5 (Nat.le_refl _) (Nat.le_refl _)) z1, fun w => absurd rfl w⟩)
    unfold jTypeSort
    rw [e1]
    show (match jSortOf ty r with | some s => _ | none => _) = _
    rw [hno]
  refine ⟨iI_in (by omega) (by omega), ?_⟩
  rcases mT_kind (r := r) _ _ _ _ _ e16.2.1 mt with ⟨s, k1, k2, k3, k4⟩ | ⟨p, d, b, k1, k2⟩ | ⟨k1, k2, kd, k3, k4, k5, k6⟩
  · refine ⟨fun _ => tX5_judgeSort_48 ⟨fun w => absurd w (by decide), fun _ => ?_⟩, fun w => absurd k2 w⟩
    rw [e13]
    refine ⟨iI_in (by omega) (by omega), ?_⟩
    rw [aI_n (by omega), k3]
    refine ok t1 K1 nd1 ce1 u s ?_ k4 e2 e3 e4 e5 e6 e7 e8 e9 e10 e11 e12
    unfold jTypeSort
    rw [e1]
    show (match jSortOf ty r with | some s => _ | none => _) = _
    rw [jSortOf_some k1]
  · exact ⟨fun w => absurd (k2.symm.trans w) (by decide), fun _ => bad (jSortOf_none (fun v w => by rw [k1] at w; cases w))⟩
  · refine ⟨fun w => ?_, fun _ => bad (jSortOf_none k1)⟩
    have w' := k3.symm.trans w
    rw [iI_eq (by omega) (by omega) (by omega) (by omega)] at w'
    omega
end MJP
