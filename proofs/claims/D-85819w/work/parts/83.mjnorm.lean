/-! M OVER S (23): judging: the machine is asked -/
section MJM
variable {P : MPl} {s0 : State} {l : Launch} {XX : Prop} {lev n m : Nat} {Q : Outcome → MSt → Prop} {st st' st'' st2 st0 : MSt} {X : SX} {J : JX} {K K' : KS} {nd nd' ce ce' wa x y lo hi lo' hi' lo1 hi1 lo2 hi2 ns ns' ch ch' q z : Nat} {c c' : MC} {M M' : Nat → Int → Prop} {E E' : Nat → Prop} {TN : Nat → List Nat} {sc : SC} {bl : List (Nat × Option Nat)}
theorem gT_nT : ∀ (t : V) (g : List Nat) (n : Nat) (m : Option Nat), mT c st t g n m → nT t → c.nd ≤ 140000 → gT t false (g.map (fun d => decide (d < 140000))) := by
  intro t g n m
  fun_induction mT c st t g n m with
  | case1 k g n =>
    rintro ⟨a1, a2, i, a3, a4, a5⟩ _ _
    show (g.map _)[k]? = some true
    rw [List.getElem?_map, a3]
    simp [a4]
  | case2 => intros; trivial
  | case3 => intros; trivial
  | case4 d b g n i1 i2 =>
    rintro ⟨a1, a2, x, y, i, a3, a4, a5, a6, a7, a8, a9⟩ hn h14
    have := i2 y i a9 hn.2 h14
    rw [List.map_cons, decide_eq_true (by omega : i < 140000)] at this
    exact ⟨i1 x a8 hn.1 h14, this⟩
  | case5 d b g n i1 i2 => intro _ hn; exact hn.elim
  | case6 f ps g n i1 i2 =>
    rintro ⟨m, a1, a2⟩ hn h14
    exact ⟨i1 m a1 hn.1 h14, i2 m a2 hn.2.1 h14, hn.2.2⟩
  | case7 p d b g n i1 i2 =>
    rintro ⟨a1, a2, b1, b2, x, y, i, a3, a4, a5, a6, a7, a8, a9⟩ hn h14
    rw [nT_prod] at hn
    have := i2 y i a9 hn.2 h14
    rw [List.map_cons, decide_eq_true (by omega : i < 140000)] at this
    have e : ∀ gg, gT (.tag p (.group (.append d b) .fill)) false gg = (gT d false gg ∧ gT b false (true :: gg)) := fun gg => by rcases p with _ | _ | _ | p <;> rfl
    rw [e]
    exact ⟨i1 x a8 hn.1 h14, this⟩
  | case8 m t g n i1 => intro _ hn; unfold nT at hn; first | exact hn.elim | (split at hn <;> first | exact hn.elim | simp_all)
  | case9 t g n i1 => intro _ hn; unfold nT at hn; first | exact hn.elim | (split at hn <;> first | exact hn.elim | simp_all)
  | case10 p ps g n m i1 i2 =>
    rintro ⟨k, a, a1, a2, a3, a4, a5, a6⟩ hn h14
    exact ⟨i1 a a5 hn.1 h14, i2 k a6 hn.2 h14⟩
  | case11 => intros; trivial
  | case12 => intro h; exact h.elim
theorem tgs_lsh : ∀ {sc : SC} {bl : List (Nat × Option Nat)}, mSc TN lo hi E c ce st sc bl → c.nd ≤ 140000 → (tgs sc bl).map (fun d => decide (d < 140000)) = lsh (scEnv sc) := by
  intro sc
  induction sc with
  | nil => intro bl h _; cases bl <;> rfl
  | cons e sc ih => intro bl h h14; cases bl with
    | nil => exact h.elim
    | cons b bl =>
      obtain ⟨e1, e2⟩ := e
      have hb := h.1.1
      rcases h.2.1 with q | ⟨t, r, q⟩
      · have q' : e1 = vLoc sc.length := q
        subst q'
        rw [tgs_loc, List.map_cons, decide_eq_true (by omega : b.1 < 140000), ih h.2.2.2 h14]
        rfl
      · have q' : e1 = vClo t r := q
        subst q'
        rw [tgs_clo, List.map_cons, ih h.2.2.2 h14]
        rfl
/-- a judged term as the machine sees it -/
theorem JM.C {u : V} {nn : Nat} (h : JM lo hi E c ce st X J TN sc bl q ns) (hu : mT c st u (bl.map (fun z => z.1)) nn none) : mC c ce (Msc sc bl) st (vClo u (scEnv sc)) nn q := by
  obtain ⟨w1, -, -, w4⟩ := h.at
  have h14 := w1.2.2.2
  exact ⟨u, scEnv sc, _, rfl, h.2.2.2.2.2.1, fun d hd => by have := (mSc_at h.2.2.1 d hd).1; omega, hu, w4⟩
/-- .. a type, without its wrappers -/
theorem JM.T {ty r : V} {tn : Nat} (h : JM lo hi E c ce st X J TN sc bl q ns) (hc : 0 < ce) (ht : mTy E c ce st sc bl ty r tn) : mC c ce (Msc sc bl) st (vClo (sUnw ty r).1 (sUnw ty r).2) tn 0 ∧ ∃ g, (∀ d ∈ g, d < 2147483648) ∧ mT c st (sUnw ty r).1 g tn none ∧ mE c ce (Msc sc bl) st (sUnw ty r).2 g 0 := by
  obtain ⟨w1, -, -, w4⟩ := h.at
  have h14 := w1.2.2.2
  obtain ⟨mm, m1, m2⟩ := ht
  have hT := m2 st ag.rf
  have hE : mE c ce (Msc sc bl) st (scEnv sc) (tgs sc bl) 0 := mE_tg h.2.2.1 h14 (fun _ _ w => w)
  have hE2 := mE_drop mm _ _ _ hE
  rw [← m1] at hE2
  obtain ⟨g, g1, g2, g3⟩ := mT_unw ty _ r tn 0 (fun d hd => by
    rcases mSc_tgs h.2.2.1 d (List.mem_of_mem_drop hd) with w | w
    · have := (mSc_at h.2.2.1 d w).1; omega
    · omega) hT hE2
  exact ⟨⟨_, _, g, rfl, hc, g1, g2, g3⟩, g, g1, g2, g3⟩
theorem jOf_ok {α : Type} {r : SR α} {K : KS} {a : α} (h : r = (K, .ok a)) : jOf r = (K, .ok a) := by rw [h]; rfl
theorem jOf_er {α : Type} {r : SR α} {K : KS} {e : Nat} (h : r = (K, .error e)) : jOf r = (K, .error (e, -1)) := by rw [h]; rfl
/-- the normal form of what stands around -/
theorem m_jnorm {v : V} {na qa : Nat} (hlv : 210 ≤ lev) (h : JM lo hi E c ce st X J TN sc bl q ns) (hv : mC c ce (Msc sc bl) st v na qa) (gv : gKv v) (hd : sc.length ≤ 300) (hJ : MJ st X K c.nd ce 0) (hK : MK X K c.nd ce 0 x) (hx : 202 ≤ x) (hx2 : x ≤ 29000) (hy : 202 ≤ y) (hy2 : c.nd + 2 * (60000 - K.life) + y ≤ 140000)
    (ok : ∀ st' K' nd' ce' t n, jOf (sNorm X 100 sc.length v K) = (K', .ok t) → K.life ≤ K'.life → mfr c.nd ce 0 st st' → c.nd ≤ nd' → ce ≤ ce' → MJ st' X K' nd' ce' 0 → MK X K' nd' ce' 0 x → nd' + 2 * (60000 - K'.life) + (y + 1) ≤ 140000 → (∀ E' : Nat → Prop, (∀ j, E' j → 8 ≤ j ∧ j < c.nd) → ∀ st'', ag E' nd' ce' st' st'' → mT (nd', c.2) st'' t (tgs sc bl) n none) → gT t false (lsh (scEnv sc)) → Q (.returned (some (.int (iI ((n : Nat) : Int))))) st')
    (er : ∀ st' K' e r, jOf (sNorm X 100 sc.length v K) = (K', .error (e, -1)) → K.life ≤ K'.life → mfr c.nd ce 0 st st' → MZj st' X K' e (-1) → Q (.returned (some (.int r))) st') : CQ (wM P s0 l XX) mX5_normal lev (.ref P.mo :: [.int (iI (na : Int)), .int (iI (qa : Int)), .int (iI 0)]) st Q := by
  obtain ⟨w1, w2, -, w4⟩ := h.at
  have h14 := w1.2.2.2
  refine m_normal (d := 100) (w := 0) (lev := lev) (by omega) (by omega) (by omega) c (Msc sc bl) v na qa sc.length (tgs sc bl) K st ce 0 x y Q (h.2.2.1.MN h14) hv gv w1 w2 h.1.1.1 (by omega) hJ hK (by omega) hx2 (by omega) hy2 (fun st' K' ce' nd' t n u1 u2 u3 u4 u5 u6 u7 u8 u9 u10 => ?_) (fun st' K' e ce' nd' r u1 u2 u3 u4 u5 u6 u7 u8 u9 u10 => er st' K' e r (jOf_er u1) u2 u3 u9.j)
  have u7' : nd' ≤ 140000 := u7.2.1
  refine ok st' K' nd' ce' t n (jOf_ok u1) (by omega) u3 u5 u4 u6 u7 u8 (fun E' hE' st'' ha => ?_) ?_
  · refine u10.1 st'' (fun k j z1 z2 hj => ha k j (Or.inr (Or.inl ⟨z1, z2, ?_, fun w => ?_⟩)))
    · have h8 := w2.2.1
      rcases hj with ⟨_, z⟩ | z
      · exact z
      · show j < nd'; omega
    · have := hE' j w
      rcases hj with ⟨z, _⟩ | z <;> omega
  · rw [← tgs_lsh h.2.2.1 h14]
    exact gT_nT t _ n none (u10.1 st' (fun _ _ _ _ _ => rfl)) u10.2 u7'
end MJM
