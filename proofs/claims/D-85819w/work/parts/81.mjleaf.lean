/-! M OVER S (21): judging: names -/
section MJF
variable {P : MPl} {s0 : State} {l : Launch} {XX : Prop} {lev n m : Nat} {Q : Outcome → MSt → Prop} {st st' st'' st0 : MSt} {X : SX} {J : JX} {K K' : KS} {nd nd' ce ce' wa x y lo hi lo' hi' lo1 hi1 lo2 hi2 ns ns' ch ch' q z : Nat} {c c' : MC} {M M' : Nat → Int → Prop} {E E' : Nat → Prop} {TN : Nat → List Nat} {sc : SC} {bl : List (Nat × Option Nat)}
theorem fI_put {k j : Nat} {v : Int32} (h : j ≠ k) : fI (mput k v st) j = fI st j := by show (mput k v st).1 j = _; rw [mput_f, if_neg h]
theorem fI_self {k : Nat} {v : Int32} : fI (mput k v st) k = v := by show (mput k v st).1 k = _; rw [mput_f, if_pos rfl]
/-- a name's node is told what it is -/
theorem jleaf {nn : Nat} {kd v a b : Int32} (hJ : MJ st X K c.nd ce 0) (h1 : lo ≤ nn) (h2 : nn < hi) (hnd : nn < c.nd) (h14 : c.nd ≤ 140000) :
    ∃ st2, st2 = mput 61 b (mput 60 a (mst 31 (iI (nn : Int)) v (mst 30 (iI (nn : Int)) kd st))) ∧ MJ st2 X K c.nd ce 0 ∧ mjf lo hi c.nd ce ns ch st st2 ∧ fI st2 43 = fI st 43 ∧ fI st2 59 = fI st 59 ∧ fI st2 60 = a ∧ fI st2 61 = b ∧ ∀ st'', ag (cutE E lo hi) c.nd ce st2 st'' → st''.2 30 nn = kd ∧ st''.2 31 nn = v := by
  refine ⟨_, rfl, ((jmstx (jmstx hJ (by omega) (by omega)) (by omega) (by omega)).putx (by omega)).putx (by omega), ?_, ?_, ?_, ?_, ?_, fun st'' ha => ?_⟩
  · exact (((mjf.mst (by omega) (by omega)).t2 (mjf.mst (by omega) (by omega)) (Nat.le_refl _) (Nat.le_refl _) (Nat.le_refl _) (Nat.le_refl _)).t2 (mjf.put (by omega)) (Nat.le_refl _) (Nat.le_refl _) (Nat.le_refl _) (Nat.le_refl _)).t2 (mjf.put (by omega)) (Nat.le_refl _) (Nat.le_refl _) (Nat.le_refl _) (Nat.le_refl _)
  · rw [fI_put (by omega), fI_put (by omega)]; rfl
  · rw [fI_put (by omega), fI_put (by omega)]; rfl
  · rw [fI_put (by omega), fI_self]
  · rw [fI_self]
  · have hz : ∀ k, 30 ≤ k → k ≤ 38 → st''.2 k nn = (mput 61 b (mput 60 a (mst 31 (iI (nn : Int)) v (mst 30 (iI (nn : Int)) kd st)))).2 k nn := fun k z1 z2 => ha k nn (Or.inr (Or.inl ⟨z1, z2, hnd, fun w => by have := w.2; omega⟩))
    refine ⟨(hz 30 (by omega) (by omega)).trans ?_, (hz 31 (by omega) (by omega)).trans ?_⟩
    · rw [mput_a, mput_a, mst_a (by omega), if_neg (by omega), mst_a (by omega), if_pos ⟨rfl, rfl⟩]
    · rw [mput_a, mput_a, mst_a (by omega), if_pos ⟨rfl, rfl⟩]
theorem JM.at (h : JM lo hi E c ce st X J TN sc bl q ns) : mXc c st X ∧ mSo c st ∧ (∀ k, k < c.nc → ∃ n : Nat, st.2 23 k = iI (n : Int) ∧ st.2 24 k = iI (J.cs k) ∧ mT c st (J.ct k) [] n none) ∧ mE c ce (Msc sc bl) st (scEnv sc) (bl.map (fun z => z.1)) q := h.2.1 st ag.rf
/-- the type of a name of the context -/
theorem JM.ty {k : Nat} (h : JM lo hi E c ce st X J TN sc bl q ns) (hk : k < c.nc) : ∃ n : Nat, st.2 23 k = iI (n : Int) ∧ st.2 24 k = iI (J.cs k) ∧ mTy E c ce st sc bl (J.ct k) .nil n := by
  obtain ⟨w1, -, w3, -⟩ := h.at
  have h14 := w1.2.2.2
  obtain ⟨n, z1, z2, z3⟩ := w3 k hk
  refine ⟨n, z1, z2, sc.length, (scEnv_all sc).symm, fun st'' ha => ?_⟩
  obtain ⟨-, -, w3', -⟩ := h.2.1 st'' ha
  obtain ⟨n', y1, y2, y3⟩ := w3' k hk
  have e := (ha 23 k (Or.inl (Or.inl rfl))).symm.trans y1
  rw [z1, iI_eq (by omega) (by have := (mT_lt _ _ _ _ z3).1 rfl; omega) (by omega) (by have := (mT_lt _ _ _ _ y3).1 rfl; omega)] at e
  have e' : n = n' := by omega
  subst e'
  rw [List.drop_of_length_le (by rw [tgs_len (mSc_len h.2.2.1)]; exact Nat.le_refl _)]
  exact y3
/-- the type that is a sort -/
theorem JM.so {s : Nat} (h : JM lo hi E c ce st X J TN sc bl q ns) (hs : s < c.ns) : mTy E c ce st sc bl (.tag s (.align true)) .nil s := by
  refine ⟨sc.length, (scEnv_all sc).symm, fun st'' ha => ?_⟩
  obtain ⟨-, w2, -⟩ := h.2.1 st'' ha
  obtain ⟨a1, a2⟩ := w2.1 s hs
  have h8 := w2.2
  exact ⟨by omega, hs, a1, a2⟩
theorem m_jname {t : V} {nn : Nat} (hlv : 3 ≤ lev) (hleaf : (∃ f k, t = .tag f (.tag k .line)) ∨ ∃ f p, t = .tag f (.tag p .nil)) (hr : mR TN st t (bl.map (fun z => z.2)) nn lo hi none) (hg : rG t 0 sc.length (n + 1)) (hI : ∀ j, lo ≤ j → j < hi → E j) (hE : ∀ j, E j → 8 ≤ j ∧ j < c.nd) (h : JM lo hi E c ce st X J TN sc bl q ns) (hs : gSc c.ns z sc) (hz : ∀ k, k < c.nc → sw (J.ct k) ≤ z) (hJ : MJ st X K c.nd ce 0) (hns : ns ≤ 50)
    (ok : ∀ st' u ty r so tn, sJudge X J (n + 1) t sc K = (K, .ok (u, ty, r, so)) → mjf lo hi c.nd ce ns ch st st' → MJ st' X K c.nd ce 0 → fI st' 43 = fI st 43 → fI st' 59 = fI st 59 → (∀ st'', ag (cutE E lo hi) c.nd ce st' st'' → mT c st'' u (bl.map (fun z => z.1)) nn none) → gT u false (List.replicate sc.length true) → fI st' 60 = iI ((tn : Nat) : Int) → fI st' 61 = iI so → mTy (cutE E lo hi) c ce st' sc bl ty r tn → tyG c.ns (z + rB t) (scEnv sc) ty r so → Q (.returned none) st')
    (er : ∀ st' e p, sJudge X J (n + 1) t sc K = (K, .error (e, p)) → mjf lo hi c.nd ce ns ch st st' → MZj st' X K e p → Q (.returned none) st') : CQ (wM P s0 l XX) mX5_judgeName lev (.ref P.mo :: [.int (iI (nn : Int))]) st Q := by
  obtain ⟨l', rfl⟩ := Nat.exists_eq_add_of_le' hlv
  obtain ⟨w1, w2, w3, w4⟩ := h.at
  have h14 := w1.2.2.2
  have hnc : c.nc ≤ 100 := w1.2.1
  have hns8 : c.ns ≤ 8 := w1.2.2.1
  have hB := h.1
  have hSc := h.2.2.1
  have hlt := mR_lt hr
  have hnn : nn < c.nd := (hE nn (hI nn hlt.1 hlt.2)).2
  have hT := hB.2.2.2.2.1
  have mvT : ∀ {st2 : MSt} {ty r : V} {tn : Nat}, mjf lo hi c.nd ce ns ch st st2 → mTy E c ce st sc bl ty r tn → mTy (cutE E lo hi) c ce st2 sc bl ty r tn := fun hf ht => ht.mv (hf.ag hI) (fun _ w => w.1) (Nat.le_refl _) rfl (Nat.le_refl _)
  rcases hleaf with ⟨f, k, rfl⟩ | ⟨f, p, rfl⟩
  · obtain ⟨a1, a2, a3, a4, p, a5, a6, a7, a8⟩ := hr
    obtain ⟨hk, -⟩ : k < sc.length ∧ 1 ≤ n + 1 := hg
    obtain ⟨j, b, e1, e2, e3, e4⟩ := nid_some a8
    have ej : j = k := by omega
    subst ej
    obtain ⟨e, he⟩ : ∃ e, sc[j]? = some e := ⟨sc[j], List.getElem?_eq_getElem hk⟩
    obtain ⟨f1, f2, f3⟩ := mSc_get hSc he e2
    obtain ⟨pb, hpb⟩ : ∃ pb, b.2 = some pb := by
      cases hb : b.2 with
      | none => exact absurd hb e3
      | some pb => exact ⟨pb, rfl⟩
    obtain ⟨x0, nt, g1, g2, g3, g4, g5, g6, g7, g8, g9⟩ := f3 pb hpb
    refine tX5_judgeName (jn_loop (by omega) a5 hT a6 a7 h.2.2.2.1.2 hns h14 sc bl ns hSc h.2.2.2.1.1 (Nat.le_refl _) (tX5_judgeName_4 ⟨fun _ => ⟨fun z => ?_, fun _ => ⟨iI_in (by omega) (by omega), iI_in (by omega) (by omega), ?_⟩⟩, fun z => absurd (by rw [h.2.2.2.1.2, iI_le (by omega) (by omega) (by omega) (by omega)]; omega) z⟩))
    · rw [e4, iI_z, iI_lt (by omega) (by have := f1.1; omega) (by omega) (by omega)] at z; omega
    · rw [e4]
      have hb14 : b.1 < 140000 := by have := f1.1; omega
      rw [aI_n (by omega), aI_n (by omega), g7, g8]
      refine ⟨iI_in hb14 (by omega), iI_in hb14 (by omega), tX5_becomes ?_⟩
      obtain ⟨st2, hst, j1, j2, j3, j4, j5, j6, j7⟩ := jleaf (E := E) (ns := ns) (ch := ch) (kd := iI 1) (v := iI (b.1 : Int)) (a := iI (nt : Int)) (b := iI e.2.2.2) hJ a1 a2 hnn h14
      rw [← hst]
      refine ok st2 (.tag j .line) e.2.1 e.2.2.1 e.2.2.2 nt (sJudge_bnd he) j2 j1 j3 j4 (fun st'' ha => ?_) ?_ j5 j6 (mvT j2 g9) ((hs.get he).le (by omega))
      · obtain ⟨y1, y2⟩ := j7 st'' ha
        exact ⟨hnn, y1, b.1, by rw [List.getElem?_map, e2]; rfl, hb14, y2⟩
      · show (List.replicate sc.length true)[j]? = some true
        rw [List.getElem?_replicate, if_pos hk]
  · obtain ⟨a1, a2, a3, a4, a5, a6, a7, a8⟩ := hr
    have e4 := nid_none a8
    refine tX5_judgeName (jn_loop (by omega) a5 hT a6 a7 h.2.2.2.1.2 hns h14 sc bl ns hSc h.2.2.2.1.1 (Nat.le_refl _) (tX5_judgeName_4 ⟨fun _ => ⟨fun _ => ?_, fun z => absurd (by rw [e4]; decide) z⟩, fun z => absurd (by rw [h.2.2.2.1.2, iI_le (by omega) (by omega) (by omega) (by omega)]; omega) z⟩))
    refine m_knownOf (by omega) (by omega) a5 hnc hB a6 a7 ?_
    cases hc : J.cn p with
    | some k =>
      have hk : k < c.nc := lastN_lt ((hB.2.2.2.2.2.2.2 p).1.symm.trans hc)
      obtain ⟨nt, t1, t2, t3⟩ := h.ty hk
      have kn : ¬ iI (k : Int) < 0 := by rw [iI_z, iI_lt (by omega) (by omega) (by omega) (by omega)]; omega
      refine ⟨fun z => absurd z kn, fun _ => ⟨fun z => absurd z kn, fun _ => ⟨iI_in (by omega) (by omega), iI_in (by omega) (by omega), iI_in (by omega) (by omega), iI_in (by omega) (by omega), ?_⟩⟩⟩
      show CQ (wM P s0 l XX) mX5_becomes (l' + 2) (.ref P.mo :: [.int (aI st 23 (iI (k : Int))), .int (aI st 24 (iI (k : Int)))]) _ _
      rw [aI_n (by omega), aI_n (by omega), t1, t2]
      refine tX5_becomes ?_
      obtain ⟨st2, hst, j1, j2, j3, j4, j5, j6, j7⟩ := jleaf (E := E) (ns := ns) (ch := ch) (kd := iI 2) (v := iI (k : Int)) (a := iI (nt : Int)) (b := iI (J.cs k)) hJ a1 a2 hnn h14
      show Q (.returned none) (mput 61 (iI (J.cs k)) (mput 60 (iI (nt : Int)) (mst 31 (iI (nn : Int)) (iI (k : Int)) (mst 30 (iI (nn : Int)) (iI 2) st))))
      rw [← hst]
      obtain ⟨y1, y2, y3⟩ := hB.2.2.2.2.2.1 k hk
      exact ok st2 (.tag k .nil) (J.ct k) .nil (J.cs k) nt (by rw [sJudge_fr, hc]) j2 j1 j3 j4 (fun st'' ha => ⟨hnn, hk, (j7 st'' ha).1, (j7 st'' ha).2⟩) trivial j5 j6 (mvT j2 t3) ⟨⟨sc.length, (scEnv_all sc).symm⟩, y3, trivial, y1, y2, Nat.le_trans (hz k hk) (Nat.le_add_right _ _)⟩
    | none =>
      refine ⟨fun _ => ?_, fun z => absurd (by decide) z⟩
      refine m_sortOf (by omega) (by omega) a5 hns8 hB a6 a7 ⟨fun _ => ?_, fun z => absurd (by decide) z⟩
      cases hf : J.sf p with
      | none =>
        refine ⟨fun z => absurd z (by decide), fun _ => ⟨iI_in (by omega) (by omega), ?_⟩⟩
        rw [aI_n (by omega), a6]
        exact m_wrong (e := 3) (p := (p : Int)) (by omega) hJ (by omega) (by omega) (fun st2 z1 z2 => er st2 3 p (by rw [sJudge_fr, hc, hf]) z2 z1)
      | some s =>
        have hs' : s < c.ns := by have := firstN_lt ((hB.2.2.2.2.2.2.2 p).2.symm.trans hf); omega
        obtain ⟨x1, x2, x3⟩ := hB.2.2.1 s (by omega)
        refine ⟨fun _ => ⟨iI_in (by omega) (by omega), ?_⟩, fun z => absurd (by show 0 ≤ iI (s : Int); rw [iI_z, iI_le (by omega) (by omega) (by omega) (by omega)]; omega) z⟩
        show ((0 : Int32) ≤ aI st 18 (iI (s : Int)) → _) ∧ (¬ (0 : Int32) ≤ aI st 18 (iI (s : Int)) → _)
        rw [aI_n (by omega), x1]
        refine ⟨fun z => ?_, fun z => ?_⟩
        · rw [iI_z, iI_le (by omega) (by omega) (by omega) (by omega)] at z
          obtain ⟨v, hv⟩ : ∃ v : Nat, J.ax s = (v : Int) := ⟨(J.ax s).toNat, by omega⟩
          obtain ⟨v1, v2, v3⟩ := hB.2.2.1 v (by omega)
          rw [hv]
          refine ⟨iI_in (by omega) (by omega), iI_in (by omega) (by omega), iI_in (by omega) (by omega), iI_in (by omega) (by omega), iI_in (by omega) (by omega), ?_⟩
          rw [aI_n (by omega), v1]
          refine tX5_becomes ?_
          obtain ⟨st2, hst, j1, j2, j3, j4, j5, j6, j7⟩ := jleaf (E := E) (ns := ns) (ch := ch) (kd := iI 3) (v := iI (s : Int)) (a := iI (v : Int)) (b := iI (J.ax v)) hJ a1 a2 hnn h14
          show Q (.returned none) (mput 61 (iI (J.ax v)) (mput 60 (iI (v : Int)) (mst 31 (iI (nn : Int)) (iI (s : Int)) (mst 30 (iI (nn : Int)) (iI 3) st))))
          rw [← hst]
          exact ok st2 (.tag s (.align true)) (.tag v (.align true)) .nil (J.ax v) v (by rw [sJudge_fr, hc, hf]; show (if J.ax s = -1 then _ else _) = _; rw [if_neg (by omega), hv]; rfl) j2 j1 j3 j4 (fun st'' ha => ⟨hnn, hs', (j7 st'' ha).1, (j7 st'' ha).2⟩) trivial j5 j6 (mvT j2 (h.so (by omega))) ⟨⟨sc.length, (scEnv_all sc).symm⟩, trivial, trivial, v2, by omega, Nat.zero_le _⟩
        · rw [iI_z, iI_le (by omega) (by omega) (by omega) (by omega)] at z
          refine ⟨iI_in (by omega) (by omega), ?_⟩
          show CQ (wM P s0 l XX) mX5_wrong (l' + 2) (.ref P.mo :: [.int (iI 7), .int (aI st 31 (iI (nn : Int)))]) st _
          rw [aI_n (by omega), a6]
          exact m_wrong (e := 7) (p := (p : Int)) (by omega) hJ (by omega) (by omega) (fun st2 z1 z2 => er st2 7 p (by rw [sJudge_fr, hc, hf]; show (if J.ax s = -1 then _ else _) = _; rw [if_pos (by omega)]) z2 z1)
end MJF
