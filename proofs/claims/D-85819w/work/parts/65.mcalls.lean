/-! M OVER S (6): small methods of the model's machine -/
/-- what is looked at: always a term with what its names stand for -/
def gKv (v : V) : Prop := ∃ t r, v = vClo t r ∧ gT t true (shp r) ∧ gV r true
section MCA
variable {P : MPl} {s0 : State} {l : Launch} {XX : Prop} {lev : Nat} {Q : Outcome → MSt → Prop} {st st' st0 : MSt} {X : SX} {K K' : KS} {nd ce ce' wa x base : Nat} {c c' : MC} {M M' : Nat → Int → Prop} {x1 x2 : Int32}
theorem m_head {v : V} {a b : Nat} (hl : 5 ≤ lev) (hv : mC c ce M st v a b) (hg : gKv v) (hX : mXc c st X) (hJ : MJ st X K c.nd ce wa) (hK : MK X K c.nd ce wa x)
    (ok : ∀ st' K' ce' u as, sHd X v K = (K', .ok (u, as)) → K.life ≤ K'.life → K'.2.2.2 = K.2.2.2 → mfr c.nd ce wa st st' → ce ≤ ce' → MJ st' X K' c.nd ce' (wa + as.length) → MK X K' c.nd ce' (wa + as.length) x → mHd c ce' M st' u (fI st' 52) (fI st' 53) → mW c ce' M st' wa as → gR X u → gA as → Q (.returned none) st')
    (er : ∀ st' K' e ce', sHd X v K = (K', .error e) → K.life ≤ K'.life → mfr c.nd ce wa st st' → ce ≤ ce' → ce' ≤ 1 + 2 * K'.work + x → MZ st' X K' e c.nd ce' → Q (.returned none) st') : CQ (wM P s0 l XX) mX5_head lev (.ref P.mo :: [.int (iI (a : Int)), .int (iI (b : Int))]) st Q := by
  obtain ⟨l', rfl⟩ := Nat.exists_eq_add_of_le' hl
  obtain ⟨t, r, g, h1, h2, h3, h4, h5⟩ := hv
  obtain ⟨t', r', e1, e2, e3⟩ := hg
  subst h1
  cases e1
  have e0 : sHd X (vClo t r) K = sHead X 60001 t r [] K := rfl
  have fr := sHead_fr (X := X) 60001 t r [] K
  refine tX5_head ⟨fun _ => ?_, fun z => absurd hJ.2.2.2.1 z⟩
  rw [hJ.2.2.1.2.2]
  exact m_headL (c := c) (M := M) (base := wa) (x := x) (by omega) 60001 (SizeOf.sizeOf t + 1) t r [] K st a b g ce true (Nat.lt_succ_self _) (by omega) h4 h5 h2 h3 e2 e3 (fun _ z => by cases z) trivial hX hJ hK (fun st' K' ce' u as u1 u2 u3 u4 u5 u6 u7 u8 u9 u10 => ok st' K' ce' u as u1 u2 (by rw [u1] at fr; exact fr) u3 u4 u5 u6 u7 u8 u9 u10) (fun st' K' e ce' u1 u2 u3 u4 u5 u6 => er st' K' e ce' u1 u2 u3 u4 u5 u6)
theorem m_look {d w : Nat} (hl : 3 ≤ lev) (hw : w + d = 100) (hJ : MJ st X K nd ce wa) (hK : MK X K nd ce wa x)
    (ok : ∀ st' K' d', d = d' + 1 → sSpend X 5 K = (K', .ok ()) → K'.life = K.life + 1 → K'.work = K.work + 1 → K'.2.2.2 = K.2.2.2 → mfr nd ce wa st st' → (∀ k j, st'.2 k j = st.2 k j) → MJ st' X K' nd ce wa → KB X K' → Q (.returned (some (.int (iI 1)))) st')
    (er : ∀ st' e, ((d = 0 ∧ e = 13) ∨ ∃ d', d = d' + 1 ∧ sSpend X 5 K = (K, .error e)) → mfr nd ce wa st st' → MZ st' X K e nd ce → Q (.returned (some (.int (iI 0)))) st') : CQ (wM P s0 l XX) mX5_look lev (.ref P.mo :: [.int (iI (w : Int))]) st Q := by
  obtain ⟨l', rfl⟩ := Nat.exists_eq_add_of_le' hl
  have h72 := hJ.2.2.2.1
  refine tX5_look ⟨fun _ => ⟨fun q => tX5_look_23 ?_, fun q => ?_⟩, fun z => absurd h72 z⟩
  · rw [iI_lt (by omega) (by omega) (by omega) (by omega)] at q
    obtain ⟨d', rfl⟩ : ∃ d', d = d' + 1 := ⟨d - 1, by omega⟩
    refine m_may (k := 5) (by omega) hJ hK.1 (fun K1 s1 s2 s2' s2'' s3 => ⟨fun w => absurd w (by decide), fun _ => ?_⟩) (fun e st' s1 s2 s3 => ⟨fun _ => er st' e (Or.inr ⟨d', rfl, s1⟩) s3 s2, fun w => absurd rfl w⟩)
    exact ok _ K1 d' rfl s1 s2 s2' s2'' (mfr_spend (k := 5) (by omega)) (fun _ _ => rfl) (hJ.spend (by omega : 5 < 6) s1) s3
  · have hd0 : d = 0 := by
      rw [iI_lt (by omega) (by omega) (by omega) (by omega)] at q
      omega
    refine tX5_wrong ⟨fun _ => tX5_look_23 (tX5_may ⟨fun z => ?_, fun _ => ⟨fun _ => er _ 13 (Or.inl ⟨hd0, rfl⟩) ((mfr_put (by omega)).tr (mfr_put (by omega)) (Nat.le_refl _) (Nat.le_refl _) (Nat.le_refl _)) (hJ.bad (e := 13) (by omega)), fun w => absurd rfl w⟩⟩), fun z => absurd h72 z⟩
    have z' : (mput 73 (fI st 77) (mput 72 (iI 13) st)).1 72 = 0 := z
    rw [mput_f, if_neg (by omega), mput_f, if_pos rfl] at z'
    exact absurd z' (by decide)
theorem m_inside {n q i : Nat} {y : Int32} (hl : 2 ≤ lev) (hn : n < 140000) (hi : st.2 38 n = iI (i : Int)) (h : MJ st X K nd ce wa) (hce : ce < 80000) (hq : q < ce)
    (ok : ∀ st', MJ st' X K nd (ce + 1) wa → mfr nd ce wa st st' → st'.2 44 ce = iI (q : Int) → st'.2 45 ce = iI (i : Int) → st'.2 46 ce = y → (∀ k, k ≠ 48 → st'.1 k = st.1 k) → (∀ k j, k < 44 ∨ 47 < k → st'.2 k j = st.2 k j) → Q (.returned (some (.int (iI (ce : Int))))) st') : CQ (wM P s0 l XX) mX5_inside lev (.ref P.mo :: [.int (iI (n : Int)), .int (iI (q : Int)), .int y]) st Q := by
  obtain ⟨l', rfl⟩ := Nat.exists_eq_add_of_le' hl
  refine tX5_inside ⟨iI_in hn (by omega), ?_⟩
  rw [aI_n (by omega), hi]
  exact m_cell (by omega) h hce hq (fun st' c1 c2 c3 c4 c5 c6 c7 c8 => ok st' c1 c2 c3 c4 c5 c7 c8)
/-- what a head is, by its node -/
theorem mHd_cases {u : V} {n q : Int32} (h : mHd c ce M st u n q) (hg : gR X u) :
    (∃ (j : Nat) (k : Int), u = vLoc j ∧ M j k ∧ -2000000 ≤ k ∧ k < 0 ∧ n = iI k) ∨
    (∃ (j : Nat) (k : Int) (a : Nat), u = vLoc j ∧ M j k ∧ 0 ≤ k ∧ k < 140000 ∧ n = iI (a : Int) ∧ a < c.nd ∧ st.2 30 a = iI 1 ∧ st.2 31 a = iI k) ∨
    (∃ (k : Nat) (r : V) (a : Nat), u = vClo (.tag k .nil) r ∧ X.val k = none ∧ n = iI (a : Int) ∧ a < c.nd ∧ k < c.nc ∧ st.2 30 a = iI 2 ∧ st.2 31 a = iI (k : Int)) ∨
    (∃ (k : Nat) (r : V) (a : Nat), u = vClo (.tag k (.align true)) r ∧ n = iI (a : Int) ∧ a < c.nd ∧ k < c.ns ∧ st.2 30 a = iI 3 ∧ st.2 31 a = iI (k : Int)) ∨
    (∃ (lm : Bool) (p : Nat) (d b r : V) (a e x y i : Nat) (g : List Nat), sBinds u = some (lm, p, d, b, r) ∧ n = iI (a : Int) ∧ q = iI (e : Int) ∧ a < c.nd ∧ e < ce ∧ st.2 30 a = (if lm then iI 4 else iI 5) ∧ st.2 32 a = iI (x : Int) ∧ st.2 33 a = iI (y : Int) ∧ st.2 38 a = iI (i : Int) ∧ i < c.nd ∧ i ∉ g ∧ (∀ z ∈ g, z < 2147483648) ∧ mT c st d g x none ∧ mT c st b (i :: g) y none ∧ mE c ce M st r g e ∧ (lm = false → st.2 36 a = iI ((p / 8 : Nat) : Int) ∧ st.2 37 a = iI ((p % 8 : Nat) : Int))) := by
  rcases h with ⟨a, b, e1, e2, t, r, g, h1, h2, h3, h4, h5⟩ | ⟨j, k, h1, h2, h3⟩
  · subst h1
    rcases hg with ⟨i, hi⟩ | ⟨t', r', ht, g1, g2, g3⟩
    · cases hi
    · cases ht
      rcases g3 with ⟨k, rfl, hk⟩ | ⟨k, rfl⟩ | ⟨d, b', rfl⟩ | ⟨p, d, b', rfl⟩
      · obtain ⟨m1, m2, m3, m4⟩ := h4
        exact Or.inr (Or.inr (Or.inl ⟨k, r, a, rfl, hk, e1, m1, m2, m3, m4⟩))
      · obtain ⟨m1, m2, m3, m4⟩ := h4
        exact Or.inr (Or.inr (Or.inr (Or.inl ⟨k, r, a, rfl, e1, m1, m2, m3, m4⟩)))
      · obtain ⟨m1, m2, x, y, i, m3, m4, m5, m6, m7, m8, m9⟩ := h4
        exact Or.inr (Or.inr (Or.inr (Or.inr ⟨true, 0, d, b', r, a, b, x, y, i, g, rfl, e1, e2, m1, h2, m2, m3, m4, m5, m6, m7, h3, m8, m9, h5, fun z => by cases z⟩)))
      · rw [mT_prod] at h4
        obtain ⟨m1, m2, m10, m11, x, y, i, m3, m4, m5, m6, m7, m8, m9⟩ := h4
        exact Or.inr (Or.inr (Or.inr (Or.inr ⟨false, p, d, b', r, a, b, x, y, i, g, sBinds_prod, e1, e2, m1, h2, m2, m3, m4, m5, m6, m7, h3, m8, m9, h5, fun _ => ⟨m10, m11⟩⟩)))
  · rcases h3 with ⟨z1, z2, z3⟩ | ⟨z1, z2, a, b, z3, z4, z5, z6, z7, z8⟩
    · exact Or.inl ⟨j, k, h1, h2, z1, z2, z3⟩
    · exact Or.inr (Or.inl ⟨j, k, a, h1, h2, z1, z2, z3, z6, z7, z8⟩)
theorem m_kind {n kd : Int} (hl : 1 ≤ lev) (hn : (-2000000 ≤ n ∧ n < 0 ∧ kd = -1) ∨ (0 ≤ n ∧ n < 140000 ∧ st.2 30 n.toNat = iI kd)) (ok : Q (.returned (some (.int (iI kd)))) st) : CQ (wM P s0 l XX) mX5_kindOf lev (.ref P.mo :: [.int (iI n)]) st Q := by
  obtain ⟨l', rfl⟩ := Nat.exists_eq_add_of_le' hl
  rcases hn with ⟨h1, h2, rfl⟩ | ⟨h1, h2, h3⟩
  · refine tX5_kindOf ⟨fun q => ?_, fun _ => ok⟩
    rw [iI_z, iI_le (by omega) (by omega) (by omega) (by omega)] at q; omega
  · obtain ⟨m, rfl⟩ : ∃ m : Nat, n = (m : Int) := ⟨n.toNat, by omega⟩
    have h3' : st.2 30 m = iI kd := h3
    refine tX5_kindOf ⟨fun _ => ⟨iI_in (by omega) (by omega), ?_⟩, fun q => ?_⟩
    · rw [aI_n (by omega), h3']; exact ok
    · exact absurd (by rw [iI_z, iI_le (by omega) (by omega) (by omega) (by omega)]; omega) q
end MCA
