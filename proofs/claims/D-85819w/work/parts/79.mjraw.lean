/-! M OVER S (19): judging: raw terms; names are compared -/
/-- which binder around (the nearest first) has the name w -/
def nfind (TN : Nat → List Nat) (w : List Nat) : List (Option Nat) → Nat → Option Nat
  | [], _ => none
  | some p :: r, i => if TN p = w then some i else nfind TN w r (i + 1)
  | none :: r, i => nfind TN w r (i + 1)
/-- .. its node -/
def nid (TN : Nat → List Nat) (w : List Nat) : List (Nat × Option Nat) → Int
  | [] => -1
  | (i, some p) :: r => if TN p = w then (i : Int) else nid TN w r
  | (_, none) :: r => nid TN w r
/-- a binder's name -/
def nmO (TN : Nat → List Nat) (st : MSt) (n : Nat) (o : Option Nat) (lo hi l1 l3 : Nat) : Prop := (o = none ∧ st.2 31 n = iI (-1)) ∨ ∃ x p : Nat, o = some p ∧ lo ≤ x ∧ x < hi ∧ (x < l1 ∨ l3 ≤ x) ∧ p < 4000 ∧ st.2 31 n = iI (x : Int) ∧ st.2 31 x = iI (p : Int) ∧ st.2 32 x = iI ((TN p).length : Int)
/-- a raw term at the node n (none), a list of parts from the node m on to n (some m; the place of what it is applied to); its nodes are lo .. hi - 1 -/
def mR (TN : Nat → List Nat) (st : MSt) : V → List (Option Nat) → Nat → Nat → Nat → Option (Nat × Nat) → Prop
  | .tag f (.tag k .line), bs, n, lo, hi, none => lo ≤ n ∧ n < hi ∧ st.2 30 n = iI 0 ∧ st.2 34 n = iI (f : Int) ∧ ∃ p : Nat, p < 4000 ∧ st.2 31 n = iI (p : Int) ∧ st.2 32 n = iI ((TN p).length : Int) ∧ nfind TN (TN p) bs 0 = some k
  | .tag f (.tag p .nil), bs, n, lo, hi, none => lo ≤ n ∧ n < hi ∧ st.2 30 n = iI 0 ∧ st.2 34 n = iI (f : Int) ∧ p < 4000 ∧ st.2 31 n = iI (p : Int) ∧ st.2 32 n = iI ((TN p).length : Int) ∧ nfind TN (TN p) bs 0 = none
  | .tag f (.tag p (.append d b)), bs, n, lo, hi, none => lo ≤ n ∧ n < hi ∧ st.2 30 n = iI 4 ∧ st.2 34 n = iI (f : Int) ∧ st.2 35 n = iI (p : Int) ∧ st.2 38 n = iI (n : Int) ∧ ∃ (u v l1 l2 l3 : Nat) (o : Option Nat), (lo ≤ l1 ∧ l1 ≤ l2 ∧ l2 ≤ l3 ∧ l3 ≤ hi ∧ (n < l1 ∨ l3 ≤ n)) ∧ o ≠ none ∧ nmO TN st n o lo hi l1 l3 ∧ st.2 32 n = iI (u : Int) ∧ st.2 33 n = iI (v : Int) ∧ mR TN st d bs u l1 l2 none ∧ mR TN st b (o :: bs) v l2 l3 none
  | .tag f (.tag p (.group (.append d b) .fill)), bs, n, lo, hi, none => lo ≤ n ∧ n < hi ∧ st.2 30 n = iI 5 ∧ st.2 34 n = iI (f : Int) ∧ st.2 35 n = iI (p : Int) ∧ st.2 38 n = iI (n : Int) ∧ ∃ (u v l1 l2 l3 : Nat) (o : Option Nat), (lo ≤ l1 ∧ l1 ≤ l2 ∧ l2 ≤ l3 ∧ l3 ≤ hi ∧ (n < l1 ∨ l3 ≤ n)) ∧ nmO TN st n o lo hi l1 l3 ∧ st.2 32 n = iI (u : Int) ∧ st.2 33 n = iI (v : Int) ∧ mR TN st d bs u l1 l2 none ∧ mR TN st b (o :: bs) v l2 l3 none
  | .tag f (.tag _ (.group (.append d b) .allOrNone)), bs, n, lo, hi, none => lo ≤ n ∧ n < hi ∧ st.2 30 n = iI 6 ∧ st.2 34 n = iI (f : Int) ∧ st.2 38 n = iI (n : Int) ∧ ∃ (u v l1 l2 l3 : Nat) (o : Option Nat), (lo ≤ l1 ∧ l1 ≤ l2 ∧ l2 ≤ l3 ∧ l3 ≤ hi ∧ (n < l1 ∨ l3 ≤ n)) ∧ o ≠ none ∧ nmO TN st n o lo hi l1 l3 ∧ st.2 32 n = iI (u : Int) ∧ st.2 33 n = iI (v : Int) ∧ mR TN st d bs u l1 l2 none ∧ mR TN st b (o :: bs) v l2 l3 none
  | .tag f (.tag p (.group (.group (.append g ps) .fill) .fill)), bs, n, lo, hi, none => st.2 34 n = iI (f : Int) ∧ lo ≤ n ∧ n < hi ∧ st.2 30 n = iI 7 ∧ 1 ≤ vlen ps ∧ ∃ m l1 : Nat, lo ≤ l1 ∧ l1 ≤ hi ∧ m < l1 ∧ lo ≤ m ∧ mR TN st g bs m lo l1 none ∧ mR TN st ps bs n l1 hi (some (m, p))
  | .append p ps, bs, n, lo, hi, some (m, pp) => st.2 34 m = iI (pp : Int) ∧ ∃ k a l1 : Nat, lo ≤ l1 ∧ l1 ≤ k ∧ k < hi ∧ st.2 30 k = iI 7 ∧ st.2 32 k = iI (m : Int) ∧ st.2 33 k = iI (a : Int) ∧ mR TN st p bs a lo l1 none ∧ mR TN st ps bs n (k + 1) hi (some (k, pp))
  | .nil, _, n, _, _, some (m, _) => m = n
  | _, _, _, _, _, _ => False
section MJR
variable {P : MPl} {s0 : State} {l : Launch} {XX : Prop} {lev : Nat} {Q : Outcome → MSt → Prop} {st st' st'' st0 : MSt} {X : SX} {J : JX} {K K' : KS} {nd nd' ce ce' wa x lo hi lo' hi' lo1 hi1 lo2 hi2 ns ns' ch ch' q z : Nat} {c c' : MC} {M M' : Nat → Int → Prop} {E E' : Nat → Prop} {TN : Nat → List Nat} {sc : SC} {bl : List (Nat × Option Nat)}
theorem nmO.mv {n l1 l3 : Nat} {o : Option Nat} (h : nmO TN st n o lo hi l1 l3) (hn : lo ≤ n ∧ n < hi) (hs : ∀ k j, 30 ≤ k → k ≤ 38 → lo ≤ j → j < hi → st'.2 k j = st.2 k j) : nmO TN st' n o lo hi l1 l3 := by
  rcases h with ⟨h1, h2⟩ | ⟨x, p, h1, h2, h3, h4, h5, h6, h7, h8⟩
  · exact Or.inl ⟨h1, by rw [hs 31 n (by omega) (by omega) hn.1 hn.2]; exact h2⟩
  · exact Or.inr ⟨x, p, h1, h2, h3, h4, h5, by rw [hs 31 n (by omega) (by omega) hn.1 hn.2]; exact h6, by rw [hs 31 x (by omega) (by omega) h2 h3]; exact h7, by rw [hs 32 x (by omega) (by omega) h2 h3]; exact h8⟩
theorem mR_mv : ∀ (t : V) (bs : List (Option Nat)) (n lo hi : Nat) (m : Option (Nat × Nat)), mR TN st t bs n lo hi m → (∀ k j, 30 ≤ k → k ≤ 38 → lo ≤ j → j < hi → st'.2 k j = st.2 k j) → (∀ m' pp, m = some (m', pp) → st'.2 34 m' = st.2 34 m') → mR TN st' t bs n lo hi m := by
  intro t bs n lo hi m
  fun_induction mR TN st t bs n lo hi m with
  | case1 f k bs n lo hi =>
    rintro ⟨a1, a2, a3, a4, p, a5, a6, a7, a8⟩ hs -
    exact ⟨a1, a2, by rw [hs 30 n (by omega) (by omega) a1 a2]; exact a3, by rw [hs 34 n (by omega) (by omega) a1 a2]; exact a4, p, a5, by rw [hs 31 n (by omega) (by omega) a1 a2]; exact a6, by rw [hs 32 n (by omega) (by omega) a1 a2]; exact a7, a8⟩
  | case2 f p bs n lo hi =>
    rintro ⟨a1, a2, a3, a4, a5, a6, a7, a8⟩ hs -
    exact ⟨a1, a2, by rw [hs 30 n (by omega) (by omega) a1 a2]; exact a3, by rw [hs 34 n (by omega) (by omega) a1 a2]; exact a4, a5, by rw [hs 31 n (by omega) (by omega) a1 a2]; exact a6, by rw [hs 32 n (by omega) (by omega) a1 a2]; exact a7, a8⟩
  | case3 f p d b bs n lo hi i1 i2 =>
    rintro ⟨a1, a2, a3, a4, a5, a6, u, v, l1, l2, l3, o, ⟨b1, b2, b3, b4, b5⟩, a7, a8, a9, a10, a11, a12⟩ hs -
    exact ⟨a1, a2, by rw [hs 30 n (by omega) (by omega) a1 a2]; exact a3, by rw [hs 34 n (by omega) (by omega) a1 a2]; exact a4, by rw [hs 35 n (by omega) (by omega) a1 a2]; exact a5, by rw [hs 38 n (by omega) (by omega) a1 a2]; exact a6, u, v, l1, l2, l3, o, ⟨b1, b2, b3, b4, b5⟩, a7, a8.mv ⟨a1, a2⟩ hs, by rw [hs 32 n (by omega) (by omega) a1 a2]; exact a9, by rw [hs 33 n (by omega) (by omega) a1 a2]; exact a10, i1 u l1 l2 a11 (fun k j z1 z2 z3 z4 => hs k j z1 z2 (by omega) (by omega)) (fun _ _ z => by cases z), i2 v l2 l3 o a12 (fun k j z1 z2 z3 z4 => hs k j z1 z2 (by omega) (by omega)) (fun _ _ z => by cases z)⟩
  | case4 f p d b bs n lo hi i1 i2 =>
    rintro ⟨a1, a2, a3, a4, a5, a6, u, v, l1, l2, l3, o, ⟨b1, b2, b3, b4, b5⟩, a8, a9, a10, a11, a12⟩ hs -
    exact ⟨a1, a2, by rw [hs 30 n (by omega) (by omega) a1 a2]; exact a3, by rw [hs 34 n (by omega) (by omega) a1 a2]; exact a4, by rw [hs 35 n (by omega) (by omega) a1 a2]; exact a5, by rw [hs 38 n (by omega) (by omega) a1 a2]; exact a6, u, v, l1, l2, l3, o, ⟨b1, b2, b3, b4, b5⟩, a8.mv ⟨a1, a2⟩ hs, by rw [hs 32 n (by omega) (by omega) a1 a2]; exact a9, by rw [hs 33 n (by omega) (by omega) a1 a2]; exact a10, i1 u l1 l2 a11 (fun k j z1 z2 z3 z4 => hs k j z1 z2 (by omega) (by omega)) (fun _ _ z => by cases z), i2 v l2 l3 o a12 (fun k j z1 z2 z3 z4 => hs k j z1 z2 (by omega) (by omega)) (fun _ _ z => by cases z)⟩
  | case5 f p d b bs n lo hi i1 i2 =>
    rintro ⟨a1, a2, a3, a4, a6, u, v, l1, l2, l3, o, ⟨b1, b2, b3, b4, b5⟩, a7, a8, a9, a10, a11, a12⟩ hs -
    exact ⟨a1, a2, by rw [hs 30 n (by omega) (by omega) a1 a2]; exact a3, by rw [hs 34 n (by omega) (by omega) a1 a2]; exact a4, by rw [hs 38 n (by omega) (by omega) a1 a2]; exact a6, u, v, l1, l2, l3, o, ⟨b1, b2, b3, b4, b5⟩, a7, a8.mv ⟨a1, a2⟩ hs, by rw [hs 32 n (by omega) (by omega) a1 a2]; exact a9, by rw [hs 33 n (by omega) (by omega) a1 a2]; exact a10, i1 u l1 l2 a11 (fun k j z1 z2 z3 z4 => hs k j z1 z2 (by omega) (by omega)) (fun _ _ z => by cases z), i2 v l2 l3 o a12 (fun k j z1 z2 z3 z4 => hs k j z1 z2 (by omega) (by omega)) (fun _ _ z => by cases z)⟩
  | case6 f p g ps bs n lo hi i1 i2 =>
    rintro ⟨a1, a2, a3, a4, a7, m, l1, b1, b2, b3, b4, a5, a6⟩ hs -
    exact ⟨by rw [hs 34 n (by omega) (by omega) a2 a3]; exact a1, a2, a3, by rw [hs 30 n (by omega) (by omega) a2 a3]; exact a4, a7, m, l1, b1, b2, b3, b4, i1 m l1 a5 (fun k j z1 z2 z3 z4 => hs k j z1 z2 (by omega) (by omega)) (fun _ _ z => by cases z), i2 m l1 a6 (fun k j z1 z2 z3 z4 => hs k j z1 z2 (by omega) (by omega)) (fun m' pp z => by cases z; exact hs 34 m (by omega) (by omega) (by omega) (by omega))⟩
  | case7 p ps bs n lo hi m pp i1 i2 =>
    rintro ⟨a1, k, a, l1, b1, b2, b3, a2, a3, a4, a5, a6⟩ hs hm
    exact ⟨by rw [hm m pp rfl]; exact a1, k, a, l1, b1, b2, b3, by rw [hs 30 k (by omega) (by omega) (by omega) b3]; exact a2, by rw [hs 32 k (by omega) (by omega) (by omega) b3]; exact a3, by rw [hs 33 k (by omega) (by omega) (by omega) b3]; exact a4, i1 a l1 a5 (fun k j z1 z2 z3 z4 => hs k j z1 z2 (by omega) (by omega)) (fun _ _ z => by cases z), i2 k a6 (fun k j z1 z2 z3 z4 => hs k j z1 z2 (by omega) (by omega)) (fun m' pp' z => by cases z; exact hs 34 k (by omega) (by omega) (by omega) (by omega))⟩
  | case8 => intro h _ _; exact h
  | case9 => intro h; exact h.elim
/-- raw terms elsewhere stay -/
theorem mjf.R {t : V} {bs : List (Option Nat)} {n : Nat} (hf : mjf lo2 hi2 nd ce ns ch st st') (h : mR TN st t bs n lo hi none) (h1 : hi ≤ nd) (h2 : hi ≤ lo2 ∨ hi2 ≤ lo) : mR TN st' t bs n lo hi none :=
  mR_mv _ _ _ _ _ _ h (fun k j z1 z2 z3 z4 => hf.2 k j (fun _ => by omega) (fun _ => by omega) (fun _ => by omega) (fun _ => by omega) (by omega) (fun _ => by omega) (by omega)) (fun _ _ z => by cases z)
theorem mR_lt {t : V} {bs : List (Option Nat)} {n : Nat} (h : mR TN st t bs n lo hi none) : lo ≤ n ∧ n < hi := by
  unfold mR at h
  split at h
  · exact ⟨h.1, h.2.1⟩
  · exact ⟨h.1, h.2.1⟩
  · exact ⟨h.1, h.2.1⟩
  · exact ⟨h.1, h.2.1⟩
  · exact ⟨h.1, h.2.1⟩
  · exact ⟨h.2.1, h.2.2.1⟩
  · rename_i e; cases e
  · rename_i e; cases e
  · exact h.elim
theorem mR_from {t : V} {bs : List (Option Nat)} {n : Nat} (h : mR TN st t bs n lo hi none) : st.2 34 n = iI (jFrom t) ∧ 0 ≤ jFrom t := by
  unfold mR at h
  split at h
  · exact ⟨h.2.2.2.1, Int.natCast_nonneg _⟩
  · exact ⟨h.2.2.2.1, Int.natCast_nonneg _⟩
  · exact ⟨h.2.2.2.1, Int.natCast_nonneg _⟩
  · exact ⟨h.2.2.2.1, Int.natCast_nonneg _⟩
  · exact ⟨h.2.2.2.1, Int.natCast_nonneg _⟩
  · exact ⟨h.1, Int.natCast_nonneg _⟩
  · rename_i e; cases e
  · rename_i e; cases e
  · exact h.elim
/-- bytes of two names: the same from i on -/
theorem bytes_eq {w w' : List Nat} (hl : w.length = w'.length) (h : ∀ j, j < w.length → w[j]? = w'[j]?) : w = w' := by
  apply List.ext_getElem?
  intro j
  by_cases hj : j < w.length
  · exact h j hj
  · rw [List.getElem?_eq_none (by omega), List.getElem?_eq_none (by omega)]
/-- a name of the text against one of a row -/
theorem m_same16 {k3 p i0 : Nat} {w w' : List Nat} {x5 : Int32} (hk3 : mK k3 = 1) (hml : 12 * i0 + 12 ≤ mL k3) (hp : p < 4000) (hi0 : i0 < 1000) (hw : ∀ (i b : Nat), w[i]? = some b → p + i < 4000 ∧ b < 256 ∧ st.2 4 (p + i) = iI (b : Int)) (hw' : ∀ (j b : Nat), w'[j]? = some b → b < 256 ∧ st.2 k3 (12 * i0 + j) = iI (b : Int)) (h12 : w'.length ≤ 12) (hl : w.length = w'.length) (ok : Q (.returned (some (.int (bI (decide (w = w')))))) st) :
    ∀ (d i : Nat), i + d = w.length → (∀ j, j < i → w[j]? = w'[j]?) → jX5_sameName_16 P s0 l XX lev st0 Q k3 (iI (p : Int)) (iI (w.length : Int)) (iI 12 * iI (i0 : Int)) x5 (iI 1) (iI (i : Int)) st := by
  intro d
  induction d with
  | zero =>
    intro i hi he
    have e : w = w' := bytes_eq hl (fun j hj => he j (by omega))
    have hb : bI (decide (w = w')) = iI 1 := by simp [e]; rfl
    rw [hb] at ok
    refine tX5_sameName_16 hk3 ⟨fun z => absurd z (by decide), fun _ => ⟨fun _ => ⟨isZ1, ok⟩, fun z => absurd (by rw [iI_le (by omega) (by omega) (by omega) (by omega)]; omega) z⟩⟩
  | succ d ih =>
    intro i hi he
    obtain ⟨b, hb⟩ : ∃ b, w[i]? = some b := ⟨w[i], List.getElem?_eq_getElem (by omega)⟩
    obtain ⟨b', hb'⟩ : ∃ b, w'[i]? = some b := ⟨w'[i], List.getElem?_eq_getElem (by omega)⟩
    obtain ⟨g1, g2, g3⟩ := hw i b hb
    obtain ⟨g4, g5⟩ := hw' i b' hb'
    have e1 : iI (p : Int) + iI (i : Int) = iI ((p + i : Nat) : Int) := by rw [iI_add]; congr 1
    have e2 : iI 12 * iI (i0 : Int) + iI (i : Int) = iI ((12 * i0 + i : Nat) : Int) := by rw [iI_mul, iI_add]; congr 1
    have il : i < 12 := by omega
    refine tX5_sameName_16 hk3 ⟨fun z => absurd z (by decide), fun _ => ⟨fun z => ?_, fun _ => ?_⟩⟩
    · rw [iI_le (by omega) (by omega) (by omega) (by omega)] at z; omega
    · rw [e1, e2, iI_suc]
      refine ⟨iI_in g1 (by omega), iI_in (by omega) (by omega), fun z => ih (i + 1) (by omega) (fun j hj => ?_), fun z => ?_⟩
      · by_cases hji : j < i
        · exact he j hji
        · have : j = i := by omega
          subst this
          rw [aI_n (by omega), aI_n (by omega), g3, g5, iI_eq (by omega) (by omega) (by omega) (by omega)] at z
          rw [hb, hb', show b = b' by omega]
      · refine tX5_sameName_16 hk3 ⟨fun _ => ⟨isZ0, ?_⟩, fun z => absurd rfl z⟩
        have e : ¬ w = w' := fun q => by
          subst q
          rw [hb] at hb'
          cases hb'
          exact z (by rw [aI_n (by omega), aI_n (by omega), g3, g5])
        have hb : bI (decide (w = w')) = iI 0 := by simp [e]; rfl
        rw [hb] at ok; exact ok
theorem m_sameName {k3 p i0 : Nat} {w w' : List Nat} (hlv : 1 ≤ lev) (hk3 : mK k3 = 1) (hml : 12 * i0 + 12 ≤ mL k3) (hp : p < 4000) (hi0 : i0 < 1000) (hw : w.length ≤ 12 ∧ ∀ (i b : Nat), w[i]? = some b → p + i < 4000 ∧ b < 256 ∧ st.2 4 (p + i) = iI (b : Int)) (hw' : ∀ (j b : Nat), w'[j]? = some b → b < 256 ∧ st.2 k3 (12 * i0 + j) = iI (b : Int)) (h12 : w'.length ≤ 12) (ok : Q (.returned (some (.int (bI (decide (w = w')))))) st) : CQ (wM P s0 l XX) mX5_sameName lev (.ref P.mo :: [.int (iI (p : Int)), .int (iI (w.length : Int)), va_rf (some (P.ad k3)), .int (iI 12 * iI (i0 : Int)), .int (iI (w'.length : Int))]) st Q := by
  obtain ⟨l', rfl⟩ := Nat.exists_eq_add_of_le' hlv
  have h1 := hw.1
  refine tX5_sameName hk3 ⟨fun z => ?_, fun z => ?_⟩
  · rw [iI_eq (by omega) (by omega) (by omega) (by omega)] at z
    exact m_same16 hk3 hml hp hi0 hw.2 hw' h12 (by omega) ok w.length 0 (by omega) (fun j hj => by omega)
  · refine tX5_sameName_16 hk3 ⟨fun _ => ⟨isZ0, ?_⟩, fun z => absurd rfl z⟩
    have e : ¬ w = w' := fun q => z (by rw [q])
    have hb : bI (decide (w = w')) = iI 0 := by simp [e]; rfl
    rw [hb] at ok; exact ok
/-- the last that has the name -/
theorem m_knownOf {n p : Nat} (hlv : 2 ≤ lev) (hn : n < 140000) (hp : p < 4000) (hnc : c.nc ≤ 100) (hb : mTb c st X J TN) (e1 : st.2 31 n = iI (p : Int)) (e2 : st.2 32 n = iI ((TN p).length : Int)) (ok : Q (.returned (some (.int (iI (match J.cn p with | some k => (k : Int) | none => -1))))) st) : CQ (wM P s0 l XX) mX5_knownOf lev (.ref P.mo :: [.int (iI (n : Int))]) st Q := by
  obtain ⟨l', rfl⟩ := Nat.exists_eq_add_of_le' hlv
  obtain ⟨⟨a1, a2, a3⟩, ⟨b1, b2⟩, h3, h4, h5, h6, ⟨h7, h7', h7''⟩, h8⟩ := hb
  have key : ∀ (d i : Nat) , i + d = c.nc → jX5_knownOf_4 P s0 l XX (l' + 1) st Q (iI (n : Int)) (iI (match lastN X.nm (TN p) i with | some k => (k : Int) | none => -1)) (iI (i : Int)) st := by
    intro d
    induction d with
    | zero =>
      intro i hi
      rw [(h8 p).1, ← show i = c.nc by omega] at ok
      exact tX5_knownOf_4 ⟨fun _ => ok, fun z => absurd (by rw [a3, iI_le (by omega) (by omega) (by omega) (by omega)]; omega) z⟩
    | succ d ih =>
      intro i hi
      obtain ⟨d1, d2, d3⟩ := b1 i (by omega)
      refine tX5_knownOf_4 ⟨fun z => ?_, fun _ => ⟨iI_in hn (by omega), iI_in hn (by omega), iI_in (by omega) (by omega), ?_⟩⟩
      · rw [a3, iI_le (by omega) (by omega) (by omega) (by omega)] at z; omega
      · rw [aI_n (by omega), aI_n (by omega), aI_n (by omega), e1, e2, d1]
        refine m_sameName (w := TN p) (w' := X.nm i) (by omega) rfl (by show 12 * i + 12 ≤ 1200; omega) hp (by omega) (h5 p) (fun j b hj => ⟨h7 i b (by omega) (List.mem_of_getElem? hj), d3 j b hj⟩) d2 ⟨fun z => tX5_knownOf_47 ?_, fun z => tX5_knownOf_47 ?_⟩
        · have ne : ¬ X.nm i = TN p := fun q => by rw [q] at z; simp at z; exact absurd z (by decide)
          have := ih (i + 1) (by omega)
          rw [lastN, if_neg ne] at this
          rw [iI_suc]; exact this
        · have eq : X.nm i = TN p := Classical.byContradiction fun q => z (by have : ¬ TN p = X.nm i := fun y => q y.symm; simp [this]; rfl)
          have := ih (i + 1) (by omega)
          rw [lastN, if_pos eq] at this
          rw [iI_suc]; exact this
  exact tX5_knownOf (key c.nc 0 (by omega))
theorem lastN_first {f : Nat → List Nat} {w : List Nat} {n : Nat} (hd : ∀ i j, i < n → j < n → f i = f j → i = j) : firstN f w n 0 = lastN f w n := by
  have h1 : ∀ (m i : Nat) (k : Nat), firstN f w m i = some k → f k = w ∧ i ≤ k ∧ k < i + m := by
    intro m
    induction m with
    | zero => intro i k h; cases h
    | succ m ih =>
      intro i k h
      unfold firstN at h
      split at h
      · cases h; rename_i e; exact ⟨e, by omega, by omega⟩
      · obtain ⟨a, b, d⟩ := ih (i + 1) k h; exact ⟨a, by omega, by omega⟩
  have h2 : ∀ (m i : Nat), firstN f w m i = none → ∀ k, i ≤ k → k < i + m → f k ≠ w := by
    intro m
    induction m with
    | zero => intro i _ k a b; omega
    | succ m ih =>
      intro i h k a b
      unfold firstN at h
      split at h
      · cases h
      · rename_i e
        by_cases hk : k = i
        · subst hk; exact e
        · exact ih (i + 1) h k (by omega) (by omega)
  have h3 : ∀ (m k : Nat), lastN f w m = some k → f k = w ∧ k < m := by
    intro m
    induction m with
    | zero => intro k h; cases h
    | succ m ih =>
      intro k h
      unfold lastN at h
      split at h
      · cases h; rename_i e; exact ⟨e, by omega⟩
      · obtain ⟨a, b⟩ := ih k h; exact ⟨a, by omega⟩
  have h4 : ∀ (m : Nat), lastN f w m = none → ∀ k, k < m → f k ≠ w := by
    intro m
    induction m with
    | zero => intro _ k a; omega
    | succ m ih =>
      intro h k a
      unfold lastN at h
      split at h
      · cases h
      · rename_i e
        by_cases hk : k = m
        · subst hk; exact e
        · exact ih h k (by omega)
  cases hf : firstN f w n 0 with
  | none => cases hl : lastN f w n with
    | none => rfl
    | some k => obtain ⟨a, b⟩ := h3 n k hl; exact absurd a (h2 n 0 hf k (by omega) (by omega))
  | some j =>
    obtain ⟨a, b, d⟩ := h1 n 0 j hf
    cases hl : lastN f w n with
    | none => exact absurd a (h4 n hl j (by omega))
    | some k => obtain ⟨a', b'⟩ := h3 n k hl; rw [hd j k (by omega) b' (a.trans a'.symm)]
theorem m_sortOf {n p : Nat} (hlv : 2 ≤ lev) (hn : n < 140000) (hp : p < 4000) (hns : c.ns ≤ 8) (hb : mTb c st X J TN) (e1 : st.2 31 n = iI (p : Int)) (e2 : st.2 32 n = iI ((TN p).length : Int)) (ok : Q (.returned (some (.int (iI (match J.sf p with | some k => (k : Int) | none => -1))))) st) : CQ (wM P s0 l XX) mX5_sortOf lev (.ref P.mo :: [.int (iI (n : Int))]) st Q := by
  obtain ⟨l', rfl⟩ := Nat.exists_eq_add_of_le' hlv
  obtain ⟨⟨a1, a2, a3⟩, ⟨b1, b2⟩, h3, h4, h5, h6, ⟨h7, h7', h7''⟩, h8⟩ := hb
  have key : ∀ (d i : Nat) , i + d = c.ns → jX5_sortOf_4 P s0 l XX (l' + 1) st Q (iI (n : Int)) (iI (match lastN X.sn (TN p) i with | some k => (k : Int) | none => -1)) (iI (i : Int)) st := by
    intro d
    induction d with
    | zero =>
      intro i hi
      rw [(h8 p).2, lastN_first h7'', ← show i = c.ns by omega] at ok
      exact tX5_sortOf_4 ⟨fun _ => ok, fun z => absurd (by rw [a2, iI_le (by omega) (by omega) (by omega) (by omega)]; omega) z⟩
    | succ d ih =>
      intro i hi
      obtain ⟨d1, d2, d3⟩ := b2 i (by omega)
      refine tX5_sortOf_4 ⟨fun z => ?_, fun _ => ⟨iI_in hn (by omega), iI_in hn (by omega), iI_in (by omega) (by omega), ?_⟩⟩
      · rw [a2, iI_le (by omega) (by omega) (by omega) (by omega)] at z; omega
      · rw [aI_n (by omega), aI_n (by omega), aI_n (by omega), e1, e2, d1]
        refine m_sameName (w := TN p) (w' := X.sn i) (by omega) rfl (by show 12 * i + 12 ≤ 96; omega) hp (by omega) (h5 p) (fun j b hj => ⟨h7' i b (by omega) (List.mem_of_getElem? hj), d3 j b hj⟩) d2 ⟨fun z => tX5_sortOf_47 ?_, fun z => tX5_sortOf_47 ?_⟩
        · have ne : ¬ X.sn i = TN p := fun q => by rw [q] at z; simp at z; exact absurd z (by decide)
          have := ih (i + 1) (by omega)
          rw [lastN, if_neg ne] at this
          rw [iI_suc]; exact this
        · have eq : X.sn i = TN p := Classical.byContradiction fun q => z (by have : ¬ TN p = X.sn i := fun y => q y.symm; simp [this]; rfl)
          have := ih (i + 1) (by omega)
          rw [lastN, if_pos eq] at this
          rw [iI_suc]; exact this
  exact tX5_sortOf (key c.ns 0 (by omega))
end MJR
