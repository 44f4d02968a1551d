/-! M OVER S (20): judging: the contract; names -/
/-- binders within one another -/
def rD : V → Nat
  | .tag _ (.tag _ (.append d b)) => max (rD d) (rD b + 1)
  | .tag _ (.tag _ (.group (.append d b) .fill)) => max (rD d) (rD b + 1)
  | .tag _ (.tag _ (.group (.append d b) .allOrNone)) => max (rD d) (rD b + 1)
  | .tag _ (.tag _ (.group (.group (.append g ps) .fill) .fill)) => max (rD g) (rD ps)
  | .append p ps => max (rD p) (rD ps)
  | _ => 0
/-- the contract of judging -/
def MJd (P : MPl) (s0 : State) (l : Launch) (XX : Prop) (X : SX) (J : JX) (TN : Nat → List Nat) (lev n : Nat) : Prop :=
  ∀ (E : Nat → Prop) (c : MC) (t : V) (nn lo hi : Nat) (sc : SC) (bl : List (Nat × Option Nat)) (q : Nat) (K : KS) (st : MSt) (ce x y ns ch z : Nat) (Q : Outcome → MSt → Prop),
  mR TN st t (bl.map (fun z => z.2)) nn lo hi none → rG t 0 sc.length n → (∀ j, lo ≤ j → j < hi → E j) → (∀ j, E j → 8 ≤ j ∧ j < c.nd) → JM lo hi E c ce st X J TN sc bl q ns → gSc c.ns z sc → (∀ k, k < c.nc → sw (J.ct k) ≤ z) → sc.length + n ≤ 300 → MJ st X K c.nd ce 0 → MK X K c.nd ce 0 x → 202 ≤ x → x + rN t ≤ 29000 → 203 ≤ y → c.nd + 2 * (60000 - K.life) + (y + rN t) ≤ 140000 → fI st 59 = iI (ch : Int) → ch + rN t ≤ 4000 → ns + rD t ≤ 50 →
  (∀ st' K' nd' ce' u ty r so tn, sJudge X J n t sc K = (K', .ok (u, ty, r, so)) → K.life ≤ K'.life → mjf lo hi c.nd ce ns ch st st' → c.nd ≤ nd' → ce ≤ ce' → MJ st' X K' nd' ce' 0 → MK X K' nd' ce' 0 (x + rN t) → nd' + 2 * (60000 - K'.life) + y ≤ 140000 → fI st' 43 = fI st 43 → fI st' 59 = fI st 59 → (∀ st'', ag (cutE E lo hi) nd' ce' st' st'' → mT (nd', c.2) st'' u (bl.map (fun z => z.1)) nn none) → gT u false (List.replicate sc.length true) → fI st' 60 = iI ((tn : Nat) : Int) → fI st' 61 = iI so → mTy (cutE E lo hi) (nd', c.2) ce' st' sc bl ty r tn → tyG c.ns (z + rB t) (scEnv sc) ty r so → Q (.returned none) st') →
  (∀ st' K' e p, sJudge X J n t sc K = (K', .error (e, p)) → K.life ≤ K'.life → mjf lo hi c.nd ce ns ch st st' → MZj st' X K' e p → Q (.returned none) st') →
  CQ (wM P s0 l XX) mX5_judge lev (.ref P.mo :: [.int (iI (nn : Int)), .int (iI (q : Int))]) st Q
section MJN
variable {P : MPl} {s0 : State} {l : Launch} {XX : Prop} {lev : Nat} {Q : Outcome → MSt → Prop} {st st' st'' st0 : MSt} {X : SX} {J : JX} {K K' : KS} {nd nd' ce ce' wa x y lo hi lo' hi' lo1 hi1 lo2 hi2 ns ns' ch ch' q z : Nat} {c c' : MC} {M M' : Nat → Int → Prop} {E E' : Nat → Prop} {TN : Nat → List Nat} {sc : SC} {bl : List (Nat × Option Nat)}
theorem MJ.putx {k : Nat} {v : Int32} (h : MJ st X K nd ce wa) (hk : k = 43 ∨ (59 ≤ k ∧ k ≤ 61)) : MJ (mput k v st) X K nd ce wa := by
  obtain ⟨⟨⟨h1, h2, h3, h4⟩, h5, h6⟩, h7, ⟨h8, h9, h10⟩, h11, h12, h13⟩ := h
  refine ⟨⟨⟨?_, ?_, ?_, fun j hj => ?_⟩, ?_, h6⟩, ?_, ⟨?_, ?_, ?_⟩, ?_, h12, h13⟩
  · show (mput k v st).1 63 = _; rw [mput_f, if_neg (by omega)]; exact h1
  · show (mput k v st).1 64 = _; rw [mput_f, if_neg (by omega)]; exact h2
  · show (mput k v st).1 65 = _; rw [mput_f, if_neg (by omega)]; exact h3
  · show (mput k v st).1 (66 + j) = _; rw [mput_f, if_neg (by omega)]; exact h4 j hj
  · show (mput k v st).1 75 = _; rw [mput_f, if_neg (by omega)]; exact h5
  · show (mput k v st).1 57 = _; rw [mput_f, if_neg (by omega)]; exact h7
  · show (mput k v st).1 39 = _; rw [mput_f, if_neg (by omega)]; exact h8
  · show (mput k v st).1 48 = _; rw [mput_f, if_neg (by omega)]; exact h9
  · show (mput k v st).1 51 = _; rw [mput_f, if_neg (by omega)]; exact h10
  · show (mput k v st).1 72 = _; rw [mput_f, if_neg (by omega)]; exact h11
theorem jmstx {k i : Nat} {v : Int32} (h : MJ st X K nd ce wa) (hk : k < 44 ∨ (47 < k ∧ k ≠ 74)) (hi : i < 2147483648) : MJ (mst k (iI (i : Int)) v st) X K nd ce wa := by
  obtain ⟨⟨h1, h2, h3⟩, h4, h5, h6, h7, h8⟩ := h
  exact ⟨⟨h1, h2, fun j a1 a2 => by rw [mst_a hi, if_neg (fun z => by omega)]; exact h3 j a1 a2⟩, h4, h5, h6, h7.mv (fun k' j a b _ => by rw [mst_a hi, if_neg (fun z => by omega)]), h8⟩
theorem MZj.put {e k : Nat} {p : Int} {v : Int32} (h : MZj st X K e p) (hk : k = 43 ∨ (59 ≤ k ∧ k ≤ 61)) : MZj (mput k v st) X K e p := by
  obtain ⟨⟨⟨h1, h2, h3, h4⟩, h5, h6⟩, h7, h8, h9⟩ := h
  refine ⟨⟨⟨?_, ?_, ?_, fun j hj => ?_⟩, ?_, h6⟩, ?_, ?_, h9⟩
  · show (mput k v st).1 63 = _; rw [mput_f, if_neg (by omega)]; exact h1
  · show (mput k v st).1 64 = _; rw [mput_f, if_neg (by omega)]; exact h2
  · show (mput k v st).1 65 = _; rw [mput_f, if_neg (by omega)]; exact h3
  · show (mput k v st).1 (66 + j) = _; rw [mput_f, if_neg (by omega)]; exact h4 j hj
  · show (mput k v st).1 75 = _; rw [mput_f, if_neg (by omega)]; exact h5
  · show (mput k v st).1 72 = _; rw [mput_f, if_neg (by omega)]; exact h7
  · show (mput k v st).1 73 = if p = -1 then (mput k v st).1 77 else _; rw [mput_f, if_neg (show ¬ (73 : Nat) = k by omega), mput_f, if_neg (show ¬ (77 : Nat) = k by omega)]; exact h8
theorem MZ.j {e : Nat} (h : MZ st X K e nd ce) : MZj st X K e (-1) := ⟨h.1, h.2.1, by rw [if_pos rfl]; exact h.2.2.1, h.2.2.2.1⟩
theorem MZj.ne {e : Nat} {p : Int} (h : MZj st X K e p) : ¬ fI st 72 = 0 := fun z => by
  have := h.2.1.symm.trans z
  have h3 := h.2.2.2
  rw [iI_z, iI_eq (by omega) (by omega) (by omega) (by omega)] at this
  omega
/-- something is found to be wrong -/
theorem m_wrong {e : Nat} {p : Int} (hl : 1 ≤ lev) (h : MJ st X K nd ce wa) (he : 0 < e ∧ e < 100) (hp : 0 ≤ p) (ok : ∀ st', MZj st' X K e p → (∀ {lo hi nd ce ns ch : Nat}, mjf lo hi nd ce ns ch st st') → Q (.returned none) st') : CQ (wM P s0 l XX) mX5_wrong lev (.ref P.mo :: [.int (iI (e : Int)), .int (iI p)]) st Q := by
  obtain ⟨l', rfl⟩ := Nat.exists_eq_add_of_le' hl
  refine tX5_wrong ⟨fun _ => ok _ ?_ ((mjf.put (by omega)).t2 (mjf.put (by omega)) (Nat.le_refl _) (Nat.le_refl _) (Nat.le_refl _) (Nat.le_refl _)), fun z => absurd h.2.2.2.1 z⟩
  obtain ⟨⟨⟨h1, h2, h3, h4⟩, h5, h6⟩, -⟩ := h
  refine ⟨⟨⟨?_, ?_, ?_, fun j hj => ?_⟩, ?_, h6⟩, ?_, ?_, he⟩
  · show (mput 73 _ (mput 72 _ st)).1 63 = _; rw [mput_f, if_neg (by omega), mput_f, if_neg (by omega)]; exact h1
  · show (mput 73 _ (mput 72 _ st)).1 64 = _; rw [mput_f, if_neg (by omega), mput_f, if_neg (by omega)]; exact h2
  · show (mput 73 _ (mput 72 _ st)).1 65 = _; rw [mput_f, if_neg (by omega), mput_f, if_neg (by omega)]; exact h3
  · show (mput 73 _ (mput 72 _ st)).1 (66 + j) = _; rw [mput_f, if_neg (by omega), mput_f, if_neg (by omega)]; exact h4 j hj
  · show (mput 73 _ (mput 72 _ st)).1 75 = _; rw [mput_f, if_neg (by omega), mput_f, if_neg (by omega)]; exact h5
  · show (mput 73 _ (mput 72 _ st)).1 72 = _; rw [mput_f, if_neg (by omega), mput_f, if_pos rfl]
  · show (mput 73 _ (mput 72 _ st)).1 73 = _; rw [mput_f, if_pos rfl, if_neg (by omega)]
theorem m_wrongZ {e : Nat} {p : Int} {a b : Int32} (hl : 1 ≤ lev) (h : MZj st X K e p) (ok : Q (.returned none) st) : CQ (wM P s0 l XX) mX5_wrong lev (.ref P.mo :: [.int a, .int b]) st Q := by
  obtain ⟨l', rfl⟩ := Nat.exists_eq_add_of_le' hl
  exact tX5_wrong ⟨fun z => absurd z h.ne, fun _ => ok⟩
/-- two names of the text -/
theorem jn_51 {n x0 p pb : Nat} {x2 x3 : Int32} (hn : n < 140000) (hx0 : x0 < 140000) (hp : p < 4000) (hpb : pb < 4000) (hT : ∀ p, (TN p).length ≤ 12 ∧ ∀ (i b : Nat), (TN p)[i]? = some b → p + i < 4000 ∧ b < 256 ∧ st.2 4 (p + i) = iI (b : Int)) (e1 : st.2 31 n = iI (p : Int)) (e2 : st.2 32 n = iI ((TN p).length : Int)) (e3 : st.2 31 x0 = iI (pb : Int)) (hl : (TN p).length = (TN pb).length)
    (yes : TN p = TN pb → ∀ x6, jX5_judgeName_112 P s0 l XX lev st0 Q (iI (n : Int)) x2 x3 (iI (x0 : Int)) (iI 1) x6 st) (no : TN p ≠ TN pb → ∀ x6, jX5_judgeName_112 P s0 l XX lev st0 Q (iI (n : Int)) x2 x3 (iI (x0 : Int)) (iI 0) x6 st) :
    ∀ (d i : Nat), i + d = (TN p).length → (∀ j, j < i → (TN p)[j]? = (TN pb)[j]?) → jX5_judgeName_51 P s0 l XX lev st0 Q (iI (n : Int)) x2 x3 (iI (x0 : Int)) (iI 1) (iI (i : Int)) st := by
  intro d
  have hl2 := (hT p).1
  induction d with
  | zero =>
    intro i hi he
    have e : TN p = TN pb := bytes_eq hl (fun j hj => he j (by omega))
    refine tX5_judgeName_51 ⟨fun z => absurd z (by decide), fun _ => ⟨iI_in hn (by omega), fun _ => yes e _, fun z => absurd (by rw [aI_n (by omega), e2, iI_le (by omega) (by omega) (by omega) (by omega)]; omega) z⟩⟩
  | succ d ih =>
    intro i hi he
    obtain ⟨b, hb⟩ : ∃ b, (TN p)[i]? = some b := ⟨(TN p)[i], List.getElem?_eq_getElem (by omega)⟩
    obtain ⟨b', hb'⟩ : ∃ b, (TN pb)[i]? = some b := ⟨(TN pb)[i], List.getElem?_eq_getElem (by omega)⟩
    obtain ⟨g1, g2, g3⟩ := (hT p).2 i b hb
    obtain ⟨g4, g5, g6⟩ := (hT pb).2 i b' hb'
    have f1 : iI (p : Int) + iI (i : Int) = iI ((p + i : Nat) : Int) := by rw [iI_add]; congr 1
    have f2 : iI (pb : Int) + iI (i : Int) = iI ((pb + i : Nat) : Int) := by rw [iI_add]; congr 1
    refine tX5_judgeName_51 ⟨fun z => absurd z (by decide), fun _ => ⟨iI_in hn (by omega), fun z => ?_, fun _ => ⟨iI_in hn (by omega), ?_⟩⟩⟩
    · rw [aI_n (by omega), e2, iI_le (by omega) (by omega) (by omega) (by omega)] at z; omega
    · rw [aI_n (show n < 2147483648 by omega), aI_n (show x0 < 2147483648 by omega), e1, e3, f1, f2, aI_n (by omega), aI_n (by omega), g3, g6, iI_suc]
      refine ⟨iI_in g1 (by omega), iI_in hx0 (by omega), iI_in g4 (by omega), fun z => ih (i + 1) (by omega) (fun j hj => ?_), fun z => ?_⟩
      · by_cases hji : j < i
        · exact he j hji
        · have : j = i := by omega
          subst this
          rw [iI_eq (by omega) (by omega) (by omega) (by omega)] at z
          rw [hb, hb', show b = b' by omega]
      · refine tX5_judgeName_51 ⟨fun _ => no (fun q => ?_) _, fun z => absurd rfl z⟩
        rw [q, hb'] at hb
        cases hb
        exact z rfl
/-- the binders around are looked through -/
theorem jn_loop {n p : Nat} (hn : n < 140000) (hp : p < 4000) (hT : ∀ p, (TN p).length ≤ 12 ∧ ∀ (i b : Nat), (TN p)[i]? = some b → p + i < 4000 ∧ b < 256 ∧ st.2 4 (p + i) = iI (b : Int)) (e1 : st.2 31 n = iI (p : Int)) (e2 : st.2 32 n = iI ((TN p).length : Int)) (h43 : fI st 43 = iI (ns : Int)) (hns : ns ≤ 50) (hnd : c.nd ≤ 140000) :
    ∀ (sc : SC) (bl : List (Nat × Option Nat)) (i : Nat), mSc TN lo hi E c ce st sc bl → mSA st bl i → i ≤ ns → jX5_judgeName_4 P s0 l XX lev st0 Q (iI (n : Int)) (iI (nid TN (TN p) bl)) (iI (i : Int)) st → jX5_judgeName_4 P s0 l XX lev st0 Q (iI (n : Int)) (iI (-1)) (iI 0) st := by
  intro sc
  induction sc with
  | nil => intro bl i h hA hi hk; cases bl with
    | nil => have : i = 0 := hA; subst this; exact hk
    | cons b bl => exact h.elim
  | cons e sc ih => intro bl i h hA hi hk; cases bl with
    | nil => exact h.elim
    | cons b bl =>
      obtain ⟨⟨d1, d2, d3⟩, d4, d5, d6⟩ := h
      obtain ⟨bi, o⟩ := b
      cases o with
      | none => exact ih bl i d6 hA hi hk
      | some pb =>
        obtain ⟨k, rfl, a2, a3⟩ := hA
        obtain ⟨x0, nn, g1, g2, g3, g4, g5, g6, g7, g8, g9⟩ := d5 pb rfl
        have d1' : bi < c.nd := d1
        have g4' : st.2 31 bi = iI (x0 : Int) := g4
        have hl2 := (hT p).1
        have hl3 := (hT pb).1
        refine ih bl k d6 a3 (by omega) (tX5_judgeName_4 ⟨fun z => ?_, fun _ => ⟨iI_in (by omega) (by omega), ?_⟩⟩)
        · rw [h43, iI_le (by omega) (by omega) (by omega) (by omega)] at z; omega
        · have f1 : aI st 42 (iI (k : Int)) = iI (bi : Int) := by rw [aI_n (by omega)]; exact a2
          have f2 : aI st 31 (iI (bi : Int)) = iI (x0 : Int) := by rw [aI_n (by omega)]; exact g4'
          have f3 : aI st 32 (iI (n : Int)) = iI ((TN p).length : Int) := by rw [aI_n (by omega)]; exact e2
          have f4 : aI st 32 (iI (x0 : Int)) = iI ((TN pb).length : Int) := by rw [aI_n (by omega)]; exact g6
          rw [f1, f2, f3, f4]
          have no : TN p ≠ TN pb → ∀ x6, jX5_judgeName_112 P s0 l XX lev st0 Q (iI (n : Int)) (iI (nid TN (TN p) bl)) (iI (k : Int)) (iI (x0 : Int)) (iI 0) x6 st := fun ne x6 => by
            refine tX5_judgeName_112 ⟨fun _ => tX5_judgeName_124 ?_, fun z => absurd rfl z⟩
            rw [iI_suc]
            rw [nid, if_neg (fun z => ne z.symm)] at hk
            exact hk
          refine ⟨iI_in (by omega) (by omega), iI_in hn (by omega), iI_in (by omega) (by omega), fun z => ?_, fun z => ?_⟩
          · rw [iI_eq (by omega) (by omega) (by omega) (by omega)] at z
            refine jn_51 hn (by omega) hp g3 hT e1 e2 g5 (by omega) (fun eq x6 => ?_) no (TN p).length 0 (by omega) (fun j hj => by omega)
            refine tX5_judgeName_112 ⟨fun z => absurd z (by decide), fun _ => ⟨iI_in (by omega) (by omega), tX5_judgeName_124 ?_⟩⟩
            rw [f1, iI_suc]
            rw [nid, if_pos eq.symm] at hk
            exact hk
          · exact tX5_judgeName_51 ⟨fun _ => no (fun q => z (by rw [q])) _, fun z => absurd rfl z⟩
theorem nid_some {w : List Nat} : ∀ {bl : List (Nat × Option Nat)} {i k : Nat}, nfind TN w (bl.map (fun z => z.2)) i = some k → ∃ j b, k = i + j ∧ bl[j]? = some b ∧ b.2 ≠ none ∧ nid TN w bl = (b.1 : Int) := by
  intro bl
  induction bl with
  | nil => intro i k h; cases h
  | cons b bl ih =>
    intro i k h
    obtain ⟨bi, o⟩ := b
    cases o with
    | none =>
      obtain ⟨j, b, h1, h2, h3, h4⟩ := ih (i := i + 1) h
      exact ⟨j + 1, b, by omega, by simpa using h2, h3, h4⟩
    | some p =>
      have h' : (if TN p = w then some i else nfind TN w (bl.map (fun z => z.2)) (i + 1)) = some k := h
      by_cases e : TN p = w
      · rw [if_pos e] at h'
        cases h'
        exact ⟨0, (bi, some p), rfl, rfl, (by simp), by rw [nid, if_pos e]⟩
      · rw [if_neg e] at h'
        obtain ⟨j, b, h1, h2, h3, h4⟩ := ih (i := i + 1) h'
        exact ⟨j + 1, b, by omega, by simpa using h2, h3, by rw [nid, if_neg e]; exact h4⟩
theorem nid_none {w : List Nat} : ∀ {bl : List (Nat × Option Nat)} {i : Nat}, nfind TN w (bl.map (fun z => z.2)) i = none → nid TN w bl = -1 := by
  intro bl
  induction bl with
  | nil => intro i _; rfl
  | cons b bl ih =>
    intro i h
    obtain ⟨bi, o⟩ := b
    cases o with
    | none => exact ih (i := i + 1) h
    | some p =>
      have h' : (if TN p = w then some i else nfind TN w (bl.map (fun z => z.2)) (i + 1)) = none := h
      by_cases e : TN p = w
      · rw [if_pos e] at h'; cases h'
      · rw [if_neg e] at h'
        rw [nid, if_neg e]; exact ih (i := i + 1) h'
end MJN
