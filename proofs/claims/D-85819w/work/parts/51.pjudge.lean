/-! P OVER S (20): judging: names, tables, what was found -/
/-- the last of n that has the name w -/
def lastN (f : Nat → List Nat) (w : List Nat) : Nat → Option Nat
  | 0 => none
  | n + 1 => if f n = w then some n else lastN f w n
/-- the first of n, from i on, that has the name w -/
def firstN (f : Nat → List Nat) (w : List Nat) : Nat → Nat → Option Nat
  | 0, _ => none
  | n + 1, i => if f i = w then some i else firstN f w n (i + 1)
/-- the judge's tables and context -/
def JT (c : PC) (R : Nat → Nat) (σ : GSt) (J : JX) : Prop :=
  (gk σ (R 3) = 4 ∧ gr σ (R 3) 0 = some (R 1) ∧ gr σ (R 3) 1 = some (R 2) ∧ gr σ (R 3) 2 = some (R 9)) ∧
  (gr σ (R 1) 1 = some (R 6) ∧ gr σ (R 1) 2 = some (R 7) ∧ gi σ (R 1) 3 = iI (c.ns : Int)) ∧
  (gk σ (R 6) = 101 ∧ gl σ (R 6) = 8 ∧ gk σ (R 7) = 101 ∧ gl σ (R 7) = 64 ∧ R 6 ≠ R 4 ∧ R 7 ≠ R 4) ∧
  (∀ k, k < 8 → gi σ (R 6) k = iI (J.ax k) ∧ -1 ≤ J.ax k ∧ J.ax k < c.ns) ∧ (∀ a b, a < 8 → b < 8 → gi σ (R 7) (8 * a + b) = iI (J.ru a b) ∧ -1 ≤ J.ru a b ∧ J.ru a b < c.ns) ∧
  (gk σ (R 9) = 22 ∧ ¬ c.E (R 9) ∧ gi σ (R 9) 2 = iI (c.nc : Int) ∧ ∃ z, gr σ (R 9) 1 = some z ∧ gk σ z = 103 ∧ ¬ c.E z ∧ c.nc ≤ gl σ z ∧ ∀ k, k < c.nc → gr σ z k = some (c.N k)) ∧
  (∀ k, k < c.nc → gk σ (c.N k) = 21 ∧ gi σ (c.N k) 2 = iI (J.cs k) ∧ -1 ≤ J.cs k ∧ J.cs k < 8 ∧ gT (J.ct k) true [] ∧ ∃ b, gr σ (c.N k) 1 = some b ∧ pT c σ (J.ct k) b 0)
/-- what judging writes: the machine's cells, its own, those of the term at hand -/
def isJ (R : Nat → Nat) (I : Nat → Prop) (a : Nat) : Prop := isM R a ∨ a = R 3 ∨ I a
section PJ
variable {G : GPl} {s0 : State} {l : Launch} {KK : Nat → Option Nat} {T : Nat → Nat} {lev d : Nat} {Q : Outcome → GSt → Prop} {R : Nat → Nat} {σ τ st0 : GSt} {X : SX} {J : JX} {K K' : KS} {w n s o : Nat} {c c' : PC} {L L' : Nat → Nat → Prop} {W : Nat → Prop}
theorem list_eq {bs cs : List Nat} (h : bs.length = cs.length) (he : ∀ j, j < bs.length → bs[j]? = cs[j]?) : bs = cs := by
  apply List.ext_getElem? 
  intro j
  by_cases hj : j < bs.length
  · exact he j hj
  · rw [List.getElem?_eq_none (by omega), List.getElem?_eq_none (by omega)]
theorem c_eq {a b o1 o2 : Nat} {bs cs : List Nat} (hl : 2 ≤ lev) (hs : pS σ o1 a bs) (ht : pS σ o2 b cs) (ok : Q (.returned (some (.int (bI (decide (bs = cs)))))) σ) : CQ (wP G s0 l KK T) mJ3_equals lev (.ref a :: [va_rf (some b)]) σ Q := by
  obtain ⟨l', rfl⟩ := Nat.exists_eq_add_of_le' hl
  have hs0 := hs
  have ht0 := ht
  obtain ⟨h1, h2, p, h3, h4, h5, h6, h7, h8⟩ := hs
  obtain ⟨g1, g2, q, g3, g4, g5, g6, g7, g8⟩ := ht
  refine tJ3_equals ⟨fun e => ?_, fun _ => ⟨⟨b, rfl, g1⟩, Or.inr ⟨b, rfl, by rw [g1]; decide⟩, h1, b, rfl, g1, fun _ => ?_, fun z => absurd (h2.trans g2.symm) z⟩⟩
  · cases e
    have epq : p = q := by rw [h3] at g3; cases g3; rfl
    subst epq
    have : bs = cs := by
      refine list_eq (by omega) (fun j hj => ?_)
      obtain ⟨x, hx⟩ : ∃ x, bs[j]? = some x := ⟨bs[j]'hj, List.getElem?_eq_getElem hj⟩
      obtain ⟨y, hy⟩ : ∃ y, cs[j]? = some y := ⟨cs[j]'(by omega), List.getElem?_eq_getElem (by omega)⟩
      have e1 := h8 j x hx
      have e2 := g8 j y hy
      have : iI (x : Int) = iI (y : Int) := e1.1.symm.trans e2.1
      rw [iI_eq (by omega) (by omega) (by omega) (by omega)] at this
      rw [hx, hy]
      congr 1; omega
    rw [decide_eq_true this] at ok
    exact ok
  · have fin : CQ (wP G s0 l KK T) mJ4_equals (l' + 1) [va_rf (some p), va_rf (some q)] σ (onI (fun r5 t4 => gle σ t4 → ((r5 = 0 → Q (.returned (some (.int (iI 0)))) t4) ∧ (¬ r5 = 0 → Q (.returned (some (.int (iI 1)))) t4))) (fun x t => gle σ t → Q (.threw x) t)) := by
      have no : bs ≠ cs → gle σ σ → ((iI 0 = 0 → Q (.returned (some (.int (iI 0)))) σ) ∧ (¬ iI 0 = 0 → Q (.returned (some (.int (iI 1)))) σ)) := fun hne _ => by
        rw [decide_eq_false hne] at ok
        exact ⟨fun _ => ok, fun z => absurd rfl z⟩
      refine tJ4_equals ⟨p, rfl, h4, q, rfl, g4, fun e => ?_, fun e => no (fun he => e (by rw [h6, g6, he]))⟩
      have hlen : bs.length = cs.length := by
        rw [h6, g6, iI_eq (by omega) (by omega) (by omega) (by omega)] at e; omega
      have key : ∀ (m j : Nat), j + m = bs.length → (∀ i, i < j → bs[i]? = cs[i]?) → jJ4_equals_9 G s0 l KK T l' σ (onI (fun r5 t4 => gle σ t4 → ((r5 = 0 → Q (.returned (some (.int (iI 0)))) t4) ∧ (¬ r5 = 0 → Q (.returned (some (.int (iI 1)))) t4))) (fun x t => gle σ t → Q (.threw x) t)) (some p) (some q) (iI (j : Int)) σ := by
        intro m
        induction m with
        | zero =>
          intro j hj hall
          refine tJ4_equals_9 ⟨p, rfl, h4, fun _ => fun _ => ?_, fun z => absurd (by rw [h6, iI_le (by omega) (by omega) (by omega) (by omega)]; omega) z⟩
          have : bs = cs := list_eq hlen (fun i hi => hall i (by omega))
          rw [decide_eq_true this] at ok
          exact ⟨fun z => absurd z (by decide), fun _ => ok⟩
        | succ m ih =>
          intro j hj hall
          obtain ⟨x, hx⟩ : ∃ x, bs[j]? = some x := ⟨bs[j]'(by omega), List.getElem?_eq_getElem (by omega)⟩
          obtain ⟨y, hy⟩ : ∃ y, cs[j]? = some y := ⟨cs[j]'(by omega), List.getElem?_eq_getElem (by omega)⟩
          have e1 := h8 j x hx
          have e2 := g8 j y hy
          refine tJ4_equals_9 ⟨p, rfl, h4, fun z => ?_, fun _ => ⟨iI_in (by omega) (by omega), q, rfl, g4, iI_in (by omega) (by omega), ?_⟩⟩
          · rw [h6, iI_le (by omega) (by omega) (by omega) (by omega)] at z; omega
          · rw [iI_ix (by omega), e1.1, e2.1]
            refine ⟨fun z => ?_, fun z => no (fun he => z ?_)⟩
            · rw [iI_suc]
              refine ih (j + 1) (by omega) (fun i hi => ?_)
              by_cases hij : i = j
              · subst hij
                rw [iI_eq (by omega) (by omega) (by omega) (by omega)] at z
                rw [hx, hy]; congr 1; omega
              · exact hall i (by omega)
            · rw [he, hy] at hx
              cases hx; rfl
      exact key bs.length 0 (by omega) (fun i hi => by omega)
    refine tJ3_equals_36 ⟨h1, b, rfl, g1, ?_⟩
    rw [h3, g3]
    exact fin
/-- a name of the context -/
theorem c_find {a o1 : Nat} {wd : List Nat} (hl : 4 ≤ lev) (hJ : JT c R σ J) (hN : pNm c R σ X) (hnc : c.nc ≤ 100) (ha : pS σ o1 a wd) (ok : Q (.returned (some (va_rf ((lastN X.nm wd c.nc).map c.N)))) σ) : CQ (wP G s0 l KK T) mX4_find lev (.ref (R 3) :: [va_rf (some a)]) σ Q := by
  obtain ⟨l', rfl⟩ := Nat.exists_eq_add_of_le' hl
  obtain ⟨⟨j1, j2, j3, j4⟩, -, -, -, -, ⟨q1, -, q2, z, q3, q4, -, q5, q6⟩, -⟩ := hJ
  refine tX4_find ⟨j1, R 9, j4, q1, tJ2_size ⟨q1, fun _ => ?_⟩⟩
  rw [q2, iI_sub]
  have key : ∀ m, m ≤ c.nc → lastN X.nm wd c.nc = lastN X.nm wd m → jX4_find_10 G s0 l KK T (l' + 3) σ Q (R 3) (some a) (iI ((m : Int) - 1)) σ := by
    intro m
    induction m with
    | zero =>
      intro _ he
      refine tX4_find_10 ⟨fun _ => ?_, fun z => absurd (by rw [iI_z, iI_lt (by omega) (by omega) (by omega) (by omega)]; omega) z⟩
      rw [he] at ok
      exact ok
    | succ m ih =>
      intro hm he
      have em : ((m + 1 : Nat) : Int) - 1 = (m : Int) := by omega
      rw [em]
      obtain ⟨n1, sa, n2, n3⟩ := hN.1 m (by omega)
      have inn : inT σ (gr σ z m) [21] := Or.inr ⟨c.N m, q6 m (by omega), by rw [n1]; decide⟩
      refine tX4_find_10 ⟨fun z => ?_, fun _ => ⟨j1, R 9, j4, q1, c_get (z := z) (len := c.nc) (by omega) q1 q3 q4 q2 (by omega) q5 (by omega) (onR_ret (fun _ => ⟨inn, c.N m, q6 m (by omega), n1, sa, n2, n3.1, c_eq (by omega) n3 ha (fun _ => ⟨fun z => ?_, fun zz => ⟨R 9, j4, q1, c_get (z := z) (len := c.nc) (by omega) q1 q3 q4 q2 (by omega) q5 (by omega) (onR_ret (fun _ => ⟨inn, ?_⟩))⟩⟩)⟩))⟩⟩
      · rw [iI_z, iI_lt (by omega) (by omega) (by omega) (by omega)] at z; omega
      · rw [bI_z] at z
        have hne : X.nm m ≠ wd := of_decide_eq_false z
        have e1 : iI (m : Int) + iI (-1) = iI ((m : Int) - 1) := by rw [iI_add]; congr 1
        rw [e1]
        refine ih (by omega) ?_
        rw [he]
        show (if X.nm m = wd then some m else lastN X.nm wd m) = _
        rw [if_neg hne]
      · have heq : X.nm m = wd := by
          by_cases h : X.nm m = wd
          · exact h
          · exact absurd (bI_z.mpr (decide_eq_false h)) zz
        have e2 : lastN X.nm wd c.nc = some m := by
          rw [he]
          show (if X.nm m = wd then some m else lastN X.nm wd m) = _
          rw [if_pos heq]
        rw [e2] at ok
        rw [q6 m (by omega)]
        exact ok
  exact key c.nc (Nat.le_refl _) rfl
/-- a sort's name -/
theorem c_tfind {a o1 : Nat} {wd : List Nat} (hl : 4 ≤ lev) (hJ : JT c R σ J) (hN : pNm c R σ X) (ha : pS σ o1 a wd) (ok : Q (.returned (some (.int (match firstN X.sn wd c.ns 0 with | some i => iI (i : Int) | none => iI (-1))))) σ) : CQ (wP G s0 l KK T) mX2_find lev (.ref (R 1) :: [va_rf (some a)]) σ Q := by
  obtain ⟨l', rfl⟩ := Nat.exists_eq_add_of_le' hl
  obtain ⟨-, ⟨t1, t2, t3⟩, -⟩ := hJ
  obtain ⟨-, n2, n3, n4, n5, n6, n7⟩ := hN
  have key : ∀ m i, i + m = c.ns → firstN X.sn wd c.ns 0 = firstN X.sn wd m i → jX2_find_2 G s0 l KK T (l' + 3) σ Q (R 1) (some a) (iI (i : Int)) σ := by
    intro m
    induction m with
    | zero =>
      intro i hi he
      refine tX2_find_2 ⟨n2, fun _ => ?_, fun z => absurd (by rw [t3, iI_le (by omega) (by omega) (by omega) (by omega)]; omega) z⟩
      rw [he] at ok
      exact ok
    | succ m ih =>
      intro i hi he
      obtain ⟨sa, s1, s2⟩ := n7 i (by omega)
      refine tX2_find_2 ⟨n2, fun z => ?_, fun _ => ⟨R 8, n3, n4, by rw [n5]; exact iI_in (by omega) (by omega), sa, by rw [iI_ix (by omega)]; exact s1, s2.1, c_eq (by omega) s2 ha (fun _ => ⟨fun z => ?_, fun zz => ?_⟩)⟩⟩
      · rw [t3, iI_le (by omega) (by omega) (by omega) (by omega)] at z; omega
      · rw [bI_z] at z
        have hne : X.sn i ≠ wd := of_decide_eq_false z
        rw [iI_suc]
        refine ih (i + 1) (by omega) ?_
        rw [he]
        show (if X.sn i = wd then some i else firstN X.sn wd m (i + 1)) = _
        rw [if_neg hne]
      · have heq : X.sn i = wd := by
          by_cases h : X.sn i = wd
          · exact h
          · exact absurd (bI_z.mpr (decide_eq_false h)) zz
        have e2 : firstN X.sn wd c.ns 0 = some i := by
          rw [he]
          show (if X.sn i = wd then some i else firstN X.sn wd m (i + 1)) = _
          rw [if_pos heq]
        rw [e2] at ok
        exact ok
  exact tX2_find (key c.ns 0 (by omega) rfl)
theorem c_axiom {v : Int} (hl : 1 ≤ lev) (hJ : JT c R σ J) (hN : pNm c R σ X) (hv : -1 ≤ v ∧ v < c.ns) (ok : Q (.returned (some (.int (if v = -1 then iI (-1) else iI (J.ax v.toNat))))) σ) : CQ (wP G s0 l KK T) mX2_axiom lev (.ref (R 1) :: [.int (iI v)]) σ Q := by
  obtain ⟨l', rfl⟩ := Nat.exists_eq_add_of_le' hl
  obtain ⟨-, ⟨t1, t2, t3⟩, ⟨a1, a2, a3, a4, -⟩, b1, b2, -⟩ := hJ
  have h8 := hN.2.2.2.2.2.1
  refine tX2_axiom ⟨fun z => ?_, fun z => ?_⟩
  · rw [iI_eq (by omega) (by omega) (by omega) (by omega)] at z
    rw [if_pos z] at ok; exact ok
  · have hv0 : v ≠ -1 := fun h => z (by rw [h])
    rw [if_neg hv0] at ok
    obtain ⟨m, rfl⟩ : ∃ m : Nat, v = (m : Int) := ⟨v.toNat, by omega⟩
    refine ⟨hN.2.1, R 6, t1, a1, by rw [a2]; exact iI_in (by omega) (by omega), ?_⟩
    rw [iI_ix (by omega), (b1 m (by omega)).1]
    exact ok
theorem c_rule {a b : Nat} (hl : 1 ≤ lev) (hJ : JT c R σ J) (hN : pNm c R σ X) (ha : a < 8) (hb : b < 8) (ok : Q (.returned (some (.int (iI (J.ru a b))))) σ) : CQ (wP G s0 l KK T) mX2_rule lev (.ref (R 1) :: [.int (iI (a : Int)), .int (iI (b : Int))]) σ Q := by
  obtain ⟨l', rfl⟩ := Nat.exists_eq_add_of_le' hl
  obtain ⟨-, ⟨t1, t2, t3⟩, ⟨a1, a2, a3, a4, -⟩, b1, b2, -⟩ := hJ
  have e1 : iI 8 * iI (a : Int) + iI (b : Int) = iI ((8 * a + b : Nat) : Int) := by rw [iI_mul, iI_add]; congr 1
  refine tX2_rule ⟨hN.2.1, R 7, t2, a3, ?_⟩
  rw [e1, a4, iI_ix (by omega), (b2 a b ha hb).1]
  exact ⟨iI_in (by omega) (by omega), ok⟩
end PJ
