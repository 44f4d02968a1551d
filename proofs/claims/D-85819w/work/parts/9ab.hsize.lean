/-! THE HOUSE (1): how large what was read is -/
def tkL (t : TX) (k : TK) : Prop := tkOK t k ∧ (k.ki = 2 → 256 ≤ k.sg → k.pl + 2 ≤ k.nx) ∧ (k.ki ≤ 1 → k.nx = sRun t isMor t.2 k.pl)
theorem sGo_L {t : TX} {a : Nat} (ha : a ≤ t.2) (hb : ∀ j, j < t.2 → t.1 j < 256) : tkL t (sGo t a) ∧ a ≤ (sGo t a).pl := by
  have h := sGo_ok ha
  refine ⟨⟨h.1, fun h2 h3 => ?_, fun h1 => sGo_nx h1⟩, h.2⟩
  revert h2 h3
  unfold sGo
  generalize sSkip t (t.2 + 1) a = q
  obtain ⟨o, p⟩ := q
  show (if o then (4, p, 0, p) else if t.2 ≤ p then (5, p, 0, p) else if isLet (tbyte t p) then (if 12 < sRun t isMor t.2 p - p then 3 else if kept.contains (tname t p) then 1 else 0, p, 0, sRun t isMor t.2 p) else (if ((tbyte t p == 45 && tbyte t (p + 1) == 62) || [92, 33, 58, 46, 59, 61, 40, 41].contains (tbyte t p)) then 2 else 4, p, if (tbyte t p == 45 && tbyte t (p + 1) == 62) then 256 else if (tbyte t p == 58 && tbyte t (p + 1) == 61) then 257 else tbyte t p, p + if (tbyte t p == 45 && tbyte t (p + 1) == 62) || (tbyte t p == 58 && tbyte t (p + 1) == 61) then 2 else 1) : TK).ki = 2 → 256 ≤ (if o then (4, p, 0, p) else if t.2 ≤ p then (5, p, 0, p) else if isLet (tbyte t p) then (if 12 < sRun t isMor t.2 p - p then 3 else if kept.contains (tname t p) then 1 else 0, p, 0, sRun t isMor t.2 p) else (if ((tbyte t p == 45 && tbyte t (p + 1) == 62) || [92, 33, 58, 46, 59, 61, 40, 41].contains (tbyte t p)) then 2 else 4, p, if (tbyte t p == 45 && tbyte t (p + 1) == 62) then 256 else if (tbyte t p == 58 && tbyte t (p + 1) == 61) then 257 else tbyte t p, p + if (tbyte t p == 45 && tbyte t (p + 1) == 62) || (tbyte t p == 58 && tbyte t (p + 1) == 61) then 2 else 1) : TK).sg → (if o then (4, p, 0, p) else if t.2 ≤ p then (5, p, 0, p) else if isLet (tbyte t p) then (if 12 < sRun t isMor t.2 p - p then 3 else if kept.contains (tname t p) then 1 else 0, p, 0, sRun t isMor t.2 p) else (if ((tbyte t p == 45 && tbyte t (p + 1) == 62) || [92, 33, 58, 46, 59, 61, 40, 41].contains (tbyte t p)) then 2 else 4, p, if (tbyte t p == 45 && tbyte t (p + 1) == 62) then 256 else if (tbyte t p == 58 && tbyte t (p + 1) == 61) then 257 else tbyte t p, p + if (tbyte t p == 45 && tbyte t (p + 1) == 62) || (tbyte t p == 58 && tbyte t (p + 1) == 61) then 2 else 1) : TK).pl + 2 ≤ (if o then (4, p, 0, p) else if t.2 ≤ p then (5, p, 0, p) else if isLet (tbyte t p) then (if 12 < sRun t isMor t.2 p - p then 3 else if kept.contains (tname t p) then 1 else 0, p, 0, sRun t isMor t.2 p) else (if ((tbyte t p == 45 && tbyte t (p + 1) == 62) || [92, 33, 58, 46, 59, 61, 40, 41].contains (tbyte t p)) then 2 else 4, p, if (tbyte t p == 45 && tbyte t (p + 1) == 62) then 256 else if (tbyte t p == 58 && tbyte t (p + 1) == 61) then 257 else tbyte t p, p + if (tbyte t p == 45 && tbyte t (p + 1) == 62) || (tbyte t p == 58 && tbyte t (p + 1) == 61) then 2 else 1) : TK).nx
  have hc : tbyte t p < 256 := by
    unfold tbyte
    split
    · rename_i w; exact hb p w
    · omega
  split
  · intro h2; exact absurd h2 (by show ¬ (4 : Nat) = 2; omega)
  · split
    · intro h2; exact absurd h2 (by show ¬ (5 : Nat) = 2; omega)
    · split
      · intro _ h3; exact absurd h3 (by show ¬ 256 ≤ 0; omega)
      · intro _ h3
        show p + 2 ≤ p + (if _ then 2 else 1)
        replace h3 : 256 ≤ (if (tbyte t p == 45 && tbyte t (p + 1) == 62) then 256 else if (tbyte t p == 58 && tbyte t (p + 1) == 61) then 257 else tbyte t p) := h3
        cases e1 : (tbyte t p == 45 && tbyte t (p + 1) == 62) with
        | true => simp
        | false =>
          cases e2 : (tbyte t p == 58 && tbyte t (p + 1) == 61) with
          | true => simp
          | false => rw [e1, e2] at h3; simp at h3; omega
theorem rBind_ok {α β : Type} {r : RR α} {f : α → TK → RR β} {z : β × TK} (h : rBind r f = .ok z) : ∃ a k, r = .ok (a, k) ∧ f a k = .ok z := by
  cases r with
  | ok a => exact ⟨a.1, a.2, rfl, h⟩
  | error e => cases h
theorem rG_le {v : V} {i m n : Nat} : rG v i m n → ∀ n', n ≤ n' → rG v i m n' := by
  fun_induction rG v i m n with
  | case1 f k m n => rintro ⟨h1, h2⟩ n' hn; exact ⟨h1, by omega⟩
  | case2 f p m n => intro h n' hn; exact Nat.le_trans h hn
  | case3 f p d b m n i1 i2 => rintro ⟨q, rfl, h1, h2⟩ n' hn; exact ⟨n' - 1, by omega, i1 q h1 _ (by omega), i2 q h2 _ (by omega)⟩
  | case4 f p d b m n i1 i2 => rintro ⟨q, rfl, h1, h2⟩ n' hn; exact ⟨n' - 1, by omega, i1 q h1 _ (by omega), i2 q h2 _ (by omega)⟩
  | case5 f p d b m n i1 i2 => rintro ⟨q, rfl, h1, h2⟩ n' hn; exact ⟨n' - 1, by omega, i1 q h1 _ (by omega), i2 q h2 _ (by omega)⟩
  | case6 f p g ps m n i1 i2 => rintro ⟨q, rfl, h1, h2⟩ n' hn; exact ⟨n' - 1, by omega, i1 q h1 _ (by omega), i2 q h2 _ (by omega)⟩
  | case7 p ps m n i1 i2 => rintro ⟨h1, h2⟩ n' hn; exact ⟨i1 h1 _ hn, i2 h2 _ hn⟩
  | case8 => intros; trivial
  | case9 => intro h; exact h.elim
/-- the size of a term that was read from k to k' under m binders -/
def szT (t : TX) (n x m : Nat) (v : V) (k k' : TK) : Prop := tkL t k' ∧ k.pl < k'.pl ∧ rN v + x + 15 * rB v + 2 * k.pl ≤ 2 * k'.pl ∧ rD v ≤ n
theorem rf_all {f a : Nat} {x : V} : rN (.tag f x) = rN (.tag a x) ∧ rB (.tag f x) = rB (.tag a x) ∧ rD (.tag f x) = rD (.tag a x) ∧ ∀ m n, rG (.tag f x) 0 m n = rG (.tag a x) 0 m n := by
  cases x with
  | tag p y => cases y with
    | group z b => cases b <;> cases z <;> first | exact ⟨rfl, rfl, rfl, fun _ _ => rfl⟩ | (rename_i z b; cases b <;> cases z <;> exact ⟨rfl, rfl, rfl, fun _ _ => rfl⟩)
    | _ => exact ⟨rfl, rfl, rfl, fun _ _ => rfl⟩
  | _ => exact ⟨rfl, rfl, rfl, fun _ _ => rfl⟩
theorem rf_v {f : Nat} {v : V} : rN (refrom f v) = rN v ∧ rB (refrom f v) = rB v ∧ rD (refrom f v) = rD v ∧ ∀ m n, rG (refrom f v) 0 m n = rG v 0 m n := by
  cases v with
  | tag a x => exact rf_all
  | _ => exact ⟨rfl, rfl, rfl, fun _ _ => rfl⟩
section HZ
variable {t : TX} {n m : Nat} {bs : List (Option Nat)} {k k' : TK} {v : V}
theorem rNeed_L (hb : ∀ j, j < t.2 → t.1 j < 256) {s : Nat} {p : Nat} (hk : tkL t k) (h : rNeed t s k = .ok (p, k')) : tkL t k' ∧ k.pl < k'.pl ∧ (256 ≤ s → k.pl + 2 ≤ k'.pl) ∧ p = k.pl := by
  have h2 := rNeed_ki h
  unfold rNeed at h
  split at h
  · rename_i hs
    cases h
    have h3 := hk.1.2 (by omega)
    have h4 := sGo_L h3.2 hb
    refine ⟨h4.1, by omega, fun w => ?_, rfl⟩
    unfold isSg at hs
    simp only [Bool.and_eq_true, beq_iff_eq] at hs
    have := hk.2.1 h2 (by omega)
    omega
  · exact absurd h (by unfold rWrong; intro q; cases q)
theorem rName_L (hb : ∀ j, j < t.2 → t.1 j < 256) {p : Nat} (hk : tkL t k) (h : rName t k = .ok (p, k')) : tkL t k' ∧ k.pl < k'.pl ∧ p = k.pl := by
  have h2 := rName_ki h
  unfold rName at h
  rw [if_pos h2] at h
  cases h
  have h3 := hk.1.2 (by omega)
  have h4 := sGo_L h3.2 hb
  exact ⟨h4.1, by omega, rfl⟩
theorem isSg_L (hb : ∀ j, j < t.2 → t.1 j < 256) {s : Nat} (hk : tkL t k) (h : isSg k s = true) : tkL t (sGo t k.nx) ∧ k.pl < (sGo t k.nx).pl ∧ (256 ≤ s → k.pl + 2 ≤ (sGo t k.nx).pl) := by
  unfold isSg at h
  simp only [Bool.and_eq_true, beq_iff_eq] at h
  have h3 := hk.1.2 (by omega)
  have h4 := sGo_L h3.2 hb
  refine ⟨h4.1, by omega, fun w => ?_⟩
  have := hk.2.1 h.1 (by omega)
  omega
theorem isWd_L (hb : ∀ j, j < t.2 → t.1 j < 256) {w c : Nat} (hk : tkL t k) (h : isWd t k w = true) (hw : ∀ l, kept[w]? = some l → l.length = c) (hc : c < 12) : tkL t (sGo t k.nx) ∧ k.pl + c ≤ (sGo t k.nx).pl ∧ k.pl < (sGo t k.nx).pl := by
  unfold isWd at h
  simp only [Bool.and_eq_true, beq_iff_eq] at h
  have h3 := hk.1.2 (by omega)
  have h4 := sGo_L h3.2 hb
  have h5 := hw _ h.2
  have h6 := hk.2.2 (by omega)
  unfold tname at h5
  rw [List.length_map, List.length_range, ← h6] at h5
  exact ⟨h4.1, by omega, by omega⟩
theorem rAtom_L (hb : ∀ j, j < t.2 → t.1 j < 256) (ih : ∀ (bs : List (Option Nat)) (k : TK) (v : V) (k' : TK), tkL t k → rTerm t n bs k = .ok (v, k') → szT t n 0 bs.length v k k' ∧ rG v 0 bs.length (2 * n + 1)) (hk : tkL t k) (h : rAtom t (rTerm t n) bs k = .ok (v, k')) : szT t n 1 bs.length v k k' ∧ rG v 0 bs.length (2 * n + 1) := by
  unfold rAtom at h
  split at h
  · rename_i hs
    obtain ⟨v1, k1, e1, h⟩ := rBind_ok h
    obtain ⟨q, k2, e2, h⟩ := rBind_ok h
    cases h
    obtain ⟨a1, a2, a3⟩ := isSg_L hb hk hs
    obtain ⟨⟨b1, b2, b3, b4⟩, b5⟩ := ih _ _ _ _ a1 e1
    obtain ⟨c1, c2, c3, c4⟩ := rNeed_L hb b1 e2
    obtain ⟨d1, d2, d3, d4⟩ := rf_v (f := k.pl) (v := v1)
    exact ⟨⟨c1, by omega, by rw [d1, d2]; omega, by rw [d3]; exact b4⟩, by rw [d4]; exact b5⟩
  · obtain ⟨p, k1, e1, h⟩ := rBind_ok h
    cases h
    obtain ⟨a1, a2, a3⟩ := rName_L hb hk e1
    unfold rVar
    split
    · rename_i i hf
      have := rFind_lt _ _ _ hf
      exact ⟨⟨a1, a2, by show 1 + 1 + 15 * 0 + 2 * k.pl ≤ _; omega, Nat.zero_le _⟩, ⟨by omega, by omega⟩⟩
    · exact ⟨⟨a1, a2, by show 1 + 1 + 15 * 0 + 2 * k.pl ≤ _; omega, Nat.zero_le _⟩, by show 1 ≤ _; omega⟩
theorem rParts_L (hb : ∀ j, j < t.2 → t.1 j < 256) (ih : ∀ (bs : List (Option Nat)) (k : TK) (v : V) (k' : TK), tkL t k → rTerm t n bs k = .ok (v, k') → szT t n 0 bs.length v k k' ∧ rG v 0 bs.length (2 * n + 1)) : ∀ (f : Nat) (k : TK) (v : V) (k' : TK), tkL t k → rParts t (rTerm t n) bs f k = .ok (v, k') → tkL t k' ∧ k.pl ≤ k'.pl ∧ rN v + 15 * rB v + 2 * k.pl ≤ 2 * k'.pl ∧ rD v ≤ n ∧ rG v 1 bs.length (2 * n + 1) ∧ (v = .nil ∨ ∃ x y, v = .append x y) := by
  intro f
  induction f with
  | zero => intro k v k' hk h; cases h; exact ⟨hk, Nat.le_refl _, by show 0 + 15 * 0 + _ ≤ _; omega, Nat.zero_le _, trivial, Or.inl rfl⟩
  | succ f ihf =>
    intro k v k' hk h
    unfold rParts at h
    split at h
    · obtain ⟨v1, k1, e1, h⟩ := rBind_ok h
      obtain ⟨v2, k2, e2, h⟩ := rBind_ok h
      cases h
      obtain ⟨⟨a1, a2, a3, a4⟩, a5⟩ := rAtom_L hb ih hk e1
      obtain ⟨b1, b2, b3, b4, b5, _⟩ := ihf _ _ _ a1 e2
      exact ⟨b1, by omega, by show (rN v1 + rN v2 + 1) + 15 * (rB v1 + rB v2) + _ ≤ _; omega, Nat.max_le.mpr ⟨a4, b4⟩, ⟨a5, b5⟩, Or.inr ⟨_, _, rfl⟩⟩
    · cases h; exact ⟨hk, Nat.le_refl _, by show 0 + 15 * 0 + _ ≤ _; omega, Nat.zero_le _, trivial, Or.inl rfl⟩
theorem rUse_L (hb : ∀ j, j < t.2 → t.1 j < 256) (ih : ∀ (bs : List (Option Nat)) (k : TK) (v : V) (k' : TK), tkL t k → rTerm t n bs k = .ok (v, k') → szT t n 0 bs.length v k k' ∧ rG v 0 bs.length (2 * n + 1)) (hk : tkL t k) (h : rUse t (rTerm t n) bs k = .ok (v, k')) : szT t n 0 bs.length v k k' ∧ rG v 0 bs.length (2 * n + 2) := by
  unfold rUse at h
  obtain ⟨v1, k1, e1, h⟩ := rBind_ok h
  obtain ⟨v2, k2, e2, h⟩ := rBind_ok h
  obtain ⟨⟨a1, a2, a3, a4⟩, a5⟩ := rAtom_L hb ih hk e1
  obtain ⟨b1, b2, b3, b4, b5, b6⟩ := rParts_L hb ih _ _ _ _ a1 e2
  rcases b6 with rfl | ⟨x, y, rfl⟩
  · cases h
    exact ⟨⟨b1, by omega, by omega, a4⟩, rG_le a5 _ (by omega)⟩
  · cases h
    exact ⟨⟨b1, by omega, by show (rN v1 + rN (.append x y) + 1) + 0 + 15 * (rB v1 + rB (.append x y)) + _ ≤ _; omega, Nat.max_le.mpr ⟨a4, b4⟩⟩, ⟨2 * n + 1, rfl, a5, b5⟩⟩
theorem rTerm_L (hb : ∀ j, j < t.2 → t.1 j < 256) : ∀ (n : Nat) (bs : List (Option Nat)) (k : TK) (v : V) (k' : TK), tkL t k → rTerm t n bs k = .ok (v, k') → szT t n 0 bs.length v k k' ∧ rG v 0 bs.length (2 * n + 1) := by
  intro n
  induction n with
  | zero =>
    intro bs k v k' hk h
    unfold rTerm at h
    split at h
    · exact absurd h (by unfold rWrong; intro q; cases q)
    · cases h
  | succ n ih =>
    intro bs k v k' hk h
    rw [rTerm] at h
    split at h
    · rename_i hs
      obtain ⟨x, k1, e1, h⟩ := rBind_ok h
      obtain ⟨q, k2, e2, h⟩ := rBind_ok h
      obtain ⟨d, k3, e3, h⟩ := rBind_ok h
      obtain ⟨q', k4, e4, h⟩ := rBind_ok h
      obtain ⟨b, k5, e5, h⟩ := rBind_ok h
      have a : tkL t (sGo t k.nx) ∧ k.pl < (sGo t k.nx).pl := by
        rw [Bool.or_eq_true] at hs
        rcases hs with hs | hs
        · exact ⟨(isSg_L hb hk hs).1, (isSg_L hb hk hs).2.1⟩
        · exact ⟨(isSg_L hb hk hs).1, (isSg_L hb hk hs).2.1⟩
      obtain ⟨b1, b2, b3⟩ := rName_L hb a.1 e1
      obtain ⟨c1, c2, c3, c4⟩ := rNeed_L hb b1 e2
      obtain ⟨⟨d1, d2, d3, d4⟩, d5⟩ := ih _ _ _ _ c1 e3
      obtain ⟨f1, f2, f3, f4⟩ := rNeed_L hb d1 e4
      obtain ⟨⟨g1, g2, g3, g4⟩, g5⟩ := ih _ _ _ _ f1 e5
      have a2 := a.2
      have gg : ∀ v : V, v = .append d b ∨ v = .group (.append d b) .fill → szT t (n + 1) 0 bs.length (.tag k.pl (.tag k.pl v)) k k5 ∧ rG (.tag k.pl (.tag k.pl v)) 0 bs.length (2 * (n + 1) + 1) := by
        rintro v (rfl | rfl)
        · exact ⟨⟨g1, by omega, by show (rN d + rN b + 1) + 0 + 15 * (rB d + rB b) + _ ≤ _; omega, Nat.max_le.mpr ⟨by omega, by omega⟩⟩, ⟨2 * n + 2, rfl, rG_le d5 _ (by omega), rG_le g5 _ (by omega)⟩⟩
        · exact ⟨⟨g1, by omega, by show (rN d + rN b + 1) + 0 + 15 * (rB d + rB b) + _ ≤ _; omega, Nat.max_le.mpr ⟨by omega, by omega⟩⟩, ⟨2 * n + 2, rfl, rG_le d5 _ (by omega), rG_le g5 _ (by omega)⟩⟩
      cases h
      exact gg _ (by split; exact Or.inl rfl; exact Or.inr rfl)
    · split at h
      · rename_i hw
        obtain ⟨x, k1, e1, h⟩ := rBind_ok h
        obtain ⟨q, k2, e2, h⟩ := rBind_ok h
        obtain ⟨d, k3, e3, h⟩ := rBind_ok h
        split at h
        · rename_i hi
          obtain ⟨b, k5, e5, h⟩ := rBind_ok h
          cases h
          obtain ⟨a1, a2, a3⟩ := isWd_L (c := 3) hb hk hw (fun l q => by cases q; rfl) (by omega)
          obtain ⟨b1, b2, b3⟩ := rName_L hb a1 e1
          obtain ⟨c1, c2, c3, c4⟩ := rNeed_L hb b1 e2
          obtain ⟨⟨d1, d2, d3, d4⟩, d5⟩ := ih _ _ _ _ c1 e3
          obtain ⟨f1, f2, f3⟩ := isWd_L (c := 2) hb d1 hi (fun l q => by cases q; rfl) (by omega)
          obtain ⟨⟨g1, g2, g3, g4⟩, g5⟩ := ih _ _ _ _ f1 e5
          have c5 := c3 (by omega)
          exact ⟨⟨g1, by omega, by show (rN d + rN b + 1) + 0 + 15 * (rB d + rB b + 1) + _ ≤ _; omega, Nat.max_le.mpr ⟨by omega, by omega⟩⟩, ⟨2 * n + 2, rfl, rG_le d5 _ (by omega), rG_le g5 _ (by omega)⟩⟩
        · exact absurd h (by unfold rWrong; intro q; cases q)
      · obtain ⟨d, k1, e1, h⟩ := rBind_ok h
        obtain ⟨⟨a1, a2, a3, a4⟩, a5⟩ := rUse_L hb ih hk e1
        split at h
        · rename_i hs
          obtain ⟨b, k2, e2, h⟩ := rBind_ok h
          cases h
          obtain ⟨b1, b2, b3⟩ := isSg_L hb a1 hs
          obtain ⟨⟨g1, g2, g3, g4⟩, g5⟩ := ih _ _ _ _ b1 e2
          exact ⟨⟨g1, by omega, by show (rN d + rN b + 1) + 0 + 15 * (rB d + rB b) + _ ≤ _; omega, Nat.max_le.mpr ⟨by omega, by omega⟩⟩, ⟨2 * n + 2, rfl, a5, rG_le g5 _ (by omega)⟩⟩
        · cases h
          exact ⟨⟨a1, a2, a3, by omega⟩, rG_le a5 _ (by omega)⟩
end HZ
def oN (o : Option V) : Nat := match o with
  | some v => rN v
  | none => 0
def oB (o : Option V) : Nat := match o with
  | some v => rB v
  | none => 0
def stN (s : ST) : Nat := oN s.2.2.2.1 + oN s.2.2.2.2
def stB (s : ST) : Nat := oB s.2.2.2.1 + oB s.2.2.2.2
/-- a term that was read: not too deep -/
def oG (o : Option V) : Prop := ∀ v, o = some v → rG v 0 0 100 ∧ rD v ≤ 40
def stGd (s : ST) : Prop := ((s.1 = 0 ∧ ∃ x, s.2.2.1 = [x]) ∨ (s.1 = 1 ∧ ∃ x y, s.2.2.1 = [x, y]) ∨ (s.1 = 2 ∧ ∃ x y z, s.2.2.1 = [x, y, z]) ∨ (s.1 = 3 ∧ (∃ x, s.2.2.1 = [x]) ∧ (s.2.2.2.1 ≠ none ∨ s.2.2.2.2 ≠ none)) ∨ ((s.1 = 4 ∨ s.1 = 5 ∨ s.1 = 6) ∧ s.2.2.2.2 ≠ none) ∨ (s.1 = 7 ∧ s.2.2.2.1 ≠ none ∧ s.2.2.2.2 ≠ none)) ∧ oG s.2.2.2.1 ∧ oG s.2.2.2.2
def ssZ : List ST → Nat
  | [] => 0
  | s :: ss => stN s + 15 * stB s + 6 + ssZ ss
theorem oG_n : oG none := fun v h => by cases h
theorem oG_s {v : V} (h : rG v 0 0 (2 * 40 + 1)) (hd : rD v ≤ 40) : oG (some v) := fun u q => by cases q; exact ⟨rG_le h _ (by omega), hd⟩
section HZ2
variable {t : TX} {k k' : TK} {s : ST}
theorem rTell_L (hb : ∀ j, j < t.2 → t.1 j < 256) (hk : tkL t k) (h : rTell t k = .ok (s, k')) : tkL t k' ∧ k.pl < k'.pl ∧ stGd s ∧ stN s + 15 * stB s + 4 + 2 * k.pl ≤ 2 * k'.pl := by
  unfold rTell at h
  obtain ⟨x, k1, e1, h⟩ := rBind_ok h
  obtain ⟨a1, a2, a3⟩ := rName_L hb hk e1
  split at h
  · rename_i hs
    obtain ⟨ty, k2, e2, h⟩ := rBind_ok h
    obtain ⟨b1, b2, b3⟩ := isSg_L hb a1 hs
    obtain ⟨⟨c1, c2, c3, c4⟩, c5⟩ := rTerm_L hb _ _ _ _ _ b1 e2
    split at h
    · rename_i hs2
      obtain ⟨v, k3, e3, h⟩ := rBind_ok h
      obtain ⟨d1, d2, d3⟩ := isSg_L hb c1 hs2
      obtain ⟨⟨f1, f2, f3, f4⟩, f5⟩ := rTerm_L hb _ _ _ _ _ d1 e3
      cases h
      exact ⟨f1, by omega, ⟨Or.inr (Or.inr (Or.inr (Or.inl ⟨rfl, ⟨_, rfl⟩, Or.inl (fun q => by cases q)⟩))), oG_s c5 c4, oG_s f5 f4⟩, by show (rN ty + rN v) + 15 * (rB ty + rB v) + 4 + _ ≤ _; omega⟩
    · cases h
      exact ⟨c1, by omega, ⟨Or.inr (Or.inr (Or.inr (Or.inl ⟨rfl, ⟨_, rfl⟩, Or.inl (fun q => by cases q)⟩))), oG_s c5 c4, oG_n⟩, by show (rN ty + 0) + 15 * (rB ty + 0) + 4 + _ ≤ _; omega⟩
  · obtain ⟨q, k2, e2, h⟩ := rBind_ok h
    obtain ⟨v, k3, e3, h⟩ := rBind_ok h
    obtain ⟨b1, b2, b3, b4⟩ := rNeed_L hb a1 e2
    obtain ⟨⟨f1, f2, f3, f4⟩, f5⟩ := rTerm_L hb _ _ _ _ _ b1 e3
    cases h
    exact ⟨f1, by omega, ⟨Or.inr (Or.inr (Or.inr (Or.inl ⟨rfl, ⟨_, rfl⟩, Or.inr (fun q => by cases q)⟩))), oG_n, oG_s f5 f4⟩, by show (0 + rN v) + 15 * (0 + rB v) + 4 + _ ≤ _; omega⟩
theorem rStat_L (hb : ∀ j, j < t.2 → t.1 j < 256) (hk : tkL t k) (h : rStat t k = .ok (s, k')) : tkL t k' ∧ k.pl < k'.pl ∧ stGd s ∧ stN s + 15 * stB s + 4 + 2 * k.pl ≤ 2 * k'.pl := by
  unfold rStat at h
  split at h
  · exact rTell_L hb hk h
  split at h
  · rename_i hw
    obtain ⟨a1, _, a2⟩ := isWd_L (c := 4) hb hk hw (fun l q => by cases q; rfl) (by omega)
    obtain ⟨x, k1, e1, h⟩ := rBind_ok h
    obtain ⟨b1, b2, b3⟩ := rName_L hb a1 e1
    cases h
    exact ⟨b1, by omega, ⟨Or.inl ⟨rfl, _, rfl⟩, oG_n, oG_n⟩, by show (0 + 0) + 15 * (0 + 0) + 4 + _ ≤ _; omega⟩
  split at h
  · rename_i hw
    obtain ⟨a1, _, a2⟩ := isWd_L (c := 5) hb hk hw (fun l q => by cases q; rfl) (by omega)
    obtain ⟨x, k1, e1, h⟩ := rBind_ok h
    obtain ⟨q, k2, e2, h⟩ := rBind_ok h
    obtain ⟨y, k3, e3, h⟩ := rBind_ok h
    obtain ⟨b1, b2, b3⟩ := rName_L hb a1 e1
    obtain ⟨c1, c2, c3, c4⟩ := rNeed_L hb b1 e2
    obtain ⟨d1, d2, d3⟩ := rName_L hb c1 e3
    cases h
    exact ⟨d1, by omega, ⟨Or.inr (Or.inl ⟨rfl, _, _, rfl⟩), oG_n, oG_n⟩, by show (0 + 0) + 15 * (0 + 0) + 4 + _ ≤ _; omega⟩
  split at h
  · rename_i hw
    obtain ⟨a1, _, a2⟩ := isWd_L (c := 4) hb hk hw (fun l q => by cases q; rfl) (by omega)
    obtain ⟨x, k1, e1, h⟩ := rBind_ok h
    obtain ⟨y, k2, e2, h⟩ := rBind_ok h
    obtain ⟨z, k3, e3, h⟩ := rBind_ok h
    obtain ⟨b1, b2, b3⟩ := rName_L hb a1 e1
    obtain ⟨c1, c2, c3⟩ := rName_L hb b1 e2
    obtain ⟨d1, d2, d3⟩ := rName_L hb c1 e3
    cases h
    exact ⟨d1, by omega, ⟨Or.inr (Or.inr (Or.inl ⟨rfl, _, _, _, rfl⟩)), oG_n, oG_n⟩, by show (0 + 0) + 15 * (0 + 0) + 4 + _ ≤ _; omega⟩
  split at h
  · rename_i hw
    obtain ⟨a1, _, a2⟩ := isWd_L (c := 5) hb hk hw (fun l q => by cases q; rfl) (by omega)
    obtain ⟨v, k1, e1, h⟩ := rBind_ok h
    obtain ⟨⟨f1, f2, f3, f4⟩, f5⟩ := rTerm_L hb _ _ _ _ _ a1 e1
    split at h
    · rename_i hs
      obtain ⟨ty, k2, e2, h⟩ := rBind_ok h
      obtain ⟨b1, b2, b3⟩ := isSg_L hb f1 hs
      obtain ⟨⟨c1, c2, c3, c4⟩, c5⟩ := rTerm_L hb _ _ _ _ _ b1 e2
      cases h
      exact ⟨c1, by omega, ⟨Or.inr (Or.inr (Or.inr (Or.inr (Or.inl ⟨Or.inl rfl, fun q => by cases q⟩)))), oG_s c5 c4, oG_s f5 f4⟩, by show (rN ty + rN v) + 15 * (rB ty + rB v) + 4 + _ ≤ _; omega⟩
    · cases h
      exact ⟨f1, by omega, ⟨Or.inr (Or.inr (Or.inr (Or.inr (Or.inl ⟨Or.inl rfl, fun q => by cases q⟩)))), oG_n, oG_s f5 f4⟩, by show (0 + rN v) + 15 * (0 + rB v) + 4 + _ ≤ _; omega⟩
  split at h
  · rename_i hw
    obtain ⟨a1, _, a2⟩ := isWd_L (c := 4) hb hk hw (fun l q => by cases q; rfl) (by omega)
    obtain ⟨v, k1, e1, h⟩ := rBind_ok h
    obtain ⟨⟨f1, f2, f3, f4⟩, f5⟩ := rTerm_L hb _ _ _ _ _ a1 e1
    cases h
    exact ⟨f1, by omega, ⟨Or.inr (Or.inr (Or.inr (Or.inr (Or.inl ⟨Or.inr (Or.inl rfl), fun q => by cases q⟩)))), oG_n, oG_s f5 f4⟩, by show (0 + rN v) + 15 * (0 + rB v) + 4 + _ ≤ _; omega⟩
  split at h
  · rename_i hw
    obtain ⟨a1, _, a2⟩ := isWd_L (c := 4) hb hk hw (fun l q => by cases q; rfl) (by omega)
    obtain ⟨v, k1, e1, h⟩ := rBind_ok h
    obtain ⟨⟨f1, f2, f3, f4⟩, f5⟩ := rTerm_L hb _ _ _ _ _ a1 e1
    cases h
    exact ⟨f1, by omega, ⟨Or.inr (Or.inr (Or.inr (Or.inr (Or.inl ⟨Or.inr (Or.inr rfl), fun q => by cases q⟩)))), oG_n, oG_s f5 f4⟩, by show (0 + rN v) + 15 * (0 + rB v) + 4 + _ ≤ _; omega⟩
  split at h
  · rename_i hw
    obtain ⟨a1, _, a2⟩ := isWd_L (c := 4) hb hk hw (fun l q => by cases q; rfl) (by omega)
    obtain ⟨v, k1, e1, h⟩ := rBind_ok h
    obtain ⟨q, k2, e2, h⟩ := rBind_ok h
    obtain ⟨ty, k3, e3, h⟩ := rBind_ok h
    obtain ⟨⟨f1, f2, f3, f4⟩, f5⟩ := rTerm_L hb _ _ _ _ _ a1 e1
    obtain ⟨b1, b2, b3, b4⟩ := rNeed_L hb f1 e2
    obtain ⟨⟨c1, c2, c3, c4⟩, c5⟩ := rTerm_L hb _ _ _ _ _ b1 e3
    cases h
    exact ⟨c1, by omega, ⟨Or.inr (Or.inr (Or.inr (Or.inr (Or.inr ⟨rfl, (fun q => by cases q), (fun q => by cases q)⟩)))), oG_s c5 c4, oG_s f5 f4⟩, by show (rN ty + rN v) + 15 * (rB ty + rB v) + 4 + _ ≤ _; omega⟩
  · exact absurd h (by unfold rWrong; intro q; cases q)
theorem rAll_L (hb : ∀ j, j < t.2 → t.1 j < 256) : ∀ (m : Nat) (k : TK) (l : List ST), tkL t k → rAll t m k = .ok l → (∀ s ∈ l, stGd s) ∧ ssZ l + 2 * k.pl ≤ 2 * t.2 := by
  intro m
  induction m with
  | zero => intro k l hk h; rw [rAll] at h; cases h; exact ⟨(fun s h => by cases h), (by show 0 + _ ≤ _; have := hk.1.1; omega)⟩
  | succ m ih =>
    intro k l hk h
    unfold rAll at h
    split at h
    · cases h; exact ⟨(fun s h => by cases h), (by show 0 + _ ≤ _; have := hk.1.1; omega)⟩
    · cases e1 : rStat t k with
      | error e => rw [e1] at h; cases h
      | ok r =>
        obtain ⟨s, k1⟩ := r
        rw [e1] at h
        dsimp only at h
        cases e2 : rNeed t 59 k1 with
        | error e => rw [e2] at h; cases h
        | ok r =>
          obtain ⟨q, k2⟩ := r
          rw [e2] at h
          dsimp only at h
          cases e3 : rAll t m k2 with
          | error e => rw [e3] at h; cases h
          | ok l' =>
            rw [e3] at h
            cases h
            obtain ⟨a1, a2, a3, a4⟩ := rStat_L hb hk e1
            obtain ⟨b1, b2, b3, b4⟩ := rNeed_L hb a1 e2
            obtain ⟨c1, c2⟩ := ih _ _ b1 e3
            refine ⟨fun s' hs => ?_, by show (stN s + 15 * stB s + 6 + ssZ l') + _ ≤ _; omega⟩
            rcases List.mem_cons.mp hs with rfl | hs
            · exact a3
            · exact c1 s' hs
theorem sRead_L (hb : ∀ j, j < t.2 → t.1 j < 256) {l : List ST} (h : sRead t = .ok l) : (∀ s ∈ l, stGd s) ∧ ssZ l ≤ 2 * t.2 := by
  obtain ⟨h1, h2⟩ := sGo_L (t := t) (a := 0) (Nat.zero_le _) hb
  obtain ⟨h3, h4⟩ := rAll_L hb _ _ _ h1 h
  exact ⟨h3, by omega⟩
end HZ2
