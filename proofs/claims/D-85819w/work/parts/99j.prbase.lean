/-! P OVER S (37): reading: the reader's state, signs, words, faults -/
/-- a binder's name -/
def bnm (t : TX) : Option Nat → List Nat
  | some p => tname t p
  | none => []
/-- the names of the binders, the nearest last -/
def pBl (R : Nat → Nat) (KK : Nat → Option Nat) (t : TX) (σ : GSt) (bl : Nat) (bs : List (Option Nat)) : Prop := gk σ bl = 22 ∧ gi σ bl 2 = iI (bs.length : Int) ∧ ∃ z, gr σ bl 1 = some z ∧ gk σ z = 103 ∧ bs.length ≤ gl σ z ∧ ((KK 14 = some z ∧ gl σ z = 0) ∨ (10 ≤ gl σ z ∧ gl σ z ≤ 70)) ∧ ∀ (i : Nat) (p : Option Nat), bs[i]? = some p → ∃ o, gr σ z (bs.length - 1 - i) = some o ∧ pS σ (R 5) o (bnm t p)
/-- what reading a term leaves: all but the reader, the binders' list -/
def rW (a bl : Nat) (σ : GSt) (q : Nat) : Prop := q = a ∨ q = bl ∨ (gr σ bl 1 = some q ∧ 0 < gl σ q)
def rF (a bl : Nat) (σ τ : GSt) : Prop := keep (rW a bl σ) σ τ ∧ (∀ q, gr τ bl 1 = some q → gr σ bl 1 = some q ∨ gk σ q = 0) ∧ gle σ τ
/-- the reader is at the token k, under m nests; room for what comes, n cells, s slots beside -/
def RS (G : GPl) (KK : Nat → Option Nat) (T : Nat → Nat) (R : Nat → Nat) (X : SX) (K : KS) (w : Nat) (t : TX) (a tp bl sl : Nat) (bs : List (Option Nat)) (m : Int) (k : TK) (n s : Nat) (σ : GSt) : Prop :=
  pRd t σ a tp bl sl ∧ TT R σ T ∧ pTk KK R t σ a k ∧ gi σ a 5 = iI m ∧ pBl R KK t σ bl bs ∧ MB G R σ X K w (n + 1 + 12 * (t.2 - k.pl)) (s + 8 + 128 * (t.2 - k.pl)) ∧ tkOK t k ∧ k.sg ≤ 257 ∧ (k.ki ≤ 1 → tname t k.pl ≠ [])
section PRJ
variable {G : GPl} {s0 : State} {l : Launch} {KK : Nat → Option Nat} {T : Nat → Nat} {lev : Nat} {Q : Outcome → GSt → Prop} {R : Nat → Nat} {σ τ υ st0 : GSt} {X : SX} {K : KS} {w n s o a tp bl sl : Nat} {W : Nat → Prop} {t : TX} {bs : List (Option Nat)} {m : Int} {k : TK}
theorem CQ.gl {md : MD} {as : List Value} (h : CQ (wP G s0 l KK T) md lev as σ (fun o τ => gle σ τ → Q o τ)) : CQ (wP G s0 l KK T) md lev as σ Q := h.le.mono (fun _ _ q => q.1 q.2)
theorem gle_mk {i j : Nat} (hz : gz σ) : gle σ (gmk i j σ) := ⟨⟨by rw [gn_mk]; omega, by rw [gm_mk]; omega⟩, fun x hx => gk_old (hz.ne hx)⟩
theorem rF.rf : rF a bl σ σ := ⟨keep.rf, fun _ h => Or.inl h, gle.rf⟩
theorem rF.tr (h : rF a bl σ τ) (k : rF a bl τ υ) : rF a bl σ υ := by
  refine ⟨h.1.tr k.1 (fun q hq hw => ?_), fun q hq => ?_, h.2.2.tr k.2.2⟩
  · apply Classical.byContradiction
    intro hn
    obtain ⟨y1, y2, y3, y4⟩ := h.1 q hq hn
    rcases hw with hw | hw | ⟨h1, h2⟩
    · exact hn (Or.inl hw)
    · exact hn (Or.inr (Or.inl hw))
    · rcases h.2.1 q h1 with h3 | h3
      · exact hn (Or.inr (Or.inr ⟨h3, by omega⟩))
      · exact hq h3
  · rcases k.2.1 q hq with h1 | h1
    · exact h.2.1 q h1
    · right
      apply Classical.byContradiction
      intro hn
      exact hn ((h.2.2.2 q hn).symm.trans h1)
theorem rk.F (h : rk a σ τ) (ha : gk σ a = 5) (hb : gk σ bl = 22) (hl : gle σ τ) : rF a bl σ τ := by
  obtain ⟨y1, y2, y3, y4⟩ := h.1 bl (by omega) (fun q => by rw [q] at hb; omega)
  exact ⟨h.1.wk (fun _ q => Or.inl q), fun q hq => by rw [y3] at hq; exact Or.inl hq, hl⟩
theorem rF.nl (hk : keep nil0 σ τ) (hb : gk σ bl = 22) (hl : gle σ τ) : rF a bl σ τ := by
  obtain ⟨y1, y2, y3, y4⟩ := hk bl (by omega) id
  exact ⟨hk.wk (fun _ q => q.elim), fun q hq => by rw [y3] at hq; exact Or.inl hq, hl⟩
theorem pBl.kp (h : pBl R KK t σ bl bs) (hk : keep W σ τ) (hb : ¬ W bl) (hz : ∀ q, gr σ bl 1 = some q → ¬ W q) (hS : ∀ q, W q → gk σ q ≠ 23 ∧ (gk σ q = 102 → q = R 5)) : pBl R KK t τ bl bs := by
  obtain ⟨h1, h2, z, h3, h4, h5, h6, h7⟩ := h
  obtain ⟨y1, y2, y3, y4⟩ := hk bl (by omega) hb
  obtain ⟨w1, w2, w3, w4⟩ := hk z (by omega) (hz z h3)
  refine ⟨y1.trans h1, (y2 2).trans h2, z, (y3 1).trans h3, w1.trans h4, by rw [w4]; exact h5, by rw [w4]; exact h6, fun i p hp => ?_⟩
  obtain ⟨o, u1, u2⟩ := h7 i p hp
  exact ⟨o, by rw [w3]; exact u1, u2.kpW hk hS⟩
theorem pBl.rk (h : pBl R KK t σ bl bs) (hk : rk a σ τ) (ha : gk σ a = 5) : pBl R KK t τ bl bs := by
  refine h.kp hk.1 (fun q => ?_) (fun q hq w => ?_) (hk.S ha)
  · have := h.1; rw [q] at this; omega
  · obtain ⟨-, -, z, h3, h4, -⟩ := h
    rw [h3] at hq
    cases hq
    rw [w] at h4
    omega
theorem sGo_sg {t : TX} {x : Nat} (hb : ∀ j, j < t.2 → t.1 j < 256) : (sGo t x).sg ≤ 257 := by
  unfold sGo
  generalize sSkip t (t.2 + 1) x = q
  obtain ⟨o, p⟩ := q
  have hp : tbyte t p ≤ 257 := by
    unfold tbyte
    split
    · rename_i h; have := hb _ h; omega
    · omega
  simp only []
  split
  · show 0 ≤ 257; omega
  · split
    · show 0 ≤ 257; omega
    · split
      · show 0 ≤ 257; omega
      · show (if _ then 256 else if _ then 257 else tbyte t p) ≤ 257
        split
        · omega
        · split <;> omega
theorem sGo_nx {x : Nat} (h : (sGo t x).ki ≤ 1) : (sGo t x).nx = sRun t isMor t.2 (sGo t x).pl := by
  revert h
  unfold sGo
  generalize sSkip t (t.2 + 1) x = q
  obtain ⟨o, p⟩ := q
  simp only []
  split
  · intro h; exact absurd h (by show ¬ (4 : Nat) ≤ 1; omega)
  · split
    · intro h; exact absurd h (by show ¬ (5 : Nat) ≤ 1; omega)
    · split
      · intro _; rfl
      · intro h
        exfalso
        revert h
        show ¬ (if _ then 2 else 4) ≤ 1
        split <;> omega
theorem sGo_nm {x : Nat} (hx : x ≤ t.2) (h : (sGo t x).ki ≤ 1) : tname t (sGo t x).pl ≠ [] := fun q => by
  have h1 := (sGo_ok (t := t) hx).1.2 (by omega)
  have h2 := tname_len (t := t) (sGo_nx h).symm
  rw [q] at h2
  have h3 : (0 : Nat) = min 12 ((sGo t x).nx - (sGo t x).pl) := h2
  omega
/-- the next token -/
theorem c_goR (hl : 10 ≤ lev) (hK : KI KK) (h : RS G KK T R X K w t a tp bl sl bs m k n s σ) (hk : k.ki ≤ 2)
    (ok : ∀ τ, RS G KK T R X K w t a tp bl sl bs m (sGo t k.nx) (n + 8) (s + 96) τ → rF a bl σ τ → rk a σ τ → Q (.returned none) τ) : CQ (wP G s0 l KK T) mX6_go lev (.ref a :: []) σ Q := by
  obtain ⟨h1, h2, h3, h4, h5, h6, h7, h8, h9⟩ := h
  obtain ⟨p1, p2⟩ := h7.2 hk
  have hg := sGo_ok (t := t) (a := k.nx) p2
  refine (c_go (n := n + 8 + 1 + 12 * (t.2 - (sGo t k.nx).pl)) (s := s + 96 + 8 + 128 * (t.2 - (sGo t k.nx).pl)) (R := R) (X := X) (K := K) (w := w) hl h1 h2 hK p2 h3.2.2.1 (h6.le (by omega) (by omega)) (Q := fun o τ => gle σ τ → Q o τ) (fun τ u1 u2 u3 hle => ?_)).gl
  exact ok τ ⟨h1.mv u1, h2.mv u1.1 (u1.S h1.1), u3, (u1.2.2.1 5 (Or.inr rfl)).trans h4, h5.rk u1 h1.1, u2, hg.1, sGo_sg (fun j hj => (h1.2.2.2.2.2.2.2.2 j hj).2), sGo_nm p2⟩ (u1.F h1.1 h5.1 hle) u1
theorem c_isSg {x : Nat} (hl : 1 ≤ lev) (hK : KI KK) (h : RS G KK T R X K w t a tp bl sl bs m k n s σ) (hx : x ≤ 257) (ok : Q (.returned (some (.int (bI (isSg k x))))) σ) : CQ (wP G s0 l KK T) mX6_isSign lev (.ref a :: [.int (iI (x : Int))]) σ Q := by
  obtain ⟨l', rfl⟩ := Nat.exists_eq_add_of_le' hl
  obtain ⟨h1, h2, h3, h4, h5, h6, h7, h8, h9⟩ := h
  have no : isSg k x = false → Q (.returned (some (.int (iI 0)))) σ := fun e => by rw [e] at ok; exact ok
  refine tX6_isSign ⟨h1.1, fun q => ?_, fun q => no ?_⟩
  · rw [h3.2.1] at q
    have k2 : k.ki = 2 := hK _ _ h3.2.2.2.2.2.1 (by omega) q
    rw [h3.2.2.2.2.1 k2]
    refine ⟨fun q2 => ?_, fun q2 => no ?_⟩
    · rw [iI_eq (by omega) (by omega) (by omega) (by omega)] at q2
      have e : isSg k x = true := by unfold isSg; rw [k2, show k.sg = x by omega, beq_self_eq_true, beq_self_eq_true]; rfl
      rw [e] at ok
      exact ok
    · unfold isSg
      rw [beq_false_of_ne (show k.sg ≠ x from fun z => q2 (by rw [z])), Bool.and_false]
  · unfold isSg
    rw [beq_false_of_ne (fun z => q (by rw [h3.2.1, z])), Bool.false_and]
theorem c_isWd {x : Nat} (hl : 3 ≤ lev) (hK : KI KK) (h : RS G KK T R X K w t a tp bl sl bs m k n s σ) (hx : x < 9) (ok : Q (.returned (some (.int (bI (isWd t k x))))) σ) : CQ (wP G s0 l KK T) mX6_isWord lev (.ref a :: [va_rf (some (T (4 + x)))]) σ Q := by
  obtain ⟨l', rfl⟩ := Nat.exists_eq_add_of_le' (show 1 ≤ lev by omega)
  obtain ⟨h1, h2, h3, h4, h5, h6, h7, h8, h9⟩ := h
  have hk9 : kept[x]? = some (kept.getD x []) := by
    rw [List.getD_eq_getElem?_getD, List.getElem?_eq_getElem (show x < kept.length by show x < 9; omega)]
    rfl
  refine tX6_isWord ⟨h1.1, fun q => ?_, fun q => ?_⟩
  · rw [h3.2.1] at q
    have k1 : k.ki = 1 := hK _ _ h3.2.2.2.2.2.1 (by omega) q
    obtain ⟨v, v1, v2, v3⟩ := h3.2.2.2.1 (by omega)
    refine ⟨v, v1, v2.1, c_eq (by omega) v2 (h2.1 x hx) (fun _ => ?_)⟩
    have e : isWd t k x = decide (tname t k.pl = kept.getD x []) := by
      unfold isWd
      rw [k1, hk9]
      by_cases z : tname t k.pl = kept.getD x []
      · rw [decide_eq_true z, z]; simp
      · rw [decide_eq_false z, beq_self_eq_true, Bool.true_and]
        exact beq_false_of_ne (fun y => z (Option.some.inj y).symm)
    rw [e] at ok
    cases hd : decide (tname t k.pl = kept.getD x []) with
    | true => rw [hd] at ok; exact ⟨fun y => absurd y (by decide), fun _ => ok⟩
    | false => rw [hd] at ok; exact ⟨fun _ => ok, fun y => absurd rfl y⟩
  · have e : isWd t k x = false := by
      unfold isWd
      rw [beq_false_of_ne (fun z => q (by rw [h3.2.1, z])), Bool.false_and]
    rw [e] at ok
    exact ok
/-- what is wrong -/
theorem c_wrong (hl : 5 ≤ lev) (hK : KI KK) (h : RS G KK T R X K w t a tp bl sl bs m k n s σ)
    (ok : ∀ x τ, flt τ x ((if k.ki = 3 then 2 else 1 : Nat) : Int) (k.pl : Int) → rF a bl σ τ → MB G R τ X K w n s → Q (.returned (some (va_rf (some x)))) τ) : CQ (wP G s0 l KK T) mX6_wrong lev (.ref a :: []) σ Q := by
  obtain ⟨l', rfl⟩ := Nat.exists_eq_add_of_le' (show 1 ≤ lev by omega)
  obtain ⟨h1, h2, h3, h4, h5, h6, h7, h8, h9⟩ := h
  have hz := h6.1
  have la : a ≠ gn σ := hz.ne (by rw [h1.1]; omega)
  have h6' : MB G R σ X K w (n + 1) (s + 8) := h6.le (by omega) (by omega)
  refine tX6_wrong ⟨h6'.2.2.2.gr hz, by rw [gk_old la]; exact h1.1, ?_⟩
  rw [gr_mk la, gi_mk la, h3.1, h3.2.1]
  refine ⟨fun q => ?_, fun q => ?_⟩
  · have k3 : k.ki = 3 := hK _ _ h3.2.2.2.2.2.1 (by omega) q
    rw [if_pos k3] at ok
    exact c_flt (by omega) hz (fun τ t1 t2 t3 t4 t5 hle => ok _ τ t5 (rF.nl t1 h5.1 ((gle_mk hz).tr hle)) (h6'.new t1 t2 t3 t4))
  · rw [if_neg (fun z => q (by rw [z]))] at ok
    exact c_flt (by omega) hz (fun τ t1 t2 t3 t4 t5 hle => ok _ τ t5 (rF.nl t1 h5.1 ((gle_mk hz).tr hle)) (h6'.new t1 t2 t3 t4))
theorem c_need {x : Nat} (hl : 11 ≤ lev) (hK : KI KK) (h : RS G KK T R X K w t a tp bl sl bs m k n s σ) (hx : x ≤ 257)
    (ok : ∀ τ, rNeed t x k = .ok (k.pl, sGo t k.nx) → RS G KK T R X K w t a tp bl sl bs m (sGo t k.nx) (n + 8) (s + 96) τ → rF a bl σ τ → Q (.returned (some (.int (iI (k.pl : Int))))) τ)
    (er : ∀ y τ (e : Nat) p, rNeed t x k = .error (e, p) → flt τ y (e : Int) p → rF a bl σ τ → MB G R τ X K w n s → Q (.threw y) τ) : CQ (wP G s0 l KK T) mX6_need lev (.ref a :: [.int (iI (x : Int))]) σ Q := by
  obtain ⟨l', rfl⟩ := Nat.exists_eq_add_of_le' (show 1 ≤ lev by omega)
  refine tX6_need ⟨h.1.1, c_isSg (by omega) hK h hx (fun _ => ?_)⟩
  cases hs : isSg k x with
  | false =>
    have e : rNeed t x k = rWrong k := by unfold rNeed; rw [hs]; rfl
    exact ⟨fun _ => c_wrong (by omega) hK h (fun y τ f1 f2 f3 _ => ⟨y, rfl, er y τ _ _ e f1 f2 f3⟩), fun q => absurd rfl q⟩
  | true =>
    have e : rNeed t x k = .ok (k.pl, sGo t k.nx) := by unfold rNeed; rw [hs]; rfl
    have k2 : k.ki = 2 := by
      unfold isSg at hs
      simp only [Bool.and_eq_true, beq_iff_eq] at hs
      exact hs.1
    refine ⟨fun q => absurd q (by decide), fun _ => c_goR (by omega) hK h (by omega) (fun τ u1 u2 _ _ => ?_)⟩
    rw [h.2.2.1.1]
    exact ok τ e u1 u2
theorem c_needN (hl : 11 ≤ lev) (hK : KI KK) (h : RS G KK T R X K w t a tp bl sl bs m k n s σ)
    (ok : ∀ τ o, rName t k = .ok (k.pl, sGo t k.nx) → RS G KK T R X K w t a tp bl sl bs m (sGo t k.nx) (n + 8) (s + 96) τ → rF a bl σ τ → pS τ (R 5) o (tname t k.pl) → Q (.returned (some (va_rf (some o)))) τ)
    (er : ∀ y τ (e : Nat) p, rName t k = .error (e, p) → flt τ y (e : Int) p → rF a bl σ τ → MB G R τ X K w n s → Q (.threw y) τ) : CQ (wP G s0 l KK T) mX6_needName lev (.ref a :: []) σ Q := by
  obtain ⟨l', rfl⟩ := Nat.exists_eq_add_of_le' (show 1 ≤ lev by omega)
  refine tX6_needName ⟨h.1.1, fun q => ?_, fun q => ?_⟩
  · rw [h.2.2.1.2.1] at q
    have k0 : k.ki = 0 := hK _ _ h.2.2.1.2.2.2.2.2.1 (by omega) q
    obtain ⟨v, v1, v2, v3⟩ := h.2.2.1.2.2.2.1 (by omega)
    have e : rName t k = .ok (k.pl, sGo t k.nx) := by unfold rName; rw [if_pos k0]
    refine c_goR (by omega) hK h (by omega) (fun τ u1 u2 u3 _ => ?_)
    rw [v1]
    exact ok τ v e u1 u2 (v2.kpW u3.1 (u3.S h.1.1))
  · have e : rName t k = rWrong k := by unfold rName; rw [if_neg (fun z => q (by rw [h.2.2.1.2.1, z]))]
    exact c_wrong (by omega) hK h (fun y τ f1 f2 f3 _ => ⟨y, rfl, er y τ _ _ e f1 f2 f3⟩)
end PRJ
