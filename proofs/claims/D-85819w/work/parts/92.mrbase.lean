/-! M OVER S (32): reading: signs, names -/
/-- reading does not go on: a fault, or a name that is too long at hand -/
def rBad {α : Type} (r : RR α) (e p : Nat) : Prop := r = .error (e, (p : Int)) ∨ ∃ a k, r = .ok (a, k) ∧ k.ki = 3 ∧ e = 2 ∧ p = k.pl
theorem rBad.bind {α β : Type} {r : RR α} {f : α → TK → RR β} {e p : Nat} (h : rBad r e p) (hf : ∀ a k, k.ki = 3 → rBad (f a k) 2 k.pl) : rBad (rBind r f) e p := by
  rcases h with h | ⟨a, k, h1, h2, rfl, rfl⟩
  · rw [h]; exact Or.inl rfl
  · rw [h1]; exact hf a k h2
theorem rBad.er {α β : Type} {r : RR α} {f : α → TK → RR β} {e p : Nat} (h : r = .error (e, (p : Int))) : rBad (rBind r f) e p := by rw [h]; exact Or.inl rfl
def tkOK (t : TX) (k : TK) : Prop := k.pl ≤ t.2 ∧ (k.ki ≤ 2 → k.pl < k.nx ∧ k.nx ≤ t.2)
/-- reading goes on; .. not -/
def RG (t : TX) (st : MSt) (k : TK) : Prop := mTx t st ∧ mTk t st k ∧ tkOK t k ∧ fI st 72 = 0 ∧ k.ki ≠ 3
def RB (t : TX) (st : MSt) (e p : Nat) : Prop := mTx t st ∧ (∃ a : Nat, a ≤ t.2 ∧ fI st 6 = iI (a : Int)) ∧ fI st 72 = iI (e : Int) ∧ fI st 73 = iI (p : Int) ∧ (e = 1 ∨ e = 2)
/-- what reading changes: b: nodes are made -/
def rfr (b : Bool) (nd : Nat) (st st' : MSt) : Prop := (∀ k, k < 6 ∨ (11 < k ∧ k ≠ 39 ∧ k ≠ 72 ∧ k ≠ 73) → st'.1 k = st.1 k) ∧ (b = false → st'.1 39 = st.1 39) ∧ ∀ k j, (30 ≤ k ∧ k ≤ 38 → b = true → j < nd) → st'.2 k j = st.2 k j
theorem sRun_ge {t : TX} {f : Nat → Bool} : ∀ (n k : Nat), k ≤ sRun t f n k ∧ (k ≤ t.2 → sRun t f n k ≤ t.2) := by
  intro n
  induction n with
  | zero => intro k; exact ⟨Nat.le_refl _, id⟩
  | succ n ih =>
    intro k
    unfold sRun
    split
    · rename_i h
      have := ih (k + 1)
      exact ⟨by omega, fun _ => this.2 h.1⟩
    · exact ⟨Nat.le_refl _, id⟩
theorem sSkip_ge {t : TX} : ∀ (n k : Nat), k ≤ (sSkip t n k).2 := by
  intro n
  induction n with
  | zero => intro k; exact Nat.le_refl _
  | succ n ih =>
    intro k
    unfold sSkip
    split
    · split
      · have := ih (k + 1); omega
      · split
        · show k ≤ (if sRun t (fun c => c != 125) t.2 (k + 1) = t.2 then (true, k) else sSkip t n (sRun t (fun c => c != 125) t.2 (k + 1) + 1)).2
          split
          · exact Nat.le_refl _
          · have h1 := (sRun_ge (t := t) (f := fun c => c != 125) t.2 (k + 1)).1
            have := ih (sRun t (fun c => c != 125) t.2 (k + 1) + 1); omega
        · exact Nat.le_refl _
    · exact Nat.le_refl _
theorem sGo_ok {t : TX} {a : Nat} (ha : a ≤ t.2) : tkOK t (sGo t a) ∧ a ≤ (sGo t a).pl := by
  have h1 := sSkip_ge (t := t) (t.2 + 1) a
  have h2 := sSkip_le (t := t) (t.2 + 1) a ha
  unfold sGo
  generalize sSkip t (t.2 + 1) a = q at h1 h2
  obtain ⟨o, p⟩ := q
  have h1' : a ≤ p := h1
  have h2' : p ≤ t.2 := h2
  show tkOK t (if o then (4, p, 0, p) else if t.2 ≤ p then (5, p, 0, p) else if isLet (tbyte t p) then (if 12 < sRun t isMor t.2 p - p then 3 else if kept.contains (tname t p) then 1 else 0, p, 0, sRun t isMor t.2 p) else (if ((tbyte t p == 45 && tbyte t (p + 1) == 62) || [92, 33, 58, 46, 59, 61, 40, 41].contains (tbyte t p)) then 2 else 4, p, if (tbyte t p == 45 && tbyte t (p + 1) == 62) then 256 else if (tbyte t p == 58 && tbyte t (p + 1) == 61) then 257 else tbyte t p, p + if (tbyte t p == 45 && tbyte t (p + 1) == 62) || (tbyte t p == 58 && tbyte t (p + 1) == 61) then 2 else 1)) ∧ a ≤ (if o then (4, p, 0, p) else if t.2 ≤ p then (5, p, 0, p) else if isLet (tbyte t p) then (if 12 < sRun t isMor t.2 p - p then 3 else if kept.contains (tname t p) then 1 else 0, p, 0, sRun t isMor t.2 p) else (if ((tbyte t p == 45 && tbyte t (p + 1) == 62) || [92, 33, 58, 46, 59, 61, 40, 41].contains (tbyte t p)) then 2 else 4, p, if (tbyte t p == 45 && tbyte t (p + 1) == 62) then 256 else if (tbyte t p == 58 && tbyte t (p + 1) == 61) then 257 else tbyte t p, p + if (tbyte t p == 45 && tbyte t (p + 1) == 62) || (tbyte t p == 58 && tbyte t (p + 1) == 61) then 2 else 1) : TK).pl
  split
  · exact ⟨⟨h2', fun w => absurd w (by show ¬ (4 : Nat) ≤ 2; omega)⟩, h1'⟩
  · split
    · exact ⟨⟨h2', fun w => absurd w (by show ¬ (5 : Nat) ≤ 2; omega)⟩, h1'⟩
    · rename_i hp
      split
      · rename_i hL
        refine ⟨⟨h2', fun _ => ?_⟩, h1'⟩
        have h3 := sRun_ge (t := t) (f := isMor) t.2 p
        refine ⟨?_, h3.2 h2'⟩
        show p < sRun t isMor t.2 p
        have h4 : t.2 = t.2 - 1 + 1 := by omega
        rw [h4]
        have hm : isMor (tbyte t p) = true := by unfold isMor; rw [hL]; rfl
        have e : sRun t isMor (t.2 - 1 + 1) p = sRun t isMor (t.2 - 1) (p + 1) := by
          rw [sRun, if_pos ⟨by omega, hm⟩]
        rw [e]
        have := (sRun_ge (t := t) (f := isMor) (t.2 - 1) (p + 1)).1
        omega
      · refine ⟨⟨h2', fun _ => ?_⟩, h1'⟩
        show p < p + (if _ then 2 else 1) ∧ p + (if _ then 2 else 1) ≤ t.2
        have hz : tbyte t (p + 1) ≠ 0 → p + 1 < t.2 := fun w => by
          apply Classical.byContradiction
          intro q
          exact w (by unfold tbyte; rw [if_neg q])
        split
        · rename_i hb
          simp only [Bool.or_eq_true, Bool.and_eq_true, beq_iff_eq] at hb
          have := hz (by omega)
          omega
        · omega
section MRB
variable {P : MPl} {s0 : State} {l : Launch} {XX : Prop} {lev nd : Nat} {Q : Outcome → MSt → Prop} {st st' st'' st0 : MSt} {t : TX} {k : TK} {b : Bool}
theorem rfr.rf : rfr b nd st st := ⟨fun _ _ => rfl, fun _ => rfl, fun _ _ _ => rfl⟩
theorem rfr.tr {nd' : Nat} (h : rfr b nd st st') (k : rfr b nd' st' st'') (hn : nd ≤ nd') : rfr b nd st st'' :=
  ⟨fun j hj => (k.1 j hj).trans (h.1 j hj), fun hb => (k.2.1 hb).trans (h.2.1 hb), fun j i q => (k.2.2 j i (fun w1 w2 => Nat.lt_of_lt_of_le (q w1 w2) hn)).trans (h.2.2 j i q)⟩
theorem mrf.r (h : mrf st st') : rfr b nd st st' := ⟨fun k hk => h.1 k (by omega), fun _ => h.1 39 (by omega), fun _ _ _ => by rw [h.2]⟩
theorem mTx.rv (h : mTx t st) (hf : rfr b nd st st') : mTx t st' := ⟨(hf.1 5 (by omega)).trans h.1, h.2.1, fun j hj => by rw [hf.2.2 4 j (fun w => by omega)]; exact h.2.2 j hj⟩
theorem sgM_inj {a c : Nat} (ha : a ≤ 257) (hc : c ≤ 257) (h : sgM a = sgM c) : a = c := by
  unfold sgM at h
  split at h <;> split at h <;> (try split at h) <;> (try split at h) <;> omega
theorem sgM_le {a : Nat} (ha : a ≤ 257) : sgM a ≤ 257 := by unfold sgM; split; omega; split <;> omega
theorem m_isSign {s : Nat} (hl : 1 ≤ lev) (h : RG t st k) (hs : s ≤ 257) (ok : Q (.returned (some (.int (bI (isSg k s))))) st) : CQ (wM P s0 l XX) mX5_isSign lev (.ref P.mo :: [.int (iI (sgM s : Int))]) st Q := by
  obtain ⟨l', rfl⟩ := Nat.exists_eq_add_of_le' hl
  obtain ⟨-, ⟨-, -, a, -, -, h1⟩, -, -, h3⟩ := h
  have hsl := sgM_le hs
  have no : k.ki ≠ 2 → Q (.returned (some (.int (iI 0)))) st := fun hk => by
    have e : isSg k s = false := by unfold isSg; rw [beq_false_of_ne hk]; rfl
    rw [e] at ok; exact ok
  rcases h1 with ⟨k0, k1, -⟩ | ⟨k0, k1, -⟩ | ⟨k0, k1, k2, -, k3, -⟩ | ⟨k0, -⟩ | ⟨k0, k1, -⟩ | ⟨k0, k1, -⟩
  · exact tX5_isSign ⟨fun w => absurd (k1.symm.trans w) (by decide), fun _ => no (by omega)⟩
  · exact tX5_isSign ⟨fun w => absurd (k1.symm.trans w) (by decide), fun _ => no (by omega)⟩
  · have hsk := sgM_le k3
    refine tX5_isSign ⟨fun _ => ⟨fun w => ?_, fun w => ?_⟩, fun w => absurd k1 w⟩
    · rw [k2, iI_eq (by omega) (by omega) (by omega) (by omega)] at w
      have : k.sg = s := sgM_inj k3 hs (by omega)
      have e : isSg k s = true := by unfold isSg; rw [k0, this]; simp
      rw [e] at ok; exact ok
    · have e : isSg k s = false := by
        apply Bool.eq_false_iff.mpr
        intro q
        unfold isSg at q
        simp only [Bool.and_eq_true, beq_iff_eq] at q
        exact w (by rw [k2, q.2])
      rw [e] at ok; exact ok
  · exact absurd k0 h3
  · exact tX5_isSign ⟨fun w => absurd (k1.symm.trans w) (by decide), fun _ => no (by omega)⟩
  · exact tX5_isSign ⟨fun w => absurd (k1.symm.trans w) (by decide), fun _ => no (by omega)⟩
theorem m_isSignB {x : Int32} (hl : 1 ≤ lev) (ok : ∀ r, Q (.returned (some (.int r))) st) : CQ (wM P s0 l XX) mX5_isSign lev (.ref P.mo :: [.int x]) st Q := by
  obtain ⟨l', rfl⟩ := Nat.exists_eq_add_of_le' hl
  exact tX5_isSign ⟨fun _ => ⟨fun _ => ok _, fun _ => ok _⟩, fun _ => ok _⟩
theorem m_isName (hl : 1 ≤ lev) (h : RG t st k) (ok : Q (.returned (some (.int (bI (decide (k.ki = 0)))))) st) : CQ (wM P s0 l XX) mX5_isName lev (.ref P.mo :: []) st Q := by
  obtain ⟨l', rfl⟩ := Nat.exists_eq_add_of_le' hl
  obtain ⟨-, ⟨-, -, a, -, -, h1⟩, -, -, h3⟩ := h
  have no : k.ki ≠ 0 → Q (.returned (some (.int (iI 0)))) st := fun hk => by
    rw [decide_eq_false hk] at ok; exact ok
  rcases h1 with ⟨k0, k1, k2, -⟩ | ⟨k0, k1, ⟨w, w1, w2, w3⟩, -⟩ | ⟨k0, k1, -⟩ | ⟨k0, -⟩ | ⟨k0, k1, -⟩ | ⟨k0, k1, -⟩
  · rw [decide_eq_true k0] at ok
    exact tX5_isName ⟨fun _ => ⟨fun _ => ok, fun w => absurd k2 w⟩, fun w => absurd k1 w⟩
  · refine tX5_isName ⟨fun _ => ⟨fun q => ?_, fun _ => no (by omega)⟩, fun w => absurd k1 w⟩
    rw [w2, iI_eq (by omega) (by omega) (by omega) (by omega)] at q; omega
  · exact tX5_isName ⟨fun w => absurd (k1.symm.trans w) (by decide), fun _ => no (by omega)⟩
  · exact absurd k0 h3
  · exact tX5_isName ⟨fun w => absurd (k1.symm.trans w) (by decide), fun _ => no (by omega)⟩
  · exact tX5_isName ⟨fun w => absurd (k1.symm.trans w) (by decide), fun _ => no (by omega)⟩
theorem m_isNameB (hl : 1 ≤ lev) (ok : ∀ r, Q (.returned (some (.int r))) st) : CQ (wM P s0 l XX) mX5_isName lev (.ref P.mo :: []) st Q := by
  obtain ⟨l', rfl⟩ := Nat.exists_eq_add_of_le' hl
  exact tX5_isName ⟨fun _ => ⟨fun _ => ok _, fun _ => ok _⟩, fun _ => ok _⟩
theorem RB.ne {e p : Nat} (h : RB t st e p) : ¬ fI st 72 = 0 := fun z => by
  have := h.2.2.1.symm.trans z
  have h3 := h.2.2.2.2
  rw [iI_z, iI_eq (by omega) (by omega) (by omega) (by omega)] at this
  omega
/-- the token can't stand there -/
theorem m_cantG (hl : 2 ≤ lev) (h : RG t st k) (ok : ∀ st', RB t st' 1 k.pl → mrf st st' → Q (.returned none) st') : CQ (wM P s0 l XX) mX5_cant lev (.ref P.mo :: []) st Q := by
  obtain ⟨l', rfl⟩ := Nat.exists_eq_add_of_le' hl
  obtain ⟨hx, ⟨h9, hp, a, h6, ha, -⟩, -, h72, -⟩ := h
  refine tX5_cant (tX5_wrong ⟨fun _ => ?_, fun w => absurd h72 w⟩)
  have F : mrf st (mput 73 (fI st 9) (mput 72 (iI 1) st)) := (mrf.put (by omega)).tr (mrf.put (by omega))
  exact ok _ ⟨hx.mv F, ⟨a, ha, by rw [fI_put (by omega), fI_put (by omega)]; exact h6⟩, by rw [fI_put (by omega), fI_self]; rfl, by rw [fI_self]; exact h9, Or.inl rfl⟩ F
theorem m_cantB {e p : Nat} (hl : 2 ≤ lev) (h : RB t st e p) (ok : Q (.returned none) st) : CQ (wM P s0 l XX) mX5_cant lev (.ref P.mo :: []) st Q := by
  obtain ⟨l', rfl⟩ := Nat.exists_eq_add_of_le' hl
  exact tX5_cant (tX5_wrong ⟨fun w => absurd w h.ne, fun _ => ok⟩)
/-- the next token, as reading goes on -/
theorem m_nextG {a : Nat} (hW : IW P s0 l XX) (hl : 5 ≤ lev) (hx : mTx t st) (h72 : fI st 72 = 0) (h6 : fI st 6 = iI (a : Int)) (ha : a ≤ t.2) (ok : ∀ st', RG t st' (sGo t a) → a ≤ (sGo t a).pl → mrf st st' → Q (.returned none) st') (er : ∀ st', (sGo t a).ki = 3 → RB t st' 2 (sGo t a).pl → mrf st st' → Q (.returned none) st') : CQ (wM P s0 l XX) mX5_next lev (.ref P.mo :: []) st Q := by
  refine m_next hW hl hx h6 ha (fun st' f1 f2 f3 => ?_)
  have g := (f3.2 h72)
  obtain ⟨g1, g2⟩ := sGo_ok ha
  by_cases h3 : (sGo t a).ki = 3
  · obtain ⟨w1, w2⟩ := g.1 h3
    obtain ⟨-, -, a', q1, q2, -⟩ := f2
    exact er st' h3 ⟨hx.mv f1, ⟨a', q2, q1⟩, w1, w2, Or.inr rfl⟩ f1
  · exact ok st' ⟨hx.mv f1, f2, g1, g.2 h3, h3⟩ g2 f1
theorem m_nextB {e p : Nat} (hW : IW P s0 l XX) (hl : 5 ≤ lev) (h : RB t st e p) (ok : ∀ st', RB t st' e p → mrf st st' → Q (.returned none) st') : CQ (wM P s0 l XX) mX5_next lev (.ref P.mo :: []) st Q := by
  have hne := h.ne
  obtain ⟨hx, ⟨a, ha, h6⟩, h1, h2, h3⟩ := h
  refine m_next hW hl hx h6 ha (fun st' f1 f2 f3 => ?_)
  obtain ⟨w1, w2⟩ := f3.1 hne
  obtain ⟨-, -, a', q1, q2, -⟩ := f2
  exact ok st' ⟨hx.mv f1, ⟨a', q2, q1⟩, w1.trans h1, w2.trans h2, h3⟩ f1
theorem RG.at (h : RG t st k) (hk : k.ki ≤ 2) : fI st 6 = iI (k.nx : Int) ∧ k.nx ≤ t.2 ∧ k.pl < k.nx := by
  obtain ⟨-, ⟨-, -, a, h6, ha, h1⟩, h2, -, h3⟩ := h
  obtain ⟨w1, w2⟩ := h2.2 hk
  rcases h1 with ⟨k0, -, -, -, rfl⟩ | ⟨k0, -, -, rfl⟩ | ⟨k0, -, -, -, -, rfl⟩ | ⟨k0, -⟩ | ⟨k0, -⟩ | ⟨k0, -⟩
  · exact ⟨h6, w2, w1⟩
  · exact ⟨h6, w2, w1⟩
  · exact ⟨h6, w2, w1⟩
  · omega
  · omega
  · omega
/-- a sign that must stand there -/
theorem m_need {s : Nat} (hW : IW P s0 l XX) (hl : 6 ≤ lev) (h : RG t st k) (hs : s ≤ 257) (ok : ∀ st', rNeed t s k = .ok (k.pl, sGo t k.nx) → RG t st' (sGo t k.nx) → k.pl < (sGo t k.nx).pl → mrf st st' → Q (.returned none) st') (er : ∀ st' e p, rBad (rNeed t s k) e p → RB t st' e p → mrf st st' → Q (.returned none) st') : CQ (wM P s0 l XX) mX5_need lev (.ref P.mo :: [.int (iI (sgM s : Int))]) st Q := by
  obtain ⟨l', rfl⟩ : ∃ l', lev = l' + 1 := ⟨lev - 1, by omega⟩
  refine tX5_need (m_isSign (by omega) h hs ?_)
  cases hS : isSg k s with
  | true =>
    have k2 : k.ki = 2 := by
      unfold isSg at hS
      simp only [Bool.and_eq_true, beq_iff_eq] at hS
      exact hS.1
    have e : rNeed t s k = .ok (k.pl, sGo t k.nx) := by unfold rNeed; rw [if_pos hS]
    obtain ⟨w1, w2, w3⟩ := h.at (by omega)
    refine ⟨fun w => absurd w (by decide), fun _ => m_nextG hW (by omega) h.1 h.2.2.2.1 w1 w2 (fun st' g1 g2 g3 => ok st' e g1 (by omega) g3) (fun st' g1 g2 g3 => er st' 2 _ (Or.inr ⟨_, _, e, g1, rfl, rfl⟩) g2 g3)⟩
  | false =>
    refine ⟨fun _ => m_cantG (by omega) h (fun st' g1 g2 => er st' 1 k.pl (Or.inl ?_) g1 g2), fun w => absurd rfl w⟩
    unfold rNeed rWrong
    rw [if_neg (by rw [hS]; decide), if_neg h.2.2.2.2]
theorem m_needB {s : Int32} {e p : Nat} (hW : IW P s0 l XX) (hl : 6 ≤ lev) (h : RB t st e p) (ok : ∀ st', RB t st' e p → mrf st st' → Q (.returned none) st') : CQ (wM P s0 l XX) mX5_need lev (.ref P.mo :: [.int s]) st Q := by
  obtain ⟨l', rfl⟩ : ∃ l', lev = l' + 1 := ⟨lev - 1, by omega⟩
  exact tX5_need (m_isSignB (by omega) (fun r => ⟨fun _ => m_cantB (by omega) h (ok st h mrf.rf), fun _ => m_nextB hW (by omega) h ok⟩))
/-- a name that must stand there -/
theorem m_nameG (hW : IW P s0 l XX) (hl : 6 ≤ lev) (h : RG t st k) (h15 : fI st 15 = iI (if b then 1 else 0)) (hb : b = true → fI st 39 = iI (nd : Int) ∧ nd < 140000 ∧ ∀ e p, ¬ rBad (rName t k) e p)
    (ok : ∀ st' vn, rName t k = .ok (k.pl, sGo t k.nx) → k.ki = 0 → RG t st' (sGo t k.nx) → k.pl < (sGo t k.nx).pl → rfr b nd st st' → (b = true → vn = nd ∧ fI st' 39 = iI ((nd + 1 : Nat) : Int) ∧ st'.2 30 nd = iI 0 ∧ st'.2 31 nd = iI (k.pl : Int) ∧ st'.2 32 nd = iI ((tname t k.pl).length : Int) ∧ st'.2 34 nd = iI (k.pl : Int)) → Q (.returned (some (.int (iI ((vn : Nat) : Int))))) st')
    (er : ∀ st' e p r, b = false → rBad (rName t k) e p → RB t st' e p → rfr b nd st st' → Q (.returned (some (.int r))) st') : CQ (wM P s0 l XX) mX5_nameNode lev (.ref P.mo :: []) st Q := by
  obtain ⟨l', rfl⟩ : ∃ l', lev = l' + 2 := ⟨lev - 2, by omega⟩
  have hx := h.1
  have hx2 := hx.2.1
  obtain ⟨h9, hp, a0, h60, ha0, hcs⟩ := h.2.1
  -- what node does
  have key : ∀ (r : Nat) (s1 : MSt), RG t s1 k → rfr b nd st s1 → (b = true → r = nd ∧ fI s1 39 = iI ((nd + 1 : Nat) : Int) ∧ s1.2 30 nd = iI 0 ∧ s1.2 31 nd = fI st 9 ∧ s1.2 32 nd = fI st 10 - fI st 9 ∧ s1.2 34 nd = fI st 9) → CQ (wM P s0 l XX) mX5_isName (l' + 1) (.ref P.mo :: []) s1 (onI (fun r4 t3 => ((r4 = 0 → (CQ (wM P s0 l XX) mX5_cant (l' + 1) (.ref P.mo :: []) t3 (onV (fun t5 => Q (.returned (some (.int (iI (r : Int))))) t5) (fun x t => Q (.threw x) t)))) ∧ (¬ r4 = 0 → (CQ (wM P s0 l XX) mX5_next (l' + 1) (.ref P.mo :: []) t3 (onV (fun t7 => Q (.returned (some (.int (iI (r : Int))))) t7) (fun x t => Q (.threw x) t)))))) (fun x t => Q (.threw x) t)) := by
    intro r s1 hG1 F1 hb1
    refine m_isName (by omega) hG1 ?_
    by_cases hk : k.ki = 0
    · rw [decide_eq_true hk]
      have e : rName t k = .ok (k.pl, sGo t k.nx) := by unfold rName; rw [if_pos hk]
      obtain ⟨w1, w2, w3⟩ := hG1.at (by omega)
      refine ⟨fun w => absurd w (by decide), fun _ => m_nextG hW (by omega) hG1.1 hG1.2.2.2.1 w1 w2 (fun st' g1 g2 g3 => ok st' r e hk g1 (by omega) (F1.tr g3.r (Nat.le_refl _)) (fun hbt => ?_)) (fun st' g1 g2 g3 => ?_)⟩
      · obtain ⟨y1, y2, y3, y4, y5, y6⟩ := hb1 hbt
        have k10 : fI st 10 = iI ((k.pl + (tname t k.pl).length : Nat) : Int) := by
          rcases hcs with ⟨-, -, -, q, -⟩ | ⟨k0, -⟩ | ⟨k0, -⟩ | ⟨k0, -⟩ | ⟨k0, -⟩ | ⟨k0, -⟩
          · exact q
          · omega
          · omega
          · omega
          · omega
          · omega
        refine ⟨y1, (g3.1 39 (by omega)).trans y2, by rw [g3.2]; exact y3, by rw [g3.2, y4]; exact h9, ?_, by rw [g3.2, y6]; exact h9⟩
        rw [g3.2, y5, k10, h9, iI_sub]
        congr 1
        omega
      · have hbd : rBad (rName t k) 2 (sGo t k.nx).pl := Or.inr ⟨_, _, e, g1, rfl, rfl⟩
        cases b with
        | true => exact absurd hbd ((hb rfl).2.2 _ _)
        | false => exact er st' 2 _ _ rfl hbd g2 (F1.tr g3.r (Nat.le_refl _))
    · rw [decide_eq_false hk]
      have hbd : rBad (rName t k) 1 k.pl := Or.inl (by unfold rName rWrong; rw [if_neg hk, if_neg h.2.2.2.2])
      refine ⟨fun _ => m_cantG (by omega) hG1 (fun st' g1 g2 => ?_), fun w => absurd rfl w⟩
      cases b with
      | true => exact absurd hbd ((hb rfl).2.2 _ _)
      | false => exact er st' 1 _ _ rfl hbd g1 (F1.tr g2.r (Nat.le_refl _))
  refine tX5_nameNode ?_
  cases b with
  | false => exact tX5_node ⟨fun _ => key 0 st h rfr.rf (fun w => by cases w), fun w => absurd h15 w⟩
  | true =>
    obtain ⟨h39, hnd, -⟩ := hb rfl
    refine tX5_node ⟨fun w => absurd (h15.symm.trans w) (by decide), fun _ => ?_⟩
    rw [h39]
    have hin := iI_in (a := nd) (n := 140000) hnd (by omega)
    refine ⟨hin, hin, hin, hin, hin, hin, hin, ?_⟩
    have e9 : iI (nd : Int) + iI 1 - iI 1 = iI (nd : Int) := by rw [iI_suc, iI_prd]
    rw [e9, iI_suc]
    have ar : ∀ k' j, (mput 39 (iI ((nd + 1 : Nat) : Int)) (mst 38 (iI (nd : Int)) (iI (nd : Int)) (mst 35 (iI (nd : Int)) (fI st 9) (mst 34 (iI (nd : Int)) (fI st 9) (mst 33 (iI (nd : Int)) (iI 0) (mst 32 (iI (nd : Int)) (fI st 10 - fI st 9) (mst 31 (iI (nd : Int)) (fI st 9) (mst 30 (iI (nd : Int)) (iI 0) st)))))))).2 k' j = if k' = 38 ∧ j = nd then iI (nd : Int) else if k' = 35 ∧ j = nd then fI st 9 else if k' = 34 ∧ j = nd then fI st 9 else if k' = 33 ∧ j = nd then iI 0 else if k' = 32 ∧ j = nd then fI st 10 - fI st 9 else if k' = 31 ∧ j = nd then fI st 9 else if k' = 30 ∧ j = nd then iI 0 else st.2 k' j := fun k' j => by
      rw [mput_a, mst_a (by omega), mst_a (by omega), mst_a (by omega), mst_a (by omega), mst_a (by omega), mst_a (by omega), mst_a (by omega)]
    have fr : ∀ j, j ≠ 39 → fI (mput 39 (iI ((nd + 1 : Nat) : Int)) (mst 38 (iI (nd : Int)) (iI (nd : Int)) (mst 35 (iI (nd : Int)) (fI st 9) (mst 34 (iI (nd : Int)) (fI st 9) (mst 33 (iI (nd : Int)) (iI 0) (mst 32 (iI (nd : Int)) (fI st 10 - fI st 9) (mst 31 (iI (nd : Int)) (fI st 9) (mst 30 (iI (nd : Int)) (iI 0) st)))))))) j = fI st j := fun j hj => by rw [fI_put hj]; rfl
    have v39 : fI (mput 39 (iI ((nd + 1 : Nat) : Int)) (mst 38 (iI (nd : Int)) (iI (nd : Int)) (mst 35 (iI (nd : Int)) (fI st 9) (mst 34 (iI (nd : Int)) (fI st 9) (mst 33 (iI (nd : Int)) (iI 0) (mst 32 (iI (nd : Int)) (fI st 10 - fI st 9) (mst 31 (iI (nd : Int)) (fI st 9) (mst 30 (iI (nd : Int)) (iI 0) st)))))))) 39 = iI ((nd + 1 : Nat) : Int) := fI_self
    generalize mput 39 (iI ((nd + 1 : Nat) : Int)) (mst 38 (iI (nd : Int)) (iI (nd : Int)) (mst 35 (iI (nd : Int)) (fI st 9) (mst 34 (iI (nd : Int)) (fI st 9) (mst 33 (iI (nd : Int)) (iI 0) (mst 32 (iI (nd : Int)) (fI st 10 - fI st 9) (mst 31 (iI (nd : Int)) (fI st 9) (mst 30 (iI (nd : Int)) (iI 0) st))))))) = s1 at ar fr v39
    have F1 : rfr true nd st s1 := ⟨fun j hj => fr j (by omega), (fun w => by cases w), fun k' j w => by
      rw [ar, if_neg (fun q => by have := w (by omega) rfl; omega), if_neg (fun q => by have := w (by omega) rfl; omega), if_neg (fun q => by have := w (by omega) rfl; omega), if_neg (fun q => by have := w (by omega) rfl; omega), if_neg (fun q => by have := w (by omega) rfl; omega), if_neg (fun q => by have := w (by omega) rfl; omega), if_neg (fun q => by have := w (by omega) rfl; omega)]⟩
    have G1 : RG t s1 k := by
      refine ⟨hx.rv F1, ⟨(fr 9 (by omega)).trans h9, hp, a0, (fr 6 (by omega)).trans h60, ha0, ?_⟩, h.2.2.1, (fr 72 (by omega)).trans h.2.2.2.1, h.2.2.2.2⟩
      rw [fr 7 (by omega), fr 8 (by omega), fr 10 (by omega), fr 11 (by omega)]
      exact hcs
    refine key nd s1 G1 F1 (fun _ => ⟨rfl, v39, ?_, ?_, ?_, ?_⟩)
    · rw [ar, if_neg (by omega), if_neg (by omega), if_neg (by omega), if_neg (by omega), if_neg (by omega), if_neg (by omega), if_pos ⟨rfl, rfl⟩]
    · rw [ar, if_neg (by omega), if_neg (by omega), if_neg (by omega), if_neg (by omega), if_neg (by omega), if_pos ⟨rfl, rfl⟩]
    · rw [ar, if_neg (by omega), if_neg (by omega), if_neg (by omega), if_neg (by omega), if_pos ⟨rfl, rfl⟩]
    · rw [ar, if_neg (by omega), if_neg (by omega), if_pos ⟨rfl, rfl⟩]
theorem m_nameB {e p : Nat} (hW : IW P s0 l XX) (hl : 6 ≤ lev) (h : RB t st e p) (h15 : fI st 15 = iI 0) (ok : ∀ st' r, RB t st' e p → mrf st st' → Q (.returned (some (.int r))) st') : CQ (wM P s0 l XX) mX5_nameNode lev (.ref P.mo :: []) st Q := by
  obtain ⟨l', rfl⟩ : ∃ l', lev = l' + 2 := ⟨lev - 2, by omega⟩
  exact tX5_nameNode (tX5_node ⟨fun _ => m_isNameB (by omega) (fun r => ⟨fun _ => m_cantB (by omega) h (ok st _ h mrf.rf), fun _ => m_nextB hW (by omega) h (fun st' g1 g2 => ok st' _ g1 g2)⟩), fun w => absurd h15 w⟩)
end MRB
