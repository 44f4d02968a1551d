/-! M OVER S (30): reading: tokens -/
/-- the text -/
def mTx (t : TX) (st : MSt) : Prop := fI st 5 = iI (t.2 : Int) ∧ t.2 ≤ 4000 ∧ ∀ j, j < t.2 → st.2 4 j = iI (t.1 j : Int) ∧ t.1 j < 256
/-- the model's number of a sign -/
def sgM (s : Nat) : Nat := if s = 256 then 257 else if s = 257 then 256 else s
/-- the token at hand -/
def mTk (t : TX) (st : MSt) (k : TK) : Prop := fI st 9 = iI (k.pl : Int) ∧ k.pl ≤ t.2 ∧ ∃ a : Nat, fI st 6 = iI (a : Int) ∧ a ≤ t.2 ∧
  ((k.ki = 0 ∧ fI st 7 = iI 1 ∧ fI st 11 = iI (-1) ∧ fI st 10 = iI ((k.pl + (tname t k.pl).length : Nat) : Int) ∧ a = k.nx) ∨ (k.ki = 1 ∧ fI st 7 = iI 1 ∧ (∃ w : Nat, w < 9 ∧ fI st 11 = iI (w : Int) ∧ kept[w]? = some (tname t k.pl)) ∧ a = k.nx) ∨ (k.ki = 2 ∧ fI st 7 = iI 2 ∧ fI st 8 = iI (sgM k.sg : Int) ∧ fI st 11 = iI (-1) ∧ k.sg ≤ 257 ∧ a = k.nx) ∨ (k.ki = 3 ∧ fI st 7 = iI 1 ∧ fI st 11 = iI (-1)) ∨ (k.ki = 4 ∧ fI st 7 = iI 3 ∧ fI st 11 = iI (-1)) ∨ (k.ki = 5 ∧ fI st 7 = iI 0 ∧ fI st 11 = iI (-1)))
/-- a token was read -/
def mrf (st st' : MSt) : Prop := (∀ k, k < 6 ∨ (11 < k ∧ k ≠ 72 ∧ k ≠ 73) → st'.1 k = st.1 k) ∧ st'.2 = st.2
/-- what is wrong, behind a token -/
def mrb (st st' : MSt) (k : TK) : Prop := (fI st 72 ≠ 0 → fI st' 72 = fI st 72 ∧ fI st' 73 = fI st 73) ∧ (fI st 72 = 0 → (k.ki = 3 → fI st' 72 = iI 2 ∧ fI st' 73 = iI (k.pl : Int)) ∧ (k.ki ≠ 3 → fI st' 72 = 0))
/-- a word is at hand -/
def IW (P : MPl) (s0 : State) (l : Launch) (XX : Prop) : Prop := ∀ (lev w p e : Nat) (t : TX) (st : MSt) (Q : Outcome → MSt → Prop), 4 ≤ lev → w < 9 → mTx t st → fI st 9 = iI (p : Int) → fI st 10 = iI (e : Int) → p ≤ e → e ≤ t.2 → Q (.returned (some (.int (bI (decide (kept.getD w [] = (List.range (e - p)).map (fun i => tbyte t (p + i)))))))) st → CQ (wM P s0 l XX) mX5_isWord lev (.ref P.mo :: [.int (iI (w : Int))]) st Q
section MRT
variable {P : MPl} {s0 : State} {l : Launch} {XX : Prop} {lev : Nat} {Q : Outcome → MSt → Prop} {st st' st'' st0 : MSt} {t : TX}
theorem mrf.rf : mrf st st := ⟨fun _ _ => rfl, rfl⟩
theorem mrf.tr (h : mrf st st') (k : mrf st' st'') : mrf st st'' := ⟨fun j hj => (k.1 j hj).trans (h.1 j hj), k.2.trans h.2⟩
theorem mrf.put {k : Nat} {v : Int32} (hk : (6 ≤ k ∧ k ≤ 11) ∨ k = 72 ∨ k = 73) : mrf st (mput k v st) := ⟨fun j hj => by rw [mput_f, if_neg (by omega)], rfl⟩
theorem mTx.mv (h : mTx t st) (hf : mrf st st') : mTx t st' := ⟨(hf.1 5 (by omega)).trans h.1, h.2.1, fun j hj => by rw [hf.2]; exact h.2.2 j hj⟩
theorem tbyte_lt {k : Nat} (h : k < t.2) : tbyte t k = t.1 k := by unfold tbyte; rw [if_pos h]
theorem m_byte {k : Nat} (hl : 1 ≤ lev) (h : mTx t st) (hk : k ≤ t.2 + 1) (hi : k < t.2 → tbyte t k < 256 → Q (.returned (some (.int (iI (tbyte t k : Int))))) st) (ho : t.2 ≤ k → Q (.returned (some (.int (iI (-1))))) st) : CQ (wM P s0 l XX) mX5_byteAt lev (.ref P.mo :: [.int (iI (k : Int))]) st Q := by
  obtain ⟨l', rfl⟩ := Nat.exists_eq_add_of_le' hl
  obtain ⟨h1, h2, h3⟩ := h
  refine tX5_byteAt ⟨fun w => ho ?_, fun w => ?_⟩
  · rw [h1, iI_le (by omega) (by omega) (by omega) (by omega)] at w; omega
  · have hk2 : k < t.2 := by
      apply Classical.byContradiction
      intro q
      exact w (by rw [h1, iI_le (by omega) (by omega) (by omega) (by omega)]; omega)
    obtain ⟨a1, a2⟩ := h3 k hk2
    refine ⟨iI_in (by omega) (by omega), ?_⟩
    rw [aI_n (by omega), a1, ← tbyte_lt hk2]
    exact hi hk2 (by rw [tbyte_lt hk2]; exact a2)
theorem m_letter {b : Int} (hl : 1 ≤ lev) (hb : -1 ≤ b ∧ b < 256) (ok : Q (.returned (some (.int (bI (decide (0 ≤ b) && isLet b.toNat))))) st) : CQ (wM P s0 l XX) mX5_isLetter lev [.int (iI b)] st Q := by
  obtain ⟨l', rfl⟩ := Nat.exists_eq_add_of_le' hl
  have yes : (97 ≤ b ∧ b ≤ 122) ∨ (65 ≤ b ∧ b ≤ 90) → Q (.returned (some (.int (iI 1)))) st := fun h => by
    have e : (decide (0 ≤ b) && isLet b.toNat) = true := by
      unfold isLet
      simp only [Bool.and_eq_true, Bool.or_eq_true, decide_eq_true_eq]
      omega
    rw [e] at ok
    exact ok
  have no : ¬ ((97 ≤ b ∧ b ≤ 122) ∨ (65 ≤ b ∧ b ≤ 90)) → Q (.returned (some (.int (iI 0)))) st := fun h => by
    have e : (decide (0 ≤ b) && isLet b.toNat) = false := by
      apply Bool.eq_false_iff.mpr
      intro q
      unfold isLet at q
      simp only [Bool.and_eq_true, Bool.or_eq_true, decide_eq_true_eq] at q
      omega
    rw [e] at ok
    exact ok
  have j12 : ¬ (97 ≤ b ∧ b ≤ 122) → jX5_isLetter_12 P s0 l XX l' st Q (iI b) st := fun h => by
    refine tX5_isLetter_12 ⟨fun w => no ?_, fun w => ⟨fun w2 => no ?_, fun w2 => tX5_isLetter_24 (yes ?_)⟩⟩
    · rw [iI_lt (by omega) (by omega) (by omega) (by omega)] at w; omega
    · rw [iI_lt (by omega) (by omega) (by omega) (by omega)] at w2; omega
    · rw [iI_lt (by omega) (by omega) (by omega) (by omega)] at w w2; omega
  refine tX5_isLetter ⟨fun w => j12 ?_, fun w => ⟨fun w2 => tX5_isLetter_24 (yes ?_), fun w2 => j12 ?_⟩⟩
  · rw [iI_lt (by omega) (by omega) (by omega) (by omega)] at w; omega
  · rw [iI_lt (by omega) (by omega) (by omega) (by omega)] at w; rw [iI_le (by omega) (by omega) (by omega) (by omega)] at w2; omega
  · rw [iI_le (by omega) (by omega) (by omega) (by omega)] at w2; omega
theorem m_more {b : Int} (hl : 2 ≤ lev) (hb : -1 ≤ b ∧ b < 256) (ok : Q (.returned (some (.int (bI (decide (0 ≤ b) && isMor b.toNat))))) st) : CQ (wM P s0 l XX) mX5_goesOn lev [.int (iI b)] st Q := by
  obtain ⟨l', rfl⟩ := Nat.exists_eq_add_of_le' hl
  have yes : (decide (0 ≤ b) && isLet b.toNat) = true ∨ (48 ≤ b ∧ b ≤ 57) ∨ b = 39 → Q (.returned (some (.int (iI 1)))) st := fun h => by
    have e : (decide (0 ≤ b) && isMor b.toNat) = true := by
      unfold isMor
      simp only [Bool.and_eq_true, Bool.or_eq_true, decide_eq_true_eq, beq_iff_eq] at h ⊢
      rcases h with h | h
      · exact ⟨h.1, Or.inl (Or.inl h.2)⟩
      · exact ⟨by omega, by omega⟩
    rw [e] at ok
    exact ok
  have no : (decide (0 ≤ b) && isLet b.toNat) = false → ¬ (48 ≤ b ∧ b ≤ 57) → b ≠ 39 → Q (.returned (some (.int (iI 0)))) st := fun h h1 h2 => by
    have e : (decide (0 ≤ b) && isMor b.toNat) = false := by
      apply Bool.eq_false_iff.mpr
      intro q
      unfold isMor at q
      simp only [Bool.and_eq_true, Bool.or_eq_true, decide_eq_true_eq, beq_iff_eq] at q
      obtain ⟨q1, (q2 | q2) | q2⟩ := q
      · rw [q2, decide_eq_true q1] at h; cases h
      · omega
      · omega
    rw [e] at ok
    exact ok
  refine tX5_goesOn (m_letter (by omega) hb ?_)
  cases hL : (decide (0 ≤ b) && isLet b.toNat) with
  | true => exact ⟨fun w => absurd w (by decide), fun _ => tX5_goesOn_25 (yes (Or.inl hL))⟩
  | false =>
    have j19 : ¬ (48 ≤ b ∧ b ≤ 57) → jX5_goesOn_19 P s0 l XX (l' + 1) st Q (iI b) st := fun h => by
      refine tX5_goesOn_19 ⟨fun w => tX5_goesOn_25 (yes (Or.inr (Or.inr ?_))), fun w => no hL h (fun q => w (by rw [q]))⟩
      rw [iI_eq (by omega) (by omega) (by omega) (by omega)] at w; omega
    refine ⟨fun _ => ⟨fun w => j19 ?_, fun w => ⟨fun w2 => tX5_goesOn_25 (yes (Or.inr (Or.inl ?_))), fun w2 => j19 ?_⟩⟩, fun w => absurd rfl w⟩
    · rw [iI_lt (by omega) (by omega) (by omega) (by omega)] at w; omega
    · rw [iI_lt (by omega) (by omega) (by omega) (by omega)] at w; rw [iI_le (by omega) (by omega) (by omega) (by omega)] at w2; omega
    · rw [iI_le (by omega) (by omega) (by omega) (by omega)] at w2; omega
/-- up to the end of what is written for readers -/
theorem m_n73 {x1 x2 : Int32} : ∀ (n k : Nat) (st : MSt), mTx t st → t.2 ≤ n + k → k ≤ t.2 → fI st 6 = iI (k : Int) → (∀ st' e, sRun t (fun c => c != 125) n k = e → k ≤ e → e ≤ t.2 → fI st' 6 = iI (e : Int) → mrf st st' → (∀ j, j ≠ 6 → fI st' j = fI st j) → jX5_next_111 P s0 l XX lev st0 Q x1 x2 st') → jX5_next_73 P s0 l XX lev st0 Q x1 x2 st := by
  intro n
  induction n with
  | zero =>
    intro k st hx hn hk h6 ok
    have h2 := hx.2.1
    refine tX5_next_73 ⟨fun _ => ok st k rfl (Nat.le_refl _) hk h6 mrf.rf (fun _ _ => rfl), fun w => absurd (by rw [hx.1, h6, iI_le (by omega) (by omega) (by omega) (by omega)]; omega) w⟩
  | succ n ih =>
    intro k st hx hn hk h6 ok
    have h2 := hx.2.1
    refine tX5_next_73 ⟨fun w => ?_, fun w => ?_⟩
    · rw [hx.1, h6, iI_le (by omega) (by omega) (by omega) (by omega)] at w
      exact ok st k (by unfold sRun; rw [if_neg (by omega)]) (Nat.le_refl _) hk h6 mrf.rf (fun _ _ => rfl)
    · have hk2 : k < t.2 := by
        apply Classical.byContradiction
        intro q
        exact w (by rw [hx.1, h6, iI_le (by omega) (by omega) (by omega) (by omega)]; omega)
      obtain ⟨a1, a2⟩ := hx.2.2 k hk2
      rw [h6]
      refine ⟨iI_in (by omega) (by omega), ?_⟩
      rw [aI_n (by omega), a1, iI_suc]
      refine ⟨fun w2 => ?_, fun w2 => ?_⟩
      · rw [iI_eq (by omega) (by omega) (by omega) (by omega)] at w2
        refine ok st k ?_ (Nat.le_refl _) hk h6 mrf.rf (fun _ _ => rfl)
        unfold sRun
        rw [if_neg]
        rintro ⟨-, q⟩
        rw [tbyte_lt hk2, show t.1 k = 125 by omega] at q
        exact absurd q (by decide)
      · have hf : mrf st (mput 6 (iI ((k + 1 : Nat) : Int)) st) := mrf.put (by omega)
        refine ih (k + 1) _ (hx.mv hf) (by omega) hk2 fI_self (fun st' e e1 e2 e3 e4 e5 e6 => ok st' e ?_ (by omega) e3 e4 (hf.tr e5) (fun j hj => (e6 j hj).trans (fI_put hj)))
        have hb : (fun c => c != 125) (tbyte t k) = true := by
          rw [tbyte_lt hk2]
          exact bne_iff_ne.mpr (fun q => w2 (by rw [q]; rfl))
        unfold sRun
        rw [if_pos ⟨hk2, hb⟩]
        exact e1
/-- over what counts for nothing -/
theorem m_skip (hl : 1 ≤ lev) : ∀ (n k : Nat) (st : MSt), mTx t st → t.2 < n + k → k ≤ t.2 → fI st 6 = iI (k : Int) → (∀ st' p, sSkip t n k = (false, p) → p ≤ t.2 → fI st' 6 = iI (p : Int) → mrf st st' → (∀ j, j ≠ 6 → fI st' j = fI st j) → jX5_next_2 P s0 l XX lev st0 Q (iI 0) st') →
    (∀ st' p a, sSkip t n k = (true, p) → p ≤ t.2 → a ≤ t.2 → fI st' 6 = iI (a : Int) → mrf st st' → (∀ j, j ≠ 6 → fI st' j = fI st j) → Q (.returned none) (mput 11 (iI (-1)) (mput 7 (iI 3) (mput 9 (iI (p : Int)) st')))) → jX5_next_6 P s0 l XX lev st0 Q (iI 1) st := by
  intro n
  induction n with
  | zero => intro k st hx hn hk; omega
  | succ n ih =>
    intro k st hx hn hk h6 ok er
    have h2 := hx.2.1
    refine tX5_next_6 ?_
    rw [h6]
    -- white
    have white : k < t.2 → (tbyte t k = 10 ∨ tbyte t k = 32) → jX5_next_32 P s0 l XX lev st0 Q (iI 1) st := fun hk2 hb => by
      refine tX5_next_32 ?_
      rw [h6, iI_suc]
      have hf : mrf st (mput 6 (iI ((k + 1 : Nat) : Int)) st) := mrf.put (by omega)
      have es : sSkip t (n + 1) k = sSkip t n (k + 1) := by rw [sSkip, if_pos hk2, if_pos hb]
      exact ih (k + 1) _ (hx.mv hf) (by omega) hk2 fI_self (fun st' p e1 e2 e3 e4 e5 => ok st' p (es.trans e1) e2 e3 (hf.tr e4) (fun j hj => (e5 j hj).trans (fI_put hj))) (fun st' p a e1 e2 e3 e4 e5 e6 => er st' p a (es.trans e1) e2 e3 e4 (hf.tr e5) (fun j hj => (e6 j hj).trans (fI_put hj)))
    -- the end, or something else
    have stop : (t.2 ≤ k ∨ (k < t.2 ∧ tbyte t k ≠ 10 ∧ tbyte t k ≠ 32 ∧ tbyte t k ≠ 123)) → jX5_next_2 P s0 l XX lev st0 Q (iI 0) st := fun h => by
      refine ok st k ?_ hk h6 mrf.rf (fun _ _ => rfl)
      rcases h with h | ⟨h1, h2, h3, h4⟩
      · rw [sSkip, if_neg (by omega)]
      · rw [sSkip, if_pos h1, if_neg (by omega), if_neg h4]
    refine m_byte hl hx (by omega) (fun hk2 hb => ?_) (fun ho => ⟨fun w => absurd w (by decide), fun _ => ?_⟩)
    · refine ⟨fun w => white hk2 (Or.inl ?_), fun w => ?_⟩
      · rw [iI_eq (by omega) (by omega) (by omega) (by omega)] at w; omega
      · rw [h6]
        refine m_byte hl hx (by omega) (fun _ _ => ⟨fun w1 => white hk2 (Or.inr ?_), fun w1 => ?_⟩) (fun ho => (by omega))
        · rw [iI_eq (by omega) (by omega) (by omega) (by omega)] at w1; omega
        · rw [h6]
          refine m_byte hl hx (by omega) (fun _ _ => ⟨fun w2 => ?_, fun w2 => stop (Or.inr ⟨hk2, fun q => w (by rw [q]; rfl), fun q => w1 (by rw [q]; rfl), fun q => w2 (by rw [q]; rfl)⟩)⟩) (fun ho => (by omega))
          rw [iI_eq (by omega) (by omega) (by omega) (by omega)] at w2
          rw [h6]
          have b123 : tbyte t k = 123 := by omega
          -- what is written for readers
          have hf : mrf st (mput 6 (iI ((k + 1 : Nat) : Int)) st) := mrf.put (by omega)
          refine tX5_next_73 ⟨fun w3 => ?_, fun _ => ?_⟩
          · rw [hx.1, h6, iI_le (by omega) (by omega) (by omega) (by omega)] at w3; omega
          · rw [h6]
            refine ⟨iI_in (by omega) (by omega), fun w3 => ?_, fun _ => ?_⟩
            · rw [aI_n (by omega), (hx.2.2 k hk2).1, ← tbyte_lt hk2, b123] at w3
              exact absurd w3 (by decide)
            · rw [iI_suc]
              refine m_n73 t.2 (k + 1) _ (hx.mv hf) (by omega) hk2 fI_self (fun st' e e1 e2 e3 e4 e5 e6 => ?_)
              have hx' := (hx.mv hf).mv e5
              refine tX5_next_111 ⟨fun w3 => ?_, fun w3 => ?_⟩
              · rw [e4, hx'.1, iI_eq (by omega) (by omega) (by omega) (by omega)] at w3
                have es : sSkip t (n + 1) k = (true, k) := by
                  rw [sSkip, if_pos hk2, if_neg (by omega), if_pos b123]
                  show (if sRun t (fun c => c != 125) t.2 (k + 1) = t.2 then (true, k) else _) = _
                  rw [if_pos (by omega)]
                exact er st' k e es hk e3 e4 (hf.tr e5) (fun j hj => (e6 j hj).trans (fI_put hj))
              · have ne : e ≠ t.2 := fun q => w3 (by rw [e4, hx'.1, q])
                refine tX5_next_2 ⟨fun w => absurd w (by decide), fun _ => ?_⟩
                rw [e4, iI_suc]
                have hf2 : mrf st' (mput 6 (iI ((e + 1 : Nat) : Int)) st') := mrf.put (by omega)
                have es : sSkip t (n + 1) k = sSkip t n (e + 1) := by
                  rw [sSkip, if_pos hk2, if_neg (by omega), if_pos b123]
                  show (if sRun t (fun c => c != 125) t.2 (k + 1) = t.2 then (true, k) else sSkip t n (sRun t (fun c => c != 125) t.2 (k + 1) + 1)) = _
                  rw [e1, if_neg ne]
                exact ih (e + 1) _ (hx'.mv hf2) (by omega) (by omega) fI_self (fun st2 p i1 i2 i3 i4 i5 => ok st2 p (es.trans i1) i2 i3 (((hf.tr e5).tr hf2).tr i4) (fun j hj => (i5 j hj).trans ((fI_put hj).trans ((e6 j hj).trans (fI_put hj))))) (fun st2 p a i1 i2 i3 i4 i5 i6 => er st2 p a (es.trans i1) i2 i3 i4 (((hf.tr e5).tr hf2).tr i5) (fun j hj => (i6 j hj).trans ((fI_put hj).trans ((e6 j hj).trans (fI_put hj)))))
    · rw [h6]
      refine m_byte hl hx (by omega) (fun h _ => (by omega)) (fun _ => ⟨fun w => absurd w (by decide), fun _ => ?_⟩)
      rw [h6]
      exact m_byte hl hx (by omega) (fun h _ => (by omega)) (fun _ => ⟨fun w => absurd w (by decide), fun _ => stop (Or.inl ho)⟩)
end MRT
