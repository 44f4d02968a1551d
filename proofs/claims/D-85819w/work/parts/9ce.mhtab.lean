/-! THE HOUSE OVER S, M (5): tables -/
/-- the sorts: names, axioms, rules, nodes -/
def mTB (st : MSt) (tb : HT) : Prop := (fI st 20 = iI (tb.1.length : Int) ∧ tb.1.length ≤ 8) ∧ (∀ s, s < tb.1.length → mNa st 16 17 s (tb.1.getD s [])) ∧ (∀ k, k < 8 → st.2 18 k = iI (tb.2.1 k) ∧ -1 ≤ tb.2.1 k ∧ tb.2.1 k < (tb.1.length : Int)) ∧ (∀ a b, a < 8 → b < 8 → st.2 19 (8 * a + b) = iI (tb.2.2 a b) ∧ -1 ≤ tb.2.2 a b ∧ tb.2.2 a b < (tb.1.length : Int)) ∧
  (∀ s, s < tb.1.length → st.2 30 s = iI 3 ∧ st.2 31 s = iI (s : Int)) ∧ (∀ s b, s < tb.1.length → b ∈ tb.1.getD s [] → b < 256) ∧ (∀ i j, i < tb.1.length → j < tb.1.length → tb.1.getD i [] = tb.1.getD j [] → i = j) ∧ ∀ k, tb.1.length ≤ k → tb.2.1 k = -1
/-- what a table's statement leaves -/
def tfrM (st st' : MSt) : Prop := (∀ k, k ≠ 20 → st'.1 k = st.1 k) ∧ ∀ k j, k < 16 ∨ 19 < k → ((k = 30 ∨ k = 31) → 8 ≤ j) → st'.2 k j = st.2 k j
section MHE
variable {P : MPl} {s0 : State} {l : Launch} {XX : Prop} {lev : Nat} {Q : Outcome → MSt → Prop} {st st' st'' st0 : MSt} {X : SX} {J : JX} {K K' : KS} {nd nd' ce ce' wa x y lo hi ns ch z o nn nd0 p : Nat} {c c' : MC} {t : TX} {tb : HT} {cx : List CN} {x1 x2 : Int32} {bs : List Nat}
theorem tfrM.rf : tfrM st st := ⟨fun _ _ => rfl, fun _ _ _ _ => rfl⟩
theorem tfrM.tr (h : tfrM st st') (k : tfrM st' st'') : tfrM st st'' := ⟨fun j hj => (k.1 j hj).trans (h.1 j hj), fun j i a b => (k.2 j i a b).trans (h.2 j i a b)⟩
theorem MJ.tf (h : MJ st X K nd ce wa) (hf : tfrM st st') : MJ st' X K nd ce wa := by
  obtain ⟨⟨⟨h1, h2, h3, h4⟩, h5, h6⟩, h7, ⟨h8, h9, h10⟩, h11, ⟨h12, h12'⟩, h13⟩ := h
  have e : ∀ k, k ≠ 20 → fI st' k = fI st k := hf.1
  exact ⟨⟨⟨(e 63 (by omega)).trans h1, (e 64 (by omega)).trans h2, (e 65 (by omega)).trans h3, fun j hj => (e _ (by omega)).trans (h4 j hj)⟩, (e 75 (by omega)).trans h5, fun j a b => (hf.2 74 j (by omega) (by omega)).trans (h6 j a b)⟩, (e 57 (by omega)).trans h7, ⟨(e 39 (by omega)).trans h8, (e 48 (by omega)).trans h9, (e 51 (by omega)).trans h10⟩, (e 72 (by omega)).trans h11, ⟨h12, fun q a b => by obtain ⟨u, u1, u2⟩ := h12' q a b; exact ⟨u, (hf.2 44 q (by omega) (by omega)).trans u1, u2⟩⟩, h13⟩
/-- a name is copied into a row -/
theorem m_tcopy (hn : nn < 140000) (hp : p < 4000) (h80 : fI st0 80 = iI (nn : Int)) (e31 : st0.2 31 nn = iI (p : Int)) (e32 : st0.2 32 nn = iI (bs.length : Int)) (hb12 : bs.length ≤ 12) (htx : ∀ (i b : Nat), bs[i]? = some b → p + i < 4000 ∧ b < 256 ∧ st0.2 4 (p + i) = iI (b : Int)) (h20 : fI st0 20 = iI (ns : Int)) (hns : ns < 8) (h8 : 8 ≤ nn)
    (ok : ∀ st', tfrM st0 st' → fI st' 20 = iI ((ns + 1 : Nat) : Int) → mNa st' 16 17 ns bs → (∀ s j, s ≠ ns → j < 12 → st'.2 16 (12 * s + j) = st0.2 16 (12 * s + j)) → (∀ s, s ≠ ns → st'.2 17 s = st0.2 17 s) → (∀ k, k ≠ ns → st'.2 18 k = st0.2 18 k) → st'.2 18 ns = iI (-1) → (∀ j, st'.2 19 j = st0.2 19 j) → (∀ k j, (k = 30 ∨ k = 31) → j ≠ ns → st'.2 k j = st0.2 k j) → st'.2 30 ns = iI 3 → st'.2 31 ns = iI (ns : Int) → Q (.returned none) st') : ∀ (d i : Nat) (st : MSt), i + d = bs.length → st.1 = st0.1 → (∀ k j, k ≠ 16 → st.2 k j = st0.2 k j) → (∀ s j, s ≠ ns → j < 12 → st.2 16 (12 * s + j) = st0.2 16 (12 * s + j)) → (∀ j b, j < i → bs[j]? = some b → st.2 16 (12 * ns + j) = iI (b : Int)) → jX5_tables_88 P s0 l XX lev st'' Q x1 (iI (i : Int)) st := by
  intro d
  induction d with
  | zero =>
    intro i st e h1 h2 h3 h4
    have hi : i = bs.length := by omega
    subst hi
    have f80 : fI st 80 = iI (nn : Int) := by show st.1 80 = _; rw [h1]; exact h80
    have f20 : fI st 20 = iI (ns : Int) := by show st.1 20 = _; rw [h1]; exact h20
    have a32 : aI st 32 (iI (nn : Int)) = iI (bs.length : Int) := by rw [aI_n (by omega), h2 _ _ (by omega)]; exact e32
    refine tX5_tables_88 ?_
    rw [f80, f20, a32]
    refine ⟨iI_in (by omega) (by omega), fun _ => ⟨iI_in (by omega) (by omega), iI_in (by omega) (by omega), iI_in (by omega) (by omega), iI_in (by omega) (by omega), iI_in (by omega) (by omega), ?_⟩, fun q => absurd (by rw [iI_le (by omega) (by omega) (by omega) (by omega)]; omega) q⟩
    rw [iI_suc]
    have A : ∀ k j, (mput 20 (iI ((ns + 1 : Nat) : Int)) (mst 31 (iI (ns : Int)) (iI (ns : Int)) (mst 30 (iI (ns : Int)) (iI 3) (mst 18 (iI (ns : Int)) (iI (-1)) (mst 17 (iI (ns : Int)) (iI (bs.length : Int)) st))))).2 k j = if k = 31 ∧ j = ns then iI (ns : Int) else if k = 30 ∧ j = ns then iI 3 else if k = 18 ∧ j = ns then iI (-1) else if k = 17 ∧ j = ns then iI (bs.length : Int) else st.2 k j := fun k j => by
      rw [mput_a, mst_a (by omega), mst_a (by omega), mst_a (by omega), mst_a (by omega)]
    refine ok _ ⟨fun k hk => ?_, fun k j a b => ?_⟩ ?_ ⟨?_, hb12, fun j b hj => ?_⟩ (fun s j hs hj => ?_) (fun s hs => ?_) (fun k hk => ?_) ?_ (fun j => ?_) (fun k j a b => ?_) ?_ ?_
    · rw [mput_f, if_neg hk]; show st.1 k = _; rw [h1]
    · rw [A, if_neg (by omega), if_neg (by omega), if_neg (by omega), if_neg (by omega)]; exact h2 k j (by omega)
    · show (mput _ _ _).1 20 = _; rw [mput_f, if_pos rfl]
    · rw [A, if_neg (by omega), if_neg (by omega), if_neg (by omega), if_pos ⟨rfl, rfl⟩]
    · rw [A, if_neg (by omega), if_neg (by omega), if_neg (by omega), if_neg (by omega)]
      have hjl : j < bs.length := by
        rcases Nat.lt_or_ge j bs.length with w | w
        · exact w
        · rw [List.getElem?_eq_none w] at hj; cases hj
      exact h4 j b hjl hj
    · rw [A, if_neg (by omega), if_neg (by omega), if_neg (by omega), if_neg (by omega)]; exact h3 s j hs hj
    · rw [A, if_neg (by omega), if_neg (by omega), if_neg (by omega), if_neg (by omega)]; exact h2 _ _ (by omega)
    · rw [A, if_neg (by omega), if_neg (by omega), if_neg (by omega), if_neg (by omega)]; exact h2 _ _ (by omega)
    · rw [A, if_neg (by omega), if_neg (by omega), if_pos ⟨rfl, rfl⟩]
    · rw [A, if_neg (by omega), if_neg (by omega), if_neg (by omega), if_neg (by omega)]; exact h2 _ _ (by omega)
    · rw [A, if_neg (by omega), if_neg (by omega), if_neg (by omega), if_neg (by omega)]; exact h2 _ _ (by omega)
    · rw [A, if_neg (by omega), if_pos ⟨rfl, rfl⟩]
    · rw [A, if_pos ⟨rfl, rfl⟩]
  | succ d ih =>
    intro i st e h1 h2 h3 h4
    have f80 : fI st 80 = iI (nn : Int) := by show st.1 80 = _; rw [h1]; exact h80
    have f20 : fI st 20 = iI (ns : Int) := by show st.1 20 = _; rw [h1]; exact h20
    have a32 : aI st 32 (iI (nn : Int)) = iI (bs.length : Int) := by rw [aI_n (by omega), h2 _ _ (by omega)]; exact e32
    have a31 : aI st 31 (iI (nn : Int)) = iI (p : Int) := by rw [aI_n (by omega), h2 _ _ (by omega)]; exact e31
    have hil : i < bs.length := by omega
    obtain ⟨b, hbi⟩ : ∃ b, bs[i]? = some b := ⟨bs[i], List.getElem?_eq_getElem hil⟩
    obtain ⟨q1, q2, q3⟩ := htx i b hbi
    have ea : iI (p : Int) + iI (i : Int) = iI ((p + i : Nat) : Int) := by rw [iI_add]; congr 1
    have em : iI 12 * iI (ns : Int) + iI (i : Int) = iI ((12 * ns + i : Nat) : Int) := by rw [iI_mul, iI_add]; congr 1
    have a4 : aI st 4 (iI ((p + i : Nat) : Int)) = iI (b : Int) := by rw [aI_n (by omega), h2 _ _ (by omega)]; exact q3
    refine tX5_tables_88 ?_
    rw [f80, f20, a32, a31, ea, em, a4]
    refine ⟨iI_in (by omega) (by omega), fun q => ?_, fun _ => ⟨iI_in (by omega) (by omega), iI_in (by omega) (by omega), iI_in (by omega) (by omega), ?_⟩⟩
    · rw [iI_le (by omega) (by omega) (by omega) (by omega)] at q; omega
    · rw [iI_suc]
      refine ih (i + 1) _ (by omega) h1 (fun k j hk => ?_) (fun s j hs hj => ?_) (fun j b' hj hb' => ?_)
      · rw [mst_a (by omega), if_neg (fun q => hk q.1)]; exact h2 k j hk
      · rw [mst_a (by omega), if_neg (fun q => by omega)]; exact h3 s j hs hj
      · rw [mst_a (by omega)]
        by_cases hji : j = i
        · subst hji
          rw [hbi] at hb'; cases hb'
          rw [if_pos ⟨rfl, rfl⟩]
        · rw [if_neg (fun q => by omega)]; exact h4 j b' (by omega) hb'
end MHE
