/-! THE HOUSE OVER S, M (16): the house at rest -/
def mHt (st : MSt) (H : HO) (u : Nat) : Prop := fI st 3 = iI (H.tp.2 : Int) ∧ H.tp.2 ≤ u ∧ u ≤ 2000 ∧ ∀ j, j < H.tp.2 → st.2 2 j = iI (H.tp.1 j : Int) ∧ H.tp.1 j < 256
def mHk (st : MSt) (H : HO) : Prop := fI st 29 = iI (H.mk.length : Int) ∧ H.mk.length ≤ 20 ∧ (∀ (i m : Nat), H.mk[i]? = some m → st.2 28 i = iI (m : Int) ∧ m ≤ H.cx.length) ∧ ∀ (i j a b : Nat), i ≤ j → H.mk[i]? = some a → H.mk[j]? = some b → a ≤ b
def MH (st : MSt) (H : HO) (kn : Nat → Nat) (u : Nat) : Prop := mHt st H u ∧ (fI st 12 = iI (H.ft.1 : Int) ∧ fI st 13 = iI H.ft.2.1 ∧ fI st 14 = iI (H.ft.2.2 : Int)) ∧ mHc st H.lim H.tb H.cx kn H.K ∧ mHk st H ∧ (fI st 15 = iI 0 ∧ fI st 72 = 0) ∧ kT kn H.cx.length + 2 * (60000 - H.K.life) + (203 + 4 * u) ≤ 140000 ∧ H.K.outs < 2000000000
section MHP
variable {P : MPl} {s0 : State} {l : Launch} {XX : Prop} {lev : Nat} {Q : Outcome → MSt → Prop} {st st' st'' st0 : MSt} {X X' : SX} {J : JX} {K K' : KS} {nd nd' ce ce' wa x y lo hi ns ch z o nn nd0 p nk lim u n : Nat} {t : TX} {tb tb' : HT} {cx cx' : List CN} {x1 x2 : Int32} {kn kn' : Nat → Nat} {cn : CN} {s1 : ST} {H : HO}
theorem MH.mv (h : MH st H kn u) (h1 : ∀ k, k = 3 ∨ (12 ≤ k ∧ k ≤ 15) ∨ k = 20 ∨ k = 27 ∨ k = 29 ∨ k = 39 ∨ (63 ≤ k ∧ k ≤ 72) ∨ k = 75 → st'.1 k = st.1 k) (h2 : ∀ k j, k = 2 ∨ (16 ≤ k ∧ k ≤ 26) ∨ k = 28 ∨ k = 74 ∨ (30 ≤ k ∧ k ≤ 38 ∧ j < kT kn H.cx.length) → st'.2 k j = st.2 k j) : MH st' H kn u := by
  obtain ⟨⟨a1, a2, a3, a4⟩, ⟨b1, b2, b3⟩, c, ⟨d1, d2, d3, d4⟩, ⟨e1, e2⟩, f⟩ := h
  exact ⟨⟨(h1 3 (by omega)).trans a1, a2, a3, fun j hj => ⟨(h2 2 j (by omega)).trans (a4 j hj).1, (a4 j hj).2⟩⟩, ⟨(h1 12 (by omega)).trans b1, (h1 13 (by omega)).trans b2, (h1 14 (by omega)).trans b3⟩, c.mv (fun j hj => h1 j (by omega)) (fun k j hk => h2 k j (by omega)), ⟨(h1 29 (by omega)).trans d1, d2, fun i m q => ⟨(h2 28 i (by omega)).trans (d3 i m q).1, (d3 i m q).2⟩, d4⟩, ⟨(h1 15 (by omega)).trans e1, (h1 72 (by omega)).trans e2⟩, f⟩
theorem MH.pt {k : Nat} {v : Int32} (h : MH st H kn u) (hk : ¬ (k = 3 ∨ (12 ≤ k ∧ k ≤ 15) ∨ k = 20 ∨ k = 27 ∨ k = 29 ∨ k = 39 ∨ (63 ≤ k ∧ k ≤ 72) ∨ k = 75)) : MH (mput k v st) H kn u := h.mv (fun j hj => by rw [mput_f, if_neg (by omega)]) (fun _ _ _ => rfl)
/-- it fails -/
theorem m_fail (hl : 1 ≤ lev) (h : MH st H kn u) (ok : ∀ st', MH st' H kn u → fI st' 1 = iI 1 → Q (.returned (some (.int (iI 0)))) st') : CQ (wM P s0 l XX) mX5_fail lev (.ref P.mo :: [.int (iI 1)]) st Q := by
  obtain ⟨l', rfl⟩ : ∃ l', lev = l' + 1 := ⟨lev - 1, by omega⟩
  exact tX5_fail (ok _ (h.pt (by omega)) fI_self)
theorem m_thrown (hl : 1 ≤ lev) (ok : Q (.returned (some (.int (fI st 1)))) st) : CQ (wM P s0 l XX) mX5_thrown lev (.ref P.mo :: []) st Q := by
  obtain ⟨l', rfl⟩ : ∃ l', lev = l' + 1 := ⟨lev - 1, by omega⟩
  exact tX5_thrown ok
/-- the tape's bytes become the text -/
theorem m_tcop (hn : n ≤ 4000) (ok : ∀ st', st'.1 = st0.1 → (∀ k j, k ≠ 4 → st'.2 k j = st0.2 k j) → (∀ j, j < n → st'.2 4 j = st0.2 2 j) → jX5_text_25 P s0 l XX lev st'' Q (iI (n : Int)) (iI (n : Int)) st') : ∀ (d i : Nat) (st : MSt), i + d = n → st.1 = st0.1 → (∀ k j, k ≠ 4 → st.2 k j = st0.2 k j) → (∀ j, j < i → st.2 4 j = st0.2 2 j) → jX5_text_25 P s0 l XX lev st'' Q (iI (n : Int)) (iI (i : Int)) st := by
  intro d
  induction d with
  | zero =>
    intro i st e h1 h2 h3
    have hi : i = n := by omega
    subst hi
    exact ok st h1 h2 h3
  | succ d ih =>
    intro i st e h1 h2 h3
    refine tX5_text_25 ⟨fun q => ?_, fun _ => ⟨iI_in (by omega) (by omega), iI_in (by omega) (by omega), ?_⟩⟩
    · rw [iI_le (by omega) (by omega) (by omega) (by omega)] at q; omega
    · rw [iI_suc]
      refine ih (i + 1) _ (by omega) h1 (fun k j hk => ?_) (fun j hj => ?_)
      · rw [mst_a (by omega), if_neg (fun q => hk q.1)]; exact h2 k j hk
      · rw [mst_a (by omega)]
        by_cases q : j = i
        · subst q
          rw [if_pos ⟨rfl, rfl⟩, aI_n (by omega)]; exact h2 2 j (by omega)
        · rw [if_neg (fun w => q w.2)]; exact h3 j (by omega)
end MHP
