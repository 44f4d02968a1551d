/-! THE HOUSE OVER S, M (20): small operations (3) -/
section MHT
variable {P : MPl} {s0 : State} {l : Launch} {XX : Prop} {lev : Nat} {Q : Outcome → MSt → Prop} {st st' st'' st0 : MSt} {K K' : KS} {u n : Nat} {x1 x2 x3 x4 x5 : Int32} {kn kn' : Nat → Nat} {H : HO}
theorem m_mark (hl : 2 ≤ lev) (h : MH st H kn u)
    (bad : H.mk.length = 20 → ∀ st', MH st' H kn u → fI st' 1 = iI 1 → Q (.returned (some (.int (iI 0)))) st')
    (ok : ∀ st', H.mk.length < 20 → MH st' (oMark H) kn u → fI st' 1 = iI 0 → Q (.returned (some (.int (iI ((H.mk.length + 1 : Nat) : Int))))) st') : CQ (wM P s0 l XX) mX5_mark lev (.ref P.mo :: []) st Q := by
  obtain ⟨l', rfl⟩ : ∃ l', lev = l' + 1 := ⟨lev - 1, by omega⟩
  have h0 := h
  obtain ⟨a, b, c, ⟨d1, d2, d3, d4⟩, e, f1, f2⟩ := h0
  refine tX5_mark ⟨fun q => m_bad (by omega) h (bad ?_), fun q => ?_⟩
  · rw [d1, iI_eq (by omega) (by omega) (by omega) (by omega)] at q; omega
  · rw [d1, iI_eq (by omega) (by omega) (by omega) (by omega)] at q
    rw [d1, c.2.2.1]
    refine ⟨iI_in (by omega) (by omega), ?_⟩
    rw [iI_suc]
    have F : ∀ j, j ≠ 29 → j ≠ 1 → fI (mput 29 (iI ((H.mk.length + 1 : Nat) : Int)) (mst 28 (iI (H.mk.length : Int)) (iI (H.cx.length : Int)) (mput 1 (iI 0) st))) j = fI st j := fun j q1 q2 => by
      show (mput 29 (iI ((H.mk.length + 1 : Nat) : Int)) (mst 28 (iI (H.mk.length : Int)) (iI (H.cx.length : Int)) (mput 1 (iI 0) st))).1 j = _
      rw [mput_f, if_neg q1]
      show (mput 1 (iI 0) st).1 j = _
      rw [mput_f, if_neg q2]
    have A : ∀ k j, (mput 29 (iI ((H.mk.length + 1 : Nat) : Int)) (mst 28 (iI (H.mk.length : Int)) (iI (H.cx.length : Int)) (mput 1 (iI 0) st))).2 k j = if k = 28 ∧ j = H.mk.length then iI (H.cx.length : Int) else st.2 k j := fun k j => by
      rw [mput_a, mst_a (by omega)]; rfl
    have f29 : fI (mput 29 (iI ((H.mk.length + 1 : Nat) : Int)) (mst 28 (iI (H.mk.length : Int)) (iI (H.cx.length : Int)) (mput 1 (iI 0) st))) 29 = iI ((H.mk.length + 1 : Nat) : Int) := fI_self
    have f1' : fI (mput 29 (iI ((H.mk.length + 1 : Nat) : Int)) (mst 28 (iI (H.mk.length : Int)) (iI (H.cx.length : Int)) (mput 1 (iI 0) st))) 1 = iI 0 := by rw [fI_put (by omega)]; exact fI_self (st := st) (k := 1)
    generalize mput 29 (iI ((H.mk.length + 1 : Nat) : Int)) (mst 28 (iI (H.mk.length : Int)) (iI (H.cx.length : Int)) (mput 1 (iI 0) st)) = s2 at F A f29 f1' ⊢
    have em : (oMark H).mk = H.mk ++ [H.cx.length] := rfl
    refine ok s2 (by omega) ⟨⟨(F 3 (by omega) (by omega)).trans a.1, a.2.1, a.2.2.1, fun j hj => ⟨by rw [A, if_neg (by omega)]; exact (a.2.2.2 j hj).1, (a.2.2.2 j hj).2⟩⟩, ⟨(F 12 (by omega) (by omega)).trans b.1, (F 13 (by omega) (by omega)).trans b.2.1, (F 14 (by omega) (by omega)).trans b.2.2⟩, c.mv (fun j hj => F j (by omega) (by omega)) (fun k j hk => by rw [A, if_neg (by omega)]), ⟨?_, ?_, ?_, ?_⟩, ⟨(F 15 (by omega) (by omega)).trans e.1, (F 72 (by omega) (by omega)).trans e.2⟩, f1, f2⟩ f1'
    · rw [em, List.length_append]; exact f29
    · rw [em, List.length_append]; show H.mk.length + 1 ≤ 20; omega
    · intro i m hi
      rw [em] at hi
      show s2.2 28 i = iI (m : Int) ∧ m ≤ H.cx.length
      rcases Nat.lt_or_ge i H.mk.length with w | w
      · rw [List.getElem?_append_left w] at hi
        rw [A, if_neg (by omega)]
        exact d3 i m hi
      · rw [List.getElem?_append_right w] at hi
        have : i - H.mk.length = 0 := by
          rcases Nat.eq_zero_or_pos (i - H.mk.length) with z | z
          · exact z
          · rw [List.getElem?_eq_none (by simp; omega)] at hi; cases hi
        have hi' : i = H.mk.length := by omega
        subst hi'
        simp at hi
        subst hi
        rw [A, if_pos ⟨rfl, rfl⟩]
        exact ⟨rfl, Nat.le_refl _⟩
    · intro i j p q hij hi hj
      rw [em] at hi hj
      have get : ∀ {i p : Nat}, (H.mk ++ [H.cx.length])[i]? = some p → (i < H.mk.length ∧ H.mk[i]? = some p) ∨ (i = H.mk.length ∧ p = H.cx.length) := fun {i p} hi => by
        rcases Nat.lt_or_ge i H.mk.length with w | w
        · rw [List.getElem?_append_left w] at hi; exact Or.inl ⟨w, hi⟩
        · rw [List.getElem?_append_right w] at hi
          have : i - H.mk.length = 0 := by
            rcases Nat.eq_zero_or_pos (i - H.mk.length) with z | z
            · exact z
            · rw [List.getElem?_eq_none (by simp; omega)] at hi; cases hi
          rw [this] at hi
          simp at hi
          exact Or.inr ⟨by omega, hi.symm⟩
      rcases get hi with ⟨w1, w2⟩ | ⟨w1, w2⟩
      · rcases get hj with ⟨w3, w4⟩ | ⟨w3, w4⟩
        · exact d4 i j p q hij w2 w4
        · rw [w4]; exact (d3 i p w2).2
      · rcases get hj with ⟨w3, w4⟩ | ⟨w3, w4⟩
        · omega
        · omega
theorem mCx.take {ns k : Nat} {cx : List CN} (h : mCx st ns cx kn) (hk : k ≤ cx.length) : mCx st ns (cx.take k) kn := by
  have hl : (cx.take k).length = k := by simp; omega
  refine ⟨fun j hj => ?_, fun i j hij hj => h.2.1 i j hij (by omega), by have := h.2.2; omega⟩
  rw [cAt_take (by omega)]
  exact h.1 j (by omega)
theorem kT_mono {ns k : Nat} {cx : List CN} (h : mCx st ns cx kn) (hk : k ≤ cx.length) : kT kn k ≤ kT kn cx.length := by
  cases k with
  | zero => exact (kT_8 h).1
  | succ k => exact kT_le h hk
theorem m_back (hl : 2 ≤ lev) (h : MH st H kn u)
    (bad : H.mk.length = 0 → ∀ st', MH st' H kn u → fI st' 1 = iI 1 → Q (.returned (some (.int (iI 0)))) st')
    (ok : ∀ st', 0 < H.mk.length → MH st' (oBack H) kn u → fI st' 1 = iI 0 → Q (.returned (some (.int (iI ((oBack H).cx.length : Int))))) st') : CQ (wM P s0 l XX) mX5_back lev (.ref P.mo :: []) st Q := by
  obtain ⟨l', rfl⟩ : ∃ l', lev = l' + 1 := ⟨lev - 1, by omega⟩
  have h0 := h
  obtain ⟨a, b, ⟨c1, c2, c3, c4, c5, c6⟩, ⟨d1, d2, d3, d4⟩, e, f1, f2⟩ := h0
  refine tX5_back ⟨fun q => m_bad (by omega) h (bad ?_), fun q => ?_⟩
  · rw [d1, iI_z, iI_eq (by omega) (by omega) (by omega) (by omega)] at q; omega
  · rw [d1, iI_z, iI_eq (by omega) (by omega) (by omega) (by omega)] at q
    have hpos : 0 < H.mk.length := by omega
    have es : iI (H.mk.length : Int) - iI 1 = iI ((H.mk.length - 1 : Nat) : Int) := by rw [iI_sub]; congr 1; omega
    obtain ⟨m, hm⟩ : ∃ m, H.mk[H.mk.length - 1]? = some m := ⟨_, List.getElem?_eq_getElem (by omega)⟩
    obtain ⟨m1, m2⟩ := d3 _ m hm
    have h100 := c2.2.2
    have a28 : aI st 28 (iI ((H.mk.length - 1 : Nat) : Int)) = iI (m : Int) := by rw [aI_n (by omega)]; exact m1
    have ed : H.mk.getLastD 0 = m := by
      rw [List.getLastD_eq_getLast?, List.getLast?_eq_getElem?, hm]; rfl
    have ec : (oBack H).cx = H.cx.take m := by show H.cx.take (H.mk.getLastD 0) = _; rw [ed]
    have el : (oBack H).cx.length = m := by rw [ec]; simp; omega
    have ek : (oBack H).mk = H.mk.dropLast := rfl
    have hdl : H.mk.dropLast.length = H.mk.length - 1 := by simp
    have hget : ∀ {i p : Nat}, H.mk.dropLast[i]? = some p → H.mk[i]? = some p := fun {i p} hi => by
      have hil : i < H.mk.dropLast.length := by
        rcases Nat.lt_or_ge i H.mk.dropLast.length with w | w
        · exact w
        · rw [List.getElem?_eq_none w] at hi; cases hi
      rw [List.getElem?_dropLast, if_pos (by omega)] at hi
      exact hi
    have fin : ∀ v : Int32, v = iI (kT kn m : Int) → Q (.returned (some (.int (iI (m : Int))))) (mput 39 v (mput 27 (iI (m : Int)) (mput 29 (iI ((H.mk.length - 1 : Nat) : Int)) (mput 1 (iI 0) st)))) := fun v hv => by
      have F : ∀ j, j ≠ 39 → j ≠ 27 → j ≠ 29 → j ≠ 1 → fI (mput 39 v (mput 27 (iI (m : Int)) (mput 29 (iI ((H.mk.length - 1 : Nat) : Int)) (mput 1 (iI 0) st)))) j = fI st j := fun j q1 q2 q3 q4 => by rw [fI_put q1, fI_put q2, fI_put q3, fI_put q4]
      have o := ok (mput 39 v (mput 27 (iI (m : Int)) (mput 29 (iI ((H.mk.length - 1 : Nat) : Int)) (mput 1 (iI 0) st)))) hpos ⟨⟨(F 3 (by omega) (by omega) (by omega) (by omega)).trans a.1, a.2⟩, ⟨(F 12 (by omega) (by omega) (by omega) (by omega)).trans b.1, (F 13 (by omega) (by omega) (by omega) (by omega)).trans b.2.1, (F 14 (by omega) (by omega) (by omega) (by omega)).trans b.2.2⟩, ⟨c1.mv (F 20 (by omega) (by omega) (by omega) (by omega)) (fun _ _ _ _ => rfl) (fun _ _ _ _ _ => rfl), ?_, ?_, ?_, ⟨⟨(F 63 (by omega) (by omega) (by omega) (by omega)).trans c5.1.1, (F 64 (by omega) (by omega) (by omega) (by omega)).trans c5.1.2.1, (F 65 (by omega) (by omega) (by omega) (by omega)).trans c5.1.2.2.1, fun j hj => (F (66 + j) (by omega) (by omega) (by omega) (by omega)).trans (c5.1.2.2.2 j hj)⟩, (F 75 (by omega) (by omega) (by omega) (by omega)).trans c5.2.1, c5.2.2⟩, c6⟩, ⟨?_, by rw [ek, hdl]; omega, fun i p hi => ?_, fun i j p q hij hi hj => d4 i j p q hij (hget hi) (hget hj)⟩, ⟨(F 15 (by omega) (by omega) (by omega) (by omega)).trans e.1, (F 72 (by omega) (by omega) (by omega) (by omega)).trans e.2⟩, ?_, f2⟩ (by rw [fI_put (by omega), fI_put (by omega), fI_put (by omega), fI_self])
      · rw [el] at o; exact o
      · rw [ec]
        exact (c2.mv (st' := mput 39 v (mput 27 (iI (m : Int)) (mput 29 (iI ((H.mk.length - 1 : Nat) : Int)) (mput 1 (iI 0) st)))) (fun _ _ _ _ _ _ => rfl) (fun _ _ _ _ _ _ => rfl)).take m2
      · rw [el, fI_put (by omega), fI_self]
      · rw [el, fI_self]; exact hv
      · rw [ek, hdl, fI_put (by omega), fI_put (by omega), fI_self]
      · rw [el]
        have hi' := hget hi
        have hil : i < H.mk.length := by
          rcases Nat.lt_or_ge i H.mk.length with w | w
          · exact w
          · rw [List.getElem?_eq_none w] at hi'; cases hi'
        exact ⟨(d3 i p hi').1, d4 i (H.mk.length - 1) p m (by omega) hi' hm⟩
      · rw [el]
        have := kT_mono c2 m2
        have ek : (oBack H).K = H.K := rfl
        rw [ek]; omega
    rw [d1, es, a28]
    refine ⟨iI_in (by omega) (by omega), fun q2 => fin _ ?_, fun q2 => ?_⟩
    · rw [iI_z, iI_eq (by omega) (by omega) (by omega) (by omega)] at q2
      have : m = 0 := by omega
      subst this; rfl
    · rw [iI_z, iI_eq (by omega) (by omega) (by omega) (by omega)] at q2
      obtain ⟨m', rfl⟩ : ∃ m', m = m' + 1 := ⟨m - 1, by omega⟩
      have e1 : iI ((m' + 1 : Nat) : Int) - iI 1 = iI (m' : Int) := by rw [iI_sub]; congr 1; omega
      rw [e1]
      refine ⟨iI_in (by omega) (by omega), fin _ ?_⟩
      rw [aI_n (by omega)]
      exact (c2.1 m' (by omega)).1.1
end MHT
