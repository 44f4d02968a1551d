/-! THE HOUSE OVER S, M (19): small operations (2) -/
section MHS
variable {P : MPl} {s0 : State} {l : Launch} {XX : Prop} {lev : Nat} {Q : Outcome → MSt → Prop} {st st' st'' st0 : MSt} {K K' : KS} {u n : Nat} {x1 x2 x3 x4 x5 : Int32} {kn kn' : Nat → Nat} {H : HO}
/-- a sign of a name -/
theorem mNa_at {kr kl i j : Nat} {bs : List Nat} (h : mNa st kr kl i bs) (hj : j < bs.length) : ∃ b, bs[j]? = some b ∧ st.2 kr (12 * i + j) = iI (b : Int) := ⟨bs[j], List.getElem?_eq_getElem hj, h.2.2 j _ (List.getElem?_eq_getElem hj)⟩
theorem m_oname (hl : 2 ≤ lev) (h : MH st H kn u)
    (bad : ¬ (0 ≤ x1.toInt ∧ x1.toInt < H.cx.length ∧ 0 ≤ x2.toInt) → ∀ st', MH st' H kn u → fI st' 1 = iI 1 → Q (.returned (some (.int (iI 0)))) st')
    (ok : ∀ (j : Nat) st', x1 = iI (j : Int) → j < H.cx.length → 0 ≤ x2.toInt → MH st' H kn u → fI st' 1 = iI 0 → Q (.returned (some (.int (iI (oName j x2.toInt.toNat H))))) st') : CQ (wM P s0 l XX) mX5_name lev (.ref P.mo :: [.int x1, .int x2]) st Q := by
  obtain ⟨l', rfl⟩ : ∃ l', lev = l' + 1 := ⟨lev - 1, by omega⟩
  have h0 := h
  obtain ⟨-, -, ⟨-, c2, c3, -⟩, -⟩ := h0
  have h100 := c2.2.2
  have t : ¬ (0 ≤ x1.toInt ∧ x1.toInt < H.cx.length ∧ 0 ≤ x2.toInt) → jX5_name_21 P s0 l XX l' st Q x1 x2 (mput 1 (iI 0) st) := fun hb => tX5_name_21 (m_bad (by omega) h (bad hb))
  refine tX5_name ⟨fun q => t (fun w => ?_), fun q1 => ⟨fun q => t (fun w => ?_), fun q2 => ⟨fun q3 => ?_, fun q => t (fun w => ?_)⟩⟩⟩
  · rw [x_z.1] at q; omega
  · rw [c3, (x_lt (by omega) (by omega)).2.2.1] at q; omega
  · rw [x_z.1] at q1
    rw [c3, (x_lt (by omega) (by omega)).2.2.1] at q2
    rw [iI_z, (x_lt (by omega) (by omega)).2.2.1] at q3
    obtain ⟨j, hj, ej⟩ := x_nat (x := x1) (by omega)
    have hjl : j < H.cx.length := by omega
    have o := ok j _ ej hjl (by omega) h.c0 fI_self
    obtain ⟨e1, e2, e3, e4, e5, e6, e7, e8⟩ := c2.1 j hjl
    unfold oName at o
    have hr2 := x_rg x2
    rw [ej]
    have i100 : inr (iI (j : Int)) 100 := iI_in (by omega) (by omega)
    refine ⟨fun q => ⟨i100, ?_⟩, fun q0 => ⟨fun q => ⟨i100, ?_⟩, fun q4 => ⟨fun q => ⟨i100, ?_⟩, fun q5 => ⟨i100, ?_⟩⟩⟩⟩
    · rw [x_z.2] at q
      rw [if_pos (by omega)] at o
      rw [aI_n (by omega)]
      cases hv : (cAt H.cx j).va with
      | none =>
        rw [hv] at o
        rw [e5 hv]
        exact ⟨fun _ => o, fun w => absurd (by decide) w⟩
      | some v =>
        rw [hv] at o
        obtain ⟨-, m, g2, g3⟩ := e6 v hv
        have hm : m < kn j := (mT_lt _ _ _ _ g3).1 rfl
        rw [g2]
        refine ⟨fun w => ?_, fun _ => o⟩
        rw [iI_z, iI_lt (by omega) (by omega) (by omega) (by omega)] at w; omega
    · rw [x_z.2] at q0
      rw [(x_lt (by omega) (by omega)).2.2.2] at q
      rw [if_neg (by omega), if_pos (by omega)] at o
      rw [aI_n (by omega), e4]; exact o
    · rw [x_z.2] at q0
      rw [(x_lt (by omega) (by omega)).2.2.2] at q4 q
      rw [if_neg (by omega), if_neg (by omega), if_pos (by omega)] at o
      rw [aI_n (by omega), e2.1]; exact o
    · rw [x_z.2] at q0
      rw [(x_lt (by omega) (by omega)).2.2.2] at q4 q5
      rw [if_neg (by omega), if_neg (by omega), if_neg (by omega)] at o
      obtain ⟨w, hw⟩ : ∃ w : Nat, x2.toInt = ((w + 3 : Nat) : Int) := ⟨x2.toInt.toNat - 3, by omega⟩
      have ew : x2 = iI ((w + 3 : Nat) : Int) := by rw [← hw]; exact iI_of x2
      have es : x2 - iI 3 = iI (w : Int) := by rw [ew, iI_sub]; congr 1; omega
      have e12 : iI 12 * iI (j : Int) + x2 - iI 3 = iI (12 * (j : Int) + (w : Int)) := by rw [ew, iI_mul, iI_add, iI_sub]; congr 1; omega
      rw [show x2.toInt.toNat - 3 = w by omega] at o
      rw [aI_n (by omega), e2.1, es, e12]
      refine ⟨fun q => ?_, fun q => ?_⟩
      · rw [iI_le (by omega) (by have := e2.2.1; omega) (by omega) (by omega)] at q
        rw [List.getElem?_eq_none (by omega)] at o
        exact o
      · rw [iI_le (by omega) (by have := e2.2.1; omega) (by omega) (by omega)] at q
        obtain ⟨b, b1, b2⟩ := mNa_at e2 (j := w) (by omega)
        rw [b1] at o
        have e12' : iI (12 * (j : Int) + (w : Int)) = iI ((12 * j + w : Nat) : Int) := by congr 1
        have := e2.2.1
        rw [e12']
        refine ⟨iI_in (by omega) (by omega), ?_⟩
        rw [aI_n (by omega), b2]; exact o
  · rw [iI_z, (x_lt (by omega) (by omega)).2.2.1] at q; omega
theorem m_osort (hl : 2 ≤ lev) (h : MH st H kn u)
    (bad : ¬ (0 ≤ x1.toInt ∧ x1.toInt < H.tb.1.length ∧ 0 ≤ x2.toInt) → ∀ st', MH st' H kn u → fI st' 1 = iI 1 → Q (.returned (some (.int (iI 0)))) st')
    (ok : ∀ (j : Nat) st', x1 = iI (j : Int) → j < H.tb.1.length → 0 ≤ x2.toInt → MH st' H kn u → fI st' 1 = iI 0 → Q (.returned (some (.int (iI (oSort j x2.toInt.toNat H))))) st') : CQ (wM P s0 l XX) mX5_sort lev (.ref P.mo :: [.int x1, .int x2]) st Q := by
  obtain ⟨l', rfl⟩ : ∃ l', lev = l' + 1 := ⟨lev - 1, by omega⟩
  have h0 := h
  obtain ⟨-, -, ⟨⟨⟨a1, a2⟩, a3, a4, -⟩, -⟩, -⟩ := h0
  have t : ¬ (0 ≤ x1.toInt ∧ x1.toInt < H.tb.1.length ∧ 0 ≤ x2.toInt) → jX5_sort_21 P s0 l XX l' st Q x1 x2 (mput 1 (iI 0) st) := fun hb => tX5_sort_21 (m_bad (by omega) h (bad hb))
  refine tX5_sort ⟨fun q => t (fun w => ?_), fun q1 => ⟨fun q => t (fun w => ?_), fun q2 => ⟨fun q3 => ?_, fun q => t (fun w => ?_)⟩⟩⟩
  · rw [x_z.1] at q; omega
  · rw [a1, (x_lt (by omega) (by omega)).2.2.1] at q; omega
  · rw [x_z.1] at q1
    rw [a1, (x_lt (by omega) (by omega)).2.2.1] at q2
    rw [iI_z, (x_lt (by omega) (by omega)).2.2.1] at q3
    obtain ⟨j, hj, ej⟩ := x_nat (x := x1) (by omega)
    have hjl : j < H.tb.1.length := by omega
    have o := ok j _ ej hjl (by omega) h.c0 fI_self
    have e2 := a3 j hjl
    unfold oSort at o
    have hr2 := x_rg x2
    rw [ej]
    have i8 : inr (iI (j : Int)) 8 := iI_in (by omega) (by omega)
    refine ⟨fun q => ⟨i8, ?_⟩, fun q0 => ⟨fun q => ⟨i8, ?_⟩, fun q4 => ⟨i8, ?_⟩⟩⟩
    · rw [x_z.2] at q
      rw [if_pos (by omega)] at o
      rw [aI_n (by omega), (a4 j (by omega)).1]; exact o
    · rw [x_z.2] at q0
      rw [(x_lt (by omega) (by omega)).2.2.2] at q
      rw [if_neg (by omega), if_pos (by omega)] at o
      rw [aI_n (by omega), e2.1]; exact o
    · rw [x_z.2] at q0
      rw [(x_lt (by omega) (by omega)).2.2.2] at q4
      rw [if_neg (by omega), if_neg (by omega)] at o
      obtain ⟨w, hw⟩ : ∃ w : Nat, x2.toInt = ((w + 2 : Nat) : Int) := ⟨x2.toInt.toNat - 2, by omega⟩
      have ew : x2 = iI ((w + 2 : Nat) : Int) := by rw [← hw]; exact iI_of x2
      have es : x2 - iI 2 = iI (w : Int) := by rw [ew, iI_sub]; congr 1; omega
      have e12 : iI 12 * iI (j : Int) + x2 - iI 2 = iI (12 * (j : Int) + (w : Int)) := by rw [ew, iI_mul, iI_add, iI_sub]; congr 1; omega
      rw [show x2.toInt.toNat - 2 = w by omega] at o
      rw [aI_n (by omega), e2.1, es, e12]
      refine ⟨fun q => ?_, fun q => ?_⟩
      · rw [iI_le (by omega) (by have := e2.2.1; omega) (by omega) (by omega)] at q
        rw [List.getElem?_eq_none (by omega)] at o
        exact o
      · rw [iI_le (by omega) (by have := e2.2.1; omega) (by omega) (by omega)] at q
        obtain ⟨b, b1, b2⟩ := mNa_at e2 (j := w) (by omega)
        rw [b1] at o
        have e12' : iI (12 * (j : Int) + (w : Int)) = iI ((12 * j + w : Nat) : Int) := by congr 1
        have := e2.2.1
        rw [e12']
        refine ⟨iI_in (by omega) (by omega), ?_⟩
        rw [aI_n (by omega), b2]; exact o
  · rw [iI_z, (x_lt (by omega) (by omega)).2.2.1] at q; omega
end MHS
