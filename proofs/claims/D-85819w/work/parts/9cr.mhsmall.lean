/-! THE HOUSE OVER S, M (18): small operations -/
section MHR
variable {P : MPl} {s0 : State} {l : Launch} {XX : Prop} {lev : Nat} {Q : Outcome → MSt → Prop} {st st' st'' st0 : MSt} {K K' : KS} {u n : Nat} {x1 x2 x3 x4 x5 : Int32} {kn kn' : Nat → Nat} {H : HO}
theorem x_le {x : Int32} {z : Int} (h1 : -2147483648 ≤ z) (h2 : z < 2147483648) : (x ≤ iI z ↔ x.toInt ≤ z) := by
  have hx := x_rg x
  have e := iI_of x
  constructor
  · intro h; rw [e, iI_le hx.1 hx.2 h1 h2] at h; exact h
  · intro h; rw [e, iI_le hx.1 hx.2 h1 h2]; exact h
theorem x_nat {x : Int32} (h : 0 ≤ x.toInt) : ∃ k : Nat, x.toInt = (k : Int) ∧ x = iI (k : Int) := by
  obtain ⟨k, hk⟩ : ∃ k : Nat, x.toInt = (k : Int) := ⟨x.toInt.toNat, by omega⟩
  exact ⟨k, hk, by rw [← hk]; exact iI_of x⟩
theorem MH.c0 (h : MH st H kn u) : MH (mput 1 (iI 0) st) H kn u := h.pt (by omega)
/-- what is asked for is not there -/
theorem m_bad (hl : 1 ≤ lev) (h : MH st H kn u) (ok : ∀ st', MH st' H kn u → fI st' 1 = iI 1 → Q (.returned (some (.int (iI 0)))) st') : CQ (wM P s0 l XX) mX5_fail lev (.ref P.mo :: [.int (iI 1)]) (mput 1 (iI 0) st) (onI (fun r2 t1 => Q (.returned (some (.int r2))) t1) (fun x t => Q (.threw x) t)) := m_fail hl h.c0 (fun st' k1 k2 => onI_ret (ok st' k1 k2))
theorem m_fault (hl : 2 ≤ lev) (h : MH st H kn u)
    (bad : ¬ (0 ≤ x1.toInt ∧ x1.toInt ≤ 2) → ∀ st', MH st' H kn u → fI st' 1 = iI 1 → Q (.returned (some (.int (iI 0)))) st')
    (ok : ∀ st', 0 ≤ x1.toInt → x1.toInt ≤ 2 → MH st' H kn u → fI st' 1 = iI 0 → Q (.returned (some (.int (iI (oFault x1.toInt H))))) st') : CQ (wM P s0 l XX) mX5_fault lev (.ref P.mo :: [.int x1]) st Q := by
  obtain ⟨l', rfl⟩ : ∃ l', lev = l' + 1 := ⟨lev - 1, by omega⟩
  have h0 := h
  obtain ⟨-, ⟨b1, b2, b3⟩, -⟩ := h0
  refine tX5_fault ⟨fun q => ?_, fun q => ?_, fun q => ?_, fun q => m_bad (by omega) h (bad (fun w => ?_))⟩
  · rw [(x_lt (by omega) (by omega)).2.2.2] at q
    have o := ok _ (by omega) (by omega) h.c0 fI_self
    unfold oFault at o
    rw [if_pos q] at o; rw [b1]; exact o
  · rw [(x_lt (by omega) (by omega)).2.2.2] at q
    have o := ok _ (by omega) (by omega) h.c0 fI_self
    unfold oFault at o
    rw [if_neg (by omega), if_pos q] at o; rw [b2]; exact o
  · rw [(x_lt (by omega) (by omega)).2.2.2] at q
    have o := ok _ (by omega) (by omega) h.c0 fI_self
    unfold oFault at o
    rw [if_neg (by omega), if_neg (by omega)] at o; rw [b3]; exact o
  · unfold tout at q; omega
theorem m_outs (hl : 1 ≤ lev) (h : MH st H kn u) (ok : ∀ st', MH st' H kn u → fI st' 1 = iI 0 → Q (.returned (some (.int (iI (H.K.outs : Int))))) st') : CQ (wM P s0 l XX) mX5_outs lev (.ref P.mo :: []) st Q := by
  obtain ⟨l', rfl⟩ : ∃ l', lev = l' + 1 := ⟨lev - 1, by omega⟩
  refine tX5_outs ?_
  rw [h.2.2.1.2.2.2.2.1.2.1]
  exact ok _ h.c0 fI_self
theorem m_oout (hl : 2 ≤ lev) (h : MH st H kn u)
    (bad : ¬ (0 ≤ x1.toInt ∧ x1.toInt < H.K.outs ∧ x1.toInt < 3000) → ∀ st', MH st' H kn u → fI st' 1 = iI 1 → Q (.returned (some (.int (iI 0)))) st')
    (ok : ∀ (k : Nat) st', x1 = iI (k : Int) → k < H.K.outs → k < 3000 → MH st' H kn u → fI st' 1 = iI 0 → Q (.returned (some (.int (iI (H.K.out k : Int))))) st') : CQ (wM P s0 l XX) mX5_out lev (.ref P.mo :: [.int x1]) st Q := by
  obtain ⟨l', rfl⟩ : ∃ l', lev = l' + 1 := ⟨lev - 1, by omega⟩
  have h0 := h
  obtain ⟨-, -, c, -, -, -, f2⟩ := h0
  obtain ⟨-, -, -, -, ⟨-, g5, g6⟩, -⟩ := c
  have t : ¬ (0 ≤ x1.toInt ∧ x1.toInt < H.K.outs ∧ x1.toInt < 3000) → jX5_out_24 P s0 l XX l' st Q x1 (mput 1 (iI 0) st) := fun hb => tX5_out_24 (m_bad (by omega) h (bad hb))
  refine tX5_out ⟨fun q => t (fun w => ?_), fun q1 => ⟨fun q => t (fun w => ?_), fun q2 => ⟨fun q3 => ?_, fun q => t (fun w => ?_)⟩⟩⟩
  · rw [x_z.1] at q; omega
  · rw [g5, (x_lt (by omega) (by omega)).2.2.1] at q; omega
  · rw [x_z.1] at q1
    rw [g5, (x_lt (by omega) (by omega)).2.2.1] at q2
    rw [(x_lt (by omega) (by omega)).1] at q3
    obtain ⟨k, hk, ek⟩ := x_nat (x := x1) (by omega)
    rw [ek]
    refine ⟨iI_in (by omega) (by omega), ?_⟩
    rw [aI_n (by omega), g6 k (by omega) (by omega)]
    exact ok k _ ek (by omega) (by omega) h.c0 fI_self
  · rw [(x_lt (by omega) (by omega)).1] at q; omega
theorem m_limit (hl : 2 ≤ lev) (h : MH st H kn u)
    (bad : ¬ (1 ≤ x1.toInt ∧ x1.toInt ≤ 20000) → ∀ st', MH st' H kn u → fI st' 1 = iI 1 → Q (.returned (some (.int (iI 0)))) st')
    (ok : ∀ (k : Nat) st', x1 = iI (k : Int) → 1 ≤ k → k ≤ 20000 → MH st' (oLimit k H) kn u → fI st' 1 = iI 0 → Q (.returned (some (.int (iI (H.lim : Int))))) st') : CQ (wM P s0 l XX) mX5_limit lev (.ref P.mo :: [.int x1]) st Q := by
  obtain ⟨l', rfl⟩ : ∃ l', lev = l' + 1 := ⟨lev - 1, by omega⟩
  have h0 := h
  obtain ⟨a, b, ⟨c1, c2, c3, c4, ⟨⟨g1, g2, g3, g4⟩, g5, g6⟩, c6⟩, d, e, f1, f2⟩ := h0
  have t : ¬ (1 ≤ x1.toInt ∧ x1.toInt ≤ 20000) → jX5_limit_17 P s0 l XX l' st Q x1 (mput 1 (iI 0) st) := fun hb => tX5_limit_17 (m_bad (by omega) h (bad hb))
  refine tX5_limit ⟨fun q => t (fun w => ?_), fun q1 => ⟨fun q2 => ?_, fun q => t (fun w => ?_)⟩⟩
  · rw [(x_lt (by omega) (by omega)).1] at q; omega
  · rw [(x_lt (by omega) (by omega)).1] at q1
    rw [x_le (by omega) (by omega)] at q2
    obtain ⟨k, hk, ek⟩ := x_nat (x := x1) (by omega)
    have el : fI st 63 = iI (H.lim : Int) := g1
    rw [el]
    have F : ∀ j, j ≠ 63 → j ≠ 1 → fI (mput 63 x1 (mput 1 (iI 0) st)) j = fI st j := fun j q1 q2 => by rw [fI_put q1, fI_put q2]
    refine ok k _ ek (by omega) (by omega) ⟨⟨(F 3 (by omega) (by omega)).trans a.1, a.2⟩, ⟨(F 12 (by omega) (by omega)).trans b.1, (F 13 (by omega) (by omega)).trans b.2.1, (F 14 (by omega) (by omega)).trans b.2.2⟩, ⟨c1.mv (F 20 (by omega) (by omega)) (fun _ _ _ _ => rfl) (fun _ _ _ _ _ => rfl), c2.mv (fun _ _ _ _ _ _ => rfl) (fun _ _ _ _ _ _ => rfl), (F 27 (by omega) (by omega)).trans c3, (F 39 (by omega) (by omega)).trans c4, ⟨⟨by rw [fI_self]; exact ek, (F 64 (by omega) (by omega)).trans g2, (F 65 (by omega) (by omega)).trans g3, fun j hj => (F (66 + j) (by omega) (by omega)).trans (g4 j hj)⟩, (F 75 (by omega) (by omega)).trans g5, g6⟩, by show k ≤ 20000; omega⟩, ⟨(F 29 (by omega) (by omega)).trans d.1, d.2⟩, ⟨(F 15 (by omega) (by omega)).trans e.1, (F 72 (by omega) (by omega)).trans e.2⟩, f1, f2⟩ (by rw [fI_put (by omega), fI_self])
  · rw [x_le (by omega) (by omega)] at q; omega
theorem m_orule (hl : 2 ≤ lev) (h : MH st H kn u)
    (bad : ¬ (0 ≤ x1.toInt ∧ x1.toInt < H.tb.1.length ∧ 0 ≤ x2.toInt ∧ x2.toInt < H.tb.1.length) → ∀ st', MH st' H kn u → fI st' 1 = iI 1 → Q (.returned (some (.int (iI 0)))) st')
    (ok : ∀ (a b : Nat) st', x1 = iI (a : Int) → x2 = iI (b : Int) → a < H.tb.1.length → b < H.tb.1.length → MH st' H kn u → fI st' 1 = iI 0 → Q (.returned (some (.int (iI (H.tb.2.2 a b))))) st') : CQ (wM P s0 l XX) mX5_rule lev (.ref P.mo :: [.int x1, .int x2]) st Q := by
  obtain ⟨l', rfl⟩ : ∃ l', lev = l' + 1 := ⟨lev - 1, by omega⟩
  have h0 := h
  obtain ⟨-, -, ⟨⟨⟨a1, a2⟩, -, -, a5, -⟩, -⟩, -⟩ := h0
  have t : ¬ (0 ≤ x1.toInt ∧ x1.toInt < H.tb.1.length ∧ 0 ≤ x2.toInt ∧ x2.toInt < H.tb.1.length) → jX5_rule_29 P s0 l XX l' st Q x1 x2 (mput 1 (iI 0) st) := fun hb => tX5_rule_29 (m_bad (by omega) h (bad hb))
  refine tX5_rule ⟨fun q => t (fun w => ?_), fun q1 => ⟨fun q => t (fun w => ?_), fun q2 => ⟨fun q => t (fun w => ?_), fun q3 => ⟨fun q4 => ?_, fun q => t (fun w => ?_)⟩⟩⟩⟩
  · rw [x_z.1] at q; omega
  · rw [a1, (x_lt (by omega) (by omega)).2.2.1] at q; omega
  · rw [x_z.1] at q; omega
  · rw [x_z.1] at q1 q3
    rw [a1, (x_lt (by omega) (by omega)).2.2.1] at q2
    rw [a1, (x_lt (by omega) (by omega)).1] at q4
    obtain ⟨a, ha, ea⟩ := x_nat (x := x1) (by omega)
    obtain ⟨b, hb, eb⟩ := x_nat (x := x2) (by omega)
    have e8 : iI 8 * x1 + x2 = iI ((8 * a + b : Nat) : Int) := by rw [ea, eb, iI_mul, iI_add]; congr 1
    rw [e8]
    refine ⟨iI_in (by omega) (by omega), ?_⟩
    rw [aI_n (by omega), (a5 a b (by omega) (by omega)).1]
    exact ok a b _ ea eb (by omega) (by omega) h.c0 fI_self
  · rw [a1, (x_lt (by omega) (by omega)).1] at q; omega
end MHR
