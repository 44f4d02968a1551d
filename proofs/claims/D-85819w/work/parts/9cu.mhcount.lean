/-! THE HOUSE OVER S, M (21): count, feed -/
section MHU
variable {P : MPl} {s0 : State} {l : Launch} {XX : Prop} {lev : Nat} {Q : Outcome → MSt → Prop} {st st' st'' st0 : MSt} {K K' : KS} {u n : Nat} {x1 x2 x3 x4 x5 v : Int32} {kn kn' : Nat → Nat} {H : HO}
theorem cntR_le {f : Nat → Int} : ∀ i, cntR f i ≤ i := by
  intro i
  induction i with
  | zero => exact Nat.le_refl _
  | succ i ih => show cntR f i + (if f i = -1 then 0 else 1) ≤ i + 1; split <;> omega
theorem cntR_cut {f : Nat → Int} {a : Nat} (h : ∀ k, a ≤ k → f k = -1) : ∀ d, cntR f (a + d) = cntR f a := by
  intro d
  induction d with
  | zero => rfl
  | succ d ih => show cntR f (a + d) + (if f (a + d) = -1 then 0 else 1) = _; rw [ih, if_pos (h _ (by omega))]; rfl
theorem m_cnt1 {f : Nat → Int} {ns : Nat} (h20 : fI st 20 = iI (ns : Int)) (hns : ns ≤ 8) (hf : ∀ i, i < 8 → st.2 18 i = iI (f i) ∧ -1 ≤ f i ∧ f i < 100) (ok : jX5_count_48 P s0 l XX lev st0 Q x1 (iI (cntR f ns : Int)) (iI 0) (iI 0) st) : ∀ (d i : Nat), i + d = ns → jX5_count_12 P s0 l XX lev st0 Q x1 (iI (cntR f i : Int)) (iI 0) (iI (i : Int)) st := by
  intro d
  induction d with
  | zero =>
    intro i e
    have hi : i = ns := by omega
    subst hi
    exact tX5_count_12 ⟨fun _ => ok, fun q => absurd (by rw [h20, iI_le (by omega) (by omega) (by omega) (by omega)]; omega) q⟩
  | succ d ih =>
    intro i e
    obtain ⟨f1, f2, f3⟩ := hf i (by omega)
    have hbi := cntR_le (f := f) i
    have e1 : cntR f (i + 1) = cntR f i + if f i = -1 then 0 else 1 := rfl
    have a18 : aI st 18 (iI (i : Int)) = iI (f i) := by rw [aI_n (by omega)]; exact f1
    refine tX5_count_12 ⟨fun q => ?_, fun q => ⟨iI_in (by omega) (by omega), fun q2 => ?_, fun q2 => ?_⟩⟩
    · rw [h20, iI_le (by omega) (by omega) (by omega) (by omega)] at q; omega
    · rw [a18, iI_z, iI_lt (by omega) (by omega) (by omega) (by omega)] at q2
      have := ih (i + 1) (by omega)
      rw [e1, if_pos (by omega)] at this
      rw [iI_suc, iI_add]
      exact this
    · rw [a18, iI_z, iI_lt (by omega) (by omega) (by omega) (by omega)] at q2
      have := ih (i + 1) (by omega)
      rw [e1, if_neg (by omega)] at this
      rw [iI_suc, iI_suc]
      exact this
theorem m_cnt2 {f : Nat → Int} (hf : ∀ i, i < 64 → st.2 19 i = iI (f i) ∧ -1 ≤ f i ∧ f i < 100) (ok : jX5_count_48 P s0 l XX lev st0 Q x1 x2 (iI (cntR f 64 : Int)) (iI ((64 : Nat) : Int)) st) : ∀ (d i : Nat), i + d = 64 → jX5_count_48 P s0 l XX lev st0 Q x1 x2 (iI (cntR f i : Int)) (iI (i : Int)) st := by
  intro d
  induction d with
  | zero =>
    intro i e
    have hi : i = 64 := by omega
    subst hi
    exact ok
  | succ d ih =>
    intro i e
    obtain ⟨f1, f2, f3⟩ := hf i (by omega)
    have hbi := cntR_le (f := f) i
    have e1 : cntR f (i + 1) = cntR f i + if f i = -1 then 0 else 1 := rfl
    have a19 : aI st 19 (iI (i : Int)) = iI (f i) := by rw [aI_n (by omega)]; exact f1
    refine tX5_count_48 ⟨fun q => ?_, fun q => ⟨iI_in (by omega) (by omega), fun q2 => ?_, fun q2 => ?_⟩⟩
    · rw [iI_le (by omega) (by omega) (by omega) (by omega)] at q; omega
    · rw [a19, iI_z, iI_lt (by omega) (by omega) (by omega) (by omega)] at q2
      have := ih (i + 1) (by omega)
      rw [e1, if_pos (by omega)] at this
      rw [iI_suc, iI_add]
      exact this
    · rw [a19, iI_z, iI_lt (by omega) (by omega) (by omega) (by omega)] at q2
      have := ih (i + 1) (by omega)
      rw [e1, if_neg (by omega)] at this
      rw [iI_suc, iI_suc]
      exact this
theorem m_ocount (hl : 2 ≤ lev) (h : MH st H kn u)
    (bad : ¬ (0 ≤ x1.toInt ∧ x1.toInt ≤ 13) → ∀ st', MH st' H kn u → fI st' 1 = iI 1 → Q (.returned (some (.int (iI 0)))) st')
    (ok : ∀ (j : Nat) st', x1 = iI (j : Int) → j ≤ 13 → MH st' H kn u → fI st' 1 = iI 0 → Q (.returned (some (.int (iI (oCount j H : Int))))) st') : CQ (wM P s0 l XX) mX5_count lev (.ref P.mo :: [.int x1]) st Q := by
  obtain ⟨l', rfl⟩ : ∃ l', lev = l' + 1 := ⟨lev - 1, by omega⟩
  have h1 : MH (mput 1 (iI 0) st) H kn u := h.c0
  have f1 : fI (mput 1 (iI 0) st) 1 = iI 0 := fI_self
  refine tX5_count ?_
  generalize mput 1 (iI 0) st = s1 at h1 f1 ⊢
  have h0 := h1
  obtain ⟨⟨a1, -⟩, b, ⟨⟨⟨c1, c2⟩, -, c4, c5, -, -, -, c9⟩, -, c3, -, ⟨⟨-, g2, g3, g4⟩, g5, -⟩, -⟩, ⟨d1, -⟩, -⟩ := h0
  refine m_cnt1 (f := H.tb.2.1) c1 c2 (fun i hi => ⟨(c4 i hi).1, (c4 i hi).2.1, by have := (c4 i hi).2.2; omega⟩) ?_ H.tb.1.length 0 (by omega)
  have e8 : cntR H.tb.2.1 H.tb.1.length = cntR H.tb.2.1 8 := by
    have := cntR_cut (f := H.tb.2.1) c9 (8 - H.tb.1.length)
    rw [← this]; congr 1; omega
  rw [e8]
  refine m_cnt2 (f := fun i => H.tb.2.2 (i / 8) (i % 8)) (fun i hi => ?_) ?_ 64 0 (by omega)
  · have := c5 (i / 8) (i % 8) (by omega) (by omega)
    rw [show 8 * (i / 8) + i % 8 = i by omega] at this
    exact ⟨this.1, this.2.1, by have := this.2.2; show H.tb.2.2 (i / 8) (i % 8) < 100; omega⟩
  · refine tX5_count_48 ⟨fun _ => ⟨fun q => ?_, fun q => ?_, fun q => ?_, fun q => ?_, fun q => ?_, fun q => ?_, fun q => ?_, fun q => ?_, fun q => ?_, fun q => ?_, fun q => ?_, fun q => ?_, fun q => ?_, fun q => ?_, fun q => m_fail (by omega) h1 (fun st' k1 k2 => onI_ret (bad (fun w => by unfold tout at q; omega) st' k1 k2))⟩, fun q => absurd (by rw [iI_le (by omega) (by omega) (by omega) (by omega)]; omega) q⟩
    · have o := ok 0 s1 q (by omega) h1 f1; rw [g2]; exact o
    · have o := ok 1 s1 q (by omega) h1 f1; rw [show fI s1 66 = _ from g4 0 (by omega)]; exact o
    · have o := ok 2 s1 q (by omega) h1 f1; rw [show fI s1 67 = _ from g4 1 (by omega)]; exact o
    · have o := ok 3 s1 q (by omega) h1 f1; rw [show fI s1 68 = _ from g4 2 (by omega)]; exact o
    · have o := ok 4 s1 q (by omega) h1 f1; rw [show fI s1 69 = _ from g4 3 (by omega)]; exact o
    · have o := ok 5 s1 q (by omega) h1 f1; rw [show fI s1 70 = _ from g4 4 (by omega)]; exact o
    · have o := ok 6 s1 q (by omega) h1 f1; rw [show fI s1 71 = _ from g4 5 (by omega)]; exact o
    · have o := ok 7 s1 q (by omega) h1 f1; rw [g3]; exact o
    · have o := ok 8 s1 q (by omega) h1 f1; rw [c3]; exact o
    · have o := ok 9 s1 q (by omega) h1 f1; rw [c1]; exact o
    · exact ok 10 s1 q (by omega) h1 f1
    · exact ok 11 s1 q (by omega) h1 f1
    · have o := ok 12 s1 q (by omega) h1 f1; rw [d1]; exact o
    · have o := ok 13 s1 q (by omega) h1 f1; rw [a1]; exact o
/-- a byte that is fed -/
theorem fd_by (v : Int32) {i : Nat} (hi : i < 20) : (v >>> ((iI 24 - iI 8 * (iI (i : Int) - iI (i : Int) / iI 4 * iI 4)) &&& 31)) &&& iI 255 = iI (byW v (i % 4) : Int) ∧ byW v (i % 4) < 256 := by
  have e : ∀ i : Fin 20, (iI 24 - iI 8 * (iI (i.val : Int) - iI (i.val : Int) / iI 4 * iI 4)) &&& 31 = iI (24 - 8 * ((i.val % 4 : Nat) : Int)) := by decide
  have e' := e ⟨i, hi⟩
  dsimp only at e'
  rw [e']
  unfold byW
  obtain ⟨b, h1, h2, h3⟩ := and255 (v >>> iI (24 - 8 * ((i % 4 : Nat) : Int)))
  rw [h3]
  exact ⟨h2, h1⟩
theorem m_fd (p : Nat) (hp : p + 20 ≤ 4000) (ok : ∀ st', (∀ k, k ≠ 3 → st'.1 k = st0.1 k) → fI st' 3 = iI ((p + 20 : Nat) : Int) → (∀ k j, k ≠ 2 ∨ j < p → st'.2 k j = st0.2 k j) → (∀ j, j < 20 → st'.2 2 (p + j) = iI (byW (wAt x1 x2 x3 x4 x5 j) (j % 4) : Int) ∧ byW (wAt x1 x2 x3 x4 x5 j) (j % 4) < 256) → Q (.returned (some (.int (iI ((p + 20 : Nat) : Int))))) st') : ∀ (d i : Nat) (st : MSt), i + d = 20 → (∀ k, k ≠ 3 → st.1 k = st0.1 k) → fI st 3 = iI ((p + i : Nat) : Int) → (∀ k j, k ≠ 2 ∨ j < p → st.2 k j = st0.2 k j) → (∀ j, j < i → st.2 2 (p + j) = iI (byW (wAt x1 x2 x3 x4 x5 j) (j % 4) : Int) ∧ byW (wAt x1 x2 x3 x4 x5 j) (j % 4) < 256) → jX5_feed_23 P s0 l XX lev st'' Q x1 x2 x3 x4 x5 (iI (i : Int)) st := by
  intro d
  induction d with
  | zero =>
    intro i st e h1 h2 h3 h4
    have hi : i = 20 := by omega
    subst hi
    refine tX5_feed_23 ⟨fun _ => ?_, fun q => absurd (by rw [iI_le (by omega) (by omega) (by omega) (by omega)]; omega) q⟩
    rw [h2]
    exact ok st h1 h2 h3 h4
  | succ d ih =>
    intro i st e h1 h2 h3 h4
    have hi : i < 20 := by omega
    have nx : ∀ w : Int32, w = wAt x1 x2 x3 x4 x5 i → inr (fI st 3) 4000 ∧ jX5_feed_23 P s0 l XX lev st'' Q x1 x2 x3 x4 x5 (iI (i : Int) + iI 1) (mput 3 (fI st 3 + iI 1) (mst 2 (fI st 3) ((w >>> ((iI 24 - iI 8 * (iI (i : Int) - iI (i : Int) / iI 4 * iI 4)) &&& 31)) &&& iI 255) st)) := fun w hw => by
      obtain ⟨b1, b2⟩ := fd_by w hi
      rw [b1, h2, iI_suc, iI_suc]
      refine ⟨iI_in (by omega) (by omega), ih (i + 1) _ (by omega) (fun k hk => ?_) fI_self (fun k j hk => ?_) (fun j hj => ?_)⟩
      · rw [mput_f, if_neg hk]; exact h1 k hk
      · rw [mput_a, mst_a (by omega), if_neg (by omega)]; exact h3 k j hk
      · rw [mput_a, mst_a (by omega)]
        by_cases q : j = i
        · subst q
          rw [if_pos ⟨rfl, rfl⟩, ← hw]
          exact ⟨rfl, b2⟩
        · rw [if_neg (by omega)]; exact h4 j (by omega)
    have le : ∀ k : Nat, k ≤ 100 → (iI (k : Int) ≤ iI (i : Int) ↔ k ≤ i) := fun k hk => by rw [iI_le (by omega) (by omega) (by omega) (by omega)]; omega
    refine tX5_feed_23 ⟨fun q => ?_, fun _ => ⟨fun q1 => ⟨fun q2 => ⟨fun q3 => ⟨fun q4 => nx x5 ?_, fun q4 => nx x4 ?_⟩, fun q3 => nx x3 ?_⟩, fun q2 => nx x2 ?_⟩, fun q1 => nx x1 ?_⟩⟩
    · have := (le 20 (by omega)).mp q; omega
    all_goals unfold wAt
    · have := (le 16 (by omega)).mp q4
      rw [if_neg (by omega), if_neg (by omega), if_neg (by omega), if_neg (by omega)]
    · have a := (le 12 (by omega)).mp q3
      have b : ¬ 16 ≤ i := fun w => q4 ((le 16 (by omega)).mpr w)
      rw [if_neg (by omega), if_neg (by omega), if_neg (by omega), if_pos (by omega)]
    · have a := (le 8 (by omega)).mp q2
      have b : ¬ 12 ≤ i := fun w => q3 ((le 12 (by omega)).mpr w)
      rw [if_neg (by omega), if_neg (by omega), if_pos (by omega)]
    · have a := (le 4 (by omega)).mp q1
      have b : ¬ 8 ≤ i := fun w => q2 ((le 8 (by omega)).mpr w)
      rw [if_neg (by omega), if_pos (by omega)]
    · have b : ¬ 4 ≤ i := fun w => q1 ((le 4 (by omega)).mpr w)
      rw [if_pos (by omega)]
theorem m_feed (hl : 1 ≤ lev) (h : MH st H kn u) (hu : H.tp.2 + 20 ≤ u) (ok : ∀ st', MH st' (oFeed x1 x2 x3 x4 x5 H) kn u → fI st' 1 = iI 0 → Q (.returned (some (.int (iI ((H.tp.2 + 20 : Nat) : Int))))) st') : CQ (wM P s0 l XX) mX5_feed lev (.ref P.mo :: [.int x1, .int x2, .int x3, .int x4, .int x5]) st Q := by
  obtain ⟨l', rfl⟩ : ∃ l', lev = l' + 1 := ⟨lev - 1, by omega⟩
  have h0 := h
  obtain ⟨⟨a1, a2, a3, a4⟩, b, c, d, e, f1, f2⟩ := h0
  refine tX5_feed ⟨fun _ => ?_, fun q => ?_⟩
  · refine m_fd (st0 := mput 1 (iI 0) st) H.tp.2 (by omega) (fun s2 i1 i2 i3 i4 => ?_) 20 0 _ (by omega) (fun _ _ => rfl) ((fI_put (by omega)).trans a1) (fun _ _ _ => rfl) (fun j hj => by omega)
    have F : ∀ k, k ≠ 3 → k ≠ 1 → fI s2 k = fI st k := fun k q1 q2 => (i1 k q1).trans (by rw [mput_f, if_neg q2])
    have A : ∀ k j, k ≠ 2 ∨ j < H.tp.2 → s2.2 k j = st.2 k j := i3
    refine ok s2 ⟨⟨i2, hu, a3, fun j hj => ?_⟩, ⟨(F 12 (by omega) (by omega)).trans b.1, (F 13 (by omega) (by omega)).trans b.2.1, (F 14 (by omega) (by omega)).trans b.2.2⟩, c.mv (fun j hj => F j (by omega) (by omega)) (fun k j hk => A k j (by omega)), ⟨(F 29 (by omega) (by omega)).trans d.1, d.2.1, fun i m q => ⟨(A 28 i (by omega)).trans (d.2.2.1 i m q).1, (d.2.2.1 i m q).2⟩, d.2.2.2⟩, ⟨(F 15 (by omega) (by omega)).trans e.1, (F 72 (by omega) (by omega)).trans e.2⟩, f1, f2⟩ ((i1 1 (by omega)).trans fI_self)
    have hj' : j < H.tp.2 + 20 := hj
    show s2.2 2 j = iI ((if H.tp.2 ≤ j ∧ j < H.tp.2 + 20 then byW (wAt x1 x2 x3 x4 x5 (j - H.tp.2)) ((j - H.tp.2) % 4) else H.tp.1 j : Nat) : Int) ∧ (if H.tp.2 ≤ j ∧ j < H.tp.2 + 20 then byW (wAt x1 x2 x3 x4 x5 (j - H.tp.2)) ((j - H.tp.2) % 4) else H.tp.1 j) < 256
    by_cases q : j < H.tp.2
    · rw [if_neg (by omega), A 2 j (Or.inr q)]; exact a4 j q
    · rw [if_pos (by omega)]
      have := i4 (j - H.tp.2) (by omega)
      rw [show H.tp.2 + (j - H.tp.2) = j by omega] at this
      exact this
  · exfalso
    rw [a1, iI_add, iI_le (by omega) (by omega) (by omega) (by omega)] at q; omega
end MHU
