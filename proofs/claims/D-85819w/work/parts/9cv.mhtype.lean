/-! THE HOUSE OVER S, M (22): type, same -/
section MHV
variable {P : MPl} {s0 : State} {l : Launch} {XX : Prop} {lev : Nat} {Q : Outcome → MSt → Prop} {st st' st'' st0 : MSt} {K K' : KS} {u n nd lim ns : Nat} {x1 x2 : Int32} {kn kn' : Nat → Nat} {H : HO} {tb : HT} {cx : List CN}
theorem mCx.xc (hC : mCx st tb.1.length cx kn) (h8 : tb.1.length ≤ 8) (h1 : kT kn cx.length ≤ nd) (h2 : nd ≤ 140000) : mXc (nd, cx.length, tb.1.length) st (hX lim tb cx) := by
  refine ⟨fun k hk => ?_, hC.2.2, h8, h2⟩
  have hk' : k < cx.length := hk
  obtain ⟨e1, e2, e3, e4, e5, e6, e7, e8⟩ := hC.1 k hk'
  have hkn := kT_le hC hk'
  refine ⟨e5, fun v q => ?_⟩
  obtain ⟨g1, n, g2, g3⟩ := e6 v q
  exact ⟨g1, n, g2, mT_mv (c := (kn k, k, tb.1.length)) (c' := (nd, cx.length, tb.1.length)) (st := st) (st' := st) ⟨by show kn k ≤ nd; omega, by show k ≤ cx.length; omega, Nat.le_refl _, fun _ _ _ _ _ => rfl⟩ _ _ _ _ g3⟩
theorem mCx.tn (hC : mCx st tb.1.length cx kn) (h1 : kT kn cx.length ≤ nd) {k : Nat} (hk : k < cx.length) : ∃ n : Nat, st.2 23 k = iI (n : Int) ∧ mT (nd, cx.length, tb.1.length) st (cAt cx k).ty [] n none ∧ gT (cAt cx k).ty true [] := by
  obtain ⟨e1, e2, ⟨n, e3, e3'⟩, e4, e5, e6, e7, e8⟩ := hC.1 k hk
  have hkn := kT_le hC hk
  exact ⟨n, e3, mT_mv (c := (kn k, k, tb.1.length)) (c' := (nd, cx.length, tb.1.length)) (st := st) (st' := st) ⟨by show kn k ≤ nd; omega, by show k ≤ cx.length; omega, Nat.le_refl _, fun _ _ _ _ _ => rfl⟩ _ _ _ _ e3', e7.2.2⟩
theorem mHc.nm (h : mHc st lim tb cx kn K) : mNm (nd, cx.length, tb.1.length) st (hX lim tb cx) := ⟨fun k hk => (h.2.1.1 k hk).2.1, fun s hs => h.1.2.1 s hs⟩
/-- the machine was at work -/
theorem MH.fin (h : MH st H kn u) (h1 : ∀ k, k = 3 ∨ (12 ≤ k ∧ k ≤ 15) ∨ k = 20 ∨ k = 27 ∨ k = 29 → st'.1 k = st.1 k) (h2 : ∀ k j, k = 2 ∨ (16 ≤ k ∧ k ≤ 26) ∨ k = 28 ∨ (30 ≤ k ∧ k ≤ 38 ∧ j < kT kn H.cx.length) → st'.2 k j = st.2 k j) (h39 : fI st' 39 = iI (kT kn H.cx.length : Int)) (h72 : fI st' 72 = 0) (hM : MJ0 st' (hX H.lim H.tb H.cx) K') (hl : H.K.life ≤ K'.life) (ho : K'.outs < 2000000000) : MH st' (H.tp, H.ft, H.lim, H.tb, H.cx, K', H.mk) kn u := by
  obtain ⟨⟨a1, a2, a3, a4⟩, ⟨b1, b2, b3⟩, ⟨c1, c2, c3, c4, c5, c6⟩, ⟨d1, d2, d3, d4⟩, ⟨e1, e2⟩, f1, f2⟩ := h
  have k8 := kT_8 c2
  exact ⟨⟨(h1 3 (by omega)).trans a1, a2, a3, fun j hj => ⟨(h2 2 j (by omega)).trans (a4 j hj).1, (a4 j hj).2⟩⟩, ⟨(h1 12 (by omega)).trans b1, (h1 13 (by omega)).trans b2, (h1 14 (by omega)).trans b3⟩, ⟨c1.mv (h1 20 (by omega)) (fun k j a b => h2 k j (by omega)) (fun k j a b d => h2 k j (by omega)), c2.mv (fun k j a b _ _ => h2 k j (by omega)) (fun k i a b d _ => h2 k i (by omega)), (h1 27 (by omega)).trans c3, h39, hM, c6⟩, ⟨(h1 29 (by omega)).trans d1, d2, fun i m q => ⟨(h2 28 i (by omega)).trans (d3 i m q).1, (d3 i m q).2⟩, d4⟩, ⟨(h1 15 (by omega)).trans e1, h72⟩, by show kT kn H.cx.length + 2 * (60000 - K'.life) + _ ≤ _; omega, ho⟩
theorem iI_neg (z : Int) : -(iI z) = iI (-z) := by unfold iI; rw [Int32.ofInt_neg]
theorem m_type (hl : 240 ≤ lev) (hlife : H.K.life ≤ 60000) (h : MH st H kn u)
    (bad : ¬ (0 ≤ x1.toInt ∧ x1.toInt < H.cx.length) → ∀ st', MH st' H kn u → fI st' 1 = iI 1 → Q (.returned (some (.int (iI 0)))) st')
    (ok : ∀ (k : Nat) st', x1 = iI (k : Int) → k < H.cx.length → MH st' (oType k H).1 kn u → fI st' 1 = iI 0 → Q (.returned (some (.int (iI (oType k H).2)))) st') : CQ (wM P s0 l XX) mX5_type lev (.ref P.mo :: [.int x1]) st Q := by
  obtain ⟨l', rfl⟩ : ∃ l', lev = l' + 1 := ⟨lev - 1, by omega⟩
  have h0 := h.c0
  have f1 : fI (mput 1 (iI 0) st) 1 = iI 0 := fI_self
  have c3 : fI st 27 = iI (H.cx.length : Int) := h.2.2.1.2.2.1
  have h100 : H.cx.length ≤ 100 := h.2.2.1.2.1.2.2
  have t : ¬ (0 ≤ x1.toInt ∧ x1.toInt < H.cx.length) → jX5_type_17 P s0 l XX l' st Q x1 (mput 1 (iI 0) st) := fun hb => tX5_type_17 (m_bad (by omega) h (bad hb))
  refine tX5_type ⟨fun q => t (fun w => ?_), fun q1 => ⟨fun q2 => ?_, fun q => t (fun w => ?_)⟩⟩
  · rw [x_z.1] at q; omega
  · rw [x_z.1] at q1
    rw [c3, (x_lt (by omega) (by omega)).1] at q2
    obtain ⟨k, hk, ek⟩ := x_nat (x := x1) (by omega)
    have hkl : k < H.cx.length := by omega
    clear h
    generalize mput 1 (iI 0) st = s1 at h0 f1 ⊢
    refine m_begin (by omega) h0.2.2.1 h0.2.2.2.2.1.2 (fun t1 b1 b2 b3 b4 b5 b6 b7 => onV_ret ?_)
    rw [ek]
    refine ⟨iI_in (by omega) (by omega), ?_⟩
    have hc := b7
    have k8 := kT_8 b7.2.1
    obtain ⟨n, n1, n2, n3⟩ := b7.2.1.tn (nd := kT kn H.cx.length) (Nat.le_refl _) hkl
    rw [show aI t1 23 (iI (k : Int)) = iI (n : Int) by rw [aI_n (by omega)]; exact n1]
    have F : ∀ j, j ≠ 72 → j ≠ 75 → fI (mput 72 (iI 0) (mput 75 (iI 0) t1)) j = fI t1 j := fun j a b => by rw [fI_put a, fI_put b]
    have f72 : fI (mput 72 (iI 0) (mput 75 (iI 0) t1)) 72 = 0 := fI_self
    have f75 : fI (mput 72 (iI 0) (mput 75 (iI 0) t1)) 75 = iI 0 := by rw [fI_put (by omega), fI_self]
    have A : (mput 72 (iI 0) (mput 75 (iI 0) t1)).2 = t1.2 := rfl
    generalize mput 72 (iI 0) (mput 75 (iI 0) t1) = t2 at F f72 f75 A ⊢
    obtain ⟨⟨⟨g1, g2, g3, g4⟩, g5, g6⟩, g7, ⟨g8, g9, g10⟩, g11, g12, g13⟩ := b3
    have hMJ : MJ t2 (hX H.lim H.tb H.cx) (kBeg (kOut0 H.K)) (kT kn H.cx.length) 1 0 := ⟨⟨⟨(F 63 (by omega) (by omega)).trans g1, (F 64 (by omega) (by omega)).trans g2, (F 65 (by omega) (by omega)).trans g3, fun j hj => (F (66 + j) (by omega) (by omega)).trans (g4 j hj)⟩, f75, fun j _ q => absurd q (Nat.not_lt_zero _)⟩, (F 57 (by omega) (by omega)).trans g7, ⟨(F 39 (by omega) (by omega)).trans g8, (F 48 (by omega) (by omega)).trans g9, (F 51 (by omega) (by omega)).trans g10⟩, f72, ⟨by omega, fun q _ _ => by omega⟩, by omega⟩
    have hMK : MK (hX H.lim H.tb H.cx) (kBeg (kOut0 H.K)) (kT kn H.cx.length) 1 0 202 := ⟨⟨Nat.zero_le _, b7.2.2.2.2.2, hlife⟩, k8.2, by omega, by omega, by omega, by show 0 ≤ _; omega⟩
    have n2' : mT (kT kn H.cx.length, H.cx.length, H.tb.1.length) t2 (cAt H.cx k).ty [] n none := mT_mv (c := (kT kn H.cx.length, H.cx.length, H.tb.1.length)) (c' := (kT kn H.cx.length, H.cx.length, H.tb.1.length)) (st := t1) (st' := t2) ⟨Nat.le_refl _, Nat.le_refl _, Nat.le_refl _, fun _ _ _ _ _ => by rw [A]⟩ _ _ _ _ n2
    have hX2 : mXc (kT kn H.cx.length, H.cx.length, H.tb.1.length) t2 (hX H.lim H.tb H.cx) := (b7.2.1.mv (st' := t2) (fun _ _ _ _ _ _ => by rw [A]) (fun _ _ _ _ _ _ => by rw [A])).xc b7.1.1.2 (Nat.le_refl _) k8.2
    have hN2 : mNm (kT kn H.cx.length, H.cx.length, H.tb.1.length) t2 (hX H.lim H.tb H.cx) := by
      have := b7.nm (nd := kT kn H.cx.length)
      obtain ⟨w1, w2⟩ := this
      exact ⟨fun k hk => by obtain ⟨z1, z2, z3⟩ := w1 k hk; exact ⟨by rw [A]; exact z1, z2, fun j ch hj => by rw [A]; exact z3 j ch hj⟩, fun k hk => by obtain ⟨z1, z2, z3⟩ := w2 k hk; exact ⟨by rw [A]; exact z1, z2, fun j ch hj => by rw [A]; exact z3 j ch hj⟩⟩
    have b62 : fI t2 62 = iI (kT kn H.cx.length : Int) := (F 62 (by omega) (by omega)).trans b6
    -- the end
    have fin : ∀ t3 K', mfr (kT kn H.cx.length) 1 0 t2 t3 → MJ0 t3 (hX H.lim H.tb H.cx) K' → H.K.life ≤ K'.life → K'.outs < 2000000000 → MH (mput 72 (iI 0) (mput 39 (iI (kT kn H.cx.length : Int)) t3)) (H.tp, H.ft, H.lim, H.tb, H.cx, K', H.mk) kn u ∧ fI (mput 72 (iI 0) (mput 39 (iI (kT kn H.cx.length : Int)) t3)) 1 = iI 0 := fun t3 K' z1 z2 z3 z4 => by
      have G : ∀ j, j ≠ 72 → j ≠ 39 → fI (mput 72 (iI 0) (mput 39 (iI (kT kn H.cx.length : Int)) t3)) j = fI t3 j := fun j a b => by rw [fI_put a, fI_put b]
      have bb : ∀ j, j < 39 → fI t3 j = fI s1 j := fun j hj => (z1.1 j (by omega)).trans ((F j (by omega) (by omega)).trans (b1 j (by omega) (by omega) (by omega) (by omega) (by omega) (by omega) (by omega) (by omega)))
      refine ⟨h0.fin (fun j hj => (G j (by omega) (by omega)).trans (bb j (by omega))) (fun i j hk => ?_) (by rw [fI_put (by omega), fI_self]) fI_self ⟨⟨(G 63 (by omega) (by omega)).trans z2.1.1, (G 64 (by omega) (by omega)).trans z2.1.2.1, (G 65 (by omega) (by omega)).trans z2.1.2.2.1, fun j hj => (G (66 + j) (by omega) (by omega)).trans (z2.1.2.2.2 j hj)⟩, (G 75 (by omega) (by omega)).trans z2.2.1, z2.2.2⟩ z3 z4, ((G 1 (by omega) (by omega)).trans (bb 1 (by omega))).trans f1⟩
      show t3.2 i j = _
      rw [z1.2 i j (fun q => by omega) (fun q => by omega) (fun q => by omega) (by omega), A, b2]
    refine m_tell (P := P) (s0 := s0) (l := l) (XX := XX) (X := hX H.lim H.tb H.cx) (c := (kT kn H.cx.length, H.cx.length, H.tb.1.length)) 100 0 l' rfl (by omega) nilM (vClo (cAt H.cx k).ty .nil) n 0 0 false false (kBeg (kOut0 H.K)) t2 1 0 202 5 _ (fun q => by cases q) (fun _ _ q => q.elim) (mC_top (by omega) n2') ⟨_, _, rfl, n3, trivial⟩ hX2 hN2 (by omega) (by show 0 + 100 * (60000 - H.K.life) + 5 ≤ _; omega) hMJ hMK (by omega) (fun t3 K' ce' d1 d2 d3 d4 d5 d6 d7 => onV_ret ?_) (fun t3 K' e ce' d1 d2 d3 d4 d5 d6 d7 => onV_ret ?_)
    · have i62 : fI t3 62 = iI (kT kn H.cx.length : Int) := (d3.1 62 (by omega)).trans b62
      obtain ⟨l2, rfl⟩ : ∃ l2, l' = l2 + 1 := ⟨l' - 1, by omega⟩
      refine tX5_drop ?_
      rw [i62]
      have o7 := d7
      unfold OB at o7
      obtain ⟨z1, z2⟩ := fin t3 K' d3 d5.1 d2 (by omega)
      have e1 : (oType k H).1 = (H.tp, H.ft, H.lim, H.tb, H.cx, K', H.mk) := by unfold oType; rw [d1]
      have e2 : (oType k H).2 = (K'.outs : Int) := by unfold oType; rw [d1]
      refine onV_ret ⟨fun _ => ?_, fun q => absurd ((fI_put (by omega)).trans d5.2.2.2.1) q⟩
      rw [show fI (mput 39 (iI (kT kn H.cx.length : Int)) t3) 75 = iI (K'.outs : Int) from (fI_put (by omega)).trans d5.1.2.1, ← e2]
      exact ok k _ ek hkl (by rw [e1]; exact z1) z2
    · have i62 : fI t3 62 = iI (kT kn H.cx.length : Int) := (d3.1 62 (by omega)).trans b62
      obtain ⟨l2, rfl⟩ : ∃ l2, l' = l2 + 1 := ⟨l' - 1, by omega⟩
      refine tX5_drop ?_
      rw [i62]
      have o7 := d7
      unfold OB at o7
      obtain ⟨z1, z2⟩ := fin t3 K' d3 d6.1 d2 (by omega)
      have e1 : (oType k H).1 = (H.tp, H.ft, H.lim, H.tb, H.cx, K', H.mk) := by unfold oType; rw [d1]
      have e2 : (oType k H).2 = -(e : Int) := by unfold oType; rw [d1]
      have i72 : fI (mput 39 (iI (kT kn H.cx.length : Int)) t3) 72 = iI (e : Int) := (fI_put (by omega)).trans d6.2.1
      refine onV_ret ⟨fun q => absurd ((fI_put (by omega)).symm.trans q) d6.j.ne, fun _ => ?_⟩
      rw [i72, iI_neg, ← e2]
      exact ok k _ ek hkl (by rw [e1]; exact z1) z2
  · rw [c3, (x_lt (by omega) (by omega)).1] at q; omega
end MHV
