/-! THE HOUSE OVER S, M (23): same -/
section MHW
variable {P : MPl} {s0 : State} {l : Launch} {XX : Prop} {lev : Nat} {Q : Outcome → MSt → Prop} {st st' st'' st0 : MSt} {K K' : KS} {u n nd lim ns : Nat} {x1 x2 : Int32} {kn kn' : Nat → Nat} {H : HO} {tb : HT} {cx : List CN}
theorem MJ.q15 {X : SX} {ce wa : Nat} {v : Int32} (h : MJ st X K nd ce wa) : MJ (mput 15 v st) X K nd ce wa := by
  obtain ⟨⟨⟨h1, h2, h3, h4⟩, h5, h6⟩, h7, ⟨h8, h9, h10⟩, h11, h12, h13⟩ := h
  have e : ∀ j, j ≠ 15 → fI (mput 15 v st) j = fI st j := fun j a => fI_put a
  exact ⟨⟨⟨(e 63 (by omega)).trans h1, (e 64 (by omega)).trans h2, (e 65 (by omega)).trans h3, fun j hj => (e _ (by omega)).trans (h4 j hj)⟩, (e 75 (by omega)).trans h5, h6⟩, (e 57 (by omega)).trans h7, ⟨(e 39 (by omega)).trans h8, (e 48 (by omega)).trans h9, (e 51 (by omega)).trans h10⟩, (e 72 (by omega)).trans h11, h12, h13⟩
theorem m_osame (hl : 240 ≤ lev) (hlife : H.K.life ≤ 60000) (h : MH st H kn u)
    (bad : ¬ (0 ≤ x1.toInt ∧ x1.toInt < H.cx.length ∧ 0 ≤ x2.toInt ∧ x2.toInt < H.cx.length) → ∀ st', MH st' H kn u → fI st' 1 = iI 1 → Q (.returned (some (.int (iI 0)))) st')
    (ok : ∀ (j k : Nat) st', x1 = iI (j : Int) → x2 = iI (k : Int) → j < H.cx.length → k < H.cx.length → MH st' (oSame j k H).1 kn u → fI st' 1 = iI 0 → Q (.returned (some (.int (iI (oSame j k H).2)))) st') : CQ (wM P s0 l XX) mX5_same lev (.ref P.mo :: [.int x1, .int x2]) st Q := by
  obtain ⟨l', rfl⟩ : ∃ l', lev = l' + 1 := ⟨lev - 1, by omega⟩
  have h0 := h.c0
  have f1 : fI (mput 1 (iI 0) st) 1 = iI 0 := fI_self
  have c3 : fI st 27 = iI (H.cx.length : Int) := h.2.2.1.2.2.1
  have h100 : H.cx.length ≤ 100 := h.2.2.1.2.1.2.2
  have t : ¬ (0 ≤ x1.toInt ∧ x1.toInt < H.cx.length ∧ 0 ≤ x2.toInt ∧ x2.toInt < H.cx.length) → jX5_same_29 P s0 l XX l' st Q x1 x2 (mput 1 (iI 0) st) := fun hb => tX5_same_29 (m_bad (by omega) h (bad hb))
  refine tX5_same ⟨fun q => t (fun w => ?_), fun q1 => ⟨fun q => t (fun w => ?_), fun q2 => ⟨fun q => t (fun w => ?_), fun q3 => ⟨fun q4 => ?_, fun q => t (fun w => ?_)⟩⟩⟩⟩
  · rw [x_z.1] at q; omega
  · rw [c3, (x_lt (by omega) (by omega)).2.2.1] at q; omega
  · rw [x_z.1] at q; omega
  · rw [x_z.1] at q1 q3
    rw [c3, (x_lt (by omega) (by omega)).2.2.1] at q2
    rw [c3, (x_lt (by omega) (by omega)).1] at q4
    obtain ⟨j, hj, ej⟩ := x_nat (x := x1) (by omega)
    obtain ⟨k, hk, ek⟩ := x_nat (x := x2) (by omega)
    have hjl : j < H.cx.length := by omega
    have hkl : k < H.cx.length := by omega
    have hbud : kT kn H.cx.length + 2 * (60000 - H.K.life) + (203 + 4 * u) ≤ 140000 := h.2.2.2.2.2.1
    clear h
    generalize mput 1 (iI 0) st = s1 at h0 f1 ⊢
    refine m_begin (by omega) h0.2.2.1 h0.2.2.2.2.1.2 (fun t1 b1 b2 b3 b4 b5 b6 b7 => onV_ret ?_)
    rw [ej, ek]
    have k8 := kT_8 b7.2.1
    have f15 : fI (mput 15 (iI 1) (mput 72 (iI 0) t1)) 15 = iI 1 := fI_self
    have F : ∀ j, j ≠ 72 → j ≠ 15 → fI (mput 15 (iI 1) (mput 72 (iI 0) t1)) j = fI t1 j := fun j a b => by rw [fI_put b, fI_put a]
    have f72 : fI (mput 15 (iI 1) (mput 72 (iI 0) t1)) 72 = 0 := by rw [fI_put (by omega)]; exact fI_self (st := t1) (k := 72)
    have A : (mput 15 (iI 1) (mput 72 (iI 0) t1)).2 = t1.2 := rfl
    generalize mput 15 (iI 1) (mput 72 (iI 0) t1) = t2 at F f72 f15 A ⊢
    obtain ⟨⟨⟨g1, g2, g3, g4⟩, g5, g6⟩, g7, ⟨g8, g9, g10⟩, g11, g12, g13⟩ := b3
    have hMJ : MJ t2 (hX H.lim H.tb H.cx) (kBeg H.K) (kT kn H.cx.length) 1 0 := ⟨⟨⟨(F 63 (by omega) (by omega)).trans g1, (F 64 (by omega) (by omega)).trans g2, (F 65 (by omega) (by omega)).trans g3, fun j hj => (F (66 + j) (by omega) (by omega)).trans (g4 j hj)⟩, (F 75 (by omega) (by omega)).trans g5, fun j a b => by rw [A]; exact g6 j a b⟩, (F 57 (by omega) (by omega)).trans g7, ⟨(F 39 (by omega) (by omega)).trans g8, (F 48 (by omega) (by omega)).trans g9, (F 51 (by omega) (by omega)).trans g10⟩, f72, ⟨by omega, fun q _ _ => by omega⟩, by omega⟩
    refine m_node (by omega) f15 hMJ (by omega) (fun t3 p1 p2 p3 p4 p5 p6 p7 p8 p9 => onI_ret ?_)
    refine m_node (by omega) ((p8 15 (by omega)).trans f15) p1 (by omega) (fun t4 r1 r2 r3 r4 r5 r6 r7 r8 r9 => onI_ret ?_)
    have r1' := r1.q15 (v := iI 0)
    have F5 : ∀ j, j ≠ 15 → fI (mput 15 (iI 0) t4) j = fI t4 j := fun j a => fI_put a
    have f155 : fI (mput 15 (iI 0) t4) 15 = iI 0 := fI_self
    have A5 : (mput 15 (iI 0) t4).2 = t4.2 := rfl
    generalize mput 15 (iI 0) t4 = t5 at r1' F5 f155 A5 ⊢
    have nodes : ∀ i j, (i < 30 ∨ 38 < i) ∨ j < kT kn H.cx.length → t5.2 i j = s1.2 i j := fun i j hij => by
      rw [A5, r9 i j (by omega), p9 i j (by omega), A, b2]
    have hMK : MK (hX H.lim H.tb H.cx) (kBeg H.K) (kT kn H.cx.length + 1 + 1) 1 0 202 := ⟨⟨Nat.zero_le _, b7.2.2.2.2.2, hlife⟩, by omega, by omega, by omega, by omega, by show 0 ≤ _; omega⟩
    have hT : ∀ (i nn : Nat), i < H.cx.length → nn < kT kn H.cx.length + 1 + 1 → t5.2 30 nn = iI 2 → t5.2 31 nn = iI (i : Int) → mT (kT kn H.cx.length + 1 + 1, H.cx.length, H.tb.1.length) t5 (.tag i .nil) [] nn none := fun i nn z1 z2 z3 z4 => by
      cases i with
      | zero => exact ⟨z2, z1, z3, z4⟩
      | succ i => exact ⟨z2, z1, z3, z4⟩
    have gK : ∀ i : Nat, gKv (vClo (.tag i .nil) .nil) := fun i => ⟨_, _, rfl, by cases i <;> trivial, trivial⟩
    have hX5 : mXc (kT kn H.cx.length + 1 + 1, H.cx.length, H.tb.1.length) t5 (hX H.lim H.tb H.cx) := (h0.2.2.1.2.1.mv (st' := t5) (fun i j a b _ _ => nodes i j (by omega)) (fun i j a b d _ => nodes i j (Or.inr d))).xc b7.1.1.2 (by omega) (by omega)
    have b62 : fI t5 62 = iI (kT kn H.cx.length : Int) := (F5 62 (by omega)).trans ((r8 62 (by omega)).trans ((p8 62 (by omega)).trans ((F 62 (by omega) (by omega)).trans b6)))
    have f5 : ∀ i, i < 39 → i ≠ 15 → fI t5 i = fI s1 i := fun i hi h15 => (F5 i h15).trans ((r8 i (by omega)).trans ((p8 i (by omega)).trans ((F i (by omega) h15).trans (b1 i (by omega) (by omega) (by omega) (by omega) (by omega) (by omega) (by omega) (by omega)))))
    -- the end
    have fin : ∀ t3 K', mfr (kT kn H.cx.length + 1 + 1) 1 0 t5 t3 → MJ0 t3 (hX H.lim H.tb H.cx) K' → H.K.life ≤ K'.life → K'.outs < 2000000000 → MH (mput 72 (iI 0) (mput 39 (iI (kT kn H.cx.length : Int)) t3)) (H.tp, H.ft, H.lim, H.tb, H.cx, K', H.mk) kn u ∧ fI (mput 72 (iI 0) (mput 39 (iI (kT kn H.cx.length : Int)) t3)) 1 = iI 0 := fun t3 K' z1 z2 z3 z4 => by
      have G : ∀ j, j ≠ 72 → j ≠ 39 → fI (mput 72 (iI 0) (mput 39 (iI (kT kn H.cx.length : Int)) t3)) j = fI t3 j := fun j a b => by rw [fI_put a, fI_put b]
      have bb : ∀ j, j < 39 → fI t3 j = fI s1 j := fun j hj => by
        by_cases h15 : j = 15
        · subst h15; exact (z1.1 15 (by omega)).trans (f155.trans h0.2.2.2.2.1.1.symm)
        · exact (z1.1 j (by omega)).trans (f5 j hj h15)
      refine ⟨h0.fin (fun j hj => (G j (by omega) (by omega)).trans (bb j (by omega))) (fun i j hk => ?_) (by rw [fI_put (by omega), fI_self]) fI_self ⟨⟨(G 63 (by omega) (by omega)).trans z2.1.1, (G 64 (by omega) (by omega)).trans z2.1.2.1, (G 65 (by omega) (by omega)).trans z2.1.2.2.1, fun j hj => (G (66 + j) (by omega) (by omega)).trans (z2.1.2.2.2 j hj)⟩, (G 75 (by omega) (by omega)).trans z2.2.1, z2.2.2⟩ z3 z4, ((G 1 (by omega) (by omega)).trans (bb 1 (by omega))).trans f1⟩
      show t3.2 i j = _
      rw [z1.2 i j (fun q => by omega) (fun q => by omega) (fun q => by omega) (by omega)]
      exact nodes i j (by omega)
    have m1 : mT (kT kn H.cx.length + 1 + 1, H.cx.length, H.tb.1.length) t5 (.tag j .nil) [] (kT kn H.cx.length) none := hT j _ hjl (by omega) (by rw [A5, r9 _ _ (by omega)]; exact p3) (by rw [A5, r9 _ _ (by omega)]; exact p4)
    have m2 : mT (kT kn H.cx.length + 1 + 1, H.cx.length, H.tb.1.length) t5 (.tag k .nil) [] (kT kn H.cx.length + 1) none := hT k _ hkl (by omega) (by rw [A5]; exact r3) (by rw [A5]; exact r4)
    have hO : H.K.outs < 2000000000 := h0.2.2.2.2.2.2
    refine m_compare (P := P) (s0 := s0) (l := l) (XX := XX) (X := hX H.lim H.tb H.cx) (c := (kT kn H.cx.length + 1 + 1, H.cx.length, H.tb.1.length)) 100 0 l' (by omega) (by omega) nilM (vClo (.tag j .nil) .nil) (vClo (.tag k .nil) .nil) (kT kn H.cx.length) 0 (kT kn H.cx.length + 1) 0 (kBeg H.K) t5 1 0 202 _ ⟨fun _ _ q => q.elim, fun _ _ _ q => q.elim, fun _ _ _ q => q.elim⟩ (mC_top (by omega) m1) (mC_top (by omega) m2) (gK j) (gK k) hX5 r1' hMK (by omega) (fun t6 K' ce' r j1 j2 j3 j4 j5 j6 j7 => onI_ret ?_) (fun t6 K' e ce' j1 j2 j3 j4 j5 j6 => onI_ret ?_)
    · have i62 : fI t6 62 = iI (kT kn H.cx.length : Int) := (j4.1 62 (by omega)).trans b62
      obtain ⟨l2, rfl⟩ : ∃ l2, l' = l2 + 1 := ⟨l' - 1, by omega⟩
      refine tX5_drop ?_
      rw [i62]
      have ho : K'.outs = H.K.outs := by
        have := kO_same (o := H.K.outs) (X := hX H.lim H.tb H.cx) 100 (vClo (.tag j .nil) .nil) (vClo (.tag k .nil) .nil) (kBeg H.K) rfl
        rw [j1] at this
        exact this
      obtain ⟨z1, z2⟩ := fin t6 K' j4 j6.1 j2 (by omega)
      have e1 : (oSame j k H).1 = (H.tp, H.ft, H.lim, H.tb, H.cx, K', H.mk) := by unfold oSame; rw [j1]
      refine onV_ret ⟨fun _ => ?_, fun q => absurd ((fI_put (by omega)).trans j6.2.2.2.1) q⟩
      have o := ok j k _ ej ek hjl hkl (by rw [e1]; exact z1) z2
      cases r with
      | true =>
        have e2 : (oSame j k H).2 = 1 := by unfold oSame; rw [j1]; rfl
        rw [e2] at o
        exact ⟨fun q => absurd q (by decide), fun _ => o⟩
      | false =>
        have e2 : (oSame j k H).2 = 0 := by unfold oSame; rw [j1]; rfl
        rw [e2] at o
        exact ⟨fun _ => o, fun q => absurd rfl q⟩
    · have i62 : fI t6 62 = iI (kT kn H.cx.length : Int) := (j3.1 62 (by omega)).trans b62
      obtain ⟨l2, rfl⟩ : ∃ l2, l' = l2 + 1 := ⟨l' - 1, by omega⟩
      refine tX5_drop ?_
      rw [i62]
      have ho : K'.outs = H.K.outs := by
        have := kO_same (o := H.K.outs) (X := hX H.lim H.tb H.cx) 100 (vClo (.tag j .nil) .nil) (vClo (.tag k .nil) .nil) (kBeg H.K) rfl
        rw [j1] at this
        exact this
      obtain ⟨z1, z2⟩ := fin t6 K' j3 j6.1 j2 (by omega)
      have e1 : (oSame j k H).1 = (H.tp, H.ft, H.lim, H.tb, H.cx, K', H.mk) := by unfold oSame; rw [j1]
      have e2 : (oSame j k H).2 = -(e : Int) := by unfold oSame; rw [j1]
      have i72 : fI (mput 39 (iI (kT kn H.cx.length : Int)) t6) 72 = iI (e : Int) := (fI_put (by omega)).trans j6.2.1
      refine onV_ret ⟨fun q => absurd ((fI_put (by omega)).symm.trans q) j6.j.ne, fun _ => ?_⟩
      rw [i72, iI_neg, ← e2]
      exact ok j k _ ej ek hjl hkl (by rw [e1]; exact z1) z2
  · rw [c3, (x_lt (by omega) (by omega)).1] at q; omega
end MHW
