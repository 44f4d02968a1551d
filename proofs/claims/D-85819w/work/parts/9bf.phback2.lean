/-! THE HOUSE OVER S, P (28): back (2) -/
section PHBF
variable {G : GPl} {s0 : State} {l : Launch} {KK : Nat → Option Nat} {T : Nat → Nat} {lev : Nat} {Q : Outcome → GSt → Prop} {R : Nat → Nat} {σ τ υ st0 ρ σ0 : GSt} {X : SX} {J : JX} {K K' : KS} {n s m u n' s' u' z w w' k a b p : Nat} {x1 x2 : Int32} {H H' : HO} {N : Nat → Nat} {lim : Nat} {tb : HT} {cx : List CN} {t : TX}
abbrev HO.cut (H : HO) (k : Nat) : HO := (H.tp, H.ft, H.lim, H.tb, H.cx.take k, H.K, H.mk)
/-- the context's list changed, and nothing else -/
theorem PH.ctx {zc k : Nat} (h : PH G KK T R σ H n s u) (hB : cxB H.cx) (hk : k ≤ H.cx.length) (hC : gr σ (R 9) 1 = some zc) (hkp : keep (fun a => a = R 9 ∨ (a = zc ∧ 0 < gl σ zc)) σ τ) (hl : gle σ τ) (hz : gz τ) (g1 : gn τ = gn σ) (g2 : gm τ = gm σ) (h2 : gr τ (R 9) 1 = some zc) (h4 : gi τ (R 9) 2 = iI (k : Int)) (h5 : ∀ j, j < k → gr τ zc j = gr σ zc j) (h6 : k = 0 → gr τ zc 0 = none) (h7 : gl τ zc = gl σ zc) : PH G KK T R τ (H.cut k) n s u := by
  obtain ⟨a1, ⟨⟨p1, p2⟩, p3, ⟨p4, p5, p6, p7, p8⟩, ⟨i1, i2, i3, i4, i5⟩⟩, ⟨t1, ⟨t2, t3, t4, t5⟩, z0, t6, t7, t8⟩, N, z, w, b1, b2, b3, b4, b5⟩ := h
  obtain ⟨zz, c1, c2, c3, c4⟩ := b2
  have ez : zz = zc := by rw [c1] at hC; cases hC; rfl
  subst ez
  have k9 := b1.1.2.2.2.2.2.1.1
  have f7 := b1.1.2.2.2.2.2.1.2.2.2
  obtain ⟨z1, v1, v2, v3, v4, v5⟩ := f7
  have ez : z1 = zz := by rw [c1] at v1; cases v1; rfl
  subst ez
  have nq : ∀ q, gk σ q ≠ 22 → (gk σ q = 103 → gl σ q = 0) → ¬ (q = R 9 ∨ (q = z1 ∧ 0 < gl σ z1)) := fun q w1 w2 w3 => by
    rcases w3 with rfl | ⟨rfl, w4⟩
    · exact w1 k9
    · have := w2 c2; omega
  have hkp' : keep (fun a => a = R 9 ∨ a = z1) σ τ := hkp.wk (fun a q => q.imp id (fun q => q.1))
  have kS : ∀ {sa : Nat} {bs : List Nat}, pS σ (R 5) sa bs → pS τ (R 5) sa bs := fun {sa bs} v1 => v1.kpW hkp' (fun q hq => by rcases hq with rfl | rfl <;> exact ⟨by omega, fun w => by omega⟩)
  have hM : ∀ a, isM R a → ¬ (a = R 9 ∨ (a = z1 ∧ 0 < gl σ z1)) := fun a ha => by
    obtain ⟨⟨m1, m2, m3⟩, -⟩ := b4.2.1
    rcases ha with rfl | rfl | rfl
    · exact nq _ (by omega) (fun w => by omega)
    · exact nq _ (by omega) (fun w => by omega)
    · exact nq _ (by omega) (fun w => by omega)
  have m4 : MB G R τ (hX H.lim H.tb H.cx) H.K w (n + fC u z) (s + fS u z) := ⟨hz, b4.2.1.mv (fun a ha => by obtain ⟨v1, v2, v3, v4⟩ := hkp a (b4.2.1.tg ha) (hM a ha); exact ⟨v1, v2, v4⟩) (fun j _ => (hkp (R 2) (b4.2.1.tg (Or.inl rfl)) (hM _ (Or.inl rfl))).2.2.1 j), b4.2.2.1, ⟨by rw [g1]; exact b4.2.2.2.1, by rw [g2]; exact b4.2.2.2.2⟩⟩
  have c0 := a1.1
  obtain ⟨q1, q2, q3, q4⟩ := hkp (R 0) (by omega) (nq _ (by omega) (fun w => by omega))
  obtain ⟨k1, k2, k3, k4⟩ := hkp (R 10) (by omega) (nq _ (by omega) (fun w => by omega))
  obtain ⟨l1, l2, l3, l4⟩ := hkp (R 11) (by omega) (nq _ (by omega) (fun w => by omega))
  obtain ⟨z1', z2, z3, z4⟩ := hkp z0 (by omega) (nq _ (by omega) (fun _ => t8))
  have el : (H.cx.take k).length = k := by rw [List.length_take]; omega
  have hkl : k ≤ gl τ z1 := by rw [h7]; exact Nat.le_trans hk v4
  have jb := JB_take (t := ((fun _ => 0), 0)) (lim := H.lim) b1 hB hk ⟨c1, c3⟩ hkp' (hl.tag k9 (by omega)) h2 (hl.tag c2 (by omega)) h4 h5 hkl
  refine ⟨a1.kp hkp (nq _ (by omega) (fun w => by omega)), ⟨⟨by rw [q3]; exact p1, by rw [q3]; exact p2⟩, ⟨by rw [q2]; exact p3.1, by rw [q2]; exact p3.2.1, by rw [q2]; exact p3.2.2.1, by rw [q2]; exact p3.2.2.2.1, by rw [q2]; exact p3.2.2.2.2⟩, ⟨k1.trans p4, by rw [k4]; exact p5, p6, p7, fun j hj => by rw [k2]; exact p8 j hj⟩, ⟨l1.trans i1, by rw [l4]; exact i2, i3, i4, fun i p hp => by rw [l2]; exact i5 i p hp⟩⟩, ⟨⟨fun w hw => kS (t1.1 w hw), kS t1.2.1, kS t1.2.2⟩, ⟨kS t2, kS t3, kS t4, kS t5⟩, z0, t6, z1'.trans t7, by rw [z4]; exact t8⟩, N, z, w, jb, ⟨z1, h2, hl.tag c2 (by omega), fun q => h6 (by rw [← el]; exact q), by rw [h7]; exact c4⟩, fun j hj => ?_, m4.xl rfl, b5⟩
  replace hj : j < (H.cx.take k).length := hj
  rw [el] at hj
  show sw (cAt (H.cx.take k) j).ty ≤ z
  rw [cAt_take hj]
  exact b3 j (by omega)
theorem c_bkl (hl : 12 ≤ lev) (hp : p ≤ 1000) (hB : cxB H.cx) (ok : ∀ τ, PH G KK T R τ (H.cut p) n s u → Q (.returned (some (.int (iI ((H.cx.take p).length : Int))))) τ) : ∀ (d k : Nat) (σ : GSt), k ≤ p + d → k ≤ H.cx.length → (H.cx.length ≤ p → k = H.cx.length) → (p ≤ H.cx.length → p ≤ k) → PH G KK T R σ (H.cut k) n s u → gi σ (R 0) 9 = iI (H.mk.length : Int) → H.mk.length < 20 → gi σ (R 11) H.mk.length = iI (p : Int) → jX1_back_25 G s0 l KK T lev st0 Q (R 0) σ := by
  obtain ⟨l', rfl⟩ : ∃ l', lev = l' + 1 := ⟨lev - 1, by omega⟩
  intro d
  induction d with
  | zero =>
    intro k σ hd hk hk1 hk2 h h9 h20 h11
    have h0 := h
    obtain ⟨a1, ⟨⟨p1, p2⟩, p3, -, ⟨i1, i2, i3, i4, i5⟩⟩, t1, N, z, w, b1, b2, b3, b4, b5⟩ := h0
    obtain ⟨g1, g2, g3, -⟩ := b1.1.2.2.2.2.2.1
    have j1 := b1.1.1
    have el : (H.cx.take k).length = k := by rw [List.length_take]; omega
    have g3' : gi σ (R 9) 2 = iI (k : Int) := by rw [← el]; exact g3
    have hc : H.cx.length ≤ 100 ∨ True := Or.inr trivial
    have ek : H.cx.take k = H.cx.take p := by
      rcases Nat.le_total p H.cx.length with q | q
      · rw [show k = p by have := hk2 q; omega]
      · rw [hk1 q, List.take_of_length_le (Nat.le_refl _), List.take_of_length_le q]
    refine tX1_back_25 ⟨a1.1, R 3, a1.2.2.2, j1.1, R 9, j1.2.2.2, g1, tJ2_size ⟨g1, fun _ => ⟨R 11, p2, i1, by rw [h9, i2]; exact iI_in h20 (by omega), fun _ => ⟨R 3, a1.2.2.2, j1.1, R 9, j1.2.2.2, g1, tJ2_size ⟨g1, fun _ => ?_⟩⟩, fun q => ?_⟩⟩⟩
    · have o := ok σ (by show PH G KK T R σ (H.tp, H.ft, H.lim, H.tb, H.cx.take p, H.K, H.mk) n s u; rw [← ek]; exact h)
      rw [← ek, el] at o
      rw [g3']; exact o
    · exfalso; apply q
      rw [g3', h9, iI_ix (by omega), h11, iI_le (by omega) (by omega) (by omega) (by omega)]; omega
  | succ d ih =>
    intro k σ hd hk hk1 hk2 h h9 h20 h11
    have h0 := h
    obtain ⟨a1, ⟨⟨p1, p2⟩, p3, -, ⟨i1, i2, i3, i4, i5⟩⟩, t1, N, z, w, b1, b2, b3, b4, b5⟩ := h0
    obtain ⟨g1, g2, g3, zz, g4, g5, g6, g7, g8⟩ := b1.1.2.2.2.2.2.1
    have j1 := b1.1.1
    have el : (H.cx.take k).length = k := by rw [List.length_take]; omega
    have g3' : gi σ (R 9) 2 = iI (k : Int) := by rw [← el]; exact g3
    have hc : (H.cx.take k).length ≤ 100 := b1.2.2.1.2.2.2
    by_cases hkp : k ≤ p
    · have ek : H.cx.take k = H.cx.take p := by
        rcases Nat.le_total p H.cx.length with q | q
        · rw [show k = p by have := hk2 q; omega]
        · rw [hk1 q, List.take_of_length_le (Nat.le_refl _), List.take_of_length_le q]
      refine tX1_back_25 ⟨a1.1, R 3, a1.2.2.2, j1.1, R 9, j1.2.2.2, g1, tJ2_size ⟨g1, fun _ => ⟨R 11, p2, i1, by rw [h9, i2]; exact iI_in h20 (by omega), fun _ => ⟨R 3, a1.2.2.2, j1.1, R 9, j1.2.2.2, g1, tJ2_size ⟨g1, fun _ => ?_⟩⟩, fun q => ?_⟩⟩⟩
      · have o := ok σ (by show PH G KK T R σ (H.tp, H.ft, H.lim, H.tb, H.cx.take p, H.K, H.mk) n s u; rw [← ek]; exact h)
        rw [← ek, el] at o
        rw [g3']; exact o
      · exfalso; apply q
        rw [g3', h9, iI_ix (by omega), h11, iI_le (by omega) (by omega) (by omega) (by omega)]; omega
    · obtain ⟨k', rfl⟩ : ∃ k', k = k' + 1 := ⟨k - 1, by omega⟩
      refine tX1_back_25 ⟨a1.1, R 3, a1.2.2.2, j1.1, R 9, j1.2.2.2, g1, tJ2_size ⟨g1, fun _ => ⟨R 11, p2, i1, by rw [h9, i2]; exact iI_in h20 (by omega), fun q => ?_, fun _ => ⟨R 3, a1.2.2.2, j1.1, R 9, j1.2.2.2, g1, tJ2_size ⟨g1, fun _ => ?_⟩⟩⟩⟩⟩
      · rw [g3', h9, iI_ix (by omega), h11, iI_le (by omega) (by omega) (by omega) (by omega)] at q; omega
      · rw [g3', iI_prd]
        have g7' : k' + 1 ≤ gl σ zz := by rw [← el]; exact g7
        refine c_rem (by omega) g1 g4 g5 g3' g7' (by omega) (fun τ r u1 u2 _ u3 => onR_ret (fun _ => ?_)) b4.1
        obtain ⟨v1, v2, v3, v4, v5, v6, v7, v8⟩ := u3
        have hBk : cxB (H.cut (k' + 1)).cx := fun j hj => by
          replace hj : j < (H.cx.take (k' + 1)).length := hj
          rw [el] at hj
          show cnB j (cAt (H.cx.take (k' + 1)) j)
          rw [cAt_take hj]
          exact hB j (by omega)
        have kk : keep (fun a => a = R 9 ∨ (a = zz ∧ 0 < gl σ zz)) σ τ := u1.wk (fun a q => q.imp id (fun q => ⟨q, by omega⟩))
        have hP := h.ctx (k := k') hBk (by show k' ≤ (H.cx.take (k' + 1)).length; omega) g4 kk u2 v1 v2 v3 v4 v5 (fun j hj => v6 j (by omega)) (fun q => by subst q; exact v7) v8
        have ec : (H.cut (k' + 1)).cut k' = H.cut k' := by
          show (H.tp, H.ft, H.lim, H.tb, (H.cx.take (k' + 1)).take k', H.K, H.mk) = (H.tp, H.ft, H.lim, H.tb, H.cx.take k', H.K, H.mk)
          rw [List.take_take, Nat.min_eq_left (by omega)]
        rw [ec] at hP
        have c0 := a1.1
        have n9 : ∀ q, gk σ q ≠ 22 → gk σ q ≠ 103 → ¬ (q = R 9 ∨ q = zz) := fun q w1 w2 w3 => by rcases w3 with rfl | rfl; exact w1 g1; exact w2 g5
        obtain ⟨e1, e2, e3, e4⟩ := u1 (R 0) (by omega) (n9 _ (by omega) (by omega))
        obtain ⟨o1, o2, o3, o4⟩ := u1 (R 11) (by omega) (n9 _ (by omega) (by omega))
        refine ih k' τ (by omega) (by omega) (fun q => ?_) (fun q => by omega) hP (by rw [e2]; exact h9) h20 (by rw [o2]; exact h11)
        exfalso; have := hk1 q; omega
theorem c_back (hl : 14 ≤ lev) (hB : cxB H.cx) (hp : ∀ q ∈ H.mk, q ≤ 1000) (h : PH G KK T R σ H (n + 1) (s + 6) u)
    (bad : H.mk.length = 0 → ∀ y τ, gk τ y = 27 → PH G KK T R τ H n s u → Q (.threw y) τ)
    (ok : ∀ τ, 0 < H.mk.length → PH G KK T R τ (oBack H) n s u → Q (.returned (some (.int (iI ((oBack H).cx.length : Int))))) τ) : CQ (wP G s0 l KK T) mX1_back lev (.ref (R 0) :: []) σ Q := by
  obtain ⟨l', rfl⟩ : ∃ l', lev = l' + 1 := ⟨lev - 1, by omega⟩
  have h0 := h
  obtain ⟨a1, ⟨⟨p1, p2⟩, ⟨f3, f4, f5, f6, f7⟩, -, ⟨i1, i2, i3, i4, i5⟩⟩, t1, N, z, w, b1, b2, b3, b4, b5⟩ := h0
  have c1 := a1.1
  have n011 : R 11 ≠ R 0 := fun q => by rw [q] at i1; omega
  refine tX1_back ⟨a1.1, fun q => ?_, fun q => ?_⟩
  · rw [f7, iI_z, iI_le (by omega) (by omega) (by omega) (by omega)] at q
    exact c_able (b := false) (by omega) h (fun q => by cases q) (fun _ y τ k1 k2 => fun _ => bad (by omega) y τ k1 k2)
  · have hlt : 0 < H.mk.length := by
      rcases Nat.lt_or_ge 0 H.mk.length with w | w
      · exact w
      · exfalso; apply q; rw [f7, iI_z, iI_le (by omega) (by omega) (by omega) (by omega)]; omega
    obtain ⟨ms, p, em⟩ : ∃ ms p, H.mk = ms ++ [p] := ⟨H.mk.dropLast, H.mk.getLast (by intro e; rw [e] at hlt; simp at hlt), (List.dropLast_concat_getLast _).symm⟩
    have el : H.mk.length = ms.length + 1 := by rw [em]; simp
    have eb : oBack H = (H.tp, H.ft, H.lim, H.tb, H.cx.take p, H.K, ms) := by
      unfold oBack
      rw [em, List.dropLast_concat]
      congr 4
      show (List.take ((ms ++ [p]).getLastD 0) H.cx, H.K, ms) = _
      rw [List.getLastD_concat]
    refine c_able (b := true) (by omega) h (fun _ => fun _ => ?_) (fun q => by cases q)
    rw [f7, el, iI_prd]
    have kk : keep (fun q => q = R 0 ∨ q = R 11) σ (gpi (R 0) 9 (iI (ms.length : Int)) σ) := (keep.rf (W := fun q => q = R 0 ∨ q = R 11)).pi (fun _ => Or.inl rfl)
    have hP : PH G KK T R (gpi (R 0) 9 (iI (ms.length : Int)) σ) (H.tp, H.ft, H.lim, H.tb, H.cx, H.K, ms) n s u := by
      refine (h.le (by omega) (by omega) (Nat.le_refl _)).fld (H' := (H.tp, H.ft, H.lim, H.tb, H.cx, H.K, ms)) kk gle.rf b4.1 rfl rfl (fun _ => rfl) rfl rfl ⟨rfl, rfl, rfl, rfl⟩ ⟨?_, ?_, ?_, ?_, ?_⟩ ⟨by show ms.length ≤ 20; omega, fun i q hq => ?_⟩
      · rw [gi_pi, if_neg (by omega)]; exact f3
      · rw [gi_pi, if_neg (by omega)]; exact f4
      · rw [gi_pi, if_neg (by omega)]; exact f5
      · rw [gi_pi, if_neg (by omega)]; exact f6
      · rw [gi_pi, if_pos ⟨rfl, rfl⟩]
      · replace hq : ms[i]? = some q := hq
        have hi : i < ms.length := by
          rcases Nat.lt_or_ge i ms.length with w | w
          · exact w
          · rw [List.getElem?_eq_none w] at hq; cases hq
        rw [gi_pi, if_neg (fun q => n011 q.1)]
        exact i5 i q (by rw [em, List.getElem?_append_left hi]; exact hq)
    have h11 : gi (gpi (R 0) 9 (iI (ms.length : Int)) σ) (R 11) ms.length = iI (p : Int) := by
      rw [gi_pi, if_neg (fun q => n011 q.1)]
      exact i5 ms.length p (by rw [em, List.getElem?_append_right (Nat.le_refl _), Nat.sub_self]; rfl)
    have hp' : p ≤ 1000 := hp p (by rw [em]; simp)
    have hcut : (H.tp, H.ft, H.lim, H.tb, H.cx, H.K, ms) = HO.cut (H.tp, H.ft, H.lim, H.tb, H.cx, H.K, ms) H.cx.length := by
      show _ = (H.tp, H.ft, H.lim, H.tb, H.cx.take H.cx.length, H.K, ms)
      rw [List.take_length]
    rw [hcut] at hP
    refine c_bkl (H := (H.tp, H.ft, H.lim, H.tb, H.cx, H.K, ms)) (p := p) (n := n) (s := s) (u := u) (by omega) hp' hB (fun τ hτ => ?_) (H.cx.length - p) H.cx.length _ (by omega) (Nat.le_refl _) (fun _ => rfl) (fun q => q) hP (by rw [gi_pi, if_pos ⟨rfl, rfl⟩]) (by show ms.length < 20; omega) h11
    have o := ok τ hlt
    rw [eb] at o
    exact o hτ
end PHBF
