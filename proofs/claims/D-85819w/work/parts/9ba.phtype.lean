/-! THE HOUSE OVER S, P (23): type, same -/
section PHBA
variable {G : GPl} {s0 : State} {l : Launch} {KK : Nat → Option Nat} {T : Nat → Nat} {lev : Nat} {Q : Outcome → GSt → Prop} {R : Nat → Nat} {σ τ υ st0 ρ σ0 : GSt} {K K' : KS} {n s m u n' s' u' z w w' : Nat} {x1 x2 : Int32} {H H' : HO} {N : Nat → Nat}
/-- the machine worked: what the house is then -/
theorem PH.mch (h : PH G KK T R σ H n s u) (hj : JB R ((fun _ => False), N, H.cx.length, H.tb.1.length) nilL σ (hX H.lim H.tb H.cx) (hJ ((fun _ => 0), 0) H.tb H.cx) [] none) (hk : keep (isM R) σ τ) (hl : gle σ τ) (hs : ∀ j, j < H.cx.length → sw (cAt H.cx j).ty ≤ z) (hz : 15 * z + u' ≤ 2600) (hb : MB G R τ (hX H.lim H.tb H.cx) K' w' (n' + fC u' z) (s' + fS u' z)) : PH G KK T R τ (H.tp, H.ft, H.lim, H.tb, H.cx, K', H.mk) n' s' u' := by
  obtain ⟨a1, ⟨⟨f1, f2⟩, ⟨f3, f4, f5, f6, f7⟩, ⟨g1, g2, g3, g4, g5⟩, ⟨i1, i2, i3, i4, i5⟩⟩, ⟨t1, ⟨t2, t3, t4, t5⟩, z0, t6, t7, t8⟩, N0, z1, w0, b1, b2, b3, b4, b5⟩ := h
  have jj : jfr R nil0 σ τ := jfr.M hk hl hj.1 b4.2.1
  have wS := b1.wS (I := nil0) b4.2.1 (fun _ z => z.elim)
  have kS : ∀ {sa : Nat} {bs : List Nat}, pS σ (R 5) sa bs → pS τ (R 5) sa bs := fun {sa bs} v1 => v1.kpW jj.1 wS
  have nM : ∀ q, gk σ q ≠ 3 → (gk σ q = 101 → q ≠ R 4) → (gk σ q = 102 → q ≠ R 5) → ¬ isM R q := fun q v1 v2 v3 v4 => by
    obtain ⟨⟨m1, m2, m3⟩, -⟩ := b4.2.1
    rcases v4 with rfl | rfl | rfl
    · exact v1 m1
    · exact v2 m2 rfl
    · exact v3 m3 rfl
  obtain ⟨e1, e2, e3, e4⟩ := hk (R 0) (by rw [a1.1]; omega) (nM _ (by rw [a1.1]; omega) (fun q => by rw [a1.1] at q; omega) (fun q => by rw [a1.1] at q; omega))
  obtain ⟨k1, k2, k3, k4⟩ := hk (R 10) (by omega) (nM _ (by omega) (fun q => by omega) (fun _ => g3))
  obtain ⟨l1, l2, l3, l4⟩ := hk (R 11) (by omega) (nM _ (by omega) (fun _ => i3.1) (fun q => by omega))
  obtain ⟨z1', z2, z3, z4⟩ := hk z0 (by omega) (nM _ (by omega) (fun q => by omega) (fun q => by omega))
  exact ⟨a1.M b4.2.1 b1.1.1.1 hk, ⟨⟨by rw [e3]; exact f1, by rw [e3]; exact f2⟩, ⟨by rw [e2]; exact f3, by rw [e2]; exact f4, by rw [e2]; exact f5, by rw [e2]; exact f6, by rw [e2]; exact f7⟩, ⟨k1.trans g1, by rw [k4]; exact g2, g3, g4, fun j hj => by rw [k2]; exact g5 j hj⟩, ⟨l1.trans i1, by rw [l4]; exact i2, i3, i4, fun i p hp => by rw [l2]; exact i5 i p hp⟩⟩, ⟨⟨fun w hw => kS (t1.1 w hw), kS t1.2.1, kS t1.2.2⟩, ⟨kS t2, kS t3, kS t4, kS t5⟩, z0, t6, z1'.trans t7, by rw [z4]; exact t8⟩, N, z, w', hj.mv b4.2.1 jj (fun _ z => z.elim) (fun _ z => z) rfl, b2.mv b1 b4.2.1 jj (fun _ z => z.elim), hs, hb, hz⟩
theorem c_nameAt (hl : 12 ≤ lev) (h : PH G KK T R σ H (n + 1) (s + 6) u) (hj : JB R ((fun _ => False), N, H.cx.length, H.tb.1.length) nilL σ (hX H.lim H.tb H.cx) (hJ ((fun _ => 0), 0) H.tb H.cx) [] none)
    (bad : ¬ (0 ≤ x1.toInt ∧ x1.toInt < H.cx.length) → ∀ y τ, gk τ y = 26 → PH G KK T R τ H n s u → Q (.threw y) τ)
    (ok : ∀ k : Nat, x1 = iI (k : Int) → k < H.cx.length → Q (.returned (some (va_rf (some (N k))))) σ) : CQ (wP G s0 l KK T) mX1_nameAt lev (.ref (R 0) :: [.int x1]) σ Q := by
  obtain ⟨l', rfl⟩ : ∃ l', lev = l' + 2 := ⟨lev - 2, by omega⟩
  obtain ⟨f1, f2, f3, z0, f4, f5, f6, f7, f8⟩ := hj.1.2.2.2.2.2.1
  have hc : H.cx.length ≤ 100 := hj.2.2.1.2.2.2
  have a1 := h.1
  have t22 : ¬ (0 ≤ x1.toInt ∧ x1.toInt < H.cx.length) → jX1_nameAt_22 G s0 l KK T (l' + 1) σ Q (R 0) x1 σ := fun hb =>
    tX1_nameAt_22 (c_there (b := false) (by omega) h (fun q => by cases q) (fun _ y τ k1 k2 => fun _ => bad hb y τ k1 k2))
  have f3' : gi σ (R 9) 2 = iI (H.cx.length : Int) := f3
  have L1 := x_lt (x := x1) (z := (H.cx.length : Int)) (by omega) (by omega)
  refine tX1_nameAt ⟨fun q => t22 (fun w => ?_), fun q1 => ⟨a1.1, R 3, a1.2.2.2, hj.1.1.1, R 9, hj.1.1.2.2.2, f1, tJ2_size ⟨f1, fun _ => ?_⟩⟩⟩
  · rw [x_z.1] at q; omega
  rw [f3']
  rw [x_z.1] at q1
  refine ⟨fun q => t22 (fun w => ?_), fun q2 => c_there (b := true) (by omega) h (fun _ => fun _ => ⟨R 3, a1.2.2.2, hj.1.1.1, R 9, hj.1.1.2.2.2, f1, ?_⟩) (fun q => by cases q)⟩
  · rw [L1.2.2.1] at q; omega
  rw [L1.2.2.1] at q2
  have ex := iI_of x1
  obtain ⟨k, hk⟩ : ∃ k : Nat, x1.toInt = (k : Int) := ⟨x1.toInt.toNat, by omega⟩
  rw [hk] at ex
  have hkl : k < H.cx.length := by omega
  have o := ok k ex hkl
  rw [ex]
  have e8 : gr σ z0 k = some (N k) := f8 k hkl
  refine c_get (len := H.cx.length) (by omega) f1 f4 f5 f3' hkl f7 (by omega) (onR_ret (fun _ => ?_))
  rw [e8]
  refine ⟨Or.inr ⟨N k, rfl, ?_⟩, o⟩
  have e21 : gk σ (N k) = 21 := (hj.1.2.2.2.2.2.2 k hkl).1
  rw [e21]
  exact List.mem_singleton.mpr rfl
theorem sTell_suc1 {X : SX} {v : V} {K K' : KS} {r : Except Nat Unit} (h : sTell X 100 v 0 false false K = (K', r)) : (sTell X 100 v 0 false false K).1 = K' ∧ (sTell X 100 v 0 false false K).2 = r := by rw [h]; exact ⟨rfl, rfl⟩
theorem c_type (hl : 400 ≤ lev) (h : PH G KK T R σ H (n + 180) (s + 560) u)
    (bad : ¬ (0 ≤ x1.toInt ∧ x1.toInt < H.cx.length) → ∀ y τ, gk τ y = 26 → PH G KK T R τ H n s u → Q (.threw y) τ)
    (ok : ∀ (k : Nat) τ, x1 = iI (k : Int) → k < H.cx.length → PH G KK T R τ (oType k H).1 n s u → Q (.returned (some (.int (iI (oType k H).2)))) τ) : CQ (wP G s0 l KK T) mX1_type lev (.ref (R 0) :: [.int x1]) σ Q := by
  obtain ⟨l', rfl⟩ : ∃ l', lev = l' + 1 := ⟨lev - 1, by omega⟩
  have h0 := h
  obtain ⟨a1, p1, t1, N, z, w, b1, b2, b3, b4, b5⟩ := h0
  refine tX1_type ⟨a1.1, c_nameAt (N := N) (n := n + 179) (s := s + 554) (by omega) (h.le (by omega) (by omega) (Nat.le_refl _)) b1 (fun hb y τ k1 k2 => fun _ => bad hb y τ k1 (k2.le (by omega) (by omega) (Nat.le_refl _))) (fun k ex hk => onR_ret (fun _ => ⟨R 2, a1.2.2.1, b4.2.1.1.1, R 2, a1.2.2.1, b4.2.1.1.1, ?_⟩))⟩
  have ok' := ok k
  clear ok
  have k1 : keep (isM R) σ (gpi (R 2) 10 (iI 0) σ) := (keep.rf (W := isM R)).pi (fun _ => Or.inl rfl)
  have l1 : gle σ (gpi (R 2) 10 (iI 0) σ) := ⟨⟨Nat.le_refl _, Nat.le_refl _⟩, fun _ _ => rfl⟩
  refine c_begins (by omega) b4.o0 (fun t8 k8 b8 g8 => fun l8 => ?_)
  have k08 : keep (isM R) σ t8 := k1.t2 k8
  have l08 : gle σ t8 := l1.tr l8
  have j08 : jfr R nil0 σ t8 := jfr.M k08 l08 b1.1 b4.2.1
  have h8 := b1.mv b4.2.1 j08 (fun _ z => z.elim) (fun _ z => z) (rfl : ((fun _ : Nat => False), N, H.cx.length, H.tb.1.length).2 = _)
  have c8 : hcl R t8 := a1.M b4.2.1 b1.1.1.1 k08
  obtain ⟨e1, e2, e3, e4, e5, ta, e6, e7⟩ := h8.1.2.2.2.2.2.2 k hk
  have e1' : gk t8 (N k) = 21 := e1
  have e6' : gr t8 (N k) 1 = some ta := e6
  have k9 : keep nil0 t8 (gmk 14 2 t8) := keep.rf.mk b8.1.at
  obtain ⟨v1, v2, v3, v4⟩ := k9 (N k) (by omega) id
  have zz : z ≤ 173 := by omega
  refine ⟨(b8.2.2.2.le (n' := 0 + 1) (s' := 0 + 2) (by omega) (by omega)).gr b8.1, N k, rfl, v1.trans e1', ?_⟩
  rw [v3, e6']
  refine c_clo (by omega) b8.1 (fun t14 k14 z14 n14 m14 c1 c2 c3 => fun l14 => ?_)
  have l814 : gle t8 t14 := ⟨⟨by omega, by omega⟩, fun q hq => (k14 q hq id).1⟩
  have b14 := (b8.le (n' := n + 177 + fC u z + 1) (s' := s + 540 + fS u z + 2) (by omega) (by omega)).new k14 z14 n14 m14
  have j14 : jfr R nil0 t8 t14 := jfr.N k14 l814 h8.1
  have h14 := h8.mv b8.2.1 j14 (fun _ z => z.elim) (fun _ z => z) (rfl : ((fun _ : Nat => False), N, H.cx.length, H.tb.1.length).2 = _)
  have hty : (hJ ((fun _ => 0), 0) H.tb H.cx).ct k = (cAt H.cx k).ty := rfl
  rw [hty] at e7 e5
  have v14 : pV ((fun _ => False), N, H.cx.length, H.tb.1.length) nilL t14 (vClo (cAt H.cx k).ty .nil) false (some (gn t8)) := pV_pH c1 ⟨⟨ta, c2, pT_mv (k14.mv (L := nilL)) _ _ _ e7⟩, by rw [c3]; trivial⟩
  have ew : swv (vClo (cAt H.cx k).ty .nil) = sw (cAt H.cx k).ty := rfl
  have hsw := b3 k hk
  have kk14 : keep (isM R) σ t14 := k08.t2 (k14.wk (fun _ q => q.elim))
  have ll14 : gle σ t14 := l08.tr l814
  refine ⟨R 2, c8.2.2.1, b14.2.1.1.1, c_tell (G := G) (s0 := s0) (l := l) (KK := KK) (T := T) (R := R) (X := hX H.lim H.tb H.cx) 100 0 l' rfl (by omega) _ (vClo (cAt H.cx k).ty .nil) (gn t8) 0 false false (kBeg (kOut0 H.K)) t14 (n + fC u z) (s + fS u z) 0 nilL _ LTn v14 (Or.inr ⟨_, _, rfl, e5, trivial⟩) h14.2.2.1 h14.2.1 (by omega) (by unfold OB; show 0 + 100 * (60000 - H.K.life) + 0 ≤ _; omega) (by rw [ew]; exact b14.le (by omega) (by omega)) (fun t18 K18 d1 d2 d3 d4 d5 => fun l18 => ?_) (fun x τ K' e w' d1 d2 d3 d4 d5 d6 => fun l18 => ⟨d3.1, tX1_type_51 ⟨x, rfl, d3.1, ?_⟩⟩)⟩
  · have c18 : hcl R t18 := a1.M b4.2.1 b1.1.1.1 (kk14.t2 d3)
    refine ⟨R 2, c18.2.2.1, d4.2.1.1.1, ?_⟩
    have eo : oType k H = ((H.tp, H.ft, H.lim, H.tb, H.cx, K18, H.mk), (K18.outs : Int)) := by
      unfold oType
      obtain ⟨w1, w2⟩ := sTell_suc1 d1
      dsimp only
      rw [w1, w2]
    have o := ok' t18 ex hk
    rw [eo] at o
    rw [d4.2.1.2.2.2.2.1.2.2.2.2]
    exact o (h.mch b1 (kk14.t2 d3) (ll14.tr l18) b3 b5 (d4.le (by omega) (by omega)))
  · have eo : oType k H = ((H.tp, H.ft, H.lim, H.tb, H.cx, K', H.mk), -(e : Int)) := by
      unfold oType
      obtain ⟨w1, w2⟩ := sTell_suc1 d1
      dsimp only
      rw [w1, w2]
    have o := ok' τ ex hk
    rw [eo] at o
    have en : -(gi τ x 6) = iI (-(e : Int)) := by
      rw [d3.2.1, show (-(e : Int)) = 0 - (e : Int) by omega, ← iI_sub, ← iI_z, Int32.zero_sub]
    rw [en]
    exact o (h.mch b1 (kk14.t2 d4) (ll14.tr l18) b3 b5 d5)
end PHBA
