/-! THE HOUSE OVER S, P (24): same of two names; name, sort -/
section PHBB
variable {G : GPl} {s0 : State} {l : Launch} {KK : Nat → Option Nat} {T : Nat → Nat} {lev : Nat} {Q : Outcome → GSt → Prop} {R : Nat → Nat} {σ τ υ st0 ρ σ0 : GSt} {X : SX} {J : JX} {K K' : KS} {n s m u n' s' u' z w w' k a : Nat} {x1 x2 : Int32} {H H' : HO} {N : Nat → Nat} {c : PC} {L : Nat → Nat → Prop}
theorem c_named (hl : 5 ≤ lev) (hE : ∀ q, ¬ c.E q) (hk : k < c.nc) (h21 : gk σ (c.N k) = 21) (h : MB G R σ X K w (n + 2) (s + 7))
    (ok : ∀ τ q, keep nil0 σ τ → gle σ τ → MB G R τ X K w n s → pV c L τ (vClo (.tag k .nil) .nil) false (some q) → Q (.returned (some (va_rf (some q)))) τ) : CQ (wP G s0 l KK T) mX1_named lev [va_rf (some (c.N k))] σ Q := by
  obtain ⟨l', rfl⟩ : ∃ l', lev = l' + 3 := ⟨lev - 3, by omega⟩
  have hz := h.1
  have n0 : gk σ (gn σ) = 0 := hz.at
  have t12 : gk (gmk 12 5 σ) (gn σ) = 12 := gk_new (n := 5) n0
  have k1 : keep nil0 σ (gmk 12 5 σ) := keep.rf.mk n0
  obtain ⟨v1, v2, v3, v4⟩ := k1 (c.N k) (by omega) id
  refine tX1_named ⟨(h.2.2.2.le (n' := n + 1 + 1) (s' := s + 2 + 5) (by omega) (by omega)).gr hz, c.N k, rfl, v1.trans h21, tX14_init (tX9_init ⟨⟨11, by decide, t12⟩, fun _ => ⟨t12, fun _ => ?_⟩⟩)⟩
  generalize gr (gmk 12 5 σ) (c.N k) 0 = xn
  have k2 : keep nil0 σ (gpr (gn σ) 3 (some (c.N k)) (gpr (gn σ) 2 xn (gpi (gn σ) 4 (iI (-1)) (gpi (gn σ) 1 (iI (-1)) (gpi (gn σ) 0 (iI (-1)) (gmk 12 5 σ)))))) := ((((k1.pi (fun q => absurd n0 q)).pi (fun q => absurd n0 q)).pi (fun q => absurd n0 q)).pr (fun q => absurd n0 q)).pr (fun q => absurd n0 q)
  have b2 : MB G R (gpr (gn σ) 3 (some (c.N k)) (gpr (gn σ) 2 xn (gpi (gn σ) 4 (iI (-1)) (gpi (gn σ) 1 (iI (-1)) (gpi (gn σ) 0 (iI (-1)) (gmk 12 5 σ)))))) X K w (n + 1) (s + 2) := (h.le (n' := n + 1 + 1) (s' := s + 2 + 5) (by omega) (by omega)).new k2 hz.mk rfl rfl
  have p2 : pT c (gpr (gn σ) 3 (some (c.N k)) (gpr (gn σ) 2 xn (gpi (gn σ) 4 (iI (-1)) (gpi (gn σ) 1 (iI (-1)) (gpi (gn σ) 0 (iI (-1)) (gmk 12 5 σ)))))) (.tag k .nil) (gn σ) 0 := ⟨hk, t12, hE _, by rw [gr_pr, if_pos ⟨rfl, rfl⟩], by rw [gi_pr, gi_pr, gi_pi, if_pos ⟨rfl, rfl⟩]⟩
  have l2 : gle σ (gpr (gn σ) 3 (some (c.N k)) (gpr (gn σ) 2 xn (gpi (gn σ) 4 (iI (-1)) (gpi (gn σ) 1 (iI (-1)) (gpi (gn σ) 0 (iI (-1)) (gmk 12 5 σ)))))) := ⟨(gle_mk (i := 12) (j := 5) hz).1, (gle_mk (i := 12) (j := 5) hz).2⟩
  refine ⟨(b2.2.2.2.le (n' := n + 1) (s' := s + 2) (by omega) (by omega)).gr b2.1, ?_⟩
  generalize gpr (gn σ) 3 (some (c.N k)) (gpr (gn σ) 2 xn (gpi (gn σ) 4 (iI (-1)) (gpi (gn σ) 1 (iI (-1)) (gpi (gn σ) 0 (iI (-1)) (gmk 12 5 σ))))) = t5 at k2 b2 p2 l2 ⊢
  refine c_clo (by omega) b2.1 (fun t9 k9 z9 n9 m9 c1 c2 c3 => fun l9 => ?_)
  have l59 : gle t5 t9 := ⟨⟨by omega, by omega⟩, fun q hq => (k9 q hq id).1⟩
  exact ok t9 (gn t5) (k2.t2 k9) (l2.tr l59) (b2.new k9 z9 n9 m9) (pV_pH c1 ⟨⟨gn σ, c2, pT_mv (k9.mv (L := L)) _ _ _ p2⟩, by rw [c3]; trivial⟩)
theorem sSame_12 {X : SX} {v v' : V} {K K' : KS} {r : Except Nat Bool} (h : sSame X 100 v v' K = (K', r)) : (sSame X 100 v v' K).1 = K' ∧ (sSame X 100 v v' K).2 = r := by rw [h]; exact ⟨rfl, rfl⟩
theorem c_osame (hl : 400 ≤ lev) (h : PH G KK T R σ H (n + 12) (s + 60) u)
    (bad : ¬ (0 ≤ x1.toInt ∧ x1.toInt < H.cx.length ∧ 0 ≤ x2.toInt ∧ x2.toInt < H.cx.length) → ∀ y τ, gk τ y = 26 → PH G KK T R τ H n s u → Q (.threw y) τ)
    (ok : ∀ (j k : Nat) τ, x1 = iI (j : Int) → x2 = iI (k : Int) → j < H.cx.length → k < H.cx.length → PH G KK T R τ (oSame j k H).1 n s u → Q (.returned (some (.int (iI (oSame j k H).2)))) τ) : CQ (wP G s0 l KK T) mX1_same lev (.ref (R 0) :: [.int x1, .int x2]) σ Q := by
  obtain ⟨l', rfl⟩ : ∃ l', lev = l' + 1 := ⟨lev - 1, by omega⟩
  have h0 := h
  obtain ⟨a1, p1, t1, N, z, w, b1, b2, b3, b4, b5⟩ := h0
  refine tX1_same ⟨a1.1, c_nameAt (N := N) (n := n + 11) (s := s + 54) (by omega) (h.le (by omega) (by omega) (Nat.le_refl _)) b1 (fun hb y τ k1 k2 => fun _ => bad (fun q => hb ⟨q.1, q.2.1⟩) y τ k1 (k2.le (by omega) (by omega) (Nat.le_refl _))) (fun j ej hj => onR_ret (fun _ => ?_))⟩
  refine c_nameAt (N := N) (n := n + 11) (s := s + 54) (by omega) (h.le (by omega) (by omega) (Nat.le_refl _)) b1 (fun hb y τ k1 k2 => fun _ => bad (fun q => hb ⟨q.2.2.1, q.2.2.2⟩) y τ k1 (k2.le (by omega) (by omega) (Nat.le_refl _))) (fun k ek hk => onR_ret (fun _ => ⟨R 2, a1.2.2.1, b4.2.1.1.1, ?_⟩))
  have ok' := ok j k
  clear ok
  refine c_begins (by omega) b4 (fun t8 k8 b8 g8 => fun l8 => ?_)
  have j08 : jfr R nil0 σ t8 := jfr.M k8 l8 b1.1 b4.2.1
  have h8 := b1.mv b4.2.1 j08 (fun _ z => z.elim) (fun _ z => z) (rfl : ((fun _ : Nat => False), N, H.cx.length, H.tb.1.length).2 = _)
  have c8 : hcl R t8 := a1.M b4.2.1 b1.1.1.1 k8
  have hN : ∀ i, i < H.cx.length → gk t8 (N i) = 21 := fun i hi => (h8.1.2.2.2.2.2.2 i hi).1
  refine c_named (c := ((fun _ => False), N, H.cx.length, H.tb.1.length)) (L := nilL) (k := j) (n := n + 10 + fC u z) (s := s + 53 + fS u z) (by omega) (fun _ q => q) hj (hN j hj) (b8.le (by omega) (by omega)) (fun t10 qj k10 l10 b10 v10 => onR_ret (fun _ => ?_))
  have hN10 : ∀ i, i < H.cx.length → gk t10 (N i) = 21 := fun i hi => by rw [(k10 (N i) (by rw [hN i hi]; omega) id).1]; exact hN i hi
  refine c_named (c := ((fun _ => False), N, H.cx.length, H.tb.1.length)) (L := nilL) (k := k) (n := n + 8 + fC u z) (s := s + 46 + fS u z) (by omega) (fun _ q => q) hk (hN10 k hk) (b10.le (by omega) (by omega)) (fun t12 qk k12 l12 b12 v12 => onR_ret (fun _ => ?_))
  have kk : keep nil0 t8 t12 := k10.t2 k12
  have lk : gle t8 t12 := l10.tr l12
  have j12 : jfr R nil0 t8 t12 := jfr.N kk lk h8.1
  have h12 := h8.mv b8.2.1 j12 (fun _ z => z.elim) (fun _ z => z) (rfl : ((fun _ : Nat => False), N, H.cx.length, H.tb.1.length).2 = _)
  have v10' := pV_mv (k12.mv (L := nilL)) _ _ _ v10
  have g0 : ∀ i : Nat, gC (vClo (.tag i .nil) .nil) := fun i => Or.inr ⟨_, _, rfl, trivial, trivial⟩
  have s00 : ∀ i : Nat, swv (vClo (.tag i .nil) .nil) = 0 := fun i => rfl
  have kk12 : keep (isM R) σ t12 := k8.t2 (kk.wk (fun _ q => q.elim))
  have ll12 : gle σ t12 := l8.tr lk
  refine ⟨R 2, c8.2.2.1, b12.2.1.1.1, c_same (G := G) (s0 := s0) (l := l) (KK := KK) (T := T) (R := R) (X := hX H.lim H.tb H.cx) (c := ((fun _ => False), N, H.cx.length, H.tb.1.length)) 100 0 l' rfl (by omega) (vClo (.tag j .nil) .nil) (vClo (.tag k .nil) .nil) qj qk (kBeg H.K) t12 (n + fC u z) (s + fS u z) nilL _ LFn v10' v12 (g0 j) (g0 k) h12.2.2.1 (by rw [s00, s00]; exact b12.le (by omega) (by omega)) (fun t18 K18 r d1 d2 d3 d4 d5 => fun l18 => ?_) (fun x τ K' e w' d1 d2 d3 d4 d5 => fun l18 => ⟨d3.1, tX1_same_45 ⟨x, rfl, d3.1, ?_⟩⟩)⟩
  · have eo : oSame j k H = ((H.tp, H.ft, H.lim, H.tb, H.cx, K18, H.mk), if r = true then 1 else 0) := by
      unfold oSame
      obtain ⟨w1, w2⟩ := sSame_12 d1
      dsimp only
      rw [w1, w2]
    have o := ok' t18 ej ek hj hk
    rw [eo] at o
    have hP := o (h.mch b1 (kk12.t2 d4) (ll12.tr l18) b3 b5 (d5.le (by omega) (by omega)))
    refine ⟨fun q => ?_, fun q => ?_⟩
    · have hr : r = false := bI_z.mp q
      subst hr
      exact hP
    · have hr : r = true := by cases r; exact absurd rfl q; rfl
      subst hr
      exact hP
  · have eo : oSame j k H = ((H.tp, H.ft, H.lim, H.tb, H.cx, K', H.mk), -(e : Int)) := by
      unfold oSame
      obtain ⟨w1, w2⟩ := sSame_12 d1
      dsimp only
      rw [w1, w2]
    have o := ok' τ ej ek hj hk
    rw [eo] at o
    have en : -(gi τ x 6) = iI (-(e : Int)) := by
      rw [d3.2.1, show (-(e : Int)) = 0 - (e : Int) by omega, ← iI_sub, ← iI_z, Int32.zero_sub]
    rw [en]
    exact o (h.mch b1 (kk12.t2 d4) (ll12.tr l18) b3 b5 d5)
theorem c_signOf {o : Nat} {bs : List Nat} (hl : 8 ≤ lev) (hs : pS σ o a bs) (hx : 0 ≤ x1.toInt) (ok : Q (.returned (some (.int (iI (match bs[x1.toInt.toNat]? with | some c => (c : Int) | none => -1))))) σ) : CQ (wP G s0 l KK T) mX1_signOf lev [va_rf (some a), .int x1] σ Q := by
  obtain ⟨l', rfl⟩ : ∃ l', lev = l' + 1 := ⟨lev - 1, by omega⟩
  have hb := hs.2.2
  obtain ⟨b, -, -, -, -, hb12, -⟩ := hb
  have ex := iI_of x1
  have hr := x_rg x1
  obtain ⟨i, hi⟩ : ∃ k : Nat, x1.toInt = (k : Int) := ⟨x1.toInt.toNat, by omega⟩
  rw [hi] at ex hr
  subst ex
  rw [hi, Int.toNat_natCast] at ok
  refine tX1_signOf ⟨a, rfl, hs.1, c_len (by omega) hs (fun _ => ⟨fun q => ?_, fun q => ?_⟩)⟩
  · rw [iI_le (by omega) (by omega) (by omega) (by omega)] at q
    rw [List.getElem?_eq_none (by omega)] at ok
    exact ok
  · have hlt : i < bs.length := by
      rcases Nat.lt_or_ge i bs.length with w | w
      · exact w
      · exfalso; apply q; rw [iI_le (by omega) (by omega) (by omega) (by omega)]; omega
    obtain ⟨ch, hc⟩ : ∃ ch, bs[i]? = some ch := ⟨bs[i], List.getElem?_eq_getElem hlt⟩
    rw [hc] at ok
    exact c_char (by omega) hs hc (fun _ => fun _ => ok)
end PHBB
