/-! THE HOUSE OVER S, P (25): name, sort -/
section PHBC
variable {G : GPl} {s0 : State} {l : Launch} {KK : Nat → Option Nat} {T : Nat → Nat} {lev : Nat} {Q : Outcome → GSt → Prop} {R : Nat → Nat} {σ τ υ st0 ρ σ0 : GSt} {X : SX} {J : JX} {K K' : KS} {n s m u n' s' u' z w w' k a : Nat} {x1 x2 : Int32} {H H' : HO} {N : Nat → Nat} {c : PC} {L : Nat → Nat → Prop}
theorem x_sub {x : Int32} {d : Int} (h : 0 ≤ d) (h2 : d ≤ x.toInt) (h3 : d < 1000) : (x - iI d).toInt = x.toInt - d := by
  have hx := x_rg x
  have ex := iI_of x
  have e : x - iI d = iI (x.toInt - d) := by
    rw [← iI_sub, ← ex]
  rw [e, iI_toInt (by omega) (by omega)]
theorem c_oname (hl : 20 ≤ lev) (h : PH G KK T R σ H (n + 1) (s + 6) u)
    (bad : ¬ (0 ≤ x1.toInt ∧ x1.toInt < H.cx.length ∧ 0 ≤ x2.toInt) → ∀ y τ, gk τ y = 26 → PH G KK T R τ H n s u → Q (.threw y) τ)
    (ok : ∀ j : Nat, x1 = iI (j : Int) → j < H.cx.length → 0 ≤ x2.toInt → Q (.returned (some (.int (iI (oName j x2.toInt.toNat H))))) σ) : CQ (wP G s0 l KK T) mX1_name lev (.ref (R 0) :: [.int x1, .int x2]) σ Q := by
  obtain ⟨l', rfl⟩ : ∃ l', lev = l' + 1 := ⟨lev - 1, by omega⟩
  have h0 := h
  obtain ⟨a1, p1, t1, N, z, w, b1, b2, b3, b4, b5⟩ := h0
  refine tX1_name ⟨a1.1, c_nameAt (N := N) (by omega) h b1 (fun hb y τ k1 k2 => fun _ => bad (fun q => hb ⟨q.1, q.2.1⟩) y τ k1 k2) (fun j ej hj => onR_ret (fun _ => ⟨fun q => ?_, fun q => ?_⟩))⟩
  · exact c_there (b := false) (by omega) h (fun q => by cases q) (fun _ y τ k1 k2 => fun _ => bad (fun w => by rw [x_z.1] at q; omega) y τ k1 k2)
  · rw [x_z.1] at q
    have o := ok j ej hj (by omega)
    unfold oName at o
    obtain ⟨e1, e2, e3, e4, e5, ta, e6, e7⟩ := b1.1.2.2.2.2.2.2 j hj
    obtain ⟨-, sa, i2, i3⟩ := b1.2.1.1 j hj
    obtain ⟨-, v2, v3⟩ := b1.2.2.1.1 j hj
    have e1' : gk σ (N j) = 21 := e1
    have e2' : gi σ (N j) 2 = iI (cAt H.cx j).so := e2
    have i2' : gr σ (N j) 0 = some sa := i2
    have i3' : pS σ (R 5) sa (cAt H.cx j).nm := i3
    have i4 : gk σ sa = 23 := i3'.1
    refine c_there (b := true) (by omega) h (fun _ => fun _ => ⟨fun q0 => ⟨N j, rfl, e1', fun q1 => ?_, fun a22 q1 => ?_⟩, fun q0 => ⟨fun q1 => ⟨N j, rfl, e1', ?_⟩, fun q1 => ⟨fun q2 => ⟨N j, rfl, e1', sa, i2', i4, ?_⟩, fun q2 => ⟨N j, rfl, e1', ?_⟩⟩⟩⟩) (fun q => by cases q)
    · rw [x_z.2] at q0
      rw [if_pos (by omega)] at o
      cases hv : (cAt H.cx j).va with
      | none => rw [hv] at o; exact o
      | some t => obtain ⟨-, b, w1, -⟩ := v3 t hv; have w1' : gr σ (N j) 3 = some b := w1; rw [w1'] at q1; cases q1
    · rw [x_z.2] at q0
      rw [if_pos (by omega)] at o
      cases hv : (cAt H.cx j).va with
      | none => have w1' : gr σ (N j) 3 = none := v2 hv; rw [w1'] at q1; cases q1
      | some t => rw [hv] at o; exact o
    · rw [x_z.2] at q0
      rw [(x_lt (by omega) (by omega)).2.2.2] at q1
      rw [if_neg (by omega), if_pos (by omega)] at o
      rw [e2']; exact o
    · rw [x_z.2] at q0
      rw [(x_lt (by omega) (by omega)).2.2.2] at q1 q2
      rw [if_neg (by omega), if_neg (by omega), if_pos (by omega)] at o
      exact c_len (by omega) i3' (fun _ => o)
    · rw [x_z.2] at q0
      rw [(x_lt (by omega) (by omega)).2.2.2] at q1 q2
      rw [if_neg (by omega), if_neg (by omega), if_neg (by omega)] at o
      rw [i2']
      have ed := x_sub (x := x2) (d := 3) (by omega) (by omega) (by omega)
      refine c_signOf (by omega) i3' (by omega) (fun _ => ?_)
      rw [ed, show (x2.toInt - 3).toNat = x2.toInt.toNat - 3 by omega]
      exact o
theorem c_osort (hl : 20 ≤ lev) (h : PH G KK T R σ H (n + 1) (s + 6) u)
    (bad : ¬ (0 ≤ x1.toInt ∧ x1.toInt < H.tb.1.length ∧ 0 ≤ x2.toInt) → ∀ y τ, gk τ y = 26 → PH G KK T R τ H n s u → Q (.threw y) τ)
    (ok : ∀ j : Nat, x1 = iI (j : Int) → j < H.tb.1.length → 0 ≤ x2.toInt → Q (.returned (some (.int (iI (oSort j x2.toInt.toNat H))))) σ) : CQ (wP G s0 l KK T) mX1_sort lev (.ref (R 0) :: [.int x1, .int x2]) σ Q := by
  obtain ⟨l', rfl⟩ : ∃ l', lev = l' + 1 := ⟨lev - 1, by omega⟩
  have h0 := h
  obtain ⟨a1, p1, t1, N, z, w, b1, b2, b3, b4, b5⟩ := h0
  obtain ⟨-, ⟨d1, d2, d3⟩, ⟨d4, d5, d6, d7, d8, d9⟩, e1, e2, -⟩ := b1.1
  obtain ⟨-, i2, i3, i4, i5, i6, i7⟩ := b1.2.1
  have h8 : H.tb.1.length ≤ 8 := b1.2.2.1.2.2.1
  have d3' : gi σ (R 1) 3 = iI (H.tb.1.length : Int) := d3
  have t23 : ¬ (0 ≤ x1.toInt ∧ x1.toInt < H.tb.1.length ∧ 0 ≤ x2.toInt) → jX1_sort_23 G s0 l KK T l' σ Q (R 0) x1 x2 σ := fun hb =>
    tX1_sort_23 (c_there (b := false) (by omega) h (fun q => by cases q) (fun _ y τ k1 k2 => fun _ => bad hb y τ k1 k2))
  have L1 := x_lt (x := x1) (z := (H.tb.1.length : Int)) (by omega) (by omega)
  refine tX1_sort ⟨fun q => t23 (fun w => ?_), fun q1 => ⟨a1.1, R 1, a1.2.1, i2, ?_⟩⟩
  · rw [x_z.1] at q; omega
  rw [d3']
  rw [x_z.1] at q1
  refine ⟨fun q => t23 (fun w => ?_), fun q2 => ⟨fun q => t23 (fun w => ?_), fun q3 => ?_⟩⟩
  · rw [L1.2.2.1] at q; omega
  · rw [x_z.1] at q; omega
  rw [L1.2.2.1] at q2
  rw [x_z.1] at q3
  have ex := iI_of x1
  obtain ⟨j, hj⟩ : ∃ k : Nat, x1.toInt = (k : Int) := ⟨x1.toInt.toNat, by omega⟩
  rw [hj] at ex
  have hjl : j < H.tb.1.length := by omega
  have o := ok j ex hjl (by omega)
  unfold oSort at o
  obtain ⟨sa, v1, v2⟩ := i7 j hjl
  have v2' : pS σ (R 5) sa (H.tb.1.getD j []) := v2
  have ix1 : ix x1 = j := by rw [ex, iI_ix (by omega)]
  have v1' : gr σ (R 8) (ix x1) = some sa := by rw [ix1]; exact v1
  have in8 : inr x1 (gl σ (R 8)) := by rw [ex, i5]; exact iI_in (by omega) (by omega)
  refine c_there (b := true) (by omega) h (fun _ => fun _ => ⟨fun q0 => ⟨R 1, a1.2.1, i2, R 6, d1, d4, by rw [ex, d5]; exact iI_in (by omega) (by omega), ?_⟩, fun q0 => ⟨fun q1 => ⟨R 1, a1.2.1, i2, R 8, i3, i4, in8, sa, v1', v2'.1, ?_⟩, fun q1 => ⟨R 1, a1.2.1, i2, R 8, i3, i4, in8, ?_⟩⟩⟩) (fun q => by cases q)
  · rw [x_z.2] at q0
    rw [if_pos (by omega)] at o
    rw [ix1, (e1 j (by omega)).1]; exact o
  · rw [x_z.2] at q0
    rw [(x_lt (by omega) (by omega)).2.2.2] at q1
    rw [if_neg (by omega), if_pos (by omega)] at o
    exact c_len (by omega) v2' (fun _ => o)
  · rw [x_z.2] at q0
    rw [(x_lt (by omega) (by omega)).2.2.2] at q1
    rw [if_neg (by omega), if_neg (by omega)] at o
    rw [v1']
    have ed := x_sub (x := x2) (d := 2) (by omega) (by omega) (by omega)
    refine c_signOf (by omega) v2' (by omega) (fun _ => ?_)
    rw [ed, show (x2.toInt - 2).toNat = x2.toInt.toNat - 2 by omega]
    exact o
end PHBC
