/-! THE HOUSE OVER S, P (22): small operations -/
def oFault (w : Int) (H : HO) : Int := if w = 0 then (H.ft.1 : Int) else if w = 1 then H.ft.2.1 else (H.ft.2.2 : Int)
section PHZ
variable {G : GPl} {s0 : State} {l : Launch} {KK : Nat → Option Nat} {T : Nat → Nat} {lev : Nat} {Q : Outcome → GSt → Prop} {R : Nat → Nat} {σ τ υ st0 ρ σ0 : GSt} {K K' : KS} {n s m u n' s' u' : Nat} {x1 x2 : Int32} {H H' : HO}
theorem x_rg (x : Int32) : -2147483648 ≤ x.toInt ∧ x.toInt < 2147483648 := ⟨Int32.le_toInt x, Int32.toInt_lt x⟩
theorem x_lt {x : Int32} {z : Int} (h1 : -2147483648 ≤ z) (h2 : z < 2147483648) : (x < iI z ↔ x.toInt < z) ∧ (iI z < x ↔ z < x.toInt) ∧ (iI z ≤ x ↔ z ≤ x.toInt) ∧ (x = iI z ↔ x.toInt = z) := by
  have hx := x_rg x
  have e := iI_of x
  refine ⟨?_, ?_, ?_, ?_⟩
  · constructor
    · intro h; rw [e, iI_lt hx.1 hx.2 h1 h2] at h; exact h
    · intro h; rw [e, iI_lt hx.1 hx.2 h1 h2]; exact h
  · constructor
    · intro h; rw [e, iI_lt h1 h2 hx.1 hx.2] at h; exact h
    · intro h; rw [e, iI_lt h1 h2 hx.1 hx.2]; exact h
  · constructor
    · intro h; rw [e, iI_le h1 h2 hx.1 hx.2] at h; exact h
    · intro h; rw [e, iI_le h1 h2 hx.1 hx.2]; exact h
  · constructor
    · intro h; rw [e, iI_eq hx.1 hx.2 h1 h2] at h; exact h
    · intro h; rw [e, iI_eq hx.1 hx.2 h1 h2]; exact h
theorem x_z {x : Int32} : (x < 0 ↔ x.toInt < 0) ∧ (x = 0 ↔ x.toInt = 0) := by
  rw [iI_z]
  have := x_lt (x := x) (z := 0) (by omega) (by omega)
  exact ⟨this.1, this.2.2.2⟩
theorem c_fault (hl : 10 ≤ lev) (h : PH G KK T R σ H (n + 1) (s + 6) u)
    (bad : ¬ (0 ≤ x1.toInt ∧ x1.toInt ≤ 2) → ∀ y τ, gk τ y = 26 → PH G KK T R τ H n s u → Q (.threw y) τ)
    (ok : 0 ≤ x1.toInt → x1.toInt ≤ 2 → Q (.returned (some (.int (iI (oFault x1.toInt H))))) σ) : CQ (wP G s0 l KK T) mX1_fault lev (.ref (R 0) :: [.int x1]) σ Q := by
  obtain ⟨l', rfl⟩ : ∃ l', lev = l' + 1 := ⟨lev - 1, by omega⟩
  have h0 := h
  obtain ⟨a1, ⟨-, ⟨f3, f4, f5, f6, -⟩, -⟩, -⟩ := h0
  have t13 : ¬ (0 ≤ x1.toInt ∧ x1.toInt ≤ 2) → jX1_fault_13 G s0 l KK T l' σ Q (R 0) x1 σ := fun hb =>
    tX1_fault_13 (c_there (b := false) (by omega) h (fun q => by cases q) (fun _ y τ k1 k2 => fun _ => bad hb y τ k1 k2))
  refine tX1_fault ⟨fun q => t13 (fun w => ?_), fun q1 => ⟨fun q => t13 (fun w => ?_), fun q2 => c_there (b := true) (by omega) h (fun _ => fun _ => ?_) (fun q => by cases q)⟩⟩
  · rw [x_z.1] at q; omega
  · rw [(x_lt (by omega) (by omega)).2.1] at q; omega
  · rw [x_z.1] at q1
    rw [(x_lt (by omega) (by omega)).2.1] at q2
    have o := ok (by omega) (by omega)
    unfold oFault at o
    refine ⟨fun q => ⟨a1.1, ?_⟩, fun q => ⟨fun q3 => ⟨a1.1, ?_⟩, fun q3 => ⟨a1.1, ?_⟩⟩⟩
    · rw [x_z.2] at q; rw [if_pos q] at o; rw [f4]; exact o
    · rw [x_z.2] at q; rw [(x_lt (by omega) (by omega)).2.2.2] at q3; rw [if_neg q, if_pos q3] at o; rw [f5]; exact o
    · rw [x_z.2] at q; rw [(x_lt (by omega) (by omega)).2.2.2] at q3; rw [if_neg q, if_neg q3] at o; rw [f6]; exact o
theorem c_outs (hl : 1 ≤ lev) (h : PH G KK T R σ H n s u) (ok : Q (.returned (some (.int (iI (H.K.outs : Int))))) σ) : CQ (wP G s0 l KK T) mX1_outs lev (.ref (R 0) :: []) σ Q := by
  obtain ⟨l', rfl⟩ : ∃ l', lev = l' + 1 := ⟨lev - 1, by omega⟩
  obtain ⟨a1, -, -, N, z, w, -, -, -, b4, -⟩ := h
  refine tX1_outs ⟨a1.1, R 2, a1.2.2.1, b4.2.1.1.1, ?_⟩
  rw [b4.2.1.2.2.2.2.1.2.2.2.2]
  exact ok
theorem c_out (hl : 10 ≤ lev) (hO : H.K.outs < 2000000000) (h : PH G KK T R σ H (n + 1) (s + 6) u)
    (bad : ¬ (0 ≤ x1.toInt ∧ x1.toInt < H.K.outs ∧ x1.toInt < 3000) → ∀ y τ, gk τ y = 26 → PH G KK T R τ H n s u → Q (.threw y) τ)
    (ok : ∀ k : Nat, x1 = iI (k : Int) → k < H.K.outs → k < 3000 → Q (.returned (some (.int (iI (H.K.out k : Int))))) σ) : CQ (wP G s0 l KK T) mX1_out lev (.ref (R 0) :: [.int x1]) σ Q := by
  obtain ⟨l', rfl⟩ : ∃ l', lev = l' + 1 := ⟨lev - 1, by omega⟩
  have h0 := h
  obtain ⟨a1, -, -, N, z, w, -, -, -, b4, -⟩ := h0
  obtain ⟨-, ⟨⟨m1, m2, m3⟩, ⟨m4, m5, m6⟩, ⟨m7, m8, m9⟩, m10, ⟨m11, m12, m13, m14, m15⟩, m16⟩, -⟩ := b4
  have t25 : ¬ (0 ≤ x1.toInt ∧ x1.toInt < H.K.outs ∧ x1.toInt < 3000) → jX1_out_25 G s0 l KK T l' σ Q (R 0) x1 σ := fun hb =>
    tX1_out_25 (c_there (b := false) (by omega) h (fun q => by cases q) (fun _ y τ k1 k2 => fun _ => bad hb y τ k1 k2))
  have em : (if gi σ (R 2) 10 < iI 3000 then gi σ (R 2) 10 else iI 3000) = iI ((min H.K.outs 3000 : Nat) : Int) := by
    rw [m15]
    by_cases q : H.K.outs < 3000
    · rw [if_pos ((iI_lt (by omega) (by omega) (by omega) (by omega)).mpr (by omega)), Nat.min_eq_left (by omega)]
    · rw [if_neg (fun w => q (by rw [iI_lt (by omega) (by omega) (by omega) (by omega)] at w; omega)), Nat.min_eq_right (by omega)]; rfl
  refine tX1_out ⟨fun q => t25 (fun w => ?_), fun q1 => ⟨a1.1, R 2, a1.2.2.1, m1, ?_⟩⟩
  · rw [x_z.1] at q; omega
  rw [em]
  refine ⟨fun q => t25 (fun w => ?_), fun q2 => c_there (b := true) (by omega) h (fun _ => fun _ => ⟨R 2, a1.2.2.1, m1, R 5, m6, m3, ?_, ?_⟩) (fun q => by cases q)⟩
  · rw [(x_lt (by omega) (by omega)).2.2.1] at q
    have := Nat.min_le_left H.K.outs 3000
    omega
  · rw [x_z.1] at q1
    rw [(x_lt (by omega) (by omega)).2.2.1] at q2
    rw [m8]
    exact ⟨by omega, by omega⟩
  · rw [x_z.1] at q1
    rw [(x_lt (by omega) (by omega)).2.2.1] at q2
    have ex := iI_of x1
    obtain ⟨k, hk⟩ : ∃ k : Nat, x1.toInt = (k : Int) := ⟨x1.toInt.toNat, by omega⟩
    rw [hk] at ex q2
    have hk1 : k < min H.K.outs 3000 := by omega
    have o := ok k ex (by omega) (by omega)
    rw [ex, iI_ix (by omega), m16 k (by omega) (by omega)]
    exact o
theorem c_limit (hl : 10 ≤ lev) (h : PH G KK T R σ H (n + 1) (s + 6) u)
    (bad : ¬ (1 ≤ x1.toInt ∧ x1.toInt ≤ 20000) → ∀ y τ, gk τ y = 25 → PH G KK T R τ H n s u → Q (.threw y) τ)
    (ok : ∀ (k : Nat) τ, x1 = iI (k : Int) → 1 ≤ k → k ≤ 20000 → PH G KK T R τ (oLimit k H) n s u → Q (.returned (some (.int (iI (H.lim : Int))))) τ) : CQ (wP G s0 l KK T) mX1_limit lev (.ref (R 0) :: [.int x1]) σ Q := by
  obtain ⟨l', rfl⟩ : ∃ l', lev = l' + 1 := ⟨lev - 1, by omega⟩
  have h0 := h
  obtain ⟨a1, p1, t1, N, z, w, b1, b2, b3, b4, b5⟩ := h0
  have b4' := b4
  obtain ⟨hz, ⟨⟨m1, m2, m3⟩, ⟨m4, m5, m6⟩, ⟨m7, m8, m9⟩, m10, ⟨m11, m12, m13, m14, m15⟩, m16⟩, ⟨k1, k2, k3⟩, hr⟩ := b4
  have t16 : ¬ (1 ≤ x1.toInt ∧ x1.toInt ≤ 20000) → jX1_limit_16 G s0 l KK T l' σ Q (R 0) x1 σ := fun hb =>
    tX1_limit_16 (c_right (b := false) (by omega) h (fun q => by cases q) (fun _ y τ k1 k2 => fun _ => bad hb y τ k1 k2))
  refine tX1_limit ⟨fun q => t16 (fun w => ?_), fun q1 => ⟨fun q => t16 (fun w => ?_), fun q2 => c_right (b := true) (by omega) h (fun _ => fun _ => ⟨a1.1, R 2, a1.2.2.1, m1, ?_⟩) (fun q => by cases q)⟩⟩
  · rw [(x_lt (by omega) (by omega)).1] at q; omega
  · rw [(x_lt (by omega) (by omega)).2.1] at q; omega
  rw [(x_lt (by omega) (by omega)).1] at q1
  rw [(x_lt (by omega) (by omega)).2.1] at q2
  have ex := iI_of x1
  obtain ⟨k, hk⟩ : ∃ k : Nat, x1.toInt = (k : Int) := ⟨x1.toInt.toNat, by omega⟩
  rw [hk] at ex
  rw [m13]
  subst ex
  have n24 : R 2 ≠ R 4 := fun q => by rw [← q] at m2; omega
  have n25 : R 2 ≠ R 5 := fun q => by rw [← q] at m3; omega
  have kk : keep (isM R) σ (gpi (R 2) 7 (iI (k : Int)) σ) := (keep.rf (W := isM R)).pi (fun _ => Or.inl rfl)
  have ll : gle σ (gpi (R 2) 7 (iI (k : Int)) σ) := ⟨⟨Nat.le_refl _, Nat.le_refl _⟩, fun _ _ => rfl⟩
  have jj : jfr R nil0 σ (gpi (R 2) 7 (iI (k : Int)) σ) := jfr.M kk ll b1.1 b4'.2.1
  have wS := b1.wS (I := nil0) b4'.2.1 (fun _ z => z.elim)
  have kS : ∀ {sa : Nat} {bs : List Nat}, pS σ (R 5) sa bs → pS (gpi (R 2) 7 (iI (k : Int)) σ) (R 5) sa bs := fun {sa bs} v1 => v1.kpW jj.1 wS
  obtain ⟨⟨f1, f2⟩, ⟨f3, f4, f5, f6, f7⟩, ⟨g1, g2, g3, g4, g5⟩, ⟨i1, i2, i3, i4, i5⟩⟩ := p1
  obtain ⟨t1, ⟨t2, t3, t4, t5⟩, z0, t6, t7, t8⟩ := t1
  have n02 : R 0 ≠ R 2 := fun q => by have := a1.1; rw [q] at this; omega
  have n10 : R 10 ≠ R 2 := fun q => by rw [q] at g1; omega
  have n11 : R 11 ≠ R 2 := fun q => by rw [q] at i1; omega
  refine ok k _ rfl (by omega) (by omega) ⟨a1, ⟨⟨f1, f2⟩, ⟨?_, ?_, ?_, ?_, ?_⟩, ⟨g1, g2, g3, g4, fun j hj => ?_⟩, ⟨i1, i2, i3, i4, fun i p hp => ?_⟩⟩, ⟨⟨fun w hw => kS (t1.1 w hw), kS t1.2.1, kS t1.2.2⟩, ⟨kS t2, kS t3, kS t4, kS t5⟩, z0, t6, t7, t8⟩, N, z, w, b1.mv b4'.2.1 jj (fun _ z => z.elim) (fun _ z => z) rfl, b2.mv b1 b4'.2.1 jj (fun _ z => z.elim), b3, ⟨hz, ⟨⟨m1, m2, m3⟩, ⟨m4, m5, m6⟩, ⟨m7, m8, m9⟩, fun j hj => ?_, ⟨?_, ?_, ?_, ?_, ?_⟩, fun j h1 h2 => ?_⟩, ⟨k1, by show k ≤ 20000; omega, k3⟩, hr.le (by omega) (by omega)⟩, b5⟩
  · rw [gi_pi, if_neg (fun q => n02 q.1)]; exact f3
  · rw [gi_pi, if_neg (fun q => n02 q.1)]; exact f4
  · rw [gi_pi, if_neg (fun q => n02 q.1)]; exact f5
  · rw [gi_pi, if_neg (fun q => n02 q.1)]; exact f6
  · rw [gi_pi, if_neg (fun q => n02 q.1)]; exact f7
  · rw [gi_pi, if_neg (fun q => n10 q.1)]; exact g5 j hj
  · rw [gi_pi, if_neg (fun q => n11 q.1)]; exact i5 i p hp
  · rw [gi_pi, if_neg (fun q => n24 q.1.symm)]; exact m10 j hj
  · rw [gi_pi, if_neg (by omega)]; exact m11
  · rw [gi_pi, if_neg (by omega)]; exact m12
  · rw [gi_pi, if_pos ⟨rfl, rfl⟩]; rfl
  · rw [gi_pi, if_neg (by omega)]; exact m14
  · rw [gi_pi, if_neg (by omega)]; exact m15
  · rw [gi_pi, if_neg (fun q => n25 q.1.symm)]; exact m16 j h1 h2
theorem c_orule (hl : 10 ≤ lev) (h : PH G KK T R σ H (n + 1) (s + 6) u)
    (bad : ¬ (0 ≤ x1.toInt ∧ x1.toInt < H.tb.1.length ∧ 0 ≤ x2.toInt ∧ x2.toInt < H.tb.1.length) → ∀ y τ, gk τ y = 26 → PH G KK T R τ H n s u → Q (.threw y) τ)
    (ok : ∀ a b : Nat, x1 = iI (a : Int) → x2 = iI (b : Int) → a < H.tb.1.length → b < H.tb.1.length → Q (.returned (some (.int (iI (H.tb.2.2 a b))))) σ) : CQ (wP G s0 l KK T) mX1_rule lev (.ref (R 0) :: [.int x1, .int x2]) σ Q := by
  obtain ⟨l', rfl⟩ : ∃ l', lev = l' + 2 := ⟨lev - 2, by omega⟩
  have h0 := h
  obtain ⟨a1, p1, t1, N, z, w, b1, b2, b3, b4, b5⟩ := h0
  obtain ⟨-, ⟨d1, d2, d3⟩, ⟨d4, d5, d6, d7, d8, d9⟩, e1, e2, -⟩ := b1.1
  have i2 := b1.2.1.2.1
  have h8 : H.tb.1.length ≤ 8 := b1.2.2.1.2.2.1
  have t34 : ¬ (0 ≤ x1.toInt ∧ x1.toInt < H.tb.1.length ∧ 0 ≤ x2.toInt ∧ x2.toInt < H.tb.1.length) → jX1_rule_34 G s0 l KK T (l' + 1) σ Q (R 0) x1 x2 σ := fun hb =>
    tX1_rule_34 (c_there (b := false) (by omega) h (fun q => by cases q) (fun _ y τ k1 k2 => fun _ => bad hb y τ k1 k2))
  refine tX1_rule ⟨fun q => t34 (fun w => ?_), fun q1 => ⟨a1.1, R 1, a1.2.1, i2, ?_⟩⟩
  · rw [x_z.1] at q; omega
  have d3' : gi σ (R 1) 3 = iI (H.tb.1.length : Int) := d3
  rw [d3']
  have L1 := x_lt (x := x1) (z := (H.tb.1.length : Int)) (by omega) (by omega)
  have L2 := x_lt (x := x2) (z := (H.tb.1.length : Int)) (by omega) (by omega)
  rw [x_z.1] at q1
  refine ⟨fun q => t34 (fun w => ?_), fun q2 => ⟨fun q => t34 (fun w => ?_), fun q3 => ⟨fun q => t34 (fun w => ?_), fun q4 => c_there (b := true) (by omega) h (fun _ => fun _ => ⟨R 1, a1.2.1, i2, ?_⟩) (fun q => by cases q)⟩⟩⟩
  · rw [L1.2.2.1] at q; omega
  · rw [x_z.1] at q; omega
  · rw [L2.2.2.1] at q; omega
  rw [L1.2.2.1] at q2
  rw [x_z.1] at q3
  rw [L2.2.2.1] at q4
  have ex := iI_of x1
  have ey := iI_of x2
  obtain ⟨a, ha⟩ : ∃ k : Nat, x1.toInt = (k : Int) := ⟨x1.toInt.toNat, by omega⟩
  obtain ⟨b, hb⟩ : ∃ k : Nat, x2.toInt = (k : Int) := ⟨x2.toInt.toNat, by omega⟩
  rw [ha] at ex
  rw [hb] at ey
  have eI : iI 8 * iI (a : Int) + iI (b : Int) = iI ((8 * a + b : Nat) : Int) := by rw [iI_mul, iI_add]; congr 1
  have o := ok a b ex ey (by omega) (by omega)
  refine tX2_rule ⟨i2, R 7, d2, d6, ?_, fun _ => ?_⟩
  · rw [ex, ey, eI, d7]; exact iI_in (by omega) (by omega)
  · rw [ex, ey, eI, iI_ix (by omega), (e2 a b (by omega) (by omega)).1]; exact o
end PHZ
