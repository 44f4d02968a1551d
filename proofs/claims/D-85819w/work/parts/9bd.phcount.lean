/-! THE HOUSE OVER S, P (26): count, mark -/
section PHBD
variable {G : GPl} {s0 : State} {l : Launch} {KK : Nat → Option Nat} {T : Nat → Nat} {lev : Nat} {Q : Outcome → GSt → Prop} {R : Nat → Nat} {σ τ υ st0 ρ σ0 : GSt} {X : SX} {J : JX} {K K' : KS} {n s m u n' s' u' z w w' k a b : Nat} {x1 x2 : Int32} {H H' : HO} {N : Nat → Nat} {c : PC} {L : Nat → Nat → Prop}
theorem c_cnt {f : Nat → Int} {ln : Nat} (h1 : gk σ b = 101) (h2 : gl σ b = ln) (hl2 : ln ≤ 100) (hf : ∀ i, i < ln → gi σ b i = iI (f i) ∧ -1 ≤ f i ∧ f i < 100) (ok : Q (.returned (some (.int (iI (cntR f ln : Int))))) σ) : ∀ (d i : Nat), i + d = ln → jX2_count_4 G s0 l KK T lev st0 Q a (some b) (iI (cntR f i : Int)) (iI (i : Int)) σ := by
  have hb : ∀ i, cntR f i ≤ i := by
    intro i
    induction i with
    | zero => exact Nat.le_refl _
    | succ i ih => show cntR f i + (if f i = -1 then 0 else 1) ≤ i + 1; split <;> omega
  intro d
  induction d with
  | zero =>
    intro i e
    have hi : i = ln := by omega
    subst hi
    refine tX2_count_4 ⟨b, rfl, h1, fun _ => ok, fun q => absurd (by rw [h2, iI_le (by omega) (by omega) (by omega) (by omega)]; omega) q⟩
  | succ d ih =>
    intro i e
    have hi : i < ln := by omega
    obtain ⟨f1, f2, f3⟩ := hf i hi
    have hbi := hb i
    have e1 : cntR f (i + 1) = cntR f i + if f i = -1 then 0 else 1 := rfl
    refine tX2_count_4 ⟨b, rfl, h1, fun q => ?_, fun q => ⟨by rw [h2]; exact iI_in hi (by omega), fun q2 => ?_, fun q2 => ?_⟩⟩
    · rw [h2, iI_le (by omega) (by omega) (by omega) (by omega)] at q; omega
    · rw [iI_ix (by omega), f1, iI_eq (by omega) (by omega) (by omega) (by omega)] at q2
      have := ih (i + 1) (by omega)
      rw [e1, if_pos q2] at this
      rw [iI_suc, iI_add]
      exact this
    · rw [iI_ix (by omega), f1] at q2
      have := ih (i + 1) (by omega)
      rw [e1, if_neg (fun w => q2 (by rw [w]))] at this
      rw [iI_suc, iI_suc]
      exact this
theorem c_count {f : Nat → Int} {ln : Nat} (hl : 1 ≤ lev) (h1 : gk σ b = 101) (h2 : gl σ b = ln) (hl2 : ln ≤ 100) (hf : ∀ i, i < ln → gi σ b i = iI (f i) ∧ -1 ≤ f i ∧ f i < 100) (ok : Q (.returned (some (.int (iI (cntR f ln : Int))))) σ) : CQ (wP G s0 l KK T) mX2_count lev (.ref a :: [va_rf (some b)]) σ Q := by
  obtain ⟨l', rfl⟩ : ∃ l', lev = l' + 1 := ⟨lev - 1, by omega⟩
  exact tX2_count (c_cnt h1 h2 hl2 hf ok ln 0 (Nat.zero_add _))
theorem c_ocount (hl : 12 ≤ lev) (h : PH G KK T R σ H (n + 1) (s + 6) u)
    (bad : ¬ (0 ≤ x1.toInt ∧ x1.toInt ≤ 13) → ∀ y τ, gk τ y = 26 → PH G KK T R τ H n s u → Q (.threw y) τ)
    (ok : ∀ j : Nat, x1 = iI (j : Int) → j ≤ 13 → Q (.returned (some (.int (iI (oCount j H : Int))))) σ) : CQ (wP G s0 l KK T) mX1_count lev (.ref (R 0) :: [.int x1]) σ Q := by
  obtain ⟨l', rfl⟩ : ∃ l', lev = l' + 2 := ⟨lev - 2, by omega⟩
  have h0 := h
  obtain ⟨a1, ⟨-, ⟨f3, f4, f5, f6, f7⟩, -⟩, t1, N, z, w, b1, b2, b3, b4, b5⟩ := h0
  obtain ⟨-, ⟨⟨m1, m2, m3⟩, ⟨m4, m5, m6⟩, ⟨m7, m8, m9⟩, m10, ⟨m11, m12, m13, m14, m15⟩, m16⟩, -⟩ := b4
  obtain ⟨-, ⟨d1, d2, d3⟩, ⟨d4, d5, d6, d7, d8, d9⟩, e1, e2, ⟨g1, g2, g3, -⟩, -⟩ := b1.1
  have i2 := b1.2.1.2.1
  have h8 : H.tb.1.length ≤ 8 := b1.2.2.1.2.2.1
  have j1 := b1.1.1
  have t14 : ¬ (0 ≤ x1.toInt ∧ x1.toInt ≤ 13) → jX1_count_14 G s0 l KK T (l' + 1) σ Q (R 0) x1 σ := fun hb =>
    tX1_count_14 (c_there (b := false) (by omega) h (fun q => by cases q) (fun _ y τ k1 k2 => fun _ => bad hb y τ k1 k2))
  refine tX1_count ⟨fun q => t14 (fun w => ?_), fun q1 => ⟨fun q => t14 (fun w => ?_), fun q2 => c_there (b := true) (by omega) h (fun _ => fun _ => ?_) (fun q => by cases q)⟩⟩
  · rw [x_z.1] at q; omega
  · rw [(x_lt (by omega) (by omega)).2.1] at q; omega
  rw [x_z.1] at q1
  rw [(x_lt (by omega) (by omega)).2.1] at q2
  have ex := iI_of x1
  obtain ⟨j, hj⟩ : ∃ k : Nat, x1.toInt = (k : Int) := ⟨x1.toInt.toNat, by omega⟩
  rw [hj] at ex
  have hj13 : j ≤ 13 := by omega
  have o := ok j ex hj13
  have hx : ∀ i : Int, 0 ≤ i → i ≤ 13 → x1 = iI i → (j : Int) = i := fun i w1 w2 w3 => by
    rw [ex, iI_eq (by omega) (by omega) (by omega) (by omega)] at w3; exact w3
  have sp : 1 ≤ j → j ≤ 6 → inr (x1 - iI 1) (gl σ (R 4)) ∧ Q (.returned (some (.int (gi σ (R 4) (ix (x1 - iI 1)))))) σ := fun w1 w2 => by
    obtain ⟨i, rfl⟩ : ∃ i, j = i + 1 := ⟨j - 1, by omega⟩
    have es : x1 - iI 1 = iI (i : Int) := by rw [ex]; exact iI_prd
    rw [es, m7, iI_ix (by omega), m10 i (by omega)]
    unfold oCount at o
    rw [if_neg (by omega), if_pos (by omega)] at o
    exact ⟨iI_in (by omega) (by omega), o⟩
  unfold oCount at o
  refine ⟨fun e => ⟨a1.1, R 2, a1.2.2.1, m1, ?_⟩, fun e => ⟨a1.1, R 2, a1.2.2.1, m1, R 4, m5, m2, ?_⟩, fun e => ⟨a1.1, R 2, a1.2.2.1, m1, R 4, m5, m2, ?_⟩, fun e => ⟨a1.1, R 2, a1.2.2.1, m1, R 4, m5, m2, ?_⟩, fun e => ⟨a1.1, R 2, a1.2.2.1, m1, R 4, m5, m2, ?_⟩, fun e => ⟨a1.1, R 2, a1.2.2.1, m1, R 4, m5, m2, ?_⟩, fun e => ⟨a1.1, R 2, a1.2.2.1, m1, R 4, m5, m2, ?_⟩, fun e => ⟨a1.1, R 2, a1.2.2.1, m1, ?_⟩, fun e => ⟨a1.1, R 3, a1.2.2.2, j1.1, R 9, j1.2.2.2, g1, tJ2_size ⟨g1, fun _ => ?_⟩⟩, fun e => ⟨a1.1, R 1, a1.2.1, i2, ?_⟩, fun e => ⟨a1.1, R 1, a1.2.1, i2, ?_⟩, fun e => ⟨a1.1, R 1, a1.2.1, i2, ?_⟩, fun e => ⟨a1.1, ?_⟩, fun e => ⟨a1.1, ?_⟩, fun e => ?_⟩
  · have := hx 0 (by omega) (by omega) e
    rw [if_pos (by omega)] at o
    rw [m11]; exact o
  · have := hx 1 (by omega) (by omega) e; exact sp (by omega) (by omega)
  · have := hx 2 (by omega) (by omega) e; exact sp (by omega) (by omega)
  · have := hx 3 (by omega) (by omega) e; exact sp (by omega) (by omega)
  · have := hx 4 (by omega) (by omega) e; exact sp (by omega) (by omega)
  · have := hx 5 (by omega) (by omega) e; exact sp (by omega) (by omega)
  · have := hx 6 (by omega) (by omega) e; exact sp (by omega) (by omega)
  · have := hx 7 (by omega) (by omega) e
    rw [if_neg (by omega), if_neg (by omega), if_pos (by omega)] at o
    rw [m12]; exact o
  · have := hx 8 (by omega) (by omega) e
    rw [if_neg (by omega), if_neg (by omega), if_neg (by omega), if_pos (by omega)] at o
    rw [g3]; exact o
  · have := hx 9 (by omega) (by omega) e
    rw [if_neg (by omega), if_neg (by omega), if_neg (by omega), if_neg (by omega), if_pos (by omega)] at o
    rw [d3]; exact o
  · have := hx 10 (by omega) (by omega) e
    rw [if_neg (by omega), if_neg (by omega), if_neg (by omega), if_neg (by omega), if_neg (by omega), if_pos (by omega)] at o
    rw [d1]
    refine c_count (f := H.tb.2.1) (ln := 8) (by omega) d4 d5 (by omega) (fun i hi => ?_) (fun _ => o)
    obtain ⟨v1, v2, v3⟩ := e1 i hi
    have v3' : H.tb.2.1 i < (H.tb.1.length : Int) := v3
    exact ⟨v1, v2, by omega⟩
  · have := hx 11 (by omega) (by omega) e
    rw [if_neg (by omega), if_neg (by omega), if_neg (by omega), if_neg (by omega), if_neg (by omega), if_neg (by omega), if_pos (by omega)] at o
    rw [d2]
    refine c_count (f := fun i => H.tb.2.2 (i / 8) (i % 8)) (ln := 64) (by omega) d6 d7 (by omega) (fun i hi => ?_) (fun _ => o)
    obtain ⟨v1, v2, v3⟩ := e2 (i / 8) (i % 8) (by omega) (by omega)
    have v3' : H.tb.2.2 (i / 8) (i % 8) < (H.tb.1.length : Int) := v3
    rw [show 8 * (i / 8) + i % 8 = i by omega] at v1
    exact ⟨v1, v2, by show H.tb.2.2 (i / 8) (i % 8) < 100; omega⟩
  · have := hx 12 (by omega) (by omega) e
    rw [if_neg (by omega), if_neg (by omega), if_neg (by omega), if_neg (by omega), if_neg (by omega), if_neg (by omega), if_neg (by omega), if_pos (by omega)] at o
    rw [f7]; exact o
  · have := hx 13 (by omega) (by omega) e
    rw [if_neg (by omega), if_neg (by omega), if_neg (by omega), if_neg (by omega), if_neg (by omega), if_neg (by omega), if_neg (by omega), if_neg (by omega)] at o
    rw [f3]; exact o
  · exfalso
    rcases e with e | e <;> omega
/-- fields of the house, marks: what is written there alone -/
theorem PH.fld (h : PH G KK T R σ H n s u) (hk : keep (fun q => q = R 0 ∨ q = R 11) σ τ) (hl : gle σ τ) (hz : gz τ) (g1 : gn τ = gn σ) (g2 : gm τ = gm σ) (g3 : ∀ j, gr τ (R 0) j = gr σ (R 0) j) (g4 : gl τ (R 11) = gl σ (R 11)) (e1 : H'.tp = H.tp) (e2 : H'.2.2.1 = H.lim ∧ H'.tb = H.tb ∧ H'.cx = H.cx ∧ H'.K = H.K)
    (f1 : gi τ (R 0) 1 = iI (H'.tp.2 : Int) ∧ gi τ (R 0) 2 = iI (H'.ft.1 : Int) ∧ gi τ (R 0) 3 = iI H'.ft.2.1 ∧ gi τ (R 0) 4 = iI (H'.ft.2.2 : Int) ∧ gi τ (R 0) 9 = iI (H'.mk.length : Int)) (f2 : H'.mk.length ≤ 20 ∧ ∀ (i p : Nat), H'.mk[i]? = some p → gi τ (R 11) i = iI (p : Int)) : PH G KK T R τ H' n s u := by
  obtain ⟨a1, ⟨⟨p1, p2⟩, p3, ⟨p4, p5, p6, p7, p8⟩, ⟨i1, i2, i3, i4, i5⟩⟩, ⟨t1, ⟨t2, t3, t4, t5⟩, z0, t6, t7, t8⟩, N, z, w, b1, b2, b3, b4, b5⟩ := h
  have c1 := a1.1
  have nq : ∀ q, gk σ q ≠ 1 → (gk σ q = 101 → q ≠ R 11) → ¬ (q = R 0 ∨ q = R 11) := fun q v1 v2 v3 => by
    rcases v3 with rfl | rfl
    · exact v1 c1
    · exact v2 i1 rfl
  have kS : ∀ {sa : Nat} {bs : List Nat}, pS σ (R 5) sa bs → pS τ (R 5) sa bs := fun {sa bs} v1 => v1.kpW hk (fun q hq => by rcases hq with rfl | rfl <;> exact ⟨by omega, fun w => by omega⟩)
  have hM : ∀ a, isM R a → ¬ (a = R 0 ∨ a = R 11) := fun a ha => by
    obtain ⟨⟨m1, m2, m3⟩, -⟩ := b4.2.1
    rcases ha with rfl | rfl | rfl
    · exact nq _ (by omega) (fun w => by omega)
    · exact nq _ (by omega) (fun _ w => i3.1 w.symm)
    · exact nq _ (by omega) (fun w => by omega)
  have m4 : MB G R τ (hX H.lim H.tb H.cx) H.K w (n + fC u z) (s + fS u z) := ⟨hz, b4.2.1.mv (fun a ha => by obtain ⟨v1, v2, v3, v4⟩ := hk a (b4.2.1.tg ha) (hM a ha); exact ⟨v1, v2, v4⟩) (fun j _ => (hk (R 2) (b4.2.1.tg (Or.inl rfl)) (hM _ (Or.inl rfl))).2.2.1 j), b4.2.2.1, ⟨by rw [g1]; exact b4.2.2.2.1, by rw [g2]; exact b4.2.2.2.2⟩⟩
  obtain ⟨k1, k2, k3, k4⟩ := hk (R 10) (by omega) (nq _ (by omega) (fun w => by omega))
  obtain ⟨z1', z2, z3, z4⟩ := hk z0 (by omega) (nq _ (by omega) (fun w => by omega))
  have c11 : gk τ (R 11) = 101 := hl.tag i1 (by omega)
  have cc : hcl R τ := ⟨hl.tag c1 (by omega), by rw [g3]; exact a1.2.1, by rw [g3]; exact a1.2.2.1, by rw [g3]; exact a1.2.2.2⟩
  -- judging's own: two steps
  have jb : JB R ((fun _ => False), N, H.cx.length, H.tb.1.length) nilL τ (hX H.lim H.tb H.cx) (hJ ((fun _ => 0), 0) H.tb H.cx) [] none := by
    refine b1.pw (fun q hq => ?_) hk hl
    rcases hq with rfl | rfl
    · exact Or.inl c1
    · exact Or.inr ⟨i1, i3.2.1, i3.2.2⟩
  have cx : CxR KK R τ H.cx.length := by
    obtain ⟨zz, v1, v2, v3, v4⟩ := b2
    have k9 := b1.1.2.2.2.2.2.1.1
    obtain ⟨u1, u2, u3, u4⟩ := hk (R 9) (by omega) (nq _ (by omega) (fun w => by omega))
    obtain ⟨w1, w2, w3, w4⟩ := hk zz (by omega) (nq _ (by omega) (fun w => by omega))
    exact ⟨zz, by rw [u3]; exact v1, w1.trans v2, fun q => by rw [w3]; exact v3 q, by rw [w4]; exact v4⟩
  refine ⟨cc, ⟨⟨by rw [g3]; exact p1, by rw [g3]; exact p2⟩, f1, ⟨k1.trans p4, by rw [k4]; exact p5, p6, by rw [e1]; exact p7, fun j hj => by rw [k2, e1]; rw [e1] at hj; exact p8 j hj⟩, ⟨c11, by rw [g4]; exact i2, i3, f2.1, f2.2⟩⟩, ⟨⟨fun w hw => kS (t1.1 w hw), kS t1.2.1, kS t1.2.2⟩, ⟨kS t2, kS t3, kS t4, kS t5⟩, z0, t6, z1'.trans t7, by rw [z4]; exact t8⟩, N, z, w, ?_⟩
  have el : H'.lim = H.lim := e2.1
  rw [e2.2.1, e2.2.2.1, e2.2.2.2, el]
  exact ⟨jb, cx, b3, m4, b5⟩
end PHBD
