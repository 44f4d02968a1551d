/-! THE HOUSE OVER S, P (31): corner (3) -/
section PHBI
variable {G : GPl} {s0 : State} {l : Launch} {KK : Nat → Option Nat} {T : Nat → Nat} {lev : Nat} {Q : Outcome → GSt → Prop} {R : Nat → Nat} {σ τ υ st0 ρ σ0 : GSt} {n s m u k ns i : Nat} {x1 x2 : Int32} {H : HO}
theorem hCor_ax : ∀ k, k ≤ 8 → ∀ i, i < 8 → -1 ≤ (hCor k).2.1 i ∧ (hCor k).2.1 i < ((hCor k).1.length : Int) := by decide +kernel
theorem hCor_ru : ∀ k, k ≤ 8 → ∀ a, a < 8 → ∀ b, b < 8 → -1 ≤ (hCor k).2.2 a b ∧ (hCor k).2.2 a b < ((hCor k).1.length : Int) := by decide +kernel
theorem hCor_nm : ∀ k, k ≤ 8 → (hCor k).1.length ≤ 2 ∧ ∀ i, i < (hCor k).1.length → (i = 0 ∧ (hCor k).1.getD i [] = [116, 121, 112, 101]) ∨ (i = 1 ∧ (hCor k).1.getD i [] = [107, 105, 110, 100]) := by
  intro k hk
  by_cases h : k = 8
  · subst h; exact ⟨by decide, fun i hi => absurd hi (Nat.not_lt_zero _)⟩
  · have e : (hCor k).1 = [[116, 121, 112, 101], [107, 105, 110, 100]] := by unfold hCor; rw [if_neg h]
    rw [e]
    refine ⟨Nat.le_refl _, fun i hi => ?_⟩
    have hi' : i < 2 := hi
    rcases (show i = 0 ∨ i = 1 by omega) with rfl | rfl
    · exact Or.inl ⟨rfl, rfl⟩
    · exact Or.inr ⟨rfl, rfl⟩
theorem c_corner (hl : 14 ≤ lev) (h : PH G KK T R σ H (n + 1) (s + 6) u)
    (bad : ¬ (0 ≤ x1.toInt ∧ x1.toInt ≤ 8) → ∀ y τ, gk τ y = 25 → PH G KK T R τ H n s u → Q (.threw y) τ)
    (ok : ∀ (k : Nat) τ, x1 = iI (k : Int) → k ≤ 8 → PH G KK T R τ (oCorner k H) n s u → Q (.returned (some (.int (iI (H.cx.length : Int))))) τ) : CQ (wP G s0 l KK T) mX1_corner lev (.ref (R 0) :: [.int x1]) σ Q := by
  obtain ⟨l', rfl⟩ : ∃ l', lev = l' + 2 := ⟨lev - 2, by omega⟩
  have h0 := h
  obtain ⟨a1, ⟨⟨p1, p2⟩, ⟨f3, f4, f5, f6, f7⟩, ⟨p4, p5, p6, p7, p8⟩, ⟨i1, i2, i3, i4, i5⟩⟩, ⟨t1, ⟨t2, t3, t4, t5⟩, z0, t6, t7, t8⟩, N, z, w, b1, b2, b3, b4, b5⟩ := h0
  have t14 : ¬ (0 ≤ x1.toInt ∧ x1.toInt ≤ 8) → jX1_corner_14 G s0 l KK T (l' + 1) σ Q (R 0) x1 σ := fun hb =>
    tX1_corner_14 (c_right (b := false) (by omega) h (fun q => by cases q) (fun _ y τ k1 k2 => fun _ => bad hb y τ k1 k2))
  obtain ⟨⟨j1, j2, j3, j4⟩, ⟨d1, d2, d3⟩, ⟨d4, d5, d6, d7, d8, d9⟩, e1, e2, ⟨g1, g2, g3, zz, g4, g5, g6, g7, g8⟩, -⟩ := b1.1
  obtain ⟨-, m2, m3, m4, m5, m6, m7⟩ := b1.2.1
  have hc : H.cx.length ≤ 100 := b1.2.2.1.2.2.2
  have c0 := a1.1
  have g3' : gi σ (R 9) 2 = iI (H.cx.length : Int) := g3
  refine tX1_corner ⟨fun q => t14 (fun w => ?_), fun q1 => ⟨fun q => t14 (fun w => ?_), fun q2 => c_right (b := true) (by omega) h (fun _ => fun _ => ⟨a1.1, R 3, a1.2.2.2, j1, R 9, j4, g1, tJ2_size ⟨g1, fun _ => ⟨R 3, a1.2.2.2, j1, R 9, j4, g1, ?_⟩⟩⟩) (fun q => by cases q)⟩⟩
  · rw [x_z.1] at q; omega
  · rw [(x_lt (by omega) (by omega)).2.1] at q; omega
  rw [x_z.1] at q1
  rw [(x_lt (by omega) (by omega)).2.1] at q2
  have ex := iI_of x1
  obtain ⟨k, hk⟩ : ∃ k : Nat, x1.toInt = (k : Int) := ⟨x1.toInt.toNat, by omega⟩
  rw [hk] at ex
  subst ex
  have hk8 : k ≤ 8 := by omega
  rw [g3']
  refine c_lclear (by omega) b4.1 g1 g4 g5 g3' g7 (by omega) (fun t8' k8 l8 u8 => fun _ => ?_)
  obtain ⟨v1, v2, v3, v4, v5, v6, v7, v8⟩ := u8
  have n9 : ∀ q, gk σ q ≠ 22 → gk σ q ≠ 103 → ¬ (q = R 9 ∨ (q = zz ∧ 0 < gl σ zz)) := fun q w1 w2 w3 => by rcases w3 with rfl | ⟨rfl, _⟩; exact w1 g1; exact w2 g5
  obtain ⟨o1, o2, o3, o4⟩ := k8 (R 0) (by omega) (n9 _ (by omega) (by omega))
  obtain ⟨r1, r2, r3, r4⟩ := k8 (R 1) (by omega) (n9 _ (by omega) (by omega))
  have k9 : keep (fun q => q = R 0) t8' (gpi (R 0) 9 (iI 0) t8') := (keep.rf (W := fun q => q = R 0)).pi (fun _ => rfl)
  have kp2 : keep (fun q => q = R 9 ∨ (q = zz ∧ 0 < gl σ zz) ∨ q = R 0) σ (gpi (R 0) 9 (iI 0) t8') := (k8.wk (W' := fun q => q = R 9 ∨ (q = zz ∧ 0 < gl σ zz) ∨ q = R 0) (fun q w => by rcases w with w | w; exact Or.inl w; exact Or.inr (Or.inl w))).pi (fun _ => Or.inr (Or.inr rfl))
  have n92 : ∀ q, gk σ q ≠ 22 → gk σ q ≠ 103 → gk σ q ≠ 1 → ¬ (q = R 9 ∨ (q = zz ∧ 0 < gl σ zz) ∨ q = R 0) := fun q w1 w2 w3 w4 => by rcases w4 with rfl | ⟨rfl, _⟩ | rfl; exact w1 g1; exact w2 g5; exact w3 c0
  have tb2 : tbC R (gpi (R 0) 9 (iI 0) t8') := by
    obtain ⟨s1, s2, s3, s4⟩ := kp2 (R 1) (by omega) (n92 _ (by omega) (by omega) (by omega))
    obtain ⟨s5, s6, s7, s8⟩ := kp2 (R 6) (by omega) (n92 _ (by omega) (by omega) (by omega))
    obtain ⟨s9, s10, s11, s12⟩ := kp2 (R 7) (by omega) (n92 _ (by omega) (by omega) (by omega))
    obtain ⟨s13, s14, s15, s16⟩ := kp2 (R 8) (by omega) (n92 _ (by omega) (by omega) (by omega))
    exact ⟨⟨s1.trans m2, by rw [s3]; exact m3, by rw [s3]; exact d1, by rw [s3]; exact d2⟩, s5.trans d4, by rw [s8]; exact d5, s9.trans d6, by rw [s12]; exact d7, s13.trans m4, by rw [s16]; exact m5⟩
  have gT2 : gk (gpi (R 0) 9 (iI 0) t8') (T 2) = 23 := l8.tag t4.1 (by omega)
  have gT3 : gk (gpi (R 0) 9 (iI 0) t8') (T 3) = 23 := l8.tag t5.1 (by omega)
  refine ⟨R 1, by rw [gr_pi, o3]; exact a1.2.1, tb2.1.1, c_tcorner (by omega) hk8 tb2 gT2 gT3 (fun τ hc => fun lτ => ?_)⟩
  have TB := hc.tb tb2
  obtain ⟨w1, w2, w3, ⟨w4, w5⟩, w6, w7, w8, w9, w10⟩ := hc
  have lF : gle σ τ := l8.tr (⟨⟨Nat.le_of_eq w4.symm, Nat.le_of_eq w5.symm⟩, fun q _ => w2 q⟩ : gle t8' τ)
  have kF : keep (fun q => q = R 9 ∨ (q = zz ∧ 0 < gl σ zz) ∨ q = R 0 ∨ q = R 1 ∨ q = R 6 ∨ q = R 7 ∨ q = R 8) σ τ := (kp2.wk (W' := fun q => q = R 9 ∨ (q = zz ∧ 0 < gl σ zz) ∨ q = R 0 ∨ q = R 1 ∨ q = R 6 ∨ q = R 7 ∨ q = R 8) (fun q w => by rcases w with w | w | w; exact Or.inl w; exact Or.inr (Or.inl w); exact Or.inr (Or.inr (Or.inl w)))).tr w1 (fun q _ w => Or.inr (Or.inr (Or.inr w)))
  have nF : ∀ q, gk σ q ≠ 22 → (gk σ q = 103 → gl σ q = 0) → gk σ q ≠ 1 → gk σ q ≠ 2 → (gk σ q = 101 → q ≠ R 6 ∧ q ≠ R 7) → gk σ q ≠ 104 → ¬ (q = R 9 ∨ (q = zz ∧ 0 < gl σ zz) ∨ q = R 0 ∨ q = R 1 ∨ q = R 6 ∨ q = R 7 ∨ q = R 8) := fun q y1 y2 y3 y4 y5 y6 y7 => by
    rcases y7 with rfl | ⟨rfl, y8⟩ | rfl | rfl | rfl | rfl | rfl
    · exact y1 g1
    · have := y2 g5; omega
    · exact y3 c0
    · exact y4 m2
    · exact (y5 d4).1 rfl
    · exact (y5 d6).2 rfl
    · exact y6 m4
  have kS : ∀ {sa : Nat} {bs : List Nat}, pS σ (R 5) sa bs → pS τ (R 5) sa bs := fun {sa bs} v1 => v1.kpW kF (fun q hq => by rcases hq with rfl | ⟨rfl, _⟩ | rfl | rfl | rfl | rfl | rfl <;> exact ⟨by omega, fun w => by omega⟩)
  have hM : ∀ a, isM R a → ¬ (a = R 9 ∨ (a = zz ∧ 0 < gl σ zz) ∨ a = R 0 ∨ a = R 1 ∨ a = R 6 ∨ a = R 7 ∨ a = R 8) := fun a ha => by
    obtain ⟨⟨y1, y2, y3⟩, -⟩ := b4.2.1
    rcases ha with rfl | rfl | rfl
    · exact nF _ (by omega) (fun w => by omega) (by omega) (by omega) (fun w => by omega) (by omega)
    · exact nF _ (by omega) (fun w => by omega) (by omega) (by omega) (fun _ => ⟨fun q => d8 q.symm, fun q => d9 q.symm⟩) (by omega)
    · exact nF _ (by omega) (fun w => by omega) (by omega) (by omega) (fun w => by omega) (by omega)
  have hzτ : gz τ := fun a ha => by
    rw [w2]; show gk t8' a = 0
    exact v1 a (by rw [← show gn (gpi (R 0) 9 (iI 0) t8') = gn t8' from rfl, ← w4]; exact ha)
  have gnτ : gn τ = gn σ := w4.trans v2
  have gmτ : gm τ = gm σ := w5.trans v3
  have m4τ : MB G R τ (hX H.lim H.tb H.cx) H.K w (n + 1 + fC u z) (s + 6 + fS u z) := ⟨hzτ, b4.2.1.mv (fun a ha => by obtain ⟨y1, y2, y3, y4⟩ := kF a (b4.2.1.tg ha) (hM a ha); exact ⟨y1, y2, y4⟩) (fun j _ => (kF (R 2) (b4.2.1.tg (Or.inl rfl)) (hM _ (Or.inl rfl))).2.2.1 j), b4.2.2.1, ⟨by rw [gnτ]; exact b4.2.2.2.1, by rw [gmτ]; exact b4.2.2.2.2⟩⟩
  -- cells
  obtain ⟨q1', q2', q3', q4'⟩ := w1 (R 0) (by show gk t8' (R 0) ≠ 0; omega) (fun y => by rcases y with y | y | y | y <;> (rw [y] at c0; omega))
  obtain ⟨k1, k2, k3, k4⟩ := kF (R 10) (by omega) (nF _ (by omega) (fun w => by omega) (by omega) (by omega) (fun w => by omega) (by omega))
  obtain ⟨l1, l2, l3, l4⟩ := kF (R 11) (by omega) (nF _ (by omega) (fun w => by omega) (by omega) (by omega) (fun _ => ⟨i3.2.1, i3.2.2⟩) (by omega))
  obtain ⟨z1', z2, z3, z4⟩ := kF z0 (by omega) (nF _ (by omega) (fun _ => t8) (by omega) (by omega) (fun w => by omega) (by omega))
  obtain ⟨y1, y2, y3, y4⟩ := kF (R 3) (by omega) (nF _ (by omega) (fun w => by omega) (by omega) (by omega) (fun w => by omega) (by omega))
  have r9 : ∀ q, q = R 9 ∨ q = zz → ¬ (q = R 1 ∨ q = R 6 ∨ q = R 7 ∨ q = R 8) := fun q hq y => by
    rcases hq with rfl | rfl
    · rcases y with y | y | y | y <;> (rw [y] at g1; omega)
    · rcases y with y | y | y | y <;> (rw [y] at g5; omega)
  have g9t : gk t8' (R 9) = 22 := l8.tag g1 (by omega)
  have g5t : gk t8' zz = 103 := l8.tag g5 (by omega)
  have n09 : R 9 ≠ R 0 := fun q => by rw [q] at g1; omega
  obtain ⟨x1', x2', x3', x4'⟩ := w1 (R 9) (by show gk t8' (R 9) ≠ 0; omega) (r9 _ (Or.inl rfl))
  obtain ⟨y1', y2', y3', y4'⟩ := w1 zz (by show gk t8' zz ≠ 0; omega) (r9 _ (Or.inr rfl))
  have i9 : gi τ (R 9) 2 = iI 0 := by rw [x2', gi_pi, if_neg (fun q => n09 q.1)]; exact v5
  have jb : JB R ((fun _ => False), N, 0, (hCor k).1.length) nilL τ (hX H.lim (hCor k) []) (hJ ((fun _ => 0), 0) (hCor k) []) [] none := by
    refine JB_tb ⟨d8, d9⟩ ⟨y1.trans j1, by rw [y3]; exact j2, by rw [y3]; exact j3, by rw [y3]; exact j4⟩ ⟨TB.1.1, TB.1.2.1, TB.1.2.2.1, TB.1.2.2.2, w7⟩ TB.2 (fun i hi => ⟨w8 i hi, hCor_ax k hk8 i hi⟩) (fun a b ha hb => ⟨?_, hCor_ru k hk8 a ha b hb⟩) (fun i hi => ?_) (Nat.le_trans (hCor_nm k hk8).1 (by omega)) ⟨x1'.trans g9t, id, i9, zz, by rw [x3']; exact v4, y1'.trans g5t, id⟩ (fun q hq => hq.elim)
    · have e8 : gi τ (R 7) (8 * a + b) = iI ((hCor k).2.2 ((8 * a + b) / 8) ((8 * a + b) % 8)) := w9 (8 * a + b) (by omega)
      rw [show (8 * a + b) / 8 = a by omega, show (8 * a + b) % 8 = b by omega] at e8
      exact e8
    · refine ⟨T (2 + i), w10 i hi, ?_⟩
      rcases (hCor_nm k hk8).2 i hi with ⟨rfl, e⟩ | ⟨rfl, e⟩
      · rw [e]; exact kS t4
      · rw [e]; exact kS t5
  have n0R1 : R 0 ≠ R 1 := fun q => by rw [q] at c0; omega
  have cc : hcl R τ := ⟨lF.tag c0 (by omega), by rw [q3', gr_pi, o3]; exact a1.2.1, by rw [q3', gr_pi, o3]; exact a1.2.2.1, by rw [q3', gr_pi, o3]; exact a1.2.2.2⟩
  have fi : ∀ j, j ≠ 9 → gi τ (R 0) j = gi σ (R 0) j := fun j hj => by rw [q2', gi_pi, if_neg (fun q => hj q.2), o2]
  refine ok k τ rfl hk8 ⟨cc, ⟨⟨by rw [q3', gr_pi, o3]; exact p1, by rw [q3', gr_pi, o3]; exact p2⟩, ⟨by rw [fi 1 (by omega)]; exact f3, by rw [fi 2 (by omega)]; exact f4, by rw [fi 3 (by omega)]; exact f5, by rw [fi 4 (by omega)]; exact f6, by rw [q2', gi_pi, if_pos ⟨rfl, rfl⟩]; rfl⟩, ⟨k1.trans p4, by rw [k4]; exact p5, p6, p7, fun j hj => by rw [k2]; exact p8 j hj⟩, ⟨l1.trans i1, by rw [l4]; exact i2, i3, Nat.zero_le _, fun i p hp => by have hp' : ([] : List Nat)[i]? = some p := hp; simp at hp'⟩⟩, ⟨⟨fun w hw => kS (t1.1 w hw), kS t1.2.1, kS t1.2.2⟩, ⟨kS t2, kS t3, kS t4, kS t5⟩, z0, t6, z1'.trans t7, by rw [z4]; exact t8⟩, N, z, w, jb, ⟨zz, by rw [x3']; exact v4, y1'.trans g5t, fun _ => ?_, ?_⟩, fun j hj => absurd hj (Nat.not_lt_zero _), (m4τ.xl rfl).le (by omega) (by omega), b5⟩
  · rw [y3', gr_pi]
    by_cases hq : H.cx.length = 0
    · rw [v8 hq]
      obtain ⟨zq, c1, c2, c3, c4⟩ := b2
      have ez : zq = zz := by rw [c1] at g4; cases g4; rfl
      subst ez
      exact c3 hq
    · exact v7 (by omega)
  · rw [y4']
    show (KK 14 = some zz ∧ gl t8' zz = 0) ∨ (10 ≤ gl t8' zz ∧ gl t8' zz ≤ 160)
    rw [v6]
    obtain ⟨zq, c1, c2, c3, c4⟩ := b2
    have ez : zq = zz := by rw [c1] at g4; cases g4; rfl
    subst ez
    exact c4
end PHBI
