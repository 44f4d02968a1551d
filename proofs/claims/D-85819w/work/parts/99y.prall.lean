/-! P OVER S (52): reading: all of it -/
section PRY2
variable {G : GPl} {s0 : State} {l : Launch} {KK : Nat → Option Nat} {T : Nat → Nat} {lev d : Nat} {Q : Outcome → GSt → Prop} {R : Nat → Nat} {σ τ υ st0 σ0 : GSt} {X : SX} {K : KS} {w n s n' s' o a tp bl sl y kd pl lo z cap : Nat} {W I : Nat → Prop} {t : TX} {bs : List (Option Nat)} {m m' : Int} {k k' : TK} {ns : List Nat} {ty tm : Option V} {ss : List ST} {Y : Nat → Nat} {I1 I2 : Nat → Nat → Prop}
theorem LPr.lz (h : LPr KK R t a bl sl lo σ0 σ ss Y I1 I2 z cap) (hz : gz σ) : z < gn σ := hz.lt (by rw [h.2.2.1.2.2.1]; omega)
theorem c_rloop (hl : 206 ≤ lev) (hK : KI KK) : ∀ (m : Nat) (k : TK) (S : Nat) (σ : GSt) (ss : List ST) (Y : Nat → Nat) (I1 I2 : Nat → Nat → Prop) (z cap : Nat), t.2 - k.pl < m → ss.length + (t.2 - k.pl) ≤ 4000 → RS G KK T R X K w t a tp bl sl [] 0 k (n + 4) S σ → s + 12 * ss.length + 60 ≤ S + 4 * cap → 2 * cap ≤ 3 * ss.length + 20 → LPr KK R t a bl sl lo σ0 σ ss Y I1 I2 z cap →
    (∀ τ l' z' cap' Y' J1 J2, rAll t m k = .ok l' → LPr KK R t a bl sl lo σ0 τ (ss ++ l') Y' J1 J2 z' cap' → MB G R τ X K w n s → Q (.returned (some (va_rf (some sl)))) τ) →
    (∀ x τ (e : Nat) p, rAll t m k = .error (e, p) → flt τ x (e : Int) p → keep nil0 σ0 τ → gle σ0 τ → MB G R τ X K w n s → Q (.threw x) τ) → jX6_read_4 G s0 l KK T lev st0 Q a σ := by
  intro m
  induction m with
  | zero => intro k S σ ss Y I1 I2 z cap hm; omega
  | succ m ih =>
    intro k S σ ss Y I1 I2 z cap hm hj hR hS hcap hP ok er
    refine tX6_read_4 ⟨hR.1.1, fun q => ?_, fun q => ?_⟩
    · rw [hR.2.2.1.2.1] at q
      have k5 : k.ki = 5 := hK _ _ hR.2.2.1.2.2.2.2.2.1 (by omega) q
      have eA : rAll t (m + 1) k = .ok [] := by unfold rAll; rw [if_pos k5]
      rw [hR.1.2.2.2.2.1]
      refine ok σ [] z cap Y I1 I2 eA ?_ (hR.M.le (by omega) (by omega))
      rw [List.append_nil]
      exact hP
    · have k5 : k.ki ≠ 5 := fun z => q (by rw [hR.2.2.1.2.1, z])
      have hz := hR.z
      have n5 := hP.2.2.2.2.2.2.2.2
      refine c_stat (n := n + 1) (s := S - 12) (by omega) hK (hR.le (by omega) (by omega)) (fun τ1 y st k1 J1 J2 e1 u1 p1 => fun _ => ?_) (fun x τ e p e1 e2 e3 e4 => fun _ => er x τ e p (by rw [rAll, if_neg k5, e1]) e2 ((hP.1.go hR e3 n5.2.2.2.2.1 n5.2.2.2.2.2.1).1) ((hP.1.go hR e3 n5.2.2.2.2.1 n5.2.2.2.2.2.1).2.1) (e4.le (by omega) (by omega)))
      have hk1 : k1.pl ≤ t.2 := u1.1.2.2.2.2.2.2.1.1
      have P1 := hP.go hR u1.2.1
      refine ⟨sl, hR.1.2.2.2.2.1, P1.2.2.1.1, ?_⟩
      obtain ⟨w1, w2, w3, w4, w5, w6, w7, w8, w9⟩ := u1
      refine c_slad (n := n) (s := s) (S := S - 12) (st := st) (J1 := J1) (J2 := J2) (by omega) P1 w1 (by omega) (by omega) (gn σ) hP.2.1 w3 w4 w6 w8 (fun q hq => by rcases hq with hq | hq; exact w5 q hq; exact w7 q hq) (fun i hi q hq => (hP.2.2.2.2.1.2.1 i hi q hq).2.1) (hP.lz hz) (fun τ2 z2 cap2 S2 Y2 L1 L2 P2 r2 s2 c2 s3 => fun _ => ?_)
      have n6 := P2.2.2.2.2.2.2.2.2
      refine c_need (x := 59) (by omega) hK r2 (by omega) (fun τ3 f1 u3 F3 => fun _ => ?_) (fun x τ e p f1 f2 f3 f4 => fun _ => er x τ e p (by rw [rAll, if_neg k5, e1]; simp only [f1]) f2 ((P2.1.go r2 f3 n6.2.2.2.2.1 n6.2.2.2.2.2.1).1) ((P2.1.go r2 f3 n6.2.2.2.2.1 n6.2.2.2.2.2.1).2.1) (f4.le (by omega) (by omega)))
      have p3 := r2.pl (by rw [rNeed_ki f1]; omega)
      have el : (ss ++ [st]).length = ss.length + 1 := by simp
      have hk2 : (sGo t k1.nx).pl ≤ t.2 := u3.2.2.2.2.2.2.1.1
      have P3 := P2.go r2 F3
      refine ih (sGo t k1.nx) (S2 + 96) τ3 (ss ++ [st]) Y2 L1 L2 z2 cap2 (by omega) (by rw [el]; omega) (u3.le (by omega) (Nat.le_refl _)) (by rw [el]; omega) (by rw [el]; exact c2) P3 (fun τ l' z' cap' Y' M1 M2 g1 g2 g3 => ok τ (st :: l') z' cap' Y' M1 M2 ?_ ?_ g3) (fun x τ e p g1 g2 g3 g4 g5 => er x τ e p ?_ g2 g3 g4 g5)
      · rw [rAll, if_neg k5, e1]
        simp only [f1, g1]
      · rw [List.append_assoc] at g2
        exact g2
      · rw [rAll, if_neg k5, e1]
        simp only [f1, g1]
/-- a reader that was just made -/
def pR0 (KK : Nat → Option Nat) (t : TX) (σ : GSt) (a tp bl sl : Nat) : Prop := pRd t σ a tp bl sl ∧ gi σ a 2 = iI 0 ∧ gi σ a 5 = iI 0 ∧ (gk σ bl = 22 ∧ gr σ bl 1 = KK 14 ∧ gi σ bl 2 = iI 0) ∧ (gk σ sl = 22 ∧ gr σ sl 1 = KK 14 ∧ gi σ sl 2 = iI 0) ∧ sl ≠ bl
theorem c_read {z0 : Nat} (hl : 210 ≤ lev) (hK : KI KK) (h : pR0 KK t σ a tp bl sl) (hT : TT R σ T) (hE : KK 14 = some z0 ∧ gk σ z0 = 103 ∧ gl σ z0 = 0) (hM : MB G R σ X K w (n + 9 + 12 * t.2) (s + 100 + 128 * t.2)) (hk0 : keep nil0 σ0 σ) (hg0 : gle σ0 σ) (ha : gk σ0 a = 0) (hb : gk σ0 bl = 0) (hs : gk σ0 sl = 0)
    (ok : ∀ τ ss z' cap' Y' J1 J2, sRead t = .ok ss → LPr KK R t a bl sl (gn σ) σ0 τ ss Y' J1 J2 z' cap' → MB G R τ X K w n s → Q (.returned (some (va_rf (some sl)))) τ)
    (er : ∀ x τ (e : Nat) p, sRead t = .error (e, p) → flt τ x (e : Int) p → keep nil0 σ0 τ → gle σ0 τ → MB G R τ X K w n s → Q (.threw x) τ) : CQ (wP G s0 l KK T) mX6_read lev (.ref a :: []) σ Q := by
  obtain ⟨l', rfl⟩ : ∃ l', lev = l' + 1 := ⟨lev - 1, by omega⟩
  obtain ⟨h1, h2, h3, ⟨b1, b2, b3⟩, ⟨c1, c2, c3⟩, hne⟩ := h
  obtain ⟨z1, z2, z3⟩ := hE
  have h8 := h1.2.2.2.2.2.2.2.1
  have hz := hM.1
  have hg := sGo_ok (t := t) (a := 0) (by omega)
  refine tX6_read ⟨h1.1, ?_⟩
  refine c_go (lev := l') (n := n + 4 + 1 + 12 * (t.2 - (sGo t 0).pl)) (s := s + 60 + 8 + 128 * (t.2 - (sGo t 0).pl)) (R := R) (X := X) (K := K) (w := w) (by omega) h1 hT hK (Nat.zero_le _) h2 (hM.le (by omega) (by omega)) (fun τ u1 u2 u3 => fun hle => ?_)
  have hB : pBl R KK t σ bl [] := ⟨b1, b3, z0, by rw [b2]; exact z1, z2, by show 0 ≤ _; omega, Or.inl ⟨z1, z3⟩, fun i p hp => by simp at hp⟩
  have hR : RS G KK T R X K w t a tp bl sl [] 0 (sGo t 0) (n + 4) (s + 60) τ := ⟨h1.mv u1, hT.mv u1.1 (u1.S h1.1), u3, (u1.2.2.1 5 (Or.inr rfl)).trans h3, hB.rk u1 h1.1, u2, hg.1, sGo_sg (fun j hj => (h1.2.2.2.2.2.2.2.2 j hj).2), sGo_nm (Nat.zero_le _)⟩
  have sa : sl ≠ a := fun q => by rw [q] at c1; have := h1.1; omega
  have ba : bl ≠ a := fun q => by rw [q] at b1; have := h1.1; omega
  have za : z0 ≠ a := fun q => by rw [q] at z2; have := h1.1; omega
  obtain ⟨x1, x2, x3, x4⟩ := u1.1 sl (by omega) sa
  obtain ⟨w1, w2, w3, w4⟩ := u1.1 z0 (by omega) za
  obtain ⟨y1, y2, y3, y4⟩ := u1.1 bl (by omega) ba
  have nf : nFr bl σ0 τ := by
    refine ⟨hk0.tr u1.1 (fun q hq w => ?_), hg0.tr hle, fun q hq hp => ?_⟩
    · rw [w] at hq; exact hq ha
    · rw [y3, b2, z1] at hq
      cases hq
      omega
  refine c_rloop (n := n) (s := s) (lo := gn σ) (by omega) hK (t.2 + 1) (sGo t 0) (s + 60) τ [] (fun _ => 0) (fun _ _ => False) (fun _ _ => False) z0 0 (by omega) (by show 0 + _ ≤ _; omega) hR (by show s + 12 * 0 + 60 ≤ _; omega) (by omega) ⟨nf, hle.1.1, ⟨x1.trans c1, by rw [x3, c2]; exact z1, w1.trans z2, w4.trans z3, by rw [x2]; exact c3, Nat.le_refl _, Or.inl ⟨z1, rfl⟩, by omega⟩, fun hc => absurd hc (by omega), ⟨fun i st hi => by simp at hi, fun i hi => absurd hi (by show ¬ i < 0; omega), fun i j _ hj => absurd hj (by show ¬ j < 0; omega)⟩, fun i hi => absurd hi (by show ¬ i < 0; omega), fun i hi => absurd hi (by show ¬ i < 0; omega), fun q _ i hi => absurd hi (by show ¬ i < 0; omega), hne, hz.lt (by omega), hz.lt (by omega), hz.lt (by rw [h1.1]; omega), ha, hb, hs⟩ (fun τ' l2 z' cap' Y' J1 J2 g1 g2 g3 => ok τ' l2 z' cap' Y' J1 J2 g1 g2 g3) (fun x τ' e p g1 g2 g3 g4 g5 => er x τ' e p g1 g2 g3 g4 g5)
end PRY2
