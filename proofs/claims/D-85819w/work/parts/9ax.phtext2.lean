/-! THE HOUSE OVER S, P (20): a text -/
section PHX2
variable {G : GPl} {s0 : State} {l : Launch} {KK : Nat → Option Nat} {T : Nat → Nat} {lev : Nat} {Q : Outcome → GSt → Prop} {R : Nat → Nat} {σ τ υ st0 ρ σ0 : GSt} {K K' : KS} {n s m u n' s' u' : Nat} {x1 : Int32} {H H' : HO}
theorem iI_of (x : Int32) : x = iI x.toInt := by unfold iI; rw [Int32.ofInt_toInt]
/-- the state in which reading begins -/
theorem c_tx0 (h : PH G KK T R σ H n s u) : ∃ N z w, (hcl R (gpi (R 0) 4 (iI 0) (gpi (R 0) 3 (iI (-1)) (gpi (R 0) 2 (iI 0) (gpi (R 2) 10 (iI 0) (gpi (R 0) 1 (iI 0) σ)))))) ∧ pHt KK T R (gpi (R 0) 4 (iI 0) (gpi (R 0) 3 (iI (-1)) (gpi (R 0) 2 (iI 0) (gpi (R 2) 10 (iI 0) (gpi (R 0) 1 (iI 0) σ))))) ∧
    JB R ((fun _ => False), N, H.cx.length, H.tb.1.length) nilL (gpi (R 0) 4 (iI 0) (gpi (R 0) 3 (iI (-1)) (gpi (R 0) 2 (iI 0) (gpi (R 2) 10 (iI 0) (gpi (R 0) 1 (iI 0) σ))))) (hX H.lim H.tb H.cx) (hJ ((fun _ => 0), 0) H.tb H.cx) [] none ∧ CxR KK R (gpi (R 0) 4 (iI 0) (gpi (R 0) 3 (iI (-1)) (gpi (R 0) 2 (iI 0) (gpi (R 2) 10 (iI 0) (gpi (R 0) 1 (iI 0) σ))))) H.cx.length ∧ (∀ j, j < H.cx.length → sw (cAt H.cx j).ty ≤ z) ∧ MB G R (gpi (R 0) 4 (iI 0) (gpi (R 0) 3 (iI (-1)) (gpi (R 0) 2 (iI 0) (gpi (R 2) 10 (iI 0) (gpi (R 0) 1 (iI 0) σ))))) (hX H.lim H.tb H.cx) (kOut0 H.K) w (n + fC u z) (s + fS u z) ∧
    pHf R (gpi (R 0) 4 (iI 0) (gpi (R 0) 3 (iI (-1)) (gpi (R 0) 2 (iI 0) (gpi (R 2) 10 (iI 0) (gpi (R 0) 1 (iI 0) σ))))) ((H.tp.1, 0), (0, -1, 0), H.2.2) ∧ (∀ j, gi (gpi (R 0) 4 (iI 0) (gpi (R 0) 3 (iI (-1)) (gpi (R 0) 2 (iI 0) (gpi (R 2) 10 (iI 0) (gpi (R 0) 1 (iI 0) σ))))) (R 10) j = gi σ (R 10) j) ∧ 15 * z + u ≤ 2600 := by
  obtain ⟨a1, ⟨⟨f1, f2⟩, ⟨f3, f4, f5, f6, f7⟩, ⟨g1, g2, g3, g4, g5⟩, ⟨m1, m2, m3, m4, m5⟩⟩, ⟨t1, ⟨t2, t3, t4, t5⟩, z0, t6, t7, t8⟩, N, z, w, b1, b2, b3, b4, b5⟩ := h
  have c1 := a1.1
  have w2 : gk σ (R 2) = 3 := b4.2.1.1.1
  have n02 : R 0 ≠ R 2 := fun q => by rw [q] at c1; omega
  have nM : ¬ isM R (R 0) := fun q => hcl.no (I := nil0) (Or.inl c1) b4.2.1 b1.1.1.1 (fun _ z => z.elim) (Or.inl q)
  have ka : keep (fun q => q = R 0) σ (gpi (R 0) 1 (iI 0) σ) := (keep.rf (W := fun q => q = R 0)).pi (fun _ => rfl)
  have la : gle σ (gpi (R 0) 1 (iI 0) σ) := ⟨⟨Nat.le_refl _, Nat.le_refl _⟩, fun _ _ => rfl⟩
  have ja := b1.p0 c1 ka la
  have ma := b4.pi' (j := 1) (v := iI 0) nM
  have kb : keep (isM R) (gpi (R 0) 1 (iI 0) σ) (gpi (R 2) 10 (iI 0) (gpi (R 0) 1 (iI 0) σ)) := (keep.rf (W := isM R)).pi (fun _ => Or.inl rfl)
  have lb : gle (gpi (R 0) 1 (iI 0) σ) (gpi (R 2) 10 (iI 0) (gpi (R 0) 1 (iI 0) σ)) := ⟨⟨Nat.le_refl _, Nat.le_refl _⟩, fun _ _ => rfl⟩
  have jb := ja.mv ma.2.1 (jfr.M kb lb ja.1 ma.2.1 : jfr R nil0 _ _) (fun _ z => z.elim) (fun _ z => z) (rfl : ((fun _ : Nat => False), N, H.cx.length, H.tb.1.length).2 = _)
  have mb := ma.o0
  have kc : keep (fun q => q = R 0) (gpi (R 2) 10 (iI 0) (gpi (R 0) 1 (iI 0) σ)) (gpi (R 0) 4 (iI 0) (gpi (R 0) 3 (iI (-1)) (gpi (R 0) 2 (iI 0) (gpi (R 2) 10 (iI 0) (gpi (R 0) 1 (iI 0) σ))))) := (((keep.rf (W := fun q => q = R 0)).pi (fun _ => rfl)).pi (fun _ => rfl)).pi (fun _ => rfl)
  have lc : gle (gpi (R 2) 10 (iI 0) (gpi (R 0) 1 (iI 0) σ)) (gpi (R 0) 4 (iI 0) (gpi (R 0) 3 (iI (-1)) (gpi (R 0) 2 (iI 0) (gpi (R 2) 10 (iI 0) (gpi (R 0) 1 (iI 0) σ))))) := ⟨⟨Nat.le_refl _, Nat.le_refl _⟩, fun _ _ => rfl⟩
  have jc := jb.p0 c1 kc lc
  have mc := ((mb.pi' (j := 2) (v := iI 0) nM).pi' (j := 3) (v := iI (-1)) nM).pi' (j := 4) (v := iI 0) nM
  -- all of it
  have kk : keep (fun q => q = R 0 ∨ isM R q) σ (gpi (R 0) 4 (iI 0) (gpi (R 0) 3 (iI (-1)) (gpi (R 0) 2 (iI 0) (gpi (R 2) 10 (iI 0) (gpi (R 0) 1 (iI 0) σ))))) := ((ka.wk (W' := fun q => q = R 0 ∨ isM R q) (fun _ q => Or.inl q)).tr kb (fun _ _ q => Or.inr q)).tr kc (fun _ _ q => Or.inl q)
  have nq : ∀ q, gk σ q ≠ 1 → gk σ q ≠ 3 → gk σ q ≠ 101 → (gk σ q = 102 → q ≠ R 5) → ¬ (q = R 0 ∨ isM R q) := fun q v1 v2 v3 v4 v5 => by
    have d4 := b4.2.1.1.2.1
    have d5 := b4.2.1.1.2.2
    rcases v5 with rfl | rfl | rfl | rfl
    · exact v1 c1
    · exact v2 w2
    · exact v3 d4
    · exact v4 d5 rfl
  have kS : ∀ {sa : Nat} {bs : List Nat}, pS σ (R 5) sa bs → pS (gpi (R 0) 4 (iI 0) (gpi (R 0) 3 (iI (-1)) (gpi (R 0) 2 (iI 0) (gpi (R 2) 10 (iI 0) (gpi (R 0) 1 (iI 0) σ))))) (R 5) sa bs := fun {sa bs} v1 => v1.kpW kk (fun q hq => by
    have d4 := b4.2.1.1.2.1
    have d5 := b4.2.1.1.2.2
    rcases hq with rfl | rfl | rfl | rfl
    · exact ⟨by omega, fun z => by omega⟩
    · exact ⟨by omega, fun z => by omega⟩
    · exact ⟨by omega, fun z => by omega⟩
    · exact ⟨by omega, fun _ => rfl⟩)
  have n10 : R 10 ≠ R 0 := fun q => by rw [q] at g1; omega
  have n102 : R 10 ≠ R 2 := fun q => by rw [q] at g1; omega
  have n11 : R 11 ≠ R 0 := fun q => by rw [q] at m1; omega
  have n112 : R 11 ≠ R 2 := fun q => by rw [q] at m1; omega
  have i10 : ∀ j, gi (gpi (R 0) 4 (iI 0) (gpi (R 0) 3 (iI (-1)) (gpi (R 0) 2 (iI 0) (gpi (R 2) 10 (iI 0) (gpi (R 0) 1 (iI 0) σ))))) (R 10) j = gi σ (R 10) j := fun j => by
    rw [gi_pi, if_neg (fun q => n10 q.1), gi_pi, if_neg (fun q => n10 q.1), gi_pi, if_neg (fun q => n10 q.1), gi_pi, if_neg (fun q => n102 q.1), gi_pi, if_neg (fun q => n10 q.1)]
  refine ⟨N, z, w, a1, ⟨⟨fun w hw => kS (t1.1 w hw), kS t1.2.1, kS t1.2.2⟩, ⟨kS t2, kS t3, kS t4, kS t5⟩, z0, t6, t7, t8⟩, jc, ((b2.p0 c1 b1.1.2.2.2.2.2.1.1 ka).mv ja ma.2.1 (jfr.M kb lb ja.1 ma.2.1 : jfr R nil0 _ _) (fun _ z => z.elim)).p0 c1 jb.1.2.2.2.2.2.1.1 kc, b3, mc, ⟨⟨f1, f2⟩, ⟨?_, ?_, ?_, ?_, ?_⟩, ⟨g1, g2, g3, Nat.zero_le _, fun j hj => absurd hj (Nat.not_lt_zero _)⟩, ⟨m1, m2, m3, m4, fun i p hp => ?_⟩⟩, i10, b5⟩
  · rw [gi_pi, if_neg (by omega), gi_pi, if_neg (by omega), gi_pi, if_neg (by omega), gi_pi, if_neg (fun q => n02 q.1), gi_pi, if_pos ⟨rfl, rfl⟩]; rfl
  · rw [gi_pi, if_neg (by omega), gi_pi, if_neg (by omega), gi_pi, if_pos ⟨rfl, rfl⟩]; rfl
  · rw [gi_pi, if_neg (by omega), gi_pi, if_pos ⟨rfl, rfl⟩]
  · rw [gi_pi, if_pos ⟨rfl, rfl⟩]; rfl
  · rw [gi_pi, if_neg (by omega), gi_pi, if_neg (by omega), gi_pi, if_neg (by omega), gi_pi, if_neg (fun q => n02 q.1), gi_pi, if_neg (by omega)]; exact f7
  · rw [gi_pi, if_neg (fun q => n11 q.1), gi_pi, if_neg (fun q => n11 q.1), gi_pi, if_neg (fun q => n11 q.1), gi_pi, if_neg (fun q => n112 q.1), gi_pi, if_neg (fun q => n11 q.1)]; exact m5 i p hp
end PHX2
