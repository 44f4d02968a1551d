/-! THE HOUSE OVER S, P (13): a statement begins; a reader is made -/
section PHQ
variable {G : GPl} {s0 : State} {l : Launch} {KK : Nat → Option Nat} {T : Nat → Nat} {lev : Nat} {Q : Outcome → GSt → Prop} {R : Nat → Nat} {σ τ υ st0 ρ σ0 : GSt} {X : SX} {J : JX} {K K' : KS} {w n s o z m a y tp : Nat} {W I : Nat → Prop} {t : TX}
theorem c_begl (hM : MB G R σ0 X K w n s)
    (ok : ∀ τ, keep (isM R) σ0 τ → MB G R τ X (kBeg K) 0 n s → (∀ j, gr τ (R 2) j = gr σ0 (R 2) j) → Q (.returned none) τ) : ∀ (d i : Nat) (σ : GSt), i + d = 6 → keep (fun a => a = R 4) σ0 σ → gk σ (R 4) = 101 → gl σ (R 4) = 6 → (∀ a j, gr σ a j = gr σ0 a j) → gz σ → gn σ = gn σ0 → gm σ = gm σ0 → (∀ j, j < i → gi σ (R 4) j = iI 0) → jX3_begins_2 G s0 l KK T lev st0 Q (R 2) (iI (i : Int)) σ := by
  have hM0 := hM
  obtain ⟨hz, ⟨⟨m1, m2, m3⟩, ⟨m4, m5, m6⟩, ⟨m7, m8, m9⟩, m10, ⟨m11, m12, m13, m14, m15⟩, m16⟩, ⟨k1, k2, k3⟩, r1, r2⟩ := hM
  have n24 : R 2 ≠ R 4 := fun q => by rw [← q] at m2; omega
  have n25 : R 2 ≠ R 5 := fun q => by rw [← q] at m3; omega
  have n45 : R 4 ≠ R 5 := fun q => by rw [← q] at m3; omega
  intro d
  induction d with
  | zero =>
    intro i σ e hk h1 h2 h3 h4 h5 h6 h7
    obtain ⟨a1, a2, a3, a4⟩ := hk (R 2) (by omega) n24
    obtain ⟨b1, b2, b3, b4⟩ := hk (R 5) (by omega) (fun q => n45 q.symm)
    have hi6 : i = 6 := by omega
    subst hi6
    refine tX3_begins_2 ⟨fun _ => ⟨a1.trans m1, ?_⟩, fun q => absurd (by decide) q⟩
    refine ok (gpi (R 2) 8 (iI 0) (gpi (R 2) 5 (iI 0) σ)) (((hk.wk (W' := isM R) (fun _ q => Or.inr (Or.inl q))).pi (fun _ => Or.inl rfl)).pi (fun _ => Or.inl rfl)) ⟨h4, ⟨⟨a1.trans m1, h1, b1.trans m3⟩, ⟨?_, ?_, ?_⟩, ⟨h2, b4.trans m8, m9⟩, fun j hj => ?_, ⟨?_, ?_, ?_, ?_, ?_⟩, fun j hj h8 => ?_⟩, ⟨Nat.zero_le _, k2, k3⟩, ⟨by show gn σ + _ + _ ≤ _; rw [h5]; exact r1, by show gm σ + _ + _ ≤ _; rw [h6]; exact r2⟩⟩ (fun j => by rw [gr_pi, gr_pi]; exact h3 _ _)
    · rw [gr_pi, gr_pi, h3]; exact m4
    · rw [gr_pi, gr_pi, h3]; exact m5
    · rw [gr_pi, gr_pi, h3]; exact m6
    · rw [gi_pi, if_neg (fun q => n24 q.1.symm), gi_pi, if_neg (fun q => n24 q.1.symm)]; exact h7 j hj
    · rw [gi_pi, if_neg (by omega), gi_pi, if_pos ⟨rfl, rfl⟩]; rfl
    · rw [gi_pi, if_neg (by omega), gi_pi, if_neg (by omega), a2]; exact m12
    · rw [gi_pi, if_neg (by omega), gi_pi, if_neg (by omega), a2]; exact m13
    · rw [gi_pi, if_pos ⟨rfl, rfl⟩]; rfl
    · rw [gi_pi, if_neg (by omega), gi_pi, if_neg (by omega), a2]; exact m15
    · rw [gi_pi, if_neg (fun q => n25 q.1.symm), gi_pi, if_neg (fun q => n25 q.1.symm), b2]; exact m16 j hj h8
  | succ d ih =>
    intro i σ e hk h1 h2 h3 h4 h5 h6 h7
    obtain ⟨a1, a2, a3, a4⟩ := hk (R 2) (by omega) n24
    refine tX3_begins_2 ⟨fun q => ?_, fun _ => ⟨a1.trans m1, R 4, by rw [h3]; exact m5, h1, by rw [h2]; exact iI_in (by omega) (by omega), ?_⟩⟩
    · rw [iI_le (by omega) (by omega) (by omega) (by omega)] at q; omega
    · rw [iI_ix (by omega), iI_suc]
      refine ih (i + 1) _ (by omega) (hk.pi (fun _ => rfl)) h1 h2 h3 h4 h5 h6 (fun j hj => ?_)
      rw [gi_pi]
      by_cases hji : j = i
      · rw [if_pos ⟨rfl, hji⟩]
      · rw [if_neg (fun q => hji q.2)]; exact h7 j (by omega)
theorem c_begins (hl : 1 ≤ lev) (hM : MB G R σ X K w n s)
    (ok : ∀ τ, keep (isM R) σ τ → MB G R τ X (kBeg K) 0 n s → (∀ j, gr τ (R 2) j = gr σ (R 2) j) → Q (.returned none) τ) : CQ (wP G s0 l KK T) mX3_begins lev (.ref (R 2) :: []) σ Q := by
  obtain ⟨l', rfl⟩ : ∃ l', lev = l' + 1 := ⟨lev - 1, by omega⟩
  exact tX3_begins (c_begl hM ok 6 0 σ rfl keep.rf hM.2.1.1.2.1 hM.2.1.2.2.1.1 (fun _ _ => rfl) hM.1 rfl rfl (fun j hj => by omega))
/-- an empty list -/
theorem c_linit (hl : 3 ≤ lev) (hz : gz σ) (ok : ∀ τ, keep nil0 σ τ → gz τ → gn τ = gn σ + 1 → gm τ = gm σ + 3 → gk τ (gn σ) = 22 → gr τ (gn σ) 1 = KK 14 → gi τ (gn σ) 2 = iI 0 → Q (.returned none) τ) : CQ (wP G s0 l KK T) mJ2_init lev (.ref (gn σ) :: []) (gmk 22 3 σ) Q := by
  obtain ⟨l', rfl⟩ : ∃ l', lev = l' + 3 := ⟨lev - 3, by omega⟩
  have hk : gk (gmk 22 3 σ) (gn σ) = 22 := gk_new hz.at
  have k0 : keep nil0 σ (gmk 22 3 σ) := keep.rf.mk hz.at
  refine tJ2_init (tJ1_init (tJ0_init (fun _ => ⟨hk, fun _ => ⟨hk, ?_⟩⟩)))
  refine ok _ ((k0.pi (fun q => absurd hz.at q)).pr (fun q => absurd hz.at q)) hz.mk rfl rfl hk ?_ ?_
  · rw [gr_pr, if_pos ⟨rfl, rfl⟩]
  · rw [gi_pr, gi_pi, if_neg (by omega), gi_nw]; rfl
theorem c_rinit (hl : 5 ≤ lev) (hx : pTx t σ tp) (hM : MB G R σ X K w (n + 3) (s + 16))
    (ok : ∀ τ, pR0 KK t τ (gn σ) tp (gn σ + 1) (gn σ + 2) → keep nil0 σ τ → gle σ τ → MB G R τ X K w n s → gn τ = gn σ + 3 → Q (.returned none) τ) : CQ (wP G s0 l KK T) mX6_init lev (.ref (gn σ) :: [va_rf (some tp), .int (iI (t.2 : Int))]) (gmk 5 10 σ) Q := by
  obtain ⟨l', rfl⟩ : ∃ l', lev = l' + 1 := ⟨lev - 1, by omega⟩
  have hz := hM.1
  have k1 : keep nil0 σ (gmk 5 10 σ) := keep.rf.mk hz.at
  have z1 : gz (gmk 5 10 σ) := hz.mk
  have b1 : MB G R (gmk 5 10 σ) X K w (n + 2) (s + 6) := (hM.le (n' := n + 2 + 1) (s' := s + 6 + 10) (by omega) (by omega)).new k1 z1 rfl rfl
  have hk5 : gk (gmk 5 10 σ) (gn σ) = 5 := gk_new hz.at
  have e1 : gn (gmk 5 10 σ) = gn σ + 1 := rfl
  refine tX6_init ⟨(b1.2.2.2.le (n' := n + 1 + 1) (s' := s + 3 + 3) (by omega) (by omega)).gr z1, c_linit (by omega) z1 (fun t3 k3 z3 n3 m3 c1 c2 c3 => fun l3 => ?_)⟩
  have b3 : MB G R t3 X K w (n + 1) (s + 3) := (b1.le (n' := n + 1 + 1) (s' := s + 3 + 3) (by omega) (by omega)).new k3 z3 n3 m3
  obtain ⟨d1, d2, d3, d4⟩ := k3 (gn σ) (by omega) id
  have ga3 : gk t3 (gn σ) = 5 := d1.trans hk5
  have n0 : gk σ (gn σ) = 0 := hz.at
  have k03 : keep nil0 σ (gpr (gn σ) 8 (some (gn (gmk 5 10 σ))) t3) := (k1.t2 k3).pr (fun q => absurd n0 q)
  have nM : ¬ isM R (gn σ) := fun q => absurd n0 (hM.2.1.tg q)
  have b4 : MB G R (gpr (gn σ) 8 (some (gn (gmk 5 10 σ))) t3) X K w (n + 1) (s + 3) := b3.pr' nM
  have e4 : gn (gpr (gn σ) 8 (some (gn (gmk 5 10 σ))) t3) = gn σ + 2 := by show gn t3 = _; rw [n3]; rfl
  refine ⟨ga3, (b4.2.2.2.le (n' := n + 1) (s' := s + 3) (by omega) (by omega)).gr b4.1, c_linit (by omega) b4.1 (fun t8 k8 z8 n8 m8 a1 a2 a3 => fun l8 => ?_)⟩
  have b8 : MB G R t8 X K w n s := b4.new k8 z8 n8 m8
  rw [e4] at a1 a2 a3 ⊢
  have n2 : gk σ (gn σ + 2) = 0 := hz _ (by omega)
  have n1 : gk σ (gn σ + 1) = 0 := hz _ (by omega)
  have l34 : gle t3 (gpr (gn σ) 8 (some (gn (gmk 5 10 σ))) t3) := ⟨⟨Nat.le_refl _, Nat.le_refl _⟩, fun _ _ => rfl⟩
  have l13 : gle (gmk 5 10 σ) t3 := (gle_mk z1).tr l3
  have l0 : gle σ t8 := ((gle_mk hz).tr l13).tr (gle.tr l34 ((gle_mk b4.1).tr l8))
  obtain ⟨f1, f2, f3, f4⟩ := k8 (gn σ) (by show gk t3 (gn σ) ≠ 0; omega) id
  have c1' : gk t3 (gn σ + 1) = 22 := c1
  obtain ⟨g1, g2, g3, g4⟩ := k8 (gn σ + 1) (by show gk t3 (gn σ + 1) ≠ 0; omega) id
  have kF : keep nil0 σ (gpi (gn σ) 1 (iI (t.2 : Int)) (gpr (gn σ) 0 (some tp) (gpr (gn σ) 9 (some (gn σ + 2)) t8))) := (((k03.t2 k8).pr (fun q => absurd n0 q)).pr (fun q => absurd n0 q)).pi (fun q => absurd n0 q)
  obtain ⟨x1, x2, x3, x4⟩ := hx
  have ht : gk σ tp ≠ 0 := by omega
  obtain ⟨h1, h2, h3, h4⟩ := kF tp ht id
  refine ok _ ⟨⟨?_, ?_, ?_, ?_, ?_, h1.trans x1, by rw [h4]; exact x2, x3, fun j hj => by rw [h2]; exact x4 j hj⟩, ?_, ?_, ⟨?_, ?_, ?_⟩, ⟨?_, ?_, ?_⟩, by omega⟩ kF (l0.tr ⟨⟨Nat.le_refl _, Nat.le_refl _⟩, fun _ _ => rfl⟩) (((b8.pr' nM).pr' nM).pi' nM) (by show gn t8 = _; rw [n8, e4])
  · exact f1.trans ga3
  · rw [gr_pi, gr_pr, if_pos ⟨rfl, rfl⟩]
  · rw [gi_pi, if_pos ⟨rfl, rfl⟩]
  · rw [gr_pi, gr_pr, if_neg (by omega), gr_pr, if_neg (by omega), f3, gr_pr, if_pos ⟨rfl, rfl⟩]; rfl
  · rw [gr_pi, gr_pr, if_neg (by omega), gr_pr, if_pos ⟨rfl, rfl⟩]
  · rw [gi_pi, if_neg (by omega), gi_pr, gi_pr, f2, gi_pr, d2, gi_nw]; rfl
  · rw [gi_pi, if_neg (by omega), gi_pr, gi_pr, f2, gi_pr, d2, gi_nw]; rfl
  · exact g1.trans c1'
  · rw [gr_pi, gr_pr, if_neg (by omega), gr_pr, if_neg (by omega), g3, gr_pr, if_neg (by omega)]; exact c2
  · rw [gi_pi, if_neg (by omega), gi_pr, gi_pr, g2, gi_pr]; exact c3
  · exact a1
  · rw [gr_pi, gr_pr, if_neg (by omega), gr_pr, if_neg (by omega)]; exact a2
  · rw [gi_pi, if_neg (by omega), gi_pr, gi_pr]; exact a3
end PHQ
