/-! THE HOUSE OVER S, P (30): corner (2) -/
def cS (R : Nat → Nat) (T : Nat → Nat) (σ t : GSt) (ns : Nat) (g f : Nat → Int) : Prop := keep (fun q => q = R 1 ∨ q = R 6 ∨ q = R 7 ∨ q = R 8) σ t ∧ (∀ a, gk t a = gk σ a) ∧ (∀ a, gl t a = gl σ a) ∧ (gn t = gn σ ∧ gm t = gm σ) ∧ (∀ j, gr t (R 1) j = gr σ (R 1) j) ∧ gi t (R 1) 3 = iI (ns : Int) ∧ (∀ i, i < 8 → gi t (R 6) i = iI (g i)) ∧ (∀ i, i < 64 → gi t (R 7) i = iI (f i)) ∧ (∀ i, i < ns → gr t (R 8) i = some (T (2 + i)))
/-- the tables' own cells -/
def tbC (R : Nat → Nat) (σ : GSt) : Prop := (gk σ (R 1) = 2 ∧ gr σ (R 1) 0 = some (R 8) ∧ gr σ (R 1) 1 = some (R 6) ∧ gr σ (R 1) 2 = some (R 7)) ∧ (gk σ (R 6) = 101 ∧ gl σ (R 6) = 8 ∧ gk σ (R 7) = 101 ∧ gl σ (R 7) = 64 ∧ gk σ (R 8) = 104 ∧ gl σ (R 8) = 8)
def upI (f : Nat → Int) (i : Nat) (v : Int) : Nat → Int := fun j => if j = i then v else f j
section PHBH
variable {G : GPl} {s0 : State} {l : Launch} {KK : Nat → Option Nat} {T : Nat → Nat} {lev : Nat} {Q : Outcome → GSt → Prop} {R : Nat → Nat} {σ τ υ st0 ρ σ0 : GSt} {n s m u k ns i : Nat} {x1 x2 : Int32} {f g : Nat → Int} {v : Int}
theorem tbC.ne (h : tbC R σ) : R 6 ≠ R 7 ∧ R 1 ≠ R 6 ∧ R 1 ≠ R 7 ∧ R 1 ≠ R 8 ∧ R 8 ≠ R 6 ∧ R 8 ≠ R 7 := by
  obtain ⟨⟨a1, -⟩, b1, b2, b3, b4, b5, b6⟩ := h
  exact ⟨fun q => by rw [q] at b2; omega, fun q => by rw [q] at a1; omega, fun q => by rw [q] at a1; omega, fun q => by rw [q] at a1; omega, fun q => by rw [q] at b5; omega, fun q => by rw [q] at b5; omega⟩
theorem cS.tb (h : cS R T σ τ ns g f) (hb : tbC R σ) : tbC R τ := by
  obtain ⟨-, h2, h3, -, h5, -⟩ := h
  obtain ⟨⟨a1, a2, a3, a4⟩, b1, b2, b3, b4, b5, b6⟩ := hb
  exact ⟨⟨(h2 _).trans a1, by rw [h5]; exact a2, by rw [h5]; exact a3, by rw [h5]; exact a4⟩, (h2 _).trans b1, (h3 _).trans b2, (h2 _).trans b3, (h3 _).trans b4, (h2 _).trans b5, (h3 _).trans b6⟩
theorem cS.p6 (h : cS R T σ τ ns g f) (hb : tbC R σ) : cS R T σ (gpi (R 6) i (iI v) τ) ns (upI g i v) f := by
  obtain ⟨h1, h2, h3, h4, h5, h6, h7, h8, h9⟩ := h
  obtain ⟨n1, n2, n3, n4, n5, n6⟩ := hb.ne
  refine ⟨h1.pi (fun _ => Or.inr (Or.inl rfl)), h2, h3, h4, h5, by rw [gi_pi, if_neg (fun q => n2 q.1)]; exact h6, fun j hj => ?_, fun j hj => by rw [gi_pi, if_neg (fun q => n1 q.1.symm)]; exact h8 j hj, h9⟩
  rw [gi_pi]
  unfold upI
  by_cases hji : j = i
  · rw [if_pos ⟨rfl, hji⟩, if_pos hji]
  · rw [if_neg (fun q => hji q.2), if_neg hji]; exact h7 j hj
theorem cS.p7 (h : cS R T σ τ ns g f) (hb : tbC R σ) : cS R T σ (gpi (R 7) i (iI v) τ) ns g (upI f i v) := by
  obtain ⟨h1, h2, h3, h4, h5, h6, h7, h8, h9⟩ := h
  obtain ⟨n1, n2, n3, n4, n5, n6⟩ := hb.ne
  refine ⟨h1.pi (fun _ => Or.inr (Or.inr (Or.inl rfl))), h2, h3, h4, h5, by rw [gi_pi, if_neg (fun q => n3 q.1)]; exact h6, fun j hj => by rw [gi_pi, if_neg (fun q => n1 q.1)]; exact h7 j hj, fun j hj => ?_, h9⟩
  rw [gi_pi]
  unfold upI
  by_cases hji : j = i
  · rw [if_pos ⟨rfl, hji⟩, if_pos hji]
  · rw [if_neg (fun q => hji q.2), if_neg hji]; exact h8 j hj
theorem c_tadd (hl : 1 ≤ lev) (h : cS R T σ τ ns g f) (hb : tbC R σ) (hn : ns < 8) (h23 : gk σ (T (2 + ns)) = 23) (ok : ∀ υ, cS R T σ υ (ns + 1) g f → Q (.returned none) υ) : CQ (wP G s0 l KK T) mX2_add lev (.ref (R 1) :: [va_rf (some (T (2 + ns)))]) τ Q := by
  obtain ⟨l', rfl⟩ : ∃ l', lev = l' + 1 := ⟨lev - 1, by omega⟩
  have hτ := h.tb hb
  obtain ⟨n1, n2, n3, n4, n5, n6⟩ := hb.ne
  obtain ⟨h1, h2, h3, h4, h5, h6, h7, h8, h9⟩ := h
  obtain ⟨⟨a1, a2, a3, a4⟩, b1, b2, b3, b4, b5, b6⟩ := hτ
  refine tX2_add ⟨a1, R 8, a2, b5, by rw [h6, b6]; exact iI_in hn (by omega), st_str ((h2 _).trans h23), ?_⟩
  have e3 : ∀ i x, gi (gpr (R 8) i x τ) (R 1) 3 = gi τ (R 1) 3 := fun _ _ => rfl
  rw [e3, h6, iI_ix (by omega), iI_suc]
  refine ok _ ⟨(h1.pr (fun _ => Or.inr (Or.inr (Or.inr rfl)))).pi (fun _ => Or.inl rfl), h2, h3, h4, fun j => ?_, ?_, fun i hi => ?_, fun i hi => ?_, fun i hi => ?_⟩
  · rw [gr_pi, gr_pr, if_neg (fun q => n4 q.1)]; exact h5 j
  · rw [gi_pi, if_pos ⟨rfl, rfl⟩]
  · rw [gi_pi, if_neg (fun q => n2 q.1.symm), gi_pr]; exact h7 i hi
  · rw [gi_pi, if_neg (fun q => n3 q.1.symm), gi_pr]; exact h8 i hi
  · rw [gr_pi, gr_pr]
    by_cases hin : i = ns
    · subst hin; rw [if_pos ⟨rfl, rfl⟩]
    · rw [if_neg (fun q => hin q.2)]; exact h9 i (by omega)
theorem bitk : ∀ k, k < 8 → ((iI ((k : Nat) : Int) &&& iI 1 = 0 ↔ k % 2 ≠ 1) ∧ (iI ((k : Nat) : Int) &&& iI 2 = 0 ↔ k / 2 % 2 ≠ 1) ∧ (iI ((k : Nat) : Int) &&& iI 4 = 0 ↔ k / 4 % 2 ≠ 1)) := by decide
theorem c_tcorner (hl : 4 ≤ lev) (hk : k ≤ 8) (hb : tbC R σ) (h2 : gk σ (T 2) = 23) (h3 : gk σ (T 3) = 23) (ok : ∀ τ, cS R T σ τ (hCor k).1.length (hCor k).2.1 (fun i => (hCor k).2.2 (i / 8) (i % 8)) → Q (.returned none) τ) : CQ (wP G s0 l KK T) mX2_corner lev (.ref (R 1) :: [.int (iI (k : Int))]) σ Q := by
  obtain ⟨l', rfl⟩ : ∃ l', lev = l' + 2 := ⟨lev - 2, by omega⟩
  have hb0 := hb
  obtain ⟨n1, n2, n3, n4, n5, n6⟩ := hb.ne
  obtain ⟨⟨a1, a2, a3, a4⟩, b1, b2, b3, b4, b5, b6⟩ := hb
  have k0 : keep (fun q => q = R 1 ∨ q = R 6 ∨ q = R 7 ∨ q = R 8) σ (gpi (R 1) 3 (iI 0) σ) := (keep.rf (W := fun q => q = R 1 ∨ q = R 6 ∨ q = R 7 ∨ q = R 8)).pi (fun _ => Or.inl rfl)
  refine tX2_corner ⟨a1, tX2_clear ⟨a1, c_clr7 (σ0 := gpi (R 1) 3 (iI 0) σ) a1 a3 a4 b1 b2 b3 b4 n1 (fun t2 u1 u2 => fun _ => ?_) 8 0 _ rfl keep.rf (fun _ _ => rfl) (fun _ => rfl) (fun _ => rfl) rfl rfl (fun j hj => by omega)⟩⟩
  obtain ⟨v1, v2, v3, v4, v5, v6, v7⟩ := u2
  have c2 : cS R T σ t2 0 (fun _ => -1) (fun _ => -1) := ⟨k0.tr u1 (fun q _ w => by rcases w with w | w; exact Or.inr (Or.inl w); exact Or.inr (Or.inr (Or.inl w))), v2, v3, ⟨v4, v5⟩, fun j => v1 _ _, by rw [(u1 (R 1) (by show gk σ (R 1) ≠ 0; omega) (fun w => by rcases w with w | w; exact n2 w; exact n3 w)).2.1, gi_pi, if_pos ⟨rfl, rfl⟩]; rfl, v6, v7, fun i hi => by omega⟩
  refine ⟨fun q => ?_, fun q => ?_⟩
  · rw [iI_eq (by omega) (by omega) (by omega) (by omega)] at q
    have hk8 : k = 8 := by omega
    subst hk8
    exact ok t2 c2
  · have hk8 : k < 8 := by
      rcases Nat.lt_or_ge k 8 with w | w
      · exact w
      · exfalso; apply q; rw [show k = 8 by omega]; rfl
    obtain ⟨B1, B2, B4⟩ := bitk k hk8
    refine c_tadd (ns := 0) (by omega) c2 hb0 (by omega) h2 (fun t4 c4 => fun _ => ?_)
    refine c_tadd (ns := 1) (by omega) c4 hb0 (by omega) h3 (fun t6 c6 => fun _ => ?_)
    have T6 := c6.tb hb0
    refine ⟨R 6, T6.1.2.2.1, T6.2.1, by rw [T6.2.2.1]; exact iI_in (a := 0) (by omega) (by omega), ?_⟩
    have c7 := c6.p6 (i := 0) (v := 1) hb0
    have T7 := c7.tb hb0
    have ix0 : ix (iI 0) = 0 := rfl
    rw [ix0]
    refine ⟨R 7, T7.1.2.2.2, T7.2.2.2.1, by rw [T7.2.2.2.2.1]; exact iI_in (a := 0) (by omega) (by omega), ?_⟩
    have c8 := c7.p7 (i := 0) (v := 0) hb0
    have T8 := c8.tb hb0
    -- the end
    have fin65 : ∀ t g', cS R T σ t 2 (upI (fun _ => -1) 0 1) g' → (∀ i, i < 64 → (if k / 4 % 2 = 1 then upI g' 1 1 else g') i = (hCor k).2.2 (i / 8) (i % 8)) → jX2_corner_65 G s0 l KK T (l' + 1) σ Q (R 1) (iI (k : Int)) t := fun t g' c hg => by
      have hc : (hCor k).1.length = 2 := by unfold hCor; rw [if_neg (by omega)]; rfl
      have hax : ∀ i, upI (fun _ => -1) 0 1 i = (hCor k).2.1 i := fun i => by unfold hCor; rw [if_neg (by omega : ¬ k = 8)]; rfl
      have fin : ∀ t g', cS R T σ t 2 (upI (fun _ => -1) 0 1) g' → (∀ i, i < 64 → g' i = (hCor k).2.2 (i / 8) (i % 8)) → Q (.returned none) t := fun t g' c hg => by
        obtain ⟨w1, w2, w3, w4, w5, w6, w7, w8, w9⟩ := c
        exact ok t ⟨w1, w2, w3, w4, w5, by rw [hc]; exact w6, fun i hi => by rw [← hax]; exact w7 i hi, fun i hi => by rw [w8 i hi, hg i hi], fun i hi => w9 i (by rw [hc] at hi; exact hi)⟩
      have T9 := c.tb hb0
      refine tX2_corner_65 ⟨fun q => ?_, fun q => ⟨T9.1.1, R 7, T9.1.2.2.2, T9.2.2.2.1, by rw [T9.2.2.2.2.1]; exact iI_in (a := 1) (by omega) (by omega), ?_⟩⟩
      · rw [B4] at q
        exact fin t g' c (fun i hi => by have := hg i hi; rw [if_neg q] at this; exact this)
      · have q' : k / 4 % 2 = 1 := Classical.byContradiction fun w => q (B4.mpr w)
        exact fin _ _ (c.p7 (i := 1) (v := 1) hb0) (fun i hi => by have := hg i hi; rw [if_pos q'] at this; exact this)
    have fin51 : ∀ t g', cS R T σ t 2 (upI (fun _ => -1) 0 1) g' → (∀ i, i < 64 → (if k / 4 % 2 = 1 then upI (if k / 2 % 2 = 1 then upI g' 9 1 else g') 1 1 else (if k / 2 % 2 = 1 then upI g' 9 1 else g')) i = (hCor k).2.2 (i / 8) (i % 8)) → jX2_corner_51 G s0 l KK T (l' + 1) σ Q (R 1) (iI (k : Int)) t := fun t g' c hg => by
      have T9 := c.tb hb0
      refine tX2_corner_51 ⟨fun q => ?_, fun q => ⟨T9.1.1, R 7, T9.1.2.2.2, T9.2.2.2.1, by rw [T9.2.2.2.2.1]; exact iI_in (a := 9) (by omega) (by omega), ?_⟩⟩
      · rw [B2] at q
        exact fin65 t g' c (fun i hi => by have := hg i hi; rw [if_neg q] at this; exact this)
      · have q' : k / 2 % 2 = 1 := Classical.byContradiction fun w => q (B2.mpr w)
        exact fin65 _ _ (c.p7 (i := 9) (v := 1) hb0) (fun i hi => by have := hg i hi; rw [if_pos q'] at this; exact this)
    have tabl : ∀ k, k < 8 → ∀ i, i < 64 → (if k / 4 % 2 = 1 then upI (if k / 2 % 2 = 1 then upI (if k % 2 = 1 then upI (upI (fun _ => -1) 0 0) 8 0 else upI (fun _ => -1) 0 0) 9 1 else (if k % 2 = 1 then upI (upI (fun _ => -1) 0 0) 8 0 else upI (fun _ => -1) 0 0)) 1 1 else (if k / 2 % 2 = 1 then upI (if k % 2 = 1 then upI (upI (fun _ => -1) 0 0) 8 0 else upI (fun _ => -1) 0 0) 9 1 else (if k % 2 = 1 then upI (upI (fun _ => -1) 0 0) 8 0 else upI (fun _ => -1) 0 0))) i = (hCor k).2.2 (i / 8) (i % 8) := by decide +kernel
    refine ⟨fun q => ?_, fun q => ⟨R 7, T8.1.2.2.2, T8.2.2.2.1, by rw [T8.2.2.2.2.1]; exact iI_in (a := 8) (by omega) (by omega), ?_⟩⟩
    · rw [B1] at q
      have tk := tabl k hk8
      rw [if_neg q] at tk
      exact fin51 _ _ c8 tk
    · have q' : k % 2 = 1 := Classical.byContradiction fun w => q (B1.mpr w)
      have tk := tabl k hk8
      rw [if_pos q'] at tk
      exact fin51 _ _ (c8.p7 (i := 8) (v := 0) hb0) tk
end PHBH
