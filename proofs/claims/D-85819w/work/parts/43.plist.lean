/-! P OVER S (12): lists of the JDK -/
theorem obj_ok : ∀ c, c ∈ [5, 7, 8, 9, 10, 11, 12, 17, 18, 19, 20, 22] → c < 28 ∧ Cond.castable (gQ c).1 "java/lang/Object" ∈ lw_tbl := by
  intro c hc
  simp at hc
  rcases hc with rfl | rfl | rfl | rfl | rfl | rfl | rfl | rfl | rfl | rfl | rfl | rfl
  · exact ⟨by decide, q2584⟩
  · exact ⟨by decide, q2587⟩
  · exact ⟨by decide, q2588⟩
  · exact ⟨by decide, q2589⟩
  · exact ⟨by decide, q2590⟩
  · exact ⟨by decide, q2591⟩
  · exact ⟨by decide, q2592⟩
  · exact ⟨by decide, q2596⟩
  · exact ⟨by decide, q2598⟩
  · exact ⟨by decide, q2599⟩
  · exact ⟨by decide, q2600⟩
  · exact ⟨by decide, q2572⟩
theorem iI_nI (n : Nat) : iI (n : Int) = nI n := rfl
theorem iI_shr1 {n : Nat} (h : n < 2147483648) : iI (n : Int) >>> ((iI 1) &&& 31) = iI ((n / 2 : Nat) : Int) := by
  rw [iI_nI, iI_nI]
  exact pk_shrN (by omega) _ 1 (by decide)
section PL
variable {G : GPl} {s0 : State} {l : Launch} {KK : Nat → Option Nat} {T : Nat → Nat} {lev : Nat} {Q : Outcome → GSt → Prop} {R : Nat → Nat} {σ τ st0 : GSt} {X : SX} {K : KS} {w n s : Nat} {c : PC} {L : Nat → Nat → Prop} {W : Nat → Prop}
theorem stO {b t : Nat} (h : gk σ b = t + 1) (ht : t ∈ [5, 7, 8, 9, 10, 11, 12, 17, 18, 19, 20, 22]) : stOK σ (some b) "java/lang/Object" := Or.inr ⟨b, t, rfl, h, (obj_ok t ht).1, Or.inl (obj_ok t ht).2⟩
theorem stO_mk {t k : Nat} {r : Option Nat} {C : String} (h : stOK σ r C) : stOK (gmk t k σ) r C := by
  rcases h with h | ⟨b, c, h1, h2, h3, h4⟩
  · exact Or.inl h
  · exact Or.inr ⟨b, c, h1, gk_mk h2 (by omega), h3, h4⟩
theorem gr_cr {d b j z m : Nat} : gr (gcr d z 0 0 m σ) b j = if b = d ∧ j < m then gr σ z j else gr σ b j := by
  show va_up σ.2.2.1 d (va_cpy (σ.2.2.1 z) (σ.2.2.1 d) 0 0 m) b j = _
  by_cases h : b = d
  · subst h
    rw [va_up_self]
    by_cases h2 : j < m
    · rw [pk_cpy_in (by omega) (by omega), if_pos ⟨rfl, h2⟩]
      simp
    · rw [pk_cpy_out (by omega), if_neg (fun q => h2 q.2)]
  · rw [va_up_ne _ _ h, if_neg (fun q => h q.1)]
theorem keep.cr {d z m : Nat} (h : keep W σ τ) (ha : gk σ d ≠ 0 → W d) : keep W σ (gcr d z 0 0 m τ) := fun b h0 hw => by
  obtain ⟨a1, a2, a3, a4⟩ := h b h0 hw
  have hb : b ≠ d := fun q => hw (q ▸ ha (q ▸ h0))
  exact ⟨a1, a2, fun i => by rw [gr_cr, if_neg (fun q => hb q.1)]; exact a3 i, a4⟩
/-- one more at a list's end -/
theorem c_add {al z k cap b : Nat} (hl : 7 ≤ lev) (hz : gz σ) (h0 : G.h0.size ≤ gn σ) (h1 : gk σ al = 22) (h2 : gr σ al 1 = some z) (h3 : gk σ z = 103) (h4 : gl σ z = cap) (h5 : gi σ al 2 = iI (k : Int)) (hk : k ≤ cap) (hc : 2 ≤ cap) (hcap : cap ≤ 100000) (hb : stOK σ (some b) "java/lang/Object") (hel : ∀ j, j < k → stOK σ (gr σ z j) "java/lang/Object") (hro : k = cap → gn σ + 1 ≤ G.cc ∧ gm σ + (cap + cap / 2) ≤ G.cs)
    (ok : ∀ τ z', keep (fun a => a = al ∨ a = z) σ τ → gz τ → gk τ al = 22 → gr τ al 1 = some z' → gk τ z' = 103 → gi τ al 2 = iI ((k + 1 : Nat) : Int) → (∀ j, j < k → gr τ z' j = gr σ z j) → gr τ z' k = some b →
      ((k < cap ∧ z' = z ∧ gl τ z' = cap ∧ gn τ = gn σ ∧ gm τ = gm σ) ∨ (k = cap ∧ z' = gn σ ∧ gl τ z' = cap + cap / 2 ∧ gn τ = gn σ + 1 ∧ gm τ = gm σ + (cap + cap / 2))) → Q (.returned (some (.int (iI 1)))) τ) : CQ (wP G s0 l KK T) mJ2_add lev (.ref al :: [va_rf (some b)]) σ Q := by
  obtain ⟨l', rfl⟩ := Nat.exists_eq_add_of_le' hl
  have l1 : al < gn σ := hz.lt (by omega)
  have l2 : z < gn σ := hz.lt (by omega)
  have hne : al ≠ z := fun q => by rw [q] at h1; omega
  refine tJ2_add ⟨h1, ?_⟩
  rw [gr_pi, h2, gi_pi, if_neg (by omega), h5]
  generalize gi σ al 0 + iI 1 = mc
  refine tJ2_add_2 ⟨z, rfl, h3, fun q => ?_, fun q => ?_⟩
  · rw [gl_pi, h4, iI_eq (by omega) (by omega) (by omega) (by omega)] at q
    have hkc : k = cap := by omega
    obtain ⟨r1, r2⟩ := hro hkc
    refine ⟨h1, tJ2_grow ⟨h1, ?_⟩⟩
    rw [gi_pi, if_neg (by omega), h5, iI_suc]
    refine tJ2_grow_2 ⟨h1, z, by rw [gr_pi]; exact h2, h3, fun _ => ?_, fun q2 => ?_⟩
    · rw [gl_pi, h4]
      refine tJ2_grow_2_20 ?_
      have e1 : iI ((k + 1 : Nat) : Int) - iI (cap : Int) = iI 1 := by rw [iI_sub]; congr 1; omega
      rw [e1, iI_shr1 (by omega)]
      have e2 : (if iI 1 < iI ((cap / 2 : Nat) : Int) then iI ((cap / 2 : Nat) : Int) else iI 1) = iI ((cap / 2 : Nat) : Int) := by
        by_cases h : 1 < cap / 2
        · rw [if_pos (by rw [iI_lt (by omega) (by omega) (by omega) (by omega)]; omega)]
        · rw [if_neg (by rw [iI_lt (by omega) (by omega) (by omega) (by omega)]; omega)]
          congr 1; omega
      have e3 : iI (cap : Int) + iI ((cap / 2 : Nat) : Int) = iI ((cap + cap / 2 : Nat) : Int) := by rw [iI_add]; rfl
      refine tJ14_newLength ?_
      rw [e2, e3]
      refine ⟨fun q => ?_, fun _ => ⟨fun q => ?_, fun _ => fun _ => ⟨h1, ?_⟩⟩⟩
      · rw [iI_le (by omega) (by omega) (by omega) (by omega)] at q; omega
      · rw [iI_lt (by omega) (by omega) (by omega) (by omega)] at q; omega
      · rw [gr_pi, h2]
        have e4 : (iI ((cap + cap / 2 : Nat) : Int)).toInt.toNat = cap + cap / 2 := by rw [iI_nat (by omega)]; rfl
        have e5 : gl (gmk 103 (cap + cap / 2) (gpi al 0 mc σ)) z = cap := by rw [gl_mk (by rw [gn_pi]; omega)]; exact h4
        have e6 : (if iI ((cap + cap / 2 : Nat) : Int) < iI (cap : Int) then iI ((cap + cap / 2 : Nat) : Int) else iI (cap : Int)) = iI (cap : Int) := by
          rw [if_neg (by rw [iI_lt (by omega) (by omega) (by omega) (by omega)]; omega)]
        have e7 : ix (iI 0) = 0 := rfl
        have e8 : gn (gpi al 0 mc σ) = gn σ := rfl
        refine tJ16_copyOf_2 ⟨z, rfl, h3, tJ16_copyOf_3 ⟨fun _ => ?_, fun q => absurd rfl q⟩⟩
        rw [e4, e8]
        refine ⟨iI_in (by omega) (by omega), ⟨by rw [gn_pi]; omega, by rw [gm_pi]; omega, hz.at⟩, z, rfl, by rw [gk_old (by rw [gn_pi]; omega)]; exact h3, h0, ?_⟩
        rw [e5, e6, e7, iI_ix (by omega)]
        refine ⟨⟨by decide, by decide, by rw [iI_nat (by omega)]; omega, ?_, ?_⟩, fun i hi => ?_, ?_⟩
        · rw [e5, iI_nat (by omega)]; show (0 : Int) + cap ≤ cap; omega
        · have : gl (gmk 103 (cap + cap / 2) (gpi al 0 mc σ)) (gn σ) = cap + cap / 2 := gl_nw
          rw [this, iI_nat (by omega)]; show (0 : Int) + cap ≤ _; omega
        · rw [Nat.zero_add, gr_mk (by rw [gn_pi]; omega), gr_pi]
          exact stO_mk (hel i (by omega))
        · refine fun _ => fun _ => fun _ => fun _ => ?_
          have k22 : gk (gpr al 1 (some (gn σ)) (gcr (gn σ) z 0 0 cap (gmk 103 (cap + cap / 2) (gpi al 0 mc σ)))) al = 22 := by
            show gk (gmk 103 (cap + cap / 2) (gpi al 0 mc σ)) al = 22
            rw [gk_old (by rw [gn_pi]; omega)]; exact h1
          have k103 : gk (gpr al 1 (some (gn σ)) (gcr (gn σ) z 0 0 cap (gmk 103 (cap + cap / 2) (gpi al 0 mc σ)))) (gn σ) = 103 := gk_new (n := cap + cap / 2) (σ := gpi al 0 mc σ) hz.at
          have g103 : gl (gpr al 1 (some (gn σ)) (gcr (gn σ) z 0 0 cap (gmk 103 (cap + cap / 2) (gpi al 0 mc σ)))) (gn σ) = cap + cap / 2 := gl_nw (σ := gpi al 0 mc σ) (t := 103)
          have hkp : keep (fun a => a = al ∨ a = z) σ (gpr al 1 (some (gn σ)) (gcr (gn σ) z 0 0 cap (gmk 103 (cap + cap / 2) (gpi al 0 mc σ)))) := (((keep.rf.pi (fun _ => Or.inl rfl)).mk (by rw [gn_pi]; exact hz.at)).cr (fun q => absurd hz.at q)).pr (fun _ => Or.inl rfl)
          have hzz : gz (gpr al 1 (some (gn σ)) (gcr (gn σ) z 0 0 cap (gmk 103 (cap + cap / 2) (gpi al 0 mc σ)))) := gz.mk (σ := gpi al 0 mc σ) hz
          have hrw : ∀ j, j < cap → gr (gpr al 1 (some (gn σ)) (gcr (gn σ) z 0 0 cap (gmk 103 (cap + cap / 2) (gpi al 0 mc σ)))) (gn σ) j = gr σ z j := fun j hj => by
            rw [gr_pr, if_neg (by omega), gr_cr, if_pos ⟨rfl, hj⟩, gr_mk (by rw [gn_pi]; omega), gr_pi]
          have hal : gr (gpr al 1 (some (gn σ)) (gcr (gn σ) z 0 0 cap (gmk 103 (cap + cap / 2) (gpi al 0 mc σ)))) al 1 = some (gn σ) := by rw [gr_pr, if_pos ⟨rfl, rfl⟩]
          have hst : stOK (gpr al 1 (some (gn σ)) (gcr (gn σ) z 0 0 cap (gmk 103 (cap + cap / 2) (gpi al 0 mc σ)))) (some b) "java/lang/Object" := stO_mk (t := 103) (k := cap + cap / 2) (σ := gpi al 0 mc σ) hb
          have hn' : gn (gpr al 1 (some (gn σ)) (gcr (gn σ) z 0 0 cap (gmk 103 (cap + cap / 2) (gpi al 0 mc σ)))) = gn σ + 1 := rfl
          have hm' : gm (gpr al 1 (some (gn σ)) (gcr (gn σ) z 0 0 cap (gmk 103 (cap + cap / 2) (gpi al 0 mc σ)))) = gm σ + (cap + cap / 2) := rfl
          generalize gpr al 1 (some (gn σ)) (gcr (gn σ) z 0 0 cap (gmk 103 (cap + cap / 2) (gpi al 0 mc σ))) = F at k22 k103 g103 hkp hzz hrw hal hst hn' hm'
          refine tJ2_add_2_11 ⟨gn σ, rfl, k103, iI_in (by omega) (by omega), hst, k22, ?_⟩
          rw [iI_ix (by omega), iI_suc]
          refine fun _ => ok _ (gn σ) ((hkp.pr (fun q => absurd hz.at q)).pi (fun _ => Or.inl rfl)) hzz k22 ?_ k103 ?_ (fun j hj => ?_) ?_ (Or.inr ⟨hkc, rfl, g103, hn', hm'⟩)
          · rw [gr_pi, gr_pr, if_neg (by omega)]; exact hal
          · rw [gi_pi, if_pos ⟨rfl, rfl⟩]
          · rw [gr_pi, gr_pr, if_neg (by omega)]; exact hrw j (by omega)
          · rw [gr_pi, gr_pr, if_pos ⟨rfl, rfl⟩]
    · exact absurd (by rw [gl_pi, h4, iI_z, iI_lt (by omega) (by omega) (by omega) (by omega)]; omega) q2
  · have hkc : k < cap := by
      rcases Nat.lt_or_ge k cap with h | h
      · exact h
      · exact absurd (by rw [gl_pi, h4]; congr 1; omega) q
    refine tJ2_add_2_11 ⟨z, rfl, h3, by rw [gl_pi, h4]; exact iI_in hkc (by omega), hb, h1, ?_⟩
    rw [iI_ix (by omega), iI_suc]
    refine fun _ => ok _ z (((keep.rf.pi (fun _ => Or.inl rfl)).pr (fun _ => Or.inr rfl)).pi (fun _ => Or.inl rfl)) hz h1 ?_ h3 ?_ (fun j hj => ?_) ?_ (Or.inl ⟨hkc, rfl, h4, rfl, rfl⟩)
    · rw [gr_pi, gr_pr, if_neg (by omega), gr_pi]; exact h2
    · rw [gi_pi, if_pos ⟨rfl, rfl⟩]
    · rw [gr_pi, gr_pr, if_neg (by omega), gr_pi]
    · rw [gr_pi, gr_pr, if_pos ⟨rfl, rfl⟩]
end PL
