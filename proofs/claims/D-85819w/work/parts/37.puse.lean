/-! P OVER S (6): let, use; the head -/
section PU
variable {G : GPl} {s0 : State} {l : Launch} {KK : Nat → Option Nat} {T : Nat → Nat} {lev : Nat} {Q : Outcome → GSt → Prop} {R : Nat → Nat} {σ τ st0 : GSt} {X : SX} {K : KS} {w n s : Nat} {c : PC} {L : Nat → Nat → Prop}
theorem go_let {a : Nat} {v b r : V} {as : List V} (hl : 6 ≤ lev) (h : MB G R σ X K w (n + 1) (s + 8)) (hp : pT c σ (.tag 1 (.append v b)) a 0) (hr : pV c L σ r true (gr σ (R 2) 2)) (hA : pA c L σ as (gr σ (R 2) 3))
    (ok : ∀ τ K', sSpend X 2 K = (K', .ok ()) → K'.life = K.life + 1 → keep (isM R) σ τ → MB G R τ X K' w (n + 9) (s + 39) → HS c L R τ b (.append (vClo v r) r) as → Q (.returned (some (.int (iI 1)))) τ)
    (er : ∀ x τ e, sSpend X 2 K = (K, .error e) → flt τ x e (-1) → keep (isM R) σ τ → MB G R τ X K w n s → Q (.threw x) τ) : CQ (wP G s0 l KK T) mX12_goes lev (.ref a :: [va_rf (some (R 2))]) σ Q := by
  obtain ⟨l', rfl⟩ := Nat.exists_eq_add_of_le' hl
  have m1 := h.2.1.1.1
  obtain ⟨p1, pE, x, y, p2, p3, p4, p5⟩ := hp
  refine tX12_goes ⟨R 2, rfl, m1, c_spend (c := 2) (by omega) (by omega) h (fun τ K' s1 s2 s3 s4 s5 s6 _ => ?_) (fun x τ e s1 s2 s3 s4 _ => er x τ e s1 s2 s3 s4)⟩
  have hmv : mv c c L L σ τ := mv_keep s3 h.2.1.ok
  obtain ⟨a1, a2, a3, -⟩ := hmv.ct p1 pE rfl
  have hz := s4.1
  have e1 : R 2 ≠ gn τ := hz.ne (s4.2.1.tg (Or.inl rfl))
  have e3 : a ≠ gn τ := hz.ne (by omega)
  have hz1 : gz (gmk 16 3 τ) := hz.mk
  have hn1 : gn (gmk 16 3 τ) = gn τ + 1 := rfl
  have l1 := hz.lt (s4.2.1.tg (Or.inl rfl))
  have l3 : a < gn τ := hz.lt (by omega)
  have f1 : R 2 ≠ gn (gmk 16 3 τ) := by omega
  have f3 : a ≠ gn (gmk 16 3 τ) := by omega
  have m3 := s4.2.1.1.1
  have hr1 := pV_mv hmv _ _ _ hr
  have hd := pE_dep hr1
  have ro := s4.2.2.2
  refine ⟨a1, (ro.le (n' := n + 1) (s' := s + 3) (by omega) (by omega)).gr hz, ((ro.le (n' := n + 1 + 1) (s' := s + 2 + 3) (by omega) (by omega)).mk).gr hz1, tX16_init ⟨gk_new (n := 2) hz1.at, fun _ => ?_⟩⟩
  have v1 : gr (gmk 14 2 (gmk 16 3 τ)) a 2 = some x := by rw [gr_mk f3, gr_mk e3, a3]; exact p2
  have v2 : gr (gmk 14 2 (gmk 16 3 τ)) (R 2) 2 = gr σ (R 2) 2 := by rw [gr_mk f1, gr_mk e1, s5]
  have v3 : ∀ (x1 x2 : Option Nat), gr (gpr (gn (gmk 16 3 τ)) 1 x1 (gpr (gn (gmk 16 3 τ)) 0 x2 (gmk 14 2 (gmk 16 3 τ)))) (R 2) 2 = gr σ (R 2) 2 := fun x1 x2 => by rw [gr_pr, if_neg (by omega), gr_pr, if_neg (by omega), v2]
  rw [v3, v1, v2]
  have v4 : gr τ a 3 = some y := by rw [a3]; exact p3
  rw [v4]
  have v5 : gr τ (R 2) 3 = gr σ (R 2) 3 := s5 3
  clear v3 v2 s5
  generalize gr σ (R 2) 2 = xe at hr1 hd
  refine c_env (d := vlen r) (by omega) ?_ hd.1 (fun e he => ?_) (fun _ => tX3_at ⟨?_, fun _ => ?_⟩)
  · rw [gk_pr, gk_pr, gk_old (by omega)]; exact gk_new (n := 3) hz.at
  · obtain ⟨d1, d2⟩ := hd.2 e he
    have e4 : e < gn τ := hz.lt (by omega)
    exact ⟨by omega, by rw [gk_pr, gk_pr, gk_old (by omega), gk_old (by omega)]; exact d1, by rw [gi_pr, gi_pr, gi_mk (by omega), gi_mk (by omega)]; exact d2⟩
  · rw [gk_pi, gk_pr, gk_pr, gk_pr, gk_pr, gk_old f1, gk_old e1]; exact m3
  · have hfr : ¬ isM R (gn τ) := s4.2.1.fr hz (Nat.le_refl _)
    have hfr1 : ¬ isM R (gn (gmk 16 3 τ)) := s4.2.1.fr hz (by omega)
    have n0 : gk τ (gn τ) = 0 := hz.at
    have n1 : gk τ (gn (gmk 16 3 τ)) = 0 := hz _ (by omega)
    have hk2 : keep (isM R) τ (gpr (R 2) 2 (some (gn τ)) (gpr (R 2) 1 (some y) (gpi (gn τ) 2 (iI ((vlen r + 1 : Nat) : Int)) (gpr (gn τ) 1 xe (gpr (gn τ) 0 (some (gn (gmk 16 3 τ))) (gpr (gn (gmk 16 3 τ)) 1 xe (gpr (gn (gmk 16 3 τ)) 0 (some x) (gmk 14 2 (gmk 16 3 τ))))))))) :=
      ((((((((keep.rf.mk n0).mk n1).pr (fun q => absurd n1 q)).pr (fun q => absurd n1 q)).pr (fun q => absurd n0 q)).pr (fun q => absurd n0 q)).pi (fun q => absurd n0 q)).pr (fun _ => Or.inl rfl)).pr (fun _ => Or.inl rfl)
    have hmv2 : mv c c L L τ _ := mv_keep hk2 s4.2.1.ok
    refine ok _ K' s1 s2 (s3.t2 hk2) ⟨hz1.mk, ((((((((s4.2.1.mk hz).mk hz1).pr' hfr1).pr' hfr1).pr' hfr).pr' hfr).pi' hfr).pr (by omega)).pr (by omega), s4.2.2.1, ?_⟩ ⟨⟨y, ?_, pT_mv hmv2 _ _ _ (pT_mv hmv _ _ _ p5)⟩, ?_, ?_⟩
    · exact ⟨by have := ro.1; show gn τ + 1 + 1 + _ + _ ≤ _; omega, by have := ro.2; show gm τ + 3 + 2 + _ + _ ≤ _; omega⟩
    · rw [gr_pr, if_neg (by omega), gr_pr, if_pos ⟨rfl, rfl⟩]
    · rw [gr_pr, if_pos ⟨rfl, rfl⟩]
      refine ⟨?_, ?_, ?_, ?_⟩
      · rw [gk_pr, gk_pr, gk_pi, gk_pr, gk_pr, gk_pr, gk_pr, gk_old (by omega)]; exact gk_new (n := 3) hz.at
      · rw [gi_pr, gi_pr, gi_pi, if_pos ⟨rfl, rfl⟩]
      · rw [gr_pr, if_neg (by omega), gr_pr, if_neg (by omega), gr_pi, gr_pr, if_neg (by omega), gr_pr, if_pos ⟨rfl, rfl⟩]
        refine ⟨?_, ⟨x, ?_, pT_mv hmv2 _ _ _ (pT_mv hmv _ _ _ p4)⟩, ?_⟩
        · exact gk_new (n := 2) hz1.at
        · rw [gr_pr, if_neg (by omega), gr_pr, if_neg (by omega), gr_pi, gr_pr, if_neg (by omega), gr_pr, if_neg (by omega), gr_pr, if_neg (by omega), gr_pr, if_pos ⟨rfl, rfl⟩]
        · rw [gr_pr, if_neg (by omega), gr_pr, if_neg (by omega), gr_pi, gr_pr, if_neg (by omega), gr_pr, if_neg (by omega), gr_pr, if_pos ⟨rfl, rfl⟩]
          exact pV_mv hmv2 _ _ _ hr1
      · rw [gr_pr, if_neg (by omega), gr_pr, if_neg (by omega), gr_pi, gr_pr, if_pos ⟨rfl, rfl⟩]
        exact pV_mv hmv2 _ _ _ hr1
    · rw [gr_pr, if_neg (by omega), gr_pr, if_neg (by omega), gr_pi, gr_pr, if_neg (by omega), gr_pr, if_neg (by omega), gr_pr, if_neg (by omega), gr_pr, if_neg (by omega), gr_mk f1, gr_mk e1, v5]
      exact pA_mv hmv2 _ _ (pA_mv hmv _ _ hA)
theorem c_get {al z i len : Nat} (hl : 3 ≤ lev) (h1 : gk σ al = 22) (h2 : gr σ al 1 = some z) (h3 : gk σ z = 103) (h4 : gi σ al 2 = iI (len : Int)) (h5 : i < len) (h6 : len ≤ gl σ z) (h7 : len < 2147483648) (ok : Q (.returned (some (va_rf (gr σ z i)))) σ) : CQ (wP G s0 l KK T) mJ2_get lev (.ref al :: [.int (iI (i : Int))]) σ Q := by
  obtain ⟨l', rfl⟩ := Nat.exists_eq_add_of_le' hl
  refine tJ2_get ⟨h1, tJ19_checkIndex (tJ5_checkIndex ⟨fun q => ?_, fun _ => ⟨fun _ => (fun _ => fun _ => ?_), fun q => ?_⟩⟩)⟩
  · rw [iI_z, iI_lt (by omega) (by omega) (by omega) (by omega)] at q; omega
  · refine tJ2_elementData ⟨h1, z, h2, h3, iI_in (by omega) (by omega), onR_ret (fun _ => ?_)⟩
    rw [iI_ix (by omega)]; exact ok
  · rw [h4, iI_lt (by omega) (by omega) (by omega) (by omega)] at q; omega
theorem pT_get {ps : V} {z : Nat} : ∀ (ps : V) (i : Nat), pT c σ ps z (i + 1) → ∀ j, j < vlen ps → gk σ z = 103 ∧ ∃ b, gr σ z (i + j) = some b ∧ pT c σ (vget ps j) b 0 := by
  intro ps
  induction ps with
  | append x xs _ ih =>
    intro i h j hj
    obtain ⟨h1, hE, b, h2, h3, h4⟩ := h
    cases j with
    | zero => exact ⟨h1, b, h2, h3⟩
    | succ j =>
      have := ih (i + 1) h4 j (by simp [vlen] at hj; omega)
      rw [show i + (j + 1) = i + 1 + j by omega]
      exact this
  | _ => intro i h j hj; simp [vlen] at hj
/-- what is applied is spent -/
theorem goU_1 {a al : Nat} {len : Nat} (hl : 6 ≤ lev) (hlen : len ≤ 60000) : ∀ (d i : Nat) (σ : GSt) (K : KS) (n s : Nat), i + d = len → MB G R σ X K w (n + 1) (s + 8) → gk σ a = 13 → gr σ a 3 = some al → gk σ al = 22 → gi σ al 2 = iI (len : Int) →
    (∀ τ K', sSpendN X 3 d K = (K', .ok ()) → K'.life = K.life + d → keep (isM R) σ τ → MB G R τ X K' w (n + 1 + 10 * d) (s + 8 + 36 * d) → (∀ j, gr τ (R 2) j = gr σ (R 2) j) → jX15_goes_34 G s0 l KK T lev st0 Q a (some (R 2)) (iI ((len : Int) - 1)) τ) →
    (∀ x τ K' e, sSpendN X 3 d K = (K', .error e) → K.life ≤ K'.life → flt τ x e (-1) → keep (isM R) σ τ → MB G R τ X K' w n s → Q (.threw x) τ) → jX15_goes_2 G s0 l KK T lev st0 Q a (some (R 2)) (iI (i : Int)) σ := by
  obtain ⟨l', rfl⟩ := Nat.exists_eq_add_of_le' hl
  intro d
  induction d with
  | zero =>
    intro i σ K n s hi h h1 h2 h3 h4 ok er
    refine tX15_goes_2 ⟨h1, al, h2, h3, tJ2_size ⟨h3, fun _ => ⟨fun _ => ⟨al, h2, h3, tJ2_size ⟨h3, fun _ => ?_⟩⟩, fun q => ?_⟩⟩⟩
    · rw [h4, iI_sub]
      exact ok σ K rfl rfl keep.rf h (fun _ => rfl)
    · exact absurd (by rw [h4, iI_le (by omega) (by omega) (by omega) (by omega)]; omega) q
  | succ d ih =>
    intro i σ K n s hi h h1 h2 h3 h4 ok er
    refine tX15_goes_2 ⟨h1, al, h2, h3, tJ2_size ⟨h3, fun _ => ⟨fun q => ?_, fun _ => ⟨R 2, rfl, h.2.1.1.1, c_spend (c := 3) (by omega) (by omega) h (fun τ K' s1 s2 s3 s4 s5 s6 _ => ?_) (fun x τ e s1 s2 s3 s4 _ => ?_)⟩⟩⟩⟩
    · rw [h4, iI_le (by omega) (by omega) (by omega) (by omega)] at q; omega
    · have hmv : mv ((fun _ => False), (fun _ => 0), 0, 0) ((fun _ => False), (fun _ => 0), 0, 0) (fun _ _ => True) (fun _ _ => True) σ τ := mv_keep s3 h.2.1.ok
      obtain ⟨a1, a2, a3, -⟩ := hmv.ct h1 (fun q => q) rfl
      obtain ⟨b1, b2, b3, -⟩ := hmv.ct h3 (fun q => q) rfl
      rw [iI_suc]
      refine ih (i + 1) τ K' (n + 10) (s + 36) (by omega) s4 a1 (by rw [a3]; exact h2) b1 (by rw [b2]; exact h4) (fun τ' K'' u1 u2 u3 u4 u5 => ?_) (fun x τ' K'' e u1 u2 u3 u4 u5 => ?_)
      · refine ok τ' K'' (by unfold sSpendN; rw [s1]; exact u1) (by omega) (s3.t2 u3) (u4.le (by omega) (by omega)) (fun j => (u5 j).trans (s5 j))
      · exact er x τ' K'' e (by unfold sSpendN; rw [s1]; exact u1) (by omega) u3 (s3.t2 u4) (u5.le (by omega) (by omega))
    · exact er x τ K e (by unfold sSpendN; rw [s1]; rfl) (Nat.le_refl _) s2 s3 s4
theorem vmapC_drop {r : V} : ∀ (ps : V) (j : Nat), j < vlen ps → vmapC r (vdrop j ps) = vClo (vget ps j) r :: vmapC r (vdrop (j + 1) ps) := by
  intro ps
  induction ps with
  | append x xs _ ih =>
    intro j hj
    cases j with
    | zero => rfl
    | succ j => exact ih j (by simp [vlen] at hj; omega)
  | _ => intro j hj; simp [vlen] at hj
theorem vdrop_all {r : V} : ∀ (ps : V), vmapC r (vdrop (vlen ps) ps) = [] := by
  intro ps
  induction ps with
  | append x xs _ ih => exact ih
  | _ => rfl
/-- what is applied waits -/
theorem goU_2 {a x al z : Nat} {f ps r : V} {as : List V} (hl : 6 ≤ lev) (hE1 : ¬ c.E a) (hE2 : ¬ c.E al) (hE3 : ¬ c.E z) : ∀ (j : Nat) (σ : GSt) (n s : Nat), j ≤ vlen ps → MB G R σ X K w (n + 2 * j) (s + 4 * j) → gk σ a = 13 → gr σ a 2 = some x → gr σ a 3 = some al → gk σ al = 22 → gr σ al 1 = some z → gk σ z = 103 → gi σ al 2 = iI (vlen ps : Int) → vlen ps ≤ 60000 → vlen ps ≤ gl σ z → pT c σ f x 0 → pT c σ ps z 1 →
    pV c L σ r true (gr σ (R 2) 2) → pA c L σ (vmapC r (vdrop j ps) ++ as) (gr σ (R 2) 3) →
    (∀ τ, keep (isM R) σ τ → MB G R τ X K w n s → HS c L R τ f r (vmapC r ps ++ as) → Q (.returned (some (.int (iI 1)))) τ) → jX15_goes_34 G s0 l KK T lev st0 Q a (some (R 2)) (iI ((j : Int) - 1)) σ := by
  obtain ⟨l', rfl⟩ := Nat.exists_eq_add_of_le' hl
  intro j
  induction j with
  | zero =>
    intro σ n s hj h h1 h2 h3 h4 h5 h6 h7 h8 h9 h10 h11 h12 h13 ok
    refine tX15_goes_34 ⟨fun _ => ⟨h1, R 2, rfl, h.2.1.1.1, ?_⟩, fun q => ?_⟩
    · rw [h2]
      have hk : keep (isM R) σ (gpr (R 2) 1 (some x) σ) := keep.rf.pr (fun _ => Or.inl rfl)
      have hmv : mv c c L L σ (gpr (R 2) 1 (some x) σ) := mv_keep hk h.2.1.ok
      refine ok _ hk ⟨h.1, h.2.1.pr (by omega), h.2.2.1, h.2.2.2⟩ ⟨⟨x, ?_, pT_mv hmv _ _ _ h10⟩, ?_, ?_⟩
      · rw [gr_pr, if_pos ⟨rfl, rfl⟩]
      · rw [gr_pr, if_neg (by omega)]; exact pV_mv hmv _ _ _ h12
      · rw [gr_pr, if_neg (by omega)]; exact pA_mv hmv _ _ h13
    · exact absurd (by rw [iI_z, iI_lt (by omega) (by omega) (by omega) (by omega)]; omega) q
  | succ j ih =>
    intro σ n s hj h h1 h2 h3 h4 h5 h6 h7 h8 h9 h10 h11 h12 h13 ok
    have hz := h.1
    have hz1 : gz (gmk 17 2 σ) := hz.mk
    have m1 := h.2.1.1.1
    have l1 : R 2 < gn σ := hz.lt (by omega)
    have l2 : a < gn σ := hz.lt (by omega)
    have l3 : al < gn σ := hz.lt (by omega)
    have l4 : z < gn σ := hz.lt (by omega)
    have hn1 : gn (gmk 17 2 σ) = gn σ + 1 := rfl
    obtain ⟨-, b, g1, g2⟩ := pT_get (ps := ps) ps 0 h11 j (by omega)
    rw [Nat.zero_add] at g1
    have ej : ((j + 1 : Nat) : Int) - 1 = (j : Int) := by omega
    rw [ej]
    refine tX15_goes_34 ⟨fun q => ?_, fun _ => ⟨(h.2.2.2.le (n' := n + 2 * j + 1 + 1) (s' := s + 4 * j + 2 + 2) (by omega) (by omega)).gr hz, ((h.2.2.2.le (n' := n + 2 * j + 1 + 1) (s' := s + 4 * j + 2 + 2) (by omega) (by omega)).mk).gr hz1, ?_, al, ?_, ?_, c_get (z := z) (len := vlen ps) (by omega) ?_ ?_ ?_ ?_ (by omega) ?_ (by omega) (onR_ret (fun _ => ⟨?_, R 2, rfl, ?_, tX16_init ⟨gk_new (n := 2) hz1.at, fun _ => tX19_init ⟨?_, fun _ => ?_⟩⟩⟩))⟩⟩
    · rw [iI_z, iI_lt (by omega) (by omega) (by omega) (by omega)] at q; omega
    · rw [gk_old (by omega), gk_old (by omega)]; exact h1
    · rw [gr_mk (by omega), gr_mk (by omega)]; exact h3
    · rw [gk_old (by omega), gk_old (by omega)]; exact h4
    · rw [gk_old (by omega), gk_old (by omega)]; exact h4
    · rw [gr_mk (by omega), gr_mk (by omega)]; exact h5
    · rw [gk_old (by omega), gk_old (by omega)]; exact h6
    · rw [gi_mk (by omega), gi_mk (by omega)]; exact h7
    · rw [gl_mk (by omega), gl_mk (by omega)]; exact h9
    · refine Or.inr ⟨b, by rw [gr_mk (by omega), gr_mk (by omega)]; exact g1, ?_⟩
      obtain ⟨c1, c2, c3⟩ := pT_tm g2
      have l5 : b < gn σ := hz.lt (by omega)
      rw [gk_old (by omega), gk_old (by omega), c3]
      revert c2
      unfold tmC
      simp
    · rw [gk_old (by omega), gk_old (by omega)]; exact m1
    · rw [gk_pr, gk_pr, gk_old (by omega)]; exact gk_new (n := 2) hz.at
    · have hfr : ¬ isM R (gn σ) := h.2.1.fr hz (Nat.le_refl _)
      have hfr1 : ¬ isM R (gn (gmk 17 2 σ)) := h.2.1.fr hz (by omega)
      have n0 : gk σ (gn σ) = 0 := hz.at
      have n1 : gk σ (gn (gmk 17 2 σ)) = 0 := hz _ (by omega)
      have v1 : gr (gmk 14 2 (gmk 17 2 σ)) z j = some b := by rw [gr_mk (by omega), gr_mk (by omega)]; exact g1
      have v2 : gr (gmk 14 2 (gmk 17 2 σ)) (R 2) 2 = gr σ (R 2) 2 := by rw [gr_mk (by omega), gr_mk (by omega)]
      have v3 : ∀ (x1 x2 : Option Nat), gr (gpr (gn (gmk 17 2 σ)) 1 x1 (gpr (gn (gmk 17 2 σ)) 0 x2 (gmk 14 2 (gmk 17 2 σ)))) (R 2) 3 = gr σ (R 2) 3 := fun x1 x2 => by rw [gr_pr, if_neg (by omega), gr_pr, if_neg (by omega), gr_mk (by omega), gr_mk (by omega)]
      rw [v3, v1, v2]
      clear v3
      have v4 : gr (gmk 14 2 (gmk 17 2 σ)) (R 2) 2 = gr σ (R 2) 2 := v2
      generalize gr σ (R 2) 2 = xe at h12 v4
      generalize gr σ (R 2) 3 = xa at h13
      have hk2 : keep (isM R) σ (gpr (R 2) 3 (some (gn σ)) (gpr (gn σ) 1 xa (gpr (gn σ) 0 (some (gn (gmk 17 2 σ))) (gpr (gn (gmk 17 2 σ)) 1 xe (gpr (gn (gmk 17 2 σ)) 0 (some b) (gmk 14 2 (gmk 17 2 σ))))))) :=
        ((((((keep.rf.mk n0).mk n1).pr (fun q => absurd n1 q)).pr (fun q => absurd n1 q)).pr (fun q => absurd n0 q)).pr (fun q => absurd n0 q)).pr (fun _ => Or.inl rfl)
      have hmv2 : mv c c L L σ _ := mv_keep hk2 h.2.1.ok
      rw [show iI (j : Int) + iI (-1) = iI ((j : Int) - 1) by rw [iI_add]; congr 1]
      refine ih _ n s (by omega) ⟨hz1.mk, (((((((h.2.1.mk hz).mk hz1).pr' hfr1).pr' hfr1).pr' hfr).pr' hfr).pr (by omega)), h.2.2.1, ?_⟩ (hmv2.ct h1 hE1 rfl).1 ?_ ?_ (hmv2.ct h4 hE2 rfl).1 ?_ (hmv2.ct h6 hE3 rfl).1 ?_ h8 ?_ (pT_mv hmv2 _ _ _ h10) (pT_mv hmv2 _ _ _ h11) ?_ ?_ (fun τ k1 k2 k3 => ok τ (hk2.t2 k1) k2 k3)
      · exact ⟨by have := h.2.2.2.1; show gn σ + 1 + 1 + _ + _ ≤ _; omega, by have := h.2.2.2.2; show gm σ + 2 + 2 + _ + _ ≤ _; omega⟩
      · rw [(hmv2.ct h1 hE1 rfl).2.2.1]; exact h2
      · rw [(hmv2.ct h1 hE1 rfl).2.2.1]; exact h3
      · rw [(hmv2.ct h4 hE2 rfl).2.2.1]; exact h5
      · rw [(hmv2.ct h4 hE2 rfl).2.1]; exact h7
      · rw [(hmv2.ct h6 hE3 rfl).2.2.2]; exact h9
      · rw [gr_pr, if_neg (by omega), gr_pr, if_neg (by omega), gr_pr, if_neg (by omega), gr_pr, if_neg (by omega), gr_pr, if_neg (by omega), v4]
        exact pV_mv hmv2 _ _ _ h12
      · rw [vmapC_drop ps j (by omega)]
        rw [gr_pr, if_pos ⟨rfl, rfl⟩]
        refine ⟨?_, ?_, ?_⟩
        · rw [gk_pr, gk_pr, gk_pr, gk_pr, gk_pr, gk_old (by omega)]; exact gk_new (n := 2) hz.at
        · rw [gr_pr, if_neg (by omega), gr_pr, if_neg (by omega), gr_pr, if_pos ⟨rfl, rfl⟩]
          refine ⟨gk_new (n := 2) hz1.at, ⟨b, ?_, pT_mv hmv2 _ _ _ g2⟩, ?_⟩
          · rw [gr_pr, if_neg (by omega), gr_pr, if_neg (by omega), gr_pr, if_neg (by omega), gr_pr, if_neg (by omega), gr_pr, if_pos ⟨rfl, rfl⟩]
          · rw [gr_pr, if_neg (by omega), gr_pr, if_neg (by omega), gr_pr, if_neg (by omega), gr_pr, if_pos ⟨rfl, rfl⟩]
            exact pV_mv hmv2 _ _ _ h12
        · rw [gr_pr, if_neg (by omega), gr_pr, if_pos ⟨rfl, rfl⟩]
          exact pA_mv hmv2 _ _ h13
theorem go_use {a : Nat} {f ps r : V} {as : List V} (hl : 7 ≤ lev) (h : MB G R σ X K w (n + 1) (s + 8)) (hp : pT c σ (.tag 2 (.append f ps)) a 0) (hr : pV c L σ r true (gr σ (R 2) 2)) (hA : pA c L σ as (gr σ (R 2) 3))
    (ok : ∀ τ K', sSpendN X 3 (vlen ps) K = (K', .ok ()) → K'.life = K.life + vlen ps → keep (isM R) σ τ → MB G R τ X K' w (n + 1) (s + 8) → HS c L R τ f r (vmapC r ps ++ as) → Q (.returned (some (.int (iI 1)))) τ)
    (er : ∀ x τ K' e, sSpendN X 3 (vlen ps) K = (K', .error e) → K.life ≤ K'.life → flt τ x e (-1) → keep (isM R) σ τ → MB G R τ X K' w n s → Q (.threw x) τ) : CQ (wP G s0 l KK T) mX15_goes lev (.ref a :: [va_rf (some (R 2))]) σ Q := by
  obtain ⟨l', rfl⟩ := Nat.exists_eq_add_of_le' hl
  obtain ⟨p1, pE, x, al, z, p2, p3, p4, pE2, p5, p6, pE3, p7, p8, p9, p10, p11⟩ := hp
  refine tX15_goes (goU_1 (len := vlen ps) (al := al) (by omega) p8 (vlen ps) 0 σ K n s (by omega) h p1 p3 p4 p7 (fun τ K' u1 u2 u3 u4 u5 => ?_) er)
  have hmv : mv c c L L σ τ := mv_keep u3 h.2.1.ok
  obtain ⟨a1, a2, a3, -⟩ := hmv.ct p1 pE rfl
  obtain ⟨b1, b2, b3, -⟩ := hmv.ct p4 pE2 rfl
  obtain ⟨c1, c2, c3, c4⟩ := hmv.ct p6 pE3 rfl
  refine goU_2 (x := x) (al := al) (z := z) (c := c) (L := L) (f := f) (ps := ps) (r := r) (as := as) (by omega) pE pE2 pE3 (vlen ps) τ (n + 1) (s + 8) (Nat.le_refl _) (u4.le (by omega) (by omega)) a1 (by rw [a3]; exact p2) (by rw [a3]; exact p3) b1 (by rw [b3]; exact p5) c1 (by rw [b2]; exact p7) p8 (by rw [c4]; exact p9) (pT_mv hmv _ _ _ p10) (pT_mv hmv _ _ _ p11) (by rw [u5]; exact pV_mv hmv _ _ _ hr) ?_ (fun τ' k1 k2 k3 => ok τ' K' u1 u2 (u3.t2 k1) k2 k3)
  rw [vdrop_all, u5]
  exact pA_mv hmv _ _ hA
end PU
