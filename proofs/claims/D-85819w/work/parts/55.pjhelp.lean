/-! P OVER S (24): judging: its helpers -/
section PJH
variable {G : GPl} {s0 : State} {l : Launch} {KK : Nat → Option Nat} {T : Nat → Nat} {lev d : Nat} {Q : Outcome → GSt → Prop} {R : Nat → Nat} {σ τ υ st0 : GSt} {X : SX} {J : JX} {K K' : KS} {w n s o z : Nat} {c c' : PC} {L L' : Nat → Nat → Prop} {W I I' I1 I2 : Nat → Prop} {sc : SC} {gg : List Bool} {TN : Nat → List Nat} {x : Option Nat}
theorem JB.lt (h : JB R c L σ X J sc x) (hz : gz σ) : ∀ a, c.E a → a < gn σ := fun a q => hz.lt (tmt_ne (h.2.2.2.2.2 a q)).1
theorem jfr.is (hk : keep (fun a => a = R 3) σ τ) (hg : ∀ j, j < 3 → gr τ (R 3) j = gr σ (R 3) j) (hl : gle σ τ) : jfr R I σ τ := ⟨hk.wk (fun _ z => Or.inr (Or.inl z)), hg, hl⟩
theorem c_isSort {v : Nat} (hl : 4 ≤ lev) (h : JB R c L σ X J sc x) (hv : v < c.ns) (hm : MB G R σ X K w (n + 1) (s + 5))
    (ok : ∀ τ, jfr R nil0 σ τ → MB G R τ X K w n s → JF c L R τ (.tag v (.align true)) .nil (J.ax v) → Q (.returned none) τ) : CQ (wP G s0 l KK T) mX4_isSort lev (.ref (R 3) :: [.int (iI (v : Int))]) σ Q := by
  obtain ⟨l', rfl⟩ := Nat.exists_eq_add_of_le' hl
  refine tX4_isSort ⟨h.1.1.1, c_sortT (J := J) (by omega) (h.lt hm.1) h.1 h.2.1 hv hm (fun t2 q k2 b2 p2 l2 => ?_)⟩
  have j2 : jfr R nil0 σ t2 := jfr.N k2 l2 h.1
  have h2 : JB R c L t2 X J sc x := h.mv hm.2.1 j2 (fun _ z => z.elim) (fun _ z => z) rfl
  refine ⟨R 1, h2.1.1.2.1, h2.2.1.2.1, c_axiom (J := J) (X := X) (by omega) h2.1 h2.2.1 (by omega : -1 ≤ (v : Int) ∧ (v : Int) < c.ns) ?_⟩
  rw [if_neg (by omega), Int.toNat_natCast]
  intro l6
  refine c_is (c := c) (L := L) (so := J.ax v) (r := .nil) (by omega) h2.1.1.1 (h2.1.nM b2.2.1) p2 trivial b2 (fun τ k b f g l8 => ok τ (j2.t2 (jfr.is k g l8)) b f)
theorem c_jnormal {a : Nat} {u : V} (hl : 213 ≤ lev) (h : JB R c L σ X J sc x) (hp : pT c σ u a 0) (hg : gT u false (List.replicate sc.length true)) (hs : gSc c.ns z sc) (hd : sc.length ≤ 900) (hm : MB G R σ X K 0 (n + 2) (s + 10))
    (ok : ∀ τ K' t y, jNormal X u sc K = (K', .ok t) → K.life ≤ K'.life → jfr R nil0 σ τ → MB G R τ X K' 0 (n + 3) (s + 24) → pT c τ t y 0 → gT t false (lsh (scEnv sc)) → Q (.returned (some (va_rf (some y)))) τ)
    (er : ∀ x τ K' e p w', jNormal X u sc K = (K', .error (e, p)) → K.life ≤ K'.life → flt τ x e p → jfr R nil0 σ τ → MB G R τ X K' w' n s → Q (.threw x) τ) : CQ (wP G s0 l KK T) mX4_normal lev (.ref (R 3) :: [va_rf (some a), va_rf x]) σ Q := by
  obtain ⟨l', rfl⟩ : ∃ l', lev = l' + 1 := ⟨lev - 1, by omega⟩
  have hz := hm.1
  have n0 : gk σ (gn σ) = 0 := hz.at
  have k1 : keep nil0 σ (gmk 14 2 σ) := keep.rf.mk n0
  have hs1 : pSc c L (gmk 14 2 σ) sc x := pSc_mv k1.mv k1 (fun _ _ q => q) _ _ h.2.2.2.1
  have ey : scY (gmk 14 2 σ) x = scY σ x := scY_keep h.2.2.2.1 k1 (fun _ _ q => q)
  have hy := pSc_env h.2.2.2.1
  refine tX4_normal ⟨h.1.1.1, (hm.2.2.2.le (n' := n + 1 + 1) (s' := s + 8 + 2) (by omega) (by omega)).gr hz, c_of (by omega) hs1 (onR_ret (fun _ => ?_))⟩
  rw [ey]
  refine c_clo (by omega) hz (fun t6 k6 z6 g6 m6 c1 c2 c3 l6 => ?_)
  have hs6 : pSc c L t6 sc x := pSc_mv k6.mv k6 (fun _ _ q => q) _ _ h.2.2.2.1
  have ey6 : scY t6 x = scY σ x := scY_keep h.2.2.2.1 k6 (fun _ _ q => q)
  have hy6 : pV c L t6 (scEnv sc) true (scY σ x) := pV_mv k6.mv _ _ _ hy
  have l06 : gle σ t6 := ⟨⟨by omega, by omega⟩, fun q hq => (k6 q hq id).1⟩
  have j6 : jfr R nil0 σ t6 := jfr.N k6 l06 h.1
  have h6 : JB R c L t6 X J sc x := h.mv hm.2.1 j6 (fun _ z => z.elim) (fun _ z => z) rfl
  have b6 : MB G R t6 X K 0 (n + 1) (s + 8) := (hm.le (n' := n + 1 + 1) (s' := s + 8 + 2) (by omega) (by omega)).new k6 z6 g6 m6
  refine c_of (by omega) hs6 (onR_ret (fun _ => ?_))
  rw [ey6]
  refine c_depth (by omega) hy6 (fun _ => ⟨R 2, h.1.1.2.2.1, b6.2.1.1.1, ?_⟩)
  rw [scEnv_len]
  have hv6 : pV c L t6 (vClo u (scEnv sc)) false (some (gn σ)) := pV_pH c1 ⟨⟨a, c2, pT_mv (k6.mv (L := L)) _ _ _ hp⟩, by rw [c3]; exact hy6⟩
  have sz : swv (vClo u (scEnv sc)) = 0 := sw_false _ _ hg
  refine c_norm (G := G) (s0 := s0) (l := l) (KK := KK) (T := T) (R := R) (X := X) 100 0 l' rfl (by omega) c (vClo u (scEnv sc)) (gn σ) sc.length (lsh (scEnv sc)) K t6 n s L _ (h6.lt z6) h6.2.2.2.2.1.1 hv6 (Or.inr ⟨u, scEnv sc, rfl, gT_up _ _ _ (by rw [scEnv_shp sc hs]; exact hg), scEnv_gV sc hs⟩) h6.2.2.1 (by omega) (by rw [sz]; exact b6) (fun τ K' t y e1 e2 e3 e4 e5 e6 e7 => ?_) (fun y τ K' e w' e1 e2 e3 e4 e5 e6 => ?_)
  · exact ok τ K' t y (by unfold jNormal; rw [e1]; rfl) (by omega) (j6.t2 (jfr.M e3 e7 h6.1 b6.2.1)) e4 e5 e6
  · exact er y τ K' e (-1) w' (by unfold jNormal; rw [e1]; rfl) e2 e3 (j6.t2 (jfr.M e4 e6 h6.1 b6.2.1)) e5
/-- a binder is around -/
theorem c_with {ty so : Nat} {t : V} (hl : 3 ≤ lev) (h : JB R c L σ X J sc x) (hp : pT c σ t ty 0) (hm : MB G R σ X K w (n + 4) (s + 14))
    (ok : ∀ τ, jfr R nil0 σ τ → MB G R τ X K w n s → JB R c (fun i q => L i q ∨ (i = sc.length ∧ q = gn σ + 2)) τ X J (jWith t so sc) (some (gn σ)) → Q (.returned (some (va_rf (some (gn σ))))) τ) : CQ (wP G s0 l KK T) mX4_with lev (.ref (R 3) :: [va_rf (some ty), .int (iI (so : Int)), va_rf x]) σ Q := by
  obtain ⟨l', rfl⟩ : ∃ l', lev = l' + 3 := ⟨lev - 3, by omega⟩
  have hz := hm.1
  have hz1 : gz (gmk 15 5 σ) := hz.mk
  have hz2 : gz (gmk 14 2 (gmk 15 5 σ)) := hz1.mk
  have n0 : gk σ (gn σ) = 0 := hz.at
  have n1 : gk σ (gn σ + 1) = 0 := hz _ (by omega)
  have n2 : gk σ (gn σ + 2) = 0 := hz _ (by omega)
  have k3 : keep nil0 σ (gmk 18 4 (gmk 14 2 (gmk 15 5 σ))) := ((keep.rf.mk n0).mk n1).mk n2
  have r1 := hm.le (n' := n + 3 + 1) (s' := s + 9 + 5) (by omega) (by omega)
  have r2 : MB G R (gmk 15 5 σ) X K w (n + 2 + 1) (s + 7 + 2) := r1.mk
  have r3 : MB G R (gmk 14 2 (gmk 15 5 σ)) X K w (n + 1 + 1) (s + 3 + 4) := r2.mk
  have r4 : MB G R (gmk 18 4 (gmk 14 2 (gmk 15 5 σ))) X K w (n + 1) (s + 3) := r3.mk
  have t18 : gk (gmk 18 4 (gmk 14 2 (gmk 15 5 σ))) (gn σ + 2) = 18 := gk_new (n := 4) (σ := gmk 14 2 (gmk 15 5 σ)) hz2.at
  have t14 : gk (gmk 18 4 (gmk 14 2 (gmk 15 5 σ))) (gn σ + 1) = 14 := by
    rw [gk_old (by show gn σ + 1 ≠ gn σ + 1 + 1; omega)]; exact gk_new (n := 2) (σ := gmk 15 5 σ) hz1.at
  have t15 : gk (gmk 18 4 (gmk 14 2 (gmk 15 5 σ))) (gn σ) = 15 := by
    rw [gk_old (by show gn σ ≠ gn σ + 1 + 1; omega), gk_old (by show gn σ ≠ gn σ + 1; omega)]; exact gk_new (n := 5) (σ := σ) hz.at
  have g3 : gn (gmk 18 4 (gmk 14 2 (gmk 15 5 σ))) = gn σ + 3 := rfl
  have m3 : gm (gmk 18 4 (gmk 14 2 (gmk 15 5 σ))) = gm σ + 11 := rfl
  have ea : gn (gmk 14 2 (gmk 15 5 σ)) = gn σ + 2 := rfl
  have eb : gn (gmk 15 5 σ) = gn σ + 1 := rfl
  refine tX4_with ⟨r1.2.2.2.gr hz, r2.2.2.2.gr hz1, r3.2.2.2.gr hz2, ?_⟩
  rw [ea, eb]
  generalize gmk 18 4 (gmk 14 2 (gmk 15 5 σ)) = t3 at *
  have nn : ∀ q, gk t3 q = 14 ∨ gk t3 q = 18 → ¬ isM R q := fun q hq z => by
    obtain ⟨⟨m1, m2, m3⟩, -⟩ := r4.2.1
    rcases z with rfl | rfl | rfl <;> omega
  have hs3 : pSc c L t3 sc x := pSc_mv k3.mv k3 (fun _ _ q => q) _ _ h.2.2.2.1
  have ey3 : scY t3 x = scY σ x := scY_keep h.2.2.2.1 k3 (fun _ _ q => q)
  have hy := pSc_env h.2.2.2.1
  refine c_of (by omega) hs3 (onR_ret (fun _ => ?_))
  rw [ey3]
  refine c_depth (by omega) (pV_mv k3.mv _ _ _ hy) (fun _ => ?_)
  rw [scEnv_len]
  refine tX20_init (tX9_init ⟨⟨17, by decide, t18⟩, fun _ => ⟨t18, fun _ => tX16_init ⟨t14, fun _ => ?_⟩⟩⟩)
  have k5 : keep nil0 σ (gpr (gn σ + 1) 1 none (gpr (gn σ + 1) 0 (some (gn σ + 2)) (gpi (gn σ + 2) 3 (iI (sc.length : Int)) (gpi (gn σ + 2) 2 (iI (-1)) (gpi (gn σ + 2) 1 (iI (-1)) (gpi (gn σ + 2) 0 (iI (-1)) t3)))))) :=
    (((((k3.pi (fun q => absurd n2 q)).pi (fun q => absurd n2 q)).pi (fun q => absurd n2 q)).pi (fun q => absurd n2 q)).pr (fun q => absurd n1 q)).pr (fun q => absurd n1 q)
  have b5 : MB G R (gpr (gn σ + 1) 1 none (gpr (gn σ + 1) 0 (some (gn σ + 2)) (gpi (gn σ + 2) 3 (iI (sc.length : Int)) (gpi (gn σ + 2) 2 (iI (-1)) (gpi (gn σ + 2) 1 (iI (-1)) (gpi (gn σ + 2) 0 (iI (-1)) t3)))))) X K w (n + 1) (s + 3) :=
    (((((r4.pi' (nn _ (Or.inr t18))).pi' (nn _ (Or.inr t18))).pi' (nn _ (Or.inr t18))).pi' (nn _ (Or.inr t18))).pr' (nn _ (Or.inl t14))).pr' (nn _ (Or.inl t14))
  have c1 : gr (gpr (gn σ + 1) 1 none (gpr (gn σ + 1) 0 (some (gn σ + 2)) (gpi (gn σ + 2) 3 (iI (sc.length : Int)) (gpi (gn σ + 2) 2 (iI (-1)) (gpi (gn σ + 2) 1 (iI (-1)) (gpi (gn σ + 2) 0 (iI (-1)) t3)))))) (gn σ + 1) 0 = some (gn σ + 2) := by
    rw [gr_pr, if_neg (by omega), gr_pr, if_pos ⟨rfl, rfl⟩]
  have c2 : gi (gpr (gn σ + 1) 1 none (gpr (gn σ + 1) 0 (some (gn σ + 2)) (gpi (gn σ + 2) 3 (iI (sc.length : Int)) (gpi (gn σ + 2) 2 (iI (-1)) (gpi (gn σ + 2) 1 (iI (-1)) (gpi (gn σ + 2) 0 (iI (-1)) t3)))))) (gn σ + 2) 3 = iI (sc.length : Int) := by
    rw [gi_pr, gi_pr, gi_pi, if_pos ⟨rfl, rfl⟩]
  have c3 : gk (gpr (gn σ + 1) 1 none (gpr (gn σ + 1) 0 (some (gn σ + 2)) (gpi (gn σ + 2) 3 (iI (sc.length : Int)) (gpi (gn σ + 2) 2 (iI (-1)) (gpi (gn σ + 2) 1 (iI (-1)) (gpi (gn σ + 2) 0 (iI (-1)) t3)))))) (gn σ + 2) = 18 := t18
  have c4 : gk (gpr (gn σ + 1) 1 none (gpr (gn σ + 1) 0 (some (gn σ + 2)) (gpi (gn σ + 2) 3 (iI (sc.length : Int)) (gpi (gn σ + 2) 2 (iI (-1)) (gpi (gn σ + 2) 1 (iI (-1)) (gpi (gn σ + 2) 0 (iI (-1)) t3)))))) (gn σ + 1) = 14 := t14
  have c5 : gk (gpr (gn σ + 1) 1 none (gpr (gn σ + 1) 0 (some (gn σ + 2)) (gpi (gn σ + 2) 3 (iI (sc.length : Int)) (gpi (gn σ + 2) 2 (iI (-1)) (gpi (gn σ + 2) 1 (iI (-1)) (gpi (gn σ + 2) 0 (iI (-1)) t3)))))) (gn σ) = 15 := t15
  have g5 : gn (gpr (gn σ + 1) 1 none (gpr (gn σ + 1) 0 (some (gn σ + 2)) (gpi (gn σ + 2) 3 (iI (sc.length : Int)) (gpi (gn σ + 2) 2 (iI (-1)) (gpi (gn σ + 2) 1 (iI (-1)) (gpi (gn σ + 2) 0 (iI (-1)) t3)))))) = gn σ + 3 := g3
  have m5 : gm (gpr (gn σ + 1) 1 none (gpr (gn σ + 1) 0 (some (gn σ + 2)) (gpi (gn σ + 2) 3 (iI (sc.length : Int)) (gpi (gn σ + 2) 2 (iI (-1)) (gpi (gn σ + 2) 1 (iI (-1)) (gpi (gn σ + 2) 0 (iI (-1)) t3)))))) = gm σ + 11 := m3
  generalize gpr (gn σ + 1) 1 none (gpr (gn σ + 1) 0 (some (gn σ + 2)) (gpi (gn σ + 2) 3 (iI (sc.length : Int)) (gpi (gn σ + 2) 2 (iI (-1)) (gpi (gn σ + 2) 1 (iI (-1)) (gpi (gn σ + 2) 0 (iI (-1)) t3))))) = t5 at *
  have hs5 : pSc c L t5 sc x := pSc_mv k5.mv k5 (fun _ _ q => q) _ _ h.2.2.2.1
  have ey5 : scY t5 x = scY σ x := scY_keep h.2.2.2.1 k5 (fun _ _ q => q)
  refine c_of (by omega) hs5 (onR_ret (fun _ => ?_))
  rw [ey5]
  have hLL : ∀ i q, gk σ q = 18 → L i q → (L i q ∨ (i = sc.length ∧ q = gn σ + 2)) := fun _ _ _ q => Or.inl q
  have mvL : ∀ {τ : GSt}, keep nil0 σ τ → mv c c L (fun i q => L i q ∨ (i = sc.length ∧ q = gn σ + 2)) σ τ := fun hk => mv_L hk.mv
  have l05 : gle σ t5 := ⟨⟨by omega, by omega⟩, fun q hq => (k5 q hq id).1⟩
  refine c_scope (σ0 := σ) (c := c) (L := fun i q => L i q ∨ (i = sc.length ∧ q = gn σ + 2)) (sc := sc) (v := vLoc sc.length) (t := t) (r := scEnv sc) (so := (so : Int)) (n := n) (s := s) (by omega) c5 (by rw [pV_loc]; exact ⟨c4, gn σ + 2, c1, c3, Or.inr ⟨rfl, rfl⟩⟩) (pT_mv (mvL k5) _ _ _ hp) (pV_mv (mvL k5) _ _ _ hy) (pSc_mv (mvL keep.rf) keep.rf (fun _ _ q => q) _ _ h.2.2.2.1) n0 k5 (fun z => ?_) b5 (fun τ kq bq sq gq lq => ?_)
  · obtain ⟨⟨m1, m2, m3⟩, -⟩ := b5.2.1
    rcases z with z | z | z <;> rw [z] at c5 <;> omega
  · have kf : keep nil0 σ τ := k5.tr (kq : keep (fun a => a = gn σ) t5 τ) (fun a ha z => by subst z; exact ha n0)
    have lf : gle σ τ := l05.tr lq
    have jf : jfr R nil0 σ τ := jfr.N kf lf h.1
    have hf : JB R c L τ X J sc x := h.mv hm.2.1 jf (fun _ z => z.elim) (fun _ z => z) rfl
    refine ok τ jf bq ⟨hf.1, hf.2.1, hf.2.2.1, sq, ⟨?_, ?_, ?_⟩, hf.2.2.2.2.2⟩
    · rintro i q (h1 | ⟨rfl, rfl⟩)
      · obtain ⟨⟨h1, h2⟩, h3, h4⟩ := hf.2.2.2.2.1.1 i q h1
        refine ⟨⟨by show i < sc.length + 1; omega, ?_⟩, h3, h4⟩
        have e9 : (jWith t so sc).length - 1 - i = (sc.length - 1 - i) + 1 := by show sc.length + 1 - 1 - i = _; omega
        rw [e9]; exact h2
      · refine ⟨⟨Nat.lt_succ_self _, ?_⟩, (lq.2 _ (by rw [c3]; decide)).trans c3, ?_⟩
        · have e9 : (jWith t so sc).length - 1 - sc.length = 0 := by show sc.length + 1 - 1 - sc.length = _; omega
          rw [e9]; rfl
        · rw [(kq (gn σ + 2) (by rw [c3]; decide) (by show ¬ (gn σ + 2 = gn σ); omega)).2.1]; exact c2
    · rintro i q q' (h1 | ⟨rfl, rfl⟩) (h2 | ⟨e, rfl⟩)
      · exact h.2.2.2.2.1.2.1 i q q' h1 h2
      · have := (h.2.2.2.2.1.1 i q h1).1.1; omega
      · have := (h.2.2.2.2.1.1 _ q' h2).1.1; omega
      · rfl
    · rintro i j q (h1 | ⟨rfl, rfl⟩) (h2 | ⟨rfl, e⟩)
      · exact h.2.2.2.2.1.2.2 i j q h1 h2
      · have := (h.2.2.2.2.1.1 i q h1).2.1; rw [e, n2] at this; omega
      · have := (h.2.2.2.2.1.1 j _ h2).2.1; rw [n2] at this; omega
      · rfl
/-- the type found latest, as it would stand further in -/
theorem c_lifted {t r : V} {so : Int} {d : Nat} (hl : 3 ≤ lev) (hE : ∀ a, c.E a → a < gn σ) (hj : gk σ (R 3) = 4) (hf : JF c L R σ t r so) (hd : vlen r ≤ d) (hd2 : d < 1000000) (hm : MB G R σ X K w (n + 1) (s + 4))
    (ok : ∀ τ q, keep nil0 σ τ → MB G R τ X K w n s → pT c τ (jLifted t r d) q 0 → Q (.returned (some (va_rf (some q)))) τ) : CQ (wP G s0 l KK T) mX4_lifted lev (.ref (R 3) :: [.int (iI (d : Int))]) σ Q := by
  obtain ⟨l', rfl⟩ := Nat.exists_eq_add_of_le' hl
  have hz := hm.1
  have n0 : gk σ (gn σ) = 0 := hz.at
  obtain ⟨⟨ty, f1, f2⟩, f3, f4⟩ := hf
  have e1 : iI (d : Int) - iI (vlen r : Int) = iI ((d - vlen r : Nat) : Int) := by rw [iI_sub]; congr 1; omega
  refine tX4_lifted ⟨hj, c_depth (by omega) f3 (fun _ => ?_)⟩
  rw [e1]
  refine ⟨fun e => ?_, fun e => ⟨hm.2.2.2.gr hz, ?_⟩⟩
  · rw [iI_z, iI_eq (by omega) (by omega) (by omega) (by omega)] at e
    rw [f1]
    exact ok σ ty keep.rf (hm.le (by omega) (by omega)) (by unfold jLifted; rw [if_pos (by omega)]; exact f2)
  · rw [iI_z, iI_eq (by omega) (by omega) (by omega) (by omega)] at e
    have t19 : gk (gmk 19 4 σ) (gn σ) = 19 := gk_new (n := 4) n0
    have e3 : R 3 ≠ gn σ := hz.ne (by omega)
    rw [gr_mk e3, f1]
    refine tX21_init (tX9_init ⟨⟨18, by decide, t19⟩, fun _ => ⟨t19, fun _ => ?_⟩⟩)
    have hk : keep nil0 σ (gpi (gn σ) 3 (iI ((d - vlen r : Nat) : Int)) (gpr (gn σ) 2 (some ty) (gpi (gn σ) 1 (iI (-1)) (gpi (gn σ) 0 (iI (-1)) (gmk 19 4 σ))))) := ((((keep.rf.mk n0).pi (fun q => absurd n0 q)).pi (fun q => absurd n0 q)).pr (fun q => absurd n0 q)).pi (fun q => absurd n0 q)
    refine ok _ (gn σ) hk (hm.new hk (gz.mk hz) rfl rfl) ?_
    unfold jLifted
    rw [if_neg (by omega)]
    refine ⟨by omega, t19, fun q => (by have := hE _ q; omega), ?_, ty, ?_, pT_mv (hk.mv (L := L)) _ _ _ f2⟩
    · rw [gi_pi, if_pos ⟨rfl, rfl⟩]
    · rw [gr_pi, gr_pr, if_pos ⟨rfl, rfl⟩]
end PJH
