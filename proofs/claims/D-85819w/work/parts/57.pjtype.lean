/-! P OVER S (26): judging: a type's sort -/
theorem jSortOf_some {t r : V} {v : Nat} (h : (sUnw t r).1 = .tag v (.align true)) : jSortOf t r = some v := by
  unfold jSortOf
  generalize sUnw t r = p at h
  obtain ⟨p1, p2⟩ := p
  cases h
  rfl
theorem jSortOf_none {t r : V} (h : ∀ v, (sUnw t r).1 ≠ .tag v (.align true)) : jSortOf t r = none := by
  unfold jSortOf
  generalize sUnw t r = p at h
  obtain ⟨p1, p2⟩ := p
  split
  · rename_i v r' q; cases q; exact absurd rfl (h v)
  · rfl
theorem lsh_len : ∀ (r : V), (lsh r).length = vlen r := by
  intro r
  induction r with
  | append v r _ ih =>
    by_cases h : ∃ i, v = vLoc i
    · obtain ⟨i, rfl⟩ := h; rw [lsh_loc]; show (lsh r).length + 1 = vlen r + 1; rw [ih]
    · rw [lsh_oth (fun i q => h ⟨i, q⟩)]; show (lsh r).length + 1 = vlen r + 1; rw [ih]
  | _ => rfl
theorem gT_lifted {env ct cr : V} {m : Nat} (h : cr = vdrop m env) (hg : gT ct true (lsh cr)) : gT (jLifted ct cr (vlen env)) true (lsh env) := by
  have e1 : vlen cr = vlen env - m := by rw [h, vlen_drop]
  have e2 : lsh cr = (lsh env).drop m := by rw [h, lsh_drop]
  unfold jLifted
  split
  · rename_i hk
    rw [e2] at hg
    by_cases hm : m = 0
    · subst hm; exact hg
    · have : vlen env = 0 := by omega
      have e3 : lsh env = [] := List.eq_nil_of_length_eq_zero ((lsh_len env).trans this)
      rw [e3] at hg ⊢
      simpa using hg
  · rename_i hk
    refine ⟨rfl, by rw [lsh_len]; omega, ?_⟩
    rw [e2] at hg
    by_cases hm : m ≤ vlen env
    · have : vlen env - vlen cr = m := by omega
      rw [this]; exact hg
    · have e4 : vlen env - vlen cr = vlen env := by omega
      rw [List.drop_of_length_le (by rw [lsh_len]; omega)] at hg
      rw [e4, List.drop_of_length_le (by rw [lsh_len]; omega)]
      exact hg
theorem sw_lifted {ct cr : V} {d : Nat} : sw (jLifted ct cr d) = sw ct := by
  unfold jLifted
  split <;> rfl
section PJTY
variable {G : GPl} {s0 : State} {l : Launch} {KK : Nat → Option Nat} {T : Nat → Nat} {lev d : Nat} {Q : Outcome → GSt → Prop} {R : Nat → Nat} {σ τ υ st0 : GSt} {X : SX} {J : JX} {K K' : KS} {w n s o z m Z Yc Ys : Nat} {c c' : PC} {L L' : Nat → Nat → Prop} {W I I' I1 I2 : Nat → Prop} {sc : SC} {gg : List Bool} {TN : Nat → List Nat} {x : Option Nat}
theorem jbn (h : JB R c L σ X J sc x) (hm : MS G R σ X K w) (hj : jfr R I σ τ) (hI : ∀ q, I q → c.E q) (hE : ∀ q, gk σ q ≠ 0 → c'.E q → c.E q) (h2 : c'.2 = c.2) : mv c c' L L σ τ := mv_keepE hj.1 (h.wok hm hI) (fun a ha hn hc => hn (hE a (tmt_ne ha).1 hc)) h2
theorem jb2 (h : JB R c L σ X J sc x) (hm : MS G R σ X K w) (hj : jfr R I σ τ) (hI : ∀ q, I q → c.E q) (hE : ∀ q, gk σ q ≠ 0 → c'.E q → c.E q) (hT : ∀ q, gk σ q = 0 → c'.E q → tmt (gk τ q) = true) (h2 : c'.2 = c.2) : JB R c' L τ X J sc x := by
  have hv := jbn h hm hj hI hE h2
  refine ⟨h.1.mvc h.2.1.2.1 hm hj (fun q z => ⟨hI q z, h.2.2.2.2.2 q (hI q z)⟩) hv h2, h.2.1.mvc hv hj.1 (h.wS hm hI) h2, pX_mvE hv h2 h.2.2.1, pSc_mv hv hj.1 (h.nS hm hI) _ _ h.2.2.2.1, h.2.2.2.2.1.mv hv, fun q z => ?_⟩
  by_cases h0 : gk σ q = 0
  · exact hT q h0 z
  · have h3 := h.2.2.2.2.2 q (hE q h0 z)
    rw [hj.2.2.2 q h0]
    exact h3
theorem pT_12 {t : V} {a : Nat} (h : pT c σ t a 0) (ha : gk σ a = 12) : (∃ k, t = .tag k .nil ∧ gr σ a 3 = some (c.N k)) ∨ (∃ v, t = .tag v (.align true) ∧ v < c.ns ∧ gr σ a 3 = none ∧ gi σ a 4 = iI (v : Int)) := by
  unfold pT at h
  split at h
  · omega
  · exact Or.inl ⟨_, rfl, h.2.2.2.1⟩
  · exact Or.inr ⟨_, rfl, h.1, h.2.2.2.1, h.2.2.2.2⟩
  · omega
  · omega
  · omega
  · omega
  · omega
  · omega
  · omega
  · omega
  · exact h.elim
theorem pT_n12 {t : V} {a : Nat} (h : pT c σ t a 0) (ha : gk σ a ≠ 12) : ∀ v, t ≠ .tag v (.align true) := by
  rintro v rfl
  exact ha h.2.1
theorem gle.mk {t k : Nat} (hz : gz σ) : gle σ (gmk t k σ) := ⟨⟨Nat.le_succ _, Nat.le_add_right _ _⟩, fun q hq => gk_old (hz.ne hq)⟩
theorem c_jtype {t : V} {a : Nat} (ih : ∀ lev, 3 * n + 330 ≤ lev → CJ G s0 l KK T R X J TN Z Yc Ys lev n) (hl : 3 * n + 331 ≤ lev) (hJN : JN c X J TN) (hr : rT R TN σ t a 0 I) (hg : rG t 0 sc.length n) (hI : ∀ q, I q → c.E q) (h : JB R c L σ X J sc x) (hs : gSc c.ns z sc) (hz : ∀ k, k < c.nc → sw (J.ct k) ≤ z) (hZ : z + rB t ≤ Z) (hd : sc.length + n ≤ 300) (hm : MB G R σ X K 0 (m + rN t * Yc + Z + 2) (s + rN t * Ys + 3 * Z + 10))
    (ok : ∀ τ K' u so, jTypeSort (jFrom t) (sJudge X J n t sc K) = (K', .ok (u, so)) → so < c.ns → K.life ≤ K'.life → jfr R I σ τ → MB G R τ X K' 0 m s → pT (cut c I) τ u a 0 → gT u false (List.replicate sc.length true) → Q (.returned (some (.int (iI (so : Int))))) τ)
    (er : ∀ y τ K' e p w', jTypeSort (jFrom t) (sJudge X J n t sc K) = (K', .error (e, p)) → K.life ≤ K'.life → flt τ y e p → jfr R I σ τ → MB G R τ X K' w' m s → Q (.threw y) τ) : CQ (wP G s0 l KK T) mX4_typeSort lev (.ref (R 3) :: [va_rf (some a), va_rf x]) σ Q := by
  obtain ⟨l', rfl⟩ : ∃ l', lev = l' + 1 := ⟨lev - 1, by omega⟩
  refine tX4_typeSort ⟨h.1.1.1, ih l' (by omega) c t a I sc x K σ (m + Z + 2) (s + 3 * Z + 10) z L _ hJN hr hg hI h hs hz hZ hd (hm.le (by omega) (by omega)) (fun t2 K2 u ty r so e1 e2 j2 b2 p2 g2 f2 y2 i2 l2 => ?_) (fun y τ K' e p w' e1 e2 e3 e4 e5 l => er y τ K' e p w' (by unfold jTypeSort; rw [e1]; rfl) e2 e3 e4 (e5.le (by omega) (by omega)))⟩
  have B2 : JB R (cut c I) L t2 X J sc x := h.mv hm.2.1 j2 hI (fun q z => z.1) rfl
  obtain ⟨⟨tya, f21, f22⟩, f23, f24⟩ := f2
  have hsw : sw ty ≤ Z := Nat.le_trans y2.2.2.2.2.2 hZ
  refine c_found (c := cut c I) (L := L) (n := m + 1) (s := s + 8) (by omega) B2.1.1.1 f21 f22 f23 y2.sh y2.2.2.1 (b2.le (by omega) (by omega)) (fun t4 q k4 b4 v4 g4 v4' l4 => ?_)
  obtain ⟨h14, hH⟩ := pH_pV v4
  obtain ⟨⟨a8, a81, a82⟩, -⟩ := hH
  have j4 : jfr R I σ t4 := j2.t2 (jfr.N k4 l4 B2.1)
  have B4 : JB R (cut c I) L t4 X J sc x := h.mv hm.2.1 j4 hI (fun q z => z.1) rfl
  have tma : isTmA t4 a := (pT_tm p2).le l4
  have bad : jSortOf ty r = none → jX4_typeSort_36 G s0 l KK T l' σ Q (R 3) (some a) x (gr t4 q 0) t4 := fun hno => by
    have b4' : MB G R t4 X K2 0 (m + 1) (s + 8) := b4.le (by omega) (by omega)
    refine tX4_typeSort_36 ⟨b4'.2.2.2.gr b4.1, a, rfl, tma.le (gle.mk b4.1), ?_⟩
    have ha : gk t2 a ≠ 0 := by obtain ⟨k, h1, h2⟩ := pT_tm p2; omega
    have ha4 : gk t4 a ≠ 0 := by rw [l4.2 a ha]; exact ha
    rw [gi_mk (b4.1.ne ha4), (k4 a ha id).2.1, i2]
    refine c_flt (e := 8) (p := jFrom t) (by omega) b4.1 (fun τ t1 t2 t3 t4' t5 l => ?_)
    have lf : gle t4 τ := ⟨⟨by omega, by omega⟩, fun q hq => (t1 q hq id).1⟩
    refine er _ τ K2 8 (jFrom t) 0 ?_ e2 t5 (j4.t2 (jfr.N t1 lf B4.1)) (b4'.new t1 t2 t3 t4')
    unfold jTypeSort
    rw [e1]
    show (match jSortOf ty r with | some s => _ | none => _) = _
    rw [hno]
  refine ⟨q, rfl, h14, a8, a81, pT_tm a82, fun i12 => ?_, fun n12 => bad (jSortOf_none (pT_n12 a82 (fun z => n12 ⟨a8, a81, z⟩)))⟩
  have t12 : gk t4 a8 = 12 := i12.tag a81
  rcases pT_12 a82 t12 with ⟨k, ek, e3⟩ | ⟨v, ev, hv, e3, e4⟩
  · exact ⟨fun z => (by rw [e3] at z; cases z), fun a12 _ => bad (jSortOf_none (fun v z => by rw [ek] at z; cases z))⟩
  · refine ⟨fun _ => ?_, fun a12 z => (by rw [e3] at z; cases z)⟩
    rw [e4]
    refine ok t4 K2 u v ?_ hv e2 j4 (b4.le (by omega) (by omega)) (pT_mv (k4.mv (L := L)) _ _ _ p2) g2
    unfold jTypeSort
    rw [e1]
    show (match jSortOf ty r with | some s => _ | none => _) = _
    rw [jSortOf_some ev]
end PJTY
