/-! P OVER S (8): the machine's small methods -/
/-- what stands at the front when one looks -/
def gC (v : V) : Prop := (∃ i, v = vLoc i) ∨ ∃ t r, v = vClo t r ∧ gT t true (shp r) ∧ gV r true
theorem sBind_fr {α β : Type} {k0 : Nat × (Nat → Nat) × Nat} {r : SR α} {f : α → KS → SR β} (h : r.1.2.2.2 = k0) (hf : ∀ a K, K.2.2.2 = k0 → (f a K).1.2.2.2 = k0) : (sBind r f).1.2.2.2 = k0 := by
  obtain ⟨K, r⟩ := r
  cases r with
  | ok a => exact hf a K h
  | error e => exact h
theorem sSpend_fr {X : SX} {c : Nat} {K : KS} : (sSpend X c K).1.2.2.2 = K.2.2.2 := by
  unfold sSpend
  split
  · rfl
  · split <;> rfl
theorem sSpendN_fr {X : SX} {c : Nat} : ∀ (n : Nat) (K : KS), (sSpendN X c n K).1.2.2.2 = K.2.2.2 := by
  intro n
  induction n with
  | zero => intro K; rfl
  | succ n ih => intro K; exact sBind_fr sSpend_fr (fun _ K' h => by rw [ih K', h])
theorem sHead_fr {X : SX} : ∀ (f : Nat) (t r : V) (as : List V) (K : KS), (sHead X f t r as K).1.2.2.2 = K.2.2.2 := by
  intro f
  induction f with
  | zero => intro t r as K; rfl
  | succ f ih =>
    intro t r as K
    unfold sHead
    split
    · split
      · rfl
      · exact sBind_fr sSpend_fr (fun _ K' h => by rw [ih]; exact h)
      · rfl
    · split
      · rfl
      · exact sBind_fr sSpend_fr (fun _ K' h => by rw [ih]; exact h)
    · split
      · rfl
      · exact sBind_fr sSpend_fr (fun _ K' h => by rw [ih]; exact h)
    · exact sBind_fr sSpend_fr (fun _ K' h => by rw [ih]; exact h)
    · exact sBind_fr (sSpendN_fr _ _) (fun _ K' h => by rw [ih]; exact h)
    · rfl
theorem sHd_fr {X : SX} {v : V} {K : KS} : (sHd X v K).1.2.2.2 = K.2.2.2 := by
  unfold sHd
  split
  · exact sHead_fr _ _ _ _ _
  · rfl
theorem sHd_loc {X : SX} {i : Nat} {K : KS} : sHd X (vLoc i) K = (K, .ok (vLoc i, [])) := by rcases i with _ | _ | _ | _ | i <;> rfl
section PS
variable {G : GPl} {s0 : State} {l : Launch} {KK : Nat → Option Nat} {T : Nat → Nat} {lev : Nat} {Q : Outcome → GSt → Prop} {R : Nat → Nat} {σ τ st0 : GSt} {X : SX} {K : KS} {w n s : Nat} {c : PC} {L L' : Nat → Nat → Prop}
theorem keep.mv (hk : keep nil0 σ τ) : mv c c L L σ τ := mv_keep hk (fun _ q => q.elim)
theorem pV_pH {u : V} {q : Nat} (h1 : gk σ q = 14) (h : pH c L σ u (gr σ q 0) (gr σ q 1)) : pV c L σ u false (some q) := by
  unfold pH at h
  split at h
  · exact ⟨h1, h.1, h.2⟩
  · rw [pV_loc]; exact ⟨h1, h⟩
  · exact h.elim
theorem pV_none {v : V} (h : pV c L σ v false none) : v = .line := by
  unfold pV at h
  split at h <;> first | rfl | (cases ‹none = some _›) | (cases ‹false = true›) | exact h.elim
theorem pH_pV {u : V} {q : Nat} (h : pV c L σ u false (some q)) : gk σ q = 14 ∧ pH c L σ u (gr σ q 0) (gr σ q 1) := by
  unfold pV at h
  split at h
  · cases ‹false = true›
  · cases ‹some q = none›
  · cases ‹some q = none›
  · rename_i t r q' _ e
    cases e
    exact ⟨h.1, h.2.1, h.2.2⟩
  · rename_i i q' _ e
    cases e
    refine ⟨h.1, ?_⟩
    have := h.2
    rw [← pH_loc (c := c) (L := L) (y := gr σ q 1)] at this
    exact this
  · exact h.elim
theorem pH_mv {u : V} {x y : Option Nat} (hm : mv c c L L' σ τ) (h : pH c L σ u x y) : pH c L' τ u x y := by
  unfold pH at h
  split at h
  · obtain ⟨⟨a, h1, h2⟩, h3⟩ := h
    exact ⟨⟨a, h1, pT_mv hm _ _ _ h2⟩, pV_mv hm _ _ _ h3⟩
  · obtain ⟨a, h1, h2, h3⟩ := h
    rw [show ∀ i, Std.Format.tag i (.align false) = vLoc i from fun _ => rfl, pH_loc]
    exact ⟨a, h1, (hm.cl h2 rfl).1, hm.2.2.2.2.2 _ a h2 h3⟩
  · exact h.elim
theorem c_looks {d : Nat} (hl : 6 ≤ lev) (hw : w + d = 100) (h : MB G R σ X K w (n + 1) (s + 8))
    (ok : ∀ τ K' d', d = d' + 1 → sSpend X 5 K = (K', .ok ()) → K'.life = K.life + 1 → K'.fr = K.fr → keep (isM R) σ τ → MB G R τ X K' w (n + 11) (s + 44) → Q (.returned none) τ)
    (er : ∀ x τ e, ((d = 0 ∧ e = 13) ∨ ∃ d', d = d' + 1 ∧ sSpend X 5 K = (K, .error e)) → flt τ x e (-1) → keep (isM R) σ τ → MB G R τ X K w n s → Q (.threw x) τ) : CQ (wP G s0 l KK T) mX3_looks lev (.ref (R 2) :: []) σ Q := by
  obtain ⟨l', rfl⟩ := Nat.exists_eq_add_of_le' hl
  have m1 := h.2.1.1.1
  have m14 := h.2.1.2.2.2.2.1.2.2.2.1
  refine tX3_looks ⟨m1, fun q => ?_, fun q => ?_⟩
  · rw [m14, iI_lt (by omega) (by omega) (by omega) (by omega)] at q
    obtain ⟨d', rfl⟩ : ∃ d', d = d' + 1 := ⟨d - 1, by omega⟩
    refine c_spend (c := 5) (by omega) (by omega) h (fun τ K' s1 s2 s3 s4 s5 s6 _ => ok τ K' d' rfl s1 s2 ?_ s3 s4) (fun x τ e s1 s2 s3 s4 _ => er x τ e (Or.inr ⟨d', rfl, s1⟩) s2 s3 s4)
    have := sSpend_fr (X := X) (c := 5) (K := K)
    rw [s1] at this
    show K'.2.2.2.2.2 = _
    rw [this]
  · have hd0 : d = 0 := by
      rw [m14, iI_lt (by omega) (by omega) (by omega) (by omega)] at q
      omega
    refine ⟨h.2.2.2.gr h.1, c_flt (by omega) h.1 (fun τ t1 t2 t3 t4 t5 _ => ?_)⟩
    exact er _ τ 13 (Or.inl ⟨hd0, rfl⟩) t5 (t1.wk (fun _ q => q.elim)) (h.new t1 t2 t3 t4)
/-- the head of a value -/
theorem c_head {q : Nat} {v : V} (hl : 9 ≤ lev) (hv : pV c L σ v false (some q)) (hg : gC v) (hX : pX c σ X) (h : MB G R σ X K w (n + swv v + 1) (s + 3 * swv v + 8))
    (ok : ∀ τ K' u as, sHd X v K = (K', .ok (u, as)) → K.life ≤ K'.life → K'.fr = K.fr → keep (isM R) σ τ → MB G R τ X K' w (n + swv u + 1) (s + 3 * swv u + 8) → pH c L τ u (gr τ (R 2) 1) (gr τ (R 2) 2) → pA c L τ as (gr τ (R 2) 3) → gR X u → gA as → as.length ≤ K'.life → Q (.returned none) τ)
    (er : ∀ x τ K' e, sHd X v K = (K', .error e) → K.life ≤ K'.life → flt τ x e (-1) → keep (isM R) σ τ → MB G R τ X K' w n s → Q (.threw x) τ) : CQ (wP G s0 l KK T) mX3_head lev (.ref (R 2) :: [va_rf (some q)]) σ Q := by
  obtain ⟨l', rfl⟩ := Nat.exists_eq_add_of_le' hl
  have m1 := h.2.1.1.1
  obtain ⟨h14, hp⟩ := pH_pV hv
  refine tX3_head ⟨q, rfl, h14, m1, tX3_at ⟨m1, fun _ => ?_⟩⟩
  generalize gr σ q 0 = x at hp
  generalize gr σ q 1 = y at hp
  have hk : keep (isM R) σ (gpr (R 2) 3 none (gpr (R 2) 2 y (gpr (R 2) 1 x σ))) := keep_at.pr (fun _ => Or.inl rfl)
  have hmv : mv c c L L σ _ := mv_keep hk h.2.1.ok
  have hMB : MB G R (gpr (R 2) 3 none (gpr (R 2) 2 y (gpr (R 2) 1 x σ))) X K w (n + swv v + 1) (s + 3 * swv v + 8) := ⟨h.1, h.at.2.1.pr (by omega), h.2.2.1, h.2.2.2⟩
  have e1 : gr (gpr (R 2) 3 none (gpr (R 2) 2 y (gpr (R 2) 1 x σ))) (R 2) 1 = x := by rw [gr_pr, if_neg (by omega), gr_pr, if_neg (by omega), gr_pr, if_pos ⟨rfl, rfl⟩]
  have e2 : gr (gpr (R 2) 3 none (gpr (R 2) 2 y (gpr (R 2) 1 x σ))) (R 2) 2 = y := by rw [gr_pr, if_neg (by omega), gr_pr, if_pos ⟨rfl, rfl⟩]
  have e3 : gr (gpr (R 2) 3 none (gpr (R 2) 2 y (gpr (R 2) 1 x σ))) (R 2) 3 = none := by rw [gr_pr, if_pos ⟨rfl, rfl⟩]
  have hp' := pH_mv hmv hp
  generalize gpr (R 2) 3 none (gpr (R 2) 2 y (gpr (R 2) 1 x σ)) = σ1 at hk hmv hMB e1 e2 e3 hp'
  rcases hg with ⟨i, rfl⟩ | ⟨t, r, rfl, g1, g2⟩
  · rw [pH_loc] at hp'
    obtain ⟨a, p1, p2, p3⟩ := hp'
    refine head_go hMB.2.1.1.1 (e1.trans p1) ⟨17, by decide, p2⟩ ⟨?_, ?_, ?_, ?_, ?_, ?_, ?_, ?_, ?_⟩ <;> intro q <;> first | (exfalso; omega) | skip
    refine tX20_goes (fun _ => head_end ?_)
    exact ok σ1 K (vLoc i) [] sHd_loc (Nat.le_refl _) rfl hk hMB (by rw [pH_loc]; exact ⟨a, e1.trans p1, p2, p3⟩) (by rw [e3]; trivial) (Or.inl ⟨i, rfl⟩) (fun _ q => by cases q) (Nat.zero_le _)
  · have e0 : sHd X (vClo t r) K = sHead X 60001 t r [] K := rfl
    have e4 : swv (vClo t r) = sw t := rfl
    rw [e4] at hMB
    obtain ⟨⟨a, p1, p2⟩, p3⟩ := hp'
    refine c_headL (c := c) (L := L) (by omega) 60001 (SizeOf.sizeOf t + 1) t r [] K σ1 n s true (Nat.lt_succ_self _) (by omega) ⟨⟨a, e1.trans p1, p2⟩, by rw [e2]; exact p3, by rw [e3]; trivial⟩ g1 g2 (fun _ q => by cases q) (Nat.zero_le _) (pX_mv hmv hX) hMB (fun τ K' u as u1 u2 u3 u4 u5 u6 u7 u8 u9 => ok τ K' u as u1 u2 ?_ (hk.t2 u3) u4 u5 u6 u7 u8 u9) (fun x τ K' e u1 u2 u3 u4 u5 => er x τ K' e u1 u2 u3 (hk.t2 u4) u5)
    have := sHead_fr (X := X) 60001 t r [] K
    rw [u1] at this
    show K'.2.2.2.2.2 = _
    rw [this]
theorem c_clo {x y : Option Nat} (hl : 1 ≤ lev) (hz : gz σ) (ok : ∀ τ, keep nil0 σ τ → gz τ → gn τ = gn σ + 1 → gm τ = gm σ + 2 → gk τ (gn σ) = 14 → gr τ (gn σ) 0 = x → gr τ (gn σ) 1 = y → Q (.returned none) τ) : CQ (wP G s0 l KK T) mX16_init lev (.ref (gn σ) :: [va_rf x, va_rf y]) (gmk 14 2 σ) Q := by
  obtain ⟨l', rfl⟩ := Nat.exists_eq_add_of_le' hl
  refine tX16_init ⟨gk_new (n := 2) hz.at, ok _ (((keep.rf.mk hz.at).pr (fun q => absurd hz.at q)).pr (fun q => absurd hz.at q)) hz.mk rfl rfl (gk_new (n := 2) hz.at) ?_ ?_⟩
  · rw [gr_pr, if_neg (by omega), gr_pr, if_pos ⟨rfl, rfl⟩]
  · rw [gr_pr, if_pos ⟨rfl, rfl⟩]
theorem c_here {u : V} (hl : 2 ≤ lev) (h : MB G R σ X K w (n + 1) (s + 2)) (hu : pH c L σ u (gr σ (R 2) 1) (gr σ (R 2) 2))
    (ok : ∀ τ, keep nil0 σ τ → MB G R τ X K w n s → pV c L τ u false (some (gn σ)) → gn τ = gn σ + 1 → Q (.returned (some (va_rf (some (gn σ))))) τ) : CQ (wP G s0 l KK T) mX3_here lev (.ref (R 2) :: []) σ Q := by
  obtain ⟨l', rfl⟩ := Nat.exists_eq_add_of_le' hl
  have hz := h.1
  have e1 : R 2 ≠ gn σ := hz.ne (h.2.1.tg (Or.inl rfl))
  refine tX3_here ⟨h.2.2.2.gr hz, by rw [gk_old e1]; exact h.2.1.1.1, ?_⟩
  rw [gr_mk e1, gr_mk e1]
  refine c_clo (by omega) hz (fun τ t1 t2 t3 t4 t5 t6 t7 _ => ok τ t1 (h.new t1 t2 t3 t4) (pV_pH t5 ?_) t3)
  rw [t6, t7]
  exact pH_mv t1.mv hu
/-- the cells of a head that binds -/
theorem pH_binds {u dx bx r : V} {lm : Bool} {p : Nat} {x y : Option Nat} (hb : sBinds u = some (lm, p, dx, bx, r)) (hu : pH c L σ u x y) : ∃ a d b, x = some a ∧ (lm = true → gk σ a = 8) ∧ (lm = false → gk σ a = 9 ∧ ¬ c.E a ∧ gi σ a 4 = iI ((p / 8 : Nat) : Int) ∧ gi σ a 5 = iI ((p % 8 : Nat) : Int)) ∧ gr σ a 2 = some d ∧ gr σ a 3 = some b ∧ pT c σ dx d 0 ∧ pT c σ bx b 0 ∧ pV c L σ r true y := by
  unfold sBinds at hb
  split at hb
  · cases hb
    obtain ⟨⟨a, h1, h2, hE, d, b, h3, h4, h5, h6⟩, h7⟩ := hu
    exact ⟨a, d, b, h1, fun _ => h2, fun q => (by cases q), h3, h4, h5, h6, h7⟩
  · cases hb
    obtain ⟨⟨a, h1, h2⟩, h7⟩ := hu
    rw [pT_prod] at h2
    obtain ⟨h2, h8, h9, h10, d, b, h3, h4, h5, h6⟩ := h2
    exact ⟨a, d, b, h1, fun q => (by cases q), fun _ => ⟨h2, h8, h9, h10⟩, h3, h4, h5, h6, h7⟩
  · cases hb
theorem c_dom {q : Nat} {u dx bx r : V} {lm : Bool} {p : Nat} (hl : 2 ≤ lev) (h : MB G R σ X K w (n + 1) (s + 2)) (hu : pV c L σ u false (some q)) (hb : sBinds u = some (lm, p, dx, bx, r))
    (ok : ∀ τ, keep nil0 σ τ → MB G R τ X K w n s → pV c L τ (vClo dx r) false (some (gn σ)) → gn τ = gn σ + 1 → Q (.returned (some (va_rf (some (gn σ))))) τ) : CQ (wP G s0 l KK T) mX3_domain lev [va_rf (some q)] σ Q := by
  obtain ⟨l', rfl⟩ := Nat.exists_eq_add_of_le' hl
  have hz := h.1
  obtain ⟨h14, hp⟩ := pH_pV hu
  obtain ⟨a, d, b, h1, h2, h3, h4, h5, h6, h7, h8⟩ := pH_binds hb hp
  have ha : gk σ a = 8 ∨ gk σ a = 9 := by cases lm; exact Or.inr (h3 rfl).1; exact Or.inl (h2 rfl)
  have e1 : q ≠ gn σ := hz.ne (by omega)
  have e2 : a ≠ gn σ := hz.ne (by omega)
  have e3 : gr (gmk 14 2 σ) q 0 = some a := by rw [gr_mk e1]; exact h1
  have e4 : gr (gmk 14 2 σ) a 2 = some d := by rw [gr_mk e2]; exact h4
  have e5 : gr (gmk 14 2 σ) q 1 = gr σ q 1 := by rw [gr_mk e1]
  have e6 : gk (gmk 14 2 σ) a = gk σ a := gk_old e2
  have fin : CQ (wP G s0 l KK T) mX16_init (l' + 1) (.ref (gn σ) :: [va_rf (gr (gmk 14 2 σ) a 2), va_rf (gr (gmk 14 2 σ) q 1)]) (gmk 14 2 σ) (onV (fun t9 => gle (gmk 14 2 σ) t9 → Q (.returned (some (va_rf (some (gn σ))))) t9) (fun x t => gle (gmk 14 2 σ) t → Q (.threw x) t)) := by
    rw [e4, e5]
    refine c_clo (by omega) hz (fun τ t1 t2 t3 t4 t5 t6 t7 _ => ok τ t1 (h.new t1 t2 t3 t4) (pV_pH t5 ⟨⟨d, t6, pT_mv (t1.mv (L := L)) _ _ _ h6⟩, ?_⟩) t3)
    rw [t7]
    exact pV_mv t1.mv _ _ _ h8
  refine tX3_domain ⟨h.2.2.2.gr hz, q, rfl, by rw [gk_old e1]; exact h14, a, e3, ?_, fun _ => fin, fun hn => ⟨Or.inr ⟨a, e3, ?_⟩, ?_, fin⟩⟩
  · rcases ha with ha | ha
    · exact ⟨7, by decide, by rw [e6]; exact ha⟩
    · exact ⟨8, by decide, by rw [e6]; exact ha⟩
  · rcases ha with ha | ha
    · exact absurd ⟨a, e3, by rw [e6]; exact ha⟩ hn
    · rw [e6, ha]; decide
  · rcases ha with ha | ha
    · exact absurd ⟨a, e3, by rw [e6]; exact ha⟩ hn
    · rw [e6, ha]
theorem c_body {q : Nat} {u dx bx r v : V} {x1 : Option Nat} {lm : Bool} {p : Nat} (hl : 2 ≤ lev) (h : MB G R σ X K w (n + 2) (s + 5)) (hu : pV c L σ u false (some q)) (hb : sBinds u = some (lm, p, dx, bx, r)) (hv : pV c L σ v false x1)
    (ok : ∀ τ, keep nil0 σ τ → MB G R τ X K w n s → pV c L τ (vClo bx (.append v r)) false (some (gn σ)) → gn τ = gn σ + 2 → Q (.returned (some (va_rf (some (gn σ))))) τ) : CQ (wP G s0 l KK T) mX3_body lev [va_rf (some q), va_rf x1] σ Q := by
  obtain ⟨l', rfl⟩ := Nat.exists_eq_add_of_le' hl
  have hz := h.1
  have hz1 : gz (gmk 14 2 σ) := hz.mk
  obtain ⟨h14, hp⟩ := pH_pV hu
  obtain ⟨a, d, b, h1, h2, h3, h4, h5, h6, h7, h8⟩ := pH_binds hb hp
  have ha : gk σ a = 8 ∨ gk σ a = 9 := by cases lm; exact Or.inr (h3 rfl).1; exact Or.inl (h2 rfl)
  have l1 : q < gn σ := hz.lt (by omega)
  have l2 : a < gn σ := hz.lt (by omega)
  have hn1 : gn (gmk 14 2 σ) = gn σ + 1 := rfl
  have e3 : gr (gmk 14 2 σ) q 0 = some a := by rw [gr_mk (by omega)]; exact h1
  have e4 : gr (gmk 14 2 σ) a 3 = some b := by rw [gr_mk (by omega)]; exact h5
  have e5 : gr (gmk 16 3 (gmk 14 2 σ)) q 1 = gr σ q 1 := by rw [gr_mk (by omega), gr_mk (by omega)]
  have e6 : gk (gmk 14 2 σ) a = gk σ a := gk_old (by omega)
  have n0 : gk σ (gn σ) = 0 := hz.at
  have n1 : gk σ (gn (gmk 14 2 σ)) = 0 := hz _ (by omega)
  have hd := pE_dep h8
  have fin : CQ (wP G s0 l KK T) mX18_init (l' + 1) (.ref (gn (gmk 14 2 σ)) :: [va_rf x1, va_rf (gr (gmk 16 3 (gmk 14 2 σ)) q 1)]) (gmk 16 3 (gmk 14 2 σ)) (onV (fun t11 => gle (gmk 16 3 (gmk 14 2 σ)) t11 → (CQ (wP G s0 l KK T) mX16_init (l' + 1) (.ref (gn σ) :: [va_rf (gr (gmk 14 2 σ) a 3), va_rf (some (gn (gmk 14 2 σ)))]) t11 (onV (fun t13 => gle t11 t13 → Q (.returned (some (va_rf (some (gn σ))))) t13) (fun x t => gle t11 t → Q (.threw x) t)))) (fun x t => gle (gmk 16 3 (gmk 14 2 σ)) t → Q (.threw x) t)) := by
    rw [e4, e5]
    generalize gr σ q 1 = xe at h8 hd
    refine c_env (d := vlen r) (by omega) (gk_new (n := 3) hz1.at) hd.1 (fun e he => ?_) (fun _ => tX16_init ⟨?_, fun _ => ?_⟩)
    · obtain ⟨d1, d2⟩ := hd.2 e he
      have e4 : e < gn σ := hz.lt (by omega)
      exact ⟨by omega, by rw [gk_old (by omega), gk_old (by omega)]; exact d1, by rw [gi_mk (by omega), gi_mk (by omega)]; exact d2⟩
    · rw [gk_pi, gk_pr, gk_pr, gk_old (by omega)]; exact gk_new (n := 2) hz.at
    · have hk2 : keep nil0 σ (gpr (gn σ) 1 (some (gn (gmk 14 2 σ))) (gpr (gn σ) 0 (some b) (gpi (gn (gmk 14 2 σ)) 2 (iI ((vlen r + 1 : Nat) : Int)) (gpr (gn (gmk 14 2 σ)) 1 xe (gpr (gn (gmk 14 2 σ)) 0 x1 (gmk 16 3 (gmk 14 2 σ))))))) :=
        ((((((keep.rf.mk n0).mk n1).pr (fun q => absurd n1 q)).pr (fun q => absurd n1 q)).pi (fun q => absurd n1 q)).pr (fun q => absurd n0 q)).pr (fun q => absurd n0 q)
      have hmv2 : mv c c L L σ _ := hk2.mv
      refine ok _ hk2 ⟨hz1.mk, h.2.1.new hk2, h.2.2.1, ?_⟩ ⟨?_, ⟨b, ?_, pT_mv hmv2 _ _ _ h7⟩, ?_⟩ rfl
      · exact ⟨by have := h.2.2.2.1; show gn σ + 1 + 1 + _ + _ ≤ _; omega, by have := h.2.2.2.2; show gm σ + 2 + 3 + _ + _ ≤ _; omega⟩
      · rw [gk_pr, gk_pr, gk_pi, gk_pr, gk_pr, gk_old (by omega)]; exact gk_new (n := 2) hz.at
      · rw [gr_pr, if_neg (by omega), gr_pr, if_pos ⟨rfl, rfl⟩]
      · rw [gr_pr, if_pos ⟨rfl, rfl⟩]
        refine ⟨?_, ?_, ?_, ?_⟩
        · exact gk_new (n := 3) hz1.at
        · rw [gi_pr, gi_pr, gi_pi, if_pos ⟨rfl, rfl⟩]
        · rw [gr_pr, if_neg (by omega), gr_pr, if_neg (by omega), gr_pi, gr_pr, if_neg (by omega), gr_pr, if_pos ⟨rfl, rfl⟩]
          exact pV_mv hmv2 _ _ _ hv
        · rw [gr_pr, if_neg (by omega), gr_pr, if_neg (by omega), gr_pi, gr_pr, if_pos ⟨rfl, rfl⟩]
          exact pV_mv hmv2 _ _ _ h8
  have hro : groom G 3 (gmk 14 2 σ) := ((h.2.2.2.le (n' := n + 1 + 1) (s' := s + 3 + 2) (by omega) (by omega)).mk).gr hz1
  refine tX3_body ⟨(h.2.2.2.le (n' := n + 1 + 1) (s' := s + 3 + 2) (by omega) (by omega)).gr hz, q, rfl, by rw [gk_old (by omega)]; exact h14, a, e3, ?_, fun _ => ⟨hro, fin⟩, fun hn => ⟨Or.inr ⟨a, e3, ?_⟩, ?_, hro, fin⟩⟩
  · rcases ha with ha | ha
    · exact ⟨7, by decide, by rw [e6]; exact ha⟩
    · exact ⟨8, by decide, by rw [e6]; exact ha⟩
  · rcases ha with ha | ha
    · exact absurd ⟨a, e3, by rw [e6]; exact ha⟩ hn
    · rw [e6, ha]; decide
  · rcases ha with ha | ha
    · exact absurd ⟨a, e3, by rw [e6]; exact ha⟩ hn
    · rw [e6, ha]
/-- a new local -/
theorem c_bound {x0 x1 : Int32} (hl : 3 ≤ lev) (h : MB G R σ X K w (n + 2) (s + 6))
    (ok : ∀ τ, keep nil0 σ τ → MB G R τ X K w n s → gk τ (gn σ) = 14 → gr τ (gn σ) 0 = some (gn σ + 1) → gk τ (gn σ + 1) = 18 → gi τ (gn σ + 1) 2 = x0 → gi τ (gn σ + 1) 3 = x1 → gn τ = gn σ + 2 → Q (.returned (some (va_rf (some (gn σ))))) τ) : CQ (wP G s0 l KK T) mX3_bound lev [.int x0, .int x1] σ Q := by
  obtain ⟨l', rfl⟩ := Nat.exists_eq_add_of_le' hl
  have hz := h.1
  have hz1 : gz (gmk 14 2 σ) := hz.mk
  have hn1 : gn (gmk 14 2 σ) = gn σ + 1 := rfl
  have n0 : gk σ (gn σ) = 0 := hz.at
  have n1 : gk σ (gn (gmk 14 2 σ)) = 0 := hz _ (by omega)
  have t18 : gk (gmk 18 4 (gmk 14 2 σ)) (gn (gmk 14 2 σ)) = 18 := gk_new (n := 4) hz1.at
  refine tX3_bound ⟨(h.2.2.2.le (n' := n + 1 + 1) (s' := s + 4 + 2) (by omega) (by omega)).gr hz, ((h.2.2.2.le (n' := n + 1 + 1) (s' := s + 4 + 2) (by omega) (by omega)).mk).gr hz1, tX20_init (tX9_init ⟨⟨17, by decide, t18⟩, fun _ => ⟨t18, fun _ => tX16_init ⟨?_, fun _ => ?_⟩⟩⟩)⟩
  · rw [gk_pi, gk_pi, gk_pi, gk_pi, gk_old (by omega)]; exact gk_new (n := 2) hz.at
  · have hk2 : keep nil0 σ (gpr (gn σ) 1 none (gpr (gn σ) 0 (some (gn (gmk 14 2 σ))) (gpi (gn (gmk 14 2 σ)) 3 x1 (gpi (gn (gmk 14 2 σ)) 2 x0 (gpi (gn (gmk 14 2 σ)) 1 (iI (-1)) (gpi (gn (gmk 14 2 σ)) 0 (iI (-1)) (gmk 18 4 (gmk 14 2 σ)))))))) :=
      (((((((keep.rf.mk n0).mk n1).pi (fun q => absurd n1 q)).pi (fun q => absurd n1 q)).pi (fun q => absurd n1 q)).pi (fun q => absurd n1 q)).pr (fun q => absurd n0 q)).pr (fun q => absurd n0 q)
    refine ok _ hk2 ⟨hz1.mk, h.2.1.new hk2, h.2.2.1, ?_⟩ ?_ ?_ t18 ?_ ?_ rfl
    · exact ⟨by have := h.2.2.2.1; show gn σ + 1 + 1 + _ + _ ≤ _; omega, by have := h.2.2.2.2; show gm σ + 2 + 4 + _ + _ ≤ _; omega⟩
    · rw [gk_pr, gk_pr, gk_pi, gk_pi, gk_pi, gk_pi, gk_old (by omega)]; exact gk_new (n := 2) hz.at
    · rw [gr_pr, if_neg (by omega), gr_pr, if_pos ⟨rfl, rfl⟩]; rfl
    · rw [gi_pr, gi_pr, gi_pi, if_neg (by omega), gi_pi, if_pos ⟨rfl, rfl⟩]
    · rw [gi_pr, gi_pr, gi_pi, if_pos ⟨rfl, rfl⟩]
end PS
