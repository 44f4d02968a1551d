/-! P OVER S (4): one move of the machine; the head -/
/-- the context: what its names stand for -/
def pX (c : PC) (σ : GSt) (X : SX) : Prop := (∀ k, k < c.nc → gk σ (c.N k) = 21 ∧ (X.val k = none → gr σ (c.N k) 3 = none) ∧ ∀ t, X.val k = some t → gT t false [] ∧ ∃ b, gr σ (c.N k) 3 = some b ∧ pT c σ t b 0) ∧ (∀ i j, i < c.nc → j < c.nc → c.N i = c.N j → i = j) ∧ c.ns ≤ 8 ∧ c.nc ≤ 100
/-- the machine is at t, with r, applied to as -/
def HS (c : PC) (L : Nat → Nat → Prop) (R : Nat → Nat) (σ : GSt) (t r : V) (as : List V) : Prop := (∃ a, gr σ (R 2) 1 = some a ∧ pT c σ t a 0) ∧ pV c L σ r true (gr σ (R 2) 2) ∧ pA c L σ as (gr σ (R 2) 3)
/-- a head: what it is, at x with y -/
def pH (c : PC) (L : Nat → Nat → Prop) (σ : GSt) (v : V) (x y : Option Nat) : Prop := match v with
  | .tag 3 (.append t r) => (∃ a, x = some a ∧ pT c σ t a 0) ∧ pV c L σ r true y
  | .tag i (.align false) => ∃ a, x = some a ∧ gk σ a = 18 ∧ L i a
  | _ => False
/-- a term that is a head -/
def hn (X : SX) (t : V) : Prop := (∃ k, t = .tag k .nil ∧ X.val k = none) ∨ (∃ s, t = .tag s (.align true)) ∨ (∃ d b, t = .tag 0 (.append d b)) ∨ (∃ p d b, t = .tag p (.group (.append d b) .fill))
def gR (X : SX) (v : V) : Prop := (∃ i, v = vLoc i) ∨ ∃ t r, v = vClo t r ∧ gT t true (shp r) ∧ gV r true ∧ hn X t
def swv : V → Nat
  | .tag 3 (.append t _) => sw t
  | _ => 0
def gA (as : List V) : Prop := ∀ v ∈ as, gV v false ∧ v ≠ .line
section PH
variable {G : GPl} {s0 : State} {l : Launch} {KK : Nat → Option Nat} {T : Nat → Nat} {lev : Nat} {Q : Outcome → GSt → Prop} {R : Nat → Nat} {σ τ st0 : GSt} {X : SX} {K : KS} {w n s : Nat} {c : PC} {L : Nat → Nat → Prop}
theorem MS.pr' {a j : Nat} {x : Option Nat} (h : MS G R σ X K w) (ha : ¬ isM R a) : MS G R (gpr a j x σ) X K w :=
  h.mv (fun _ _ => ⟨rfl, fun _ => rfl, rfl⟩) (fun i _ => by rw [gr_pr, if_neg (fun q => ha (Or.inl q.1.symm))])
theorem MS.pi' {a j : Nat} {v : Int32} (h : MS G R σ X K w) (ha : ¬ isM R a) : MS G R (gpi a j v σ) X K w :=
  h.mv (fun b hb => ⟨rfl, fun i => by rw [gi_pi, if_neg (by rintro ⟨rfl, -⟩; exact ha hb)], rfl⟩) (fun i _ => rfl)
theorem MS.mk {t k : Nat} (h : MS G R σ X K w) (hz : gz σ) : MS G R (gmk t k σ) X K w := h.new (keep.rf.mk hz.at)
theorem MS.fr (h : MS G R σ X K w) (hz : gz σ) {a : Nat} (ha : gn σ ≤ a) : ¬ isM R a := fun q => h.tg q (hz a ha)
theorem pX_mv {L' : Nat → Nat → Prop} (h : mv c c L L' σ τ) (hX : pX c σ X) : pX c τ X := by
  refine ⟨fun k hk => ?_, hX.2⟩
  obtain ⟨h1, h2, h3⟩ := hX.1 k hk
  obtain ⟨e1, e2, e3, e4⟩ := h.cl h1 rfl
  refine ⟨e1, fun q => by rw [e3]; exact h2 q, fun t ht => ?_⟩
  obtain ⟨g1, b, g2, g3⟩ := h3 t ht
  exact ⟨g1, b, by rw [e3]; exact g2, pT_mv h _ _ _ g3⟩
theorem pE_dep {r : V} {x : Option Nat} (h : pV c L σ r true x) : (x = none → vlen r = 0) ∧ ∀ e, x = some e → gk σ e = 16 ∧ gi σ e 2 = iI (vlen r : Int) := by
  unfold pV at h
  split at h
  · exact ⟨fun q => (by cases q), fun e q => by cases q; exact ⟨h.1, h.2.1⟩⟩
  · exact ⟨fun _ => rfl, fun e q => (by cases q)⟩
  · cases ‹true = false›
  · cases ‹true = false›
  · cases ‹true = false›
  · exact h.elim
/-- an environment is made, in the cell a -/
theorem c_env {a : Nat} {x y : Option Nat} {d : Nat} (hl : 1 ≤ lev) (ha : gk σ a = 16) (h0 : y = none → d = 0) (h1 : ∀ e, y = some e → e ≠ a ∧ gk σ e = 16 ∧ gi σ e 2 = iI (d : Int)) (ok : Q (.returned none) (gpi a 2 (iI ((d + 1 : Nat) : Int)) (gpr a 1 y (gpr a 0 x σ)))) : CQ (wP G s0 l KK T) mX18_init lev (.ref a :: [va_rf x, va_rf y]) σ Q := by
  obtain ⟨l', rfl⟩ := Nat.exists_eq_add_of_le' hl
  refine tX18_init ⟨ha, fun e => ?_, fun e he => ⟨(h1 e he).2.1, ?_⟩⟩
  · rw [h0 e] at ok; exact ok
  · rw [gi_pr, gi_pr, (h1 e he).2.2, iI_suc]; exact ok
theorem go_lam {a y : Nat} {b r v : V} {as : List V} (hl : 6 ≤ lev) (h : MB G R σ X K w (n + 1) (s + 8)) (ha : gk σ a = 8) (hE : ¬ c.E a) (hy : gr σ a 3 = some y) (hb : pT c σ b y 0) (hr : pV c L σ r true (gr σ (R 2) 2)) (hA : pA c L σ (v :: as) (gr σ (R 2) 3))
    (ok : ∀ τ K', sSpend X 0 K = (K', .ok ()) → K'.life = K.life + 1 → keep (isM R) σ τ → MB G R τ X K' w (n + 10) (s + 41) → HS c L R τ b (.append v r) as → Q (.returned (some (.int (iI 1)))) τ)
    (er : ∀ x τ e, sSpend X 0 K = (K, .error e) → flt τ x e (-1) → keep (isM R) σ τ → MB G R τ X K w n s → Q (.threw x) τ) : CQ (wP G s0 l KK T) mX10_goes lev (.ref a :: [va_rf (some (R 2))]) σ Q := by
  obtain ⟨l', rfl⟩ := Nat.exists_eq_add_of_le' hl
  have m1 := h.2.1.1.1
  cases hq : gr σ (R 2) 3 with
  | none => rw [hq] at hA; exact hA.elim
  | some q =>
    rw [hq] at hA
    obtain ⟨q1, q2, q3⟩ := hA
    refine tX10_goes ⟨R 2, rfl, m1, fun e => (by rw [hq] at e; cases e), fun _ _ => c_spend (c := 0) (by omega) (by omega) h (fun τ K' s1 s2 s3 s4 s5 s6 _ => ?_) (fun x τ e s1 s2 s3 s4 _ => er x τ e s1 s2 s3 s4)⟩
    have hmv : mv c c L L σ τ := mv_keep s3 h.2.1.ok
    obtain ⟨a1, a2, a3, -⟩ := hmv.ct ha hE rfl
    obtain ⟨b1, b2, b3, -⟩ := hmv.cl q1 rfl
    have hz := s4.1
    have e1 : R 2 ≠ gn τ := hz.ne (s4.2.1.tg (Or.inl rfl))
    have e2 : q ≠ gn τ := hz.ne (by omega)
    have e3 : a ≠ gn τ := hz.ne (by omega)
    have hr1 := pV_mv hmv _ _ _ hr
    have hd := pE_dep hr1
    refine ⟨a1, (s4.2.2.2.le (n' := n + 1) (s' := s + 3) (by omega) (by omega)).gr hz, tX3_pull ⟨by rw [gk_old e1]; exact s4.2.1.1.1, q, by rw [gr_mk e1, s5]; exact hq, by rw [gk_old e2]; exact b1, onR_ret (fun _ => ?_)⟩⟩
    refine c_env (d := vlen r) (by omega) (gk_new (n := 3) hz.at) (fun e => ?_) (fun e he => ?_) (fun _ => tX3_at ⟨by rw [gk_pi, gk_pr, gk_pr, gk_pr, gk_old e1]; exact s4.2.1.1.1, fun _ => ?_⟩)
    · rw [gr_pr, if_neg (by omega), gr_mk e1, s5] at e; exact hd.1 e
    · rw [gr_pr, if_neg (by omega), gr_mk e1, s5] at he
      obtain ⟨d1, d2⟩ := hd.2 e he
      have e4 : e ≠ gn τ := hz.ne (by omega)
      exact ⟨e4, by rw [gk_pr, gk_old e4]; exact d1, by rw [gi_pr, gi_mk e4]; exact d2⟩
    · have hfr : ¬ isM R (gn τ) := s4.2.1.fr hz (Nat.le_refl _)
      have v1 : gr (gpr (R 2) 3 (gr (gmk 16 3 τ) q 1) (gmk 16 3 τ)) (R 2) 2 = gr σ (R 2) 2 := by rw [gr_pr, if_neg (by omega), gr_mk e1, s5]
      have v2 : gr (gmk 16 3 τ) q 0 = gr σ q 0 := by rw [gr_mk e2, b3]
      have v3 : gr (gmk 16 3 τ) q 1 = gr σ q 1 := by rw [gr_mk e2, b3]
      have v4 : gr τ a 3 = some y := by rw [a3]; exact hy
      rw [v1, v2, v3, v4]
      have q2' := pV_mv hmv _ _ _ q2
      have q3' := pA_mv hmv _ _ q3
      generalize gr σ (R 2) 2 = xe at hr1
      generalize gr σ q 0 = x0 at q2'
      generalize gr σ q 1 = x1 at q3'
      have hk2 : keep (isM R) τ (gpr (R 2) 2 (some (gn τ)) (gpr (R 2) 1 (some y) (gpi (gn τ) 2 (iI ((vlen r + 1 : Nat) : Int)) (gpr (gn τ) 1 xe (gpr (gn τ) 0 x0 (gpr (R 2) 3 x1 (gmk 16 3 τ))))))) :=
        ((((((keep.rf.mk hz.at).pr (fun _ => Or.inl rfl)).pr (fun q => absurd hz.at q)).pr (fun q => absurd hz.at q)).pi (fun q => absurd hz.at q)).pr (fun _ => Or.inl rfl)).pr (fun _ => Or.inl rfl)
      have hmv2 : mv c c L L τ _ := mv_keep hk2 s4.2.1.ok
      refine ok _ K' s1 s2 (s3.t2 hk2) ⟨gz.mk hz, ((((((s4.2.1.mk hz).pr (by omega)).pr' hfr).pr' hfr).pi' hfr).pr (by omega)).pr (by omega), s4.2.2.1, ?_⟩ ⟨⟨y, ?_, pT_mv hmv2 _ _ _ (pT_mv hmv _ _ _ hb)⟩, ?_, ?_⟩
      · have := s4.2.2.2
        exact ⟨by have := this.1; show gn τ + 1 + _ + _ ≤ _; omega, by have := this.2; show gm τ + 3 + _ + _ ≤ _; omega⟩
      · rw [gr_pr, if_neg (by omega), gr_pr, if_pos ⟨rfl, rfl⟩]
      · rw [gr_pr, if_pos ⟨rfl, rfl⟩]
        refine ⟨gk_new (n := 3) hz.at, ?_, ?_, ?_⟩
        · rw [gi_pr, gi_pr, gi_pi, if_pos ⟨rfl, rfl⟩]
        · rw [gr_pr, if_neg (by omega), gr_pr, if_neg (by omega), gr_pi, gr_pr, if_neg (by omega), gr_pr, if_pos ⟨rfl, rfl⟩]
          exact pV_mv hmv2 _ _ _ q2'
        · rw [gr_pr, if_neg (by omega), gr_pr, if_neg (by omega), gr_pi, gr_pr, if_pos ⟨rfl, rfl⟩]
          exact pV_mv hmv2 _ _ _ hr1
      · rw [gr_pr, if_neg (by omega), gr_pr, if_neg (by omega), gr_pi, gr_pr, if_neg (by omega), gr_pr, if_neg (by omega), gr_pr, if_pos ⟨rfl, rfl⟩]
        exact pA_mv hmv2 _ _ q3'
end PH
