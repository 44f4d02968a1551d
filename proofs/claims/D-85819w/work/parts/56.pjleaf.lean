/-! P OVER S (25): judging: what is judged, leaves, types -/
/-- the names in the text, as the context and the sorts have them -/
def JN (c : PC) (X : SX) (J : JX) (TN : Nat → List Nat) : Prop := ∀ p, J.cn p = lastN X.nm (TN p) c.nc ∧ J.sf p = firstN X.sn (TN p) c.ns 0
/-- the contract of judging: n is the fuel; Z bounds how many that sink are along a type, Yc, Ys what a node costs -/
def CJ (G : GPl) (s0 : State) (l : Launch) (KK : Nat → Option Nat) (T : Nat → Nat) (R : Nat → Nat) (X : SX) (J : JX) (TN : Nat → List Nat) (Z Yc Ys lev n : Nat) : Prop :=
  ∀ (c : PC) (t : V) (a : Nat) (I : Nat → Prop) (sc : SC) (x : Option Nat) (K : KS) (σ : GSt) (m s z : Nat) (L : Nat → Nat → Prop) (Q : Outcome → GSt → Prop),
  JN c X J TN → rT R TN σ t a 0 I → rG t 0 sc.length n → (∀ q, I q → c.E q) → JB R c L σ X J sc x → gSc c.ns z sc → (∀ k, k < c.nc → sw (J.ct k) ≤ z) → z + rB t ≤ Z → sc.length + n ≤ 300 → MB G R σ X K 0 (m + rN t * Yc) (s + rN t * Ys) →
  (∀ τ K' u ty r so, sJudge X J n t sc K = (K', .ok (u, ty, r, so)) → K.life ≤ K'.life → jfr R I σ τ → MB G R τ X K' 0 m s → pT (cut c I) τ u a 0 → gT u false (List.replicate sc.length true) → JF (cut c I) L R τ ty r so → tyG c.ns (z + rB t) (scEnv sc) ty r so → gi τ a 1 = iI (jFrom t) → Q (.returned none) τ) →
  (∀ y τ K' e p w', sJudge X J n t sc K = (K', .error (e, p)) → K.life ≤ K'.life → flt τ y e p → jfr R I σ τ → MB G R τ X K' w' m s → Q (.threw y) τ) →
  CQ (wP G s0 l KK T) mX4_judge lev (.ref (R 3) :: [va_rf (some a), va_rf x]) σ Q
section PJL
variable {G : GPl} {s0 : State} {l : Launch} {KK : Nat → Option Nat} {T : Nat → Nat} {lev d : Nat} {Q : Outcome → GSt → Prop} {R : Nat → Nat} {σ τ υ st0 : GSt} {X : SX} {J : JX} {K K' : KS} {w n s o z m Z Yc Ys : Nat} {c c' : PC} {L L' : Nat → Nat → Prop} {W I I' I1 I2 : Nat → Prop} {sc : SC} {gg : List Bool} {TN : Nat → List Nat} {x : Option Nat}
/-- the k-th around -/
theorem pSc_get : ∀ {sc : SC} {x : Option Nat} {k : Nat} {e : V × V × V × Int}, pSc c L σ sc x → sc[k]? = some e → ∃ y q, y = some q ∧ gk σ q = 15 ∧ (∃ ty, gr σ q 1 = some ty ∧ pT c σ e.2.1 ty 0) ∧ pV c L σ e.2.2.1 true (gr σ q 2) ∧ gi σ q 3 = iI e.2.2.2 := by
  intro sc
  induction sc with
  | nil => intro x k e _ h; simp at h
  | cons e sc ih =>
    intro x k e' h hk
    cases x with
    | none => exact h.elim
    | some q =>
      cases k with
      | zero => cases hk; exact ⟨some q, q, rfl, h.1, h.2.2.1, h.2.2.2.1, h.2.2.2.2.1⟩
      | succ k => exact ih h.2.2.2.2.2 hk
theorem jb_loop {a k : Nat} {x0 : Option Nat} {e : V × V × V × Int} (hk : gk σ a = 11) (hi : gi σ a 2 = iI (k : Int)) (hk6 : k < 1000000) (hj : gk σ (R 3) = 4)
    (ok : ∀ q, gk σ q = 15 → (∃ ty, gr σ q 1 = some ty ∧ pT c σ e.2.1 ty 0) → pV c L σ e.2.2.1 true (gr σ q 2) → gi σ q 3 = iI e.2.2.2 → CQ (wP G s0 l KK T) mX4_is lev (.ref (R 3) :: [va_rf (gr σ q 1), va_rf (gr σ q 2), .int (gi σ q 3)]) σ (onV (fun t6 => gle σ t6 → Q (.returned none) t6) (fun x t => gle σ t → Q (.threw x) t))) :
    ∀ (d i : Nat) (sc : SC) (x : Option Nat), k = i + d → pSc c L σ sc x → sc[d]? = some e → jX4_bound_5 G s0 l KK T lev st0 Q (R 3) (some a) x0 x (iI (i : Int)) σ := by
  intro d
  induction d with
  | zero =>
    intro i sc x e1 hs he
    cases sc with
    | nil => simp at he
    | cons e' sc => cases x with
      | none => exact hs.elim
      | some q =>
        cases he
        refine tX4_bound_5 ⟨a, rfl, hk, fun _ => ⟨q, rfl, hs.1, hj, ok q hs.1 hs.2.2.1 hs.2.2.2.1 hs.2.2.2.2.1⟩, fun z => absurd (by rw [hi, iI_le (by omega) (by omega) (by omega) (by omega)]; omega) z⟩
  | succ d ih =>
    intro i sc x e1 hs he
    cases sc with
    | nil => simp at he
    | cons e' sc => cases x with
      | none => exact hs.elim
      | some q =>
        refine tX4_bound_5 ⟨a, rfl, hk, fun z => ?_, fun _ => ⟨q, rfl, hs.1, ?_⟩⟩
        · rw [hi, iI_le (by omega) (by omega) (by omega) (by omega)] at z; omega
        · rw [iI_suc]
          exact ih (i + 1) sc _ (by omega) hs.2.2.2.2.2 he
theorem sJudge_bnd {f k : Nat} {e : V × V × V × Int} (h : sc[k]? = some e) : sJudge X J (n + 1) (.tag f (.tag k .line)) sc K = (K, .ok (.tag k .line, e.2.1, e.2.2.1, e.2.2.2)) := by
  rw [sJudge, h]
theorem sJudge_fr {f p : Nat} : sJudge X J (n + 1) (.tag f (.tag p .nil)) sc K = match J.cn p with
    | some k => (K, .ok (.tag k .nil, J.ct k, .nil, J.cs k))
    | none => match J.sf p with
      | none => (K, .error (3, p))
      | some s => if J.ax s = -1 then (K, .error (7, p)) else jIsSort J (.tag s (.align true)) (J.ax s) K := by
  rw [sJudge]
  rfl
theorem lastN_lt {f : Nat → List Nat} {wd : List Nat} : ∀ {n k : Nat}, lastN f wd n = some k → k < n := by
  intro n
  induction n with
  | zero => intro k h; cases h
  | succ n ih =>
    intro k h
    unfold lastN at h
    split at h
    · cases h; omega
    · have := ih h; omega
theorem firstN_lt {f : Nat → List Nat} {wd : List Nat} : ∀ {n i k : Nat}, firstN f wd n i = some k → k < i + n := by
  intro n
  induction n with
  | zero => intro i k h; cases h
  | succ n ih =>
    intro i k h
    unfold firstN at h
    split at h
    · cases h; omega
    · have := ih h; omega
theorem scEnv_all : ∀ (sc : SC), vdrop sc.length (scEnv sc) = .nil := by
  intro sc
  induction sc with
  | nil => rfl
  | cons e sc ih => exact ih
theorem jfr.own {a : Nat} (hk : keep (fun q => q = a) σ τ) (hI : I a) (h3 : a ≠ R 3) (hj : gk σ (R 3) = 4) (hl : gle σ τ) : jfr R I σ τ :=
  ⟨hk.wk (fun q z => by subst z; exact Or.inr (Or.inr hI)), fun j _ => (hk (R 3) (by omega) (fun z => h3 z.symm)).2.2.1 j, hl⟩
theorem c_jbound {a f k : Nat} {e : V × V × V × Int} (hl : 2 ≤ lev) (hr : rT R TN σ (.tag f (.tag k .line)) a 0 I) (h : JB R c L σ X J sc x) (hI : ∀ q, I q → c.E q) (he : sc[k]? = some e) (hm : MB G R σ X K w n s)
    (ok : ∀ τ, jfr R I σ τ → MB G R τ X K w n s → pT (cut c I) τ (.tag k .line) a 0 → JF (cut c I) L R τ e.2.1 e.2.2.1 e.2.2.2 → gi τ a 1 = iI (f : Int) → Q (.returned none) τ) : CQ (wP G s0 l KK T) mX4_bound lev (.ref (R 3) :: [va_rf (some a), va_rf x]) σ Q := by
  obtain ⟨l', rfl⟩ := Nat.exists_eq_add_of_le' hl
  obtain ⟨h1, h2, h3, h4, h5⟩ := hr
  have hv : mv c (cut c I) L L σ σ := h.mvc hm.2.1 jfr.rf hI (fun q z => z.1) rfl
  have ne : a ≠ R 3 := fun z => by have := h.1.1.1; rw [z] at h1; omega
  refine tX4_bound (jb_loop (c := c) (L := L) h1 h5 h4 h.1.1.1 (fun q q1 q2 q3 q4 => ?_) k 0 sc x (by omega) h.2.2.2.1 he)
  obtain ⟨ty, t1, t2⟩ := q2
  rw [t1, q4]
  refine c_is (c := cut c I) (L := L) (by omega) h.1.1.1 (h.1.nM hm.2.1) (pT_mv hv _ _ _ t2) (pV_mv hv _ _ _ q3) hm (fun τ k b f g l => ?_)
  obtain ⟨u1, u2, u3, u4⟩ := k a (by omega) ne
  exact ok τ (jfr.is k g l) b ⟨h4, u1.trans h1, fun z => z.2 h2, by rw [u2]; exact h5⟩ f (by rw [u2]; exact h3)
theorem c_jfree {a f p : Nat} (hl : 5 ≤ lev) (hJN : JN c X J TN) (hr : rT R TN σ (.tag f (.tag p .nil)) a 0 I) (h : JB R c L σ X J sc x) (hI : ∀ q, I q → c.E q) (hz : ∀ k, k < c.nc → sw (J.ct k) ≤ z) (hm : MB G R σ X K w (n + 1) (s + 8))
    (ok : ∀ τ u ty r so, sJudge X J (m + 1) (.tag f (.tag p .nil)) sc K = (K, .ok (u, ty, r, so)) → jfr R I σ τ → MB G R τ X K w n s → pT (cut c I) τ u a 0 → gT u false (List.replicate sc.length true) → JF (cut c I) L R τ ty r so → tyG c.ns z (scEnv sc) ty r so → gi τ a 1 = iI (f : Int) → Q (.returned none) τ)
    (er : ∀ y τ e pl, sJudge X J (m + 1) (.tag f (.tag p .nil)) sc K = (K, .error (e, pl)) → flt τ y e pl → jfr R I σ τ → MB G R τ X K w n s → Q (.threw y) τ) : CQ (wP G s0 l KK T) mX4_free lev (.ref (R 3) :: [va_rf (some a)]) σ Q := by
  obtain ⟨l', rfl⟩ := Nat.exists_eq_add_of_le' hl
  obtain ⟨h1, h2, h3, h4, ⟨o, h5, h6⟩, h7, h8⟩ := hr
  have ne : a ≠ R 3 := fun z => by have := h.1.1.1; rw [z] at h1; omega
  have nM : ¬ isM R a := hm.2.1.no h1 (by omega) (by omega) (Or.inl (by omega))
  obtain ⟨jn1, jn2⟩ := hJN p
  have hns : c.ns ≤ 8 := h.2.2.1.2.2.1
  have fin : ∀ {σ2 : GSt}, keep (fun q => q = a) σ σ2 → gle σ σ2 → MB G R σ2 X K w (n + 1) (s + 8) → jfr R I σ σ2 ∧ JB R (cut c I) L σ2 X J sc x := fun hk hg hb => by
    have j2 : jfr R I σ _ := jfr.own hk h2 ne h.1.1.1 hg
    exact ⟨j2, h.mv hm.2.1 j2 hI (fun q z => z.1) rfl⟩
  refine tX4_free ⟨a, rfl, h1, h.1.1.1, ?_⟩
  rw [h5]
  refine c_find (J := J) (X := X) (by omega) h.1 h.2.1 h.2.2.1.2.2.2 h6 (onR_ret (fun _ => ?_))
  rw [← jn1]
  generalize hr5 : Option.map c.N (J.cn p) = r5
  cases hc : J.cn p with
  | some k =>
    have er5 : r5 = some (c.N k) := by rw [← hr5, hc]; rfl
    subst er5
    have hk : k < c.nc := lastN_lt (jn1.symm.trans hc)
    have k1 : keep (fun q => q = a) σ (gpr a 3 (some (c.N k)) σ) := keep.rf.pr (fun _ => rfl)
    have b1 : MB G R (gpr a 3 (some (c.N k)) σ) X K w (n + 1) (s + 8) := hm.pr' nM
    obtain ⟨j1, B1⟩ := fin k1 ⟨⟨Nat.le_refl _, Nat.le_refl _⟩, fun _ _ => rfl⟩ b1
    have e3 : gr (gpr a 3 (some (c.N k)) σ) a 3 = some (c.N k) := by rw [gr_pr, if_pos ⟨rfl, rfl⟩]
    refine ⟨fun q => ?_, fun a6 q => ?_⟩
    · have : gr (gpr a 3 (some (c.N k)) σ) a 3 = none := q
      rw [e3] at this; cases this
    · have q' : gr (gpr a 3 (some (c.N k)) σ) a 3 = some a6 := q
      rw [e3] at q'
      cases q'
      have i1 : gi (gpr a 3 (some (c.N k)) σ) a 4 = iI (-1) := h8
      have i2 : gi (gpr a 3 (some (c.N k)) σ) a 1 = iI (f : Int) := h3
      have i3 : gk (gpr a 3 (some (c.N k)) σ) a = 12 := h1
      show gk (gpr a 3 (some (c.N k)) σ) (c.N k) = 21 ∧ CQ (wP G s0 l KK T) mX4_is (l' + 4) (.ref (R 3) :: [va_rf (gr (gpr a 3 (some (c.N k)) σ) (c.N k) 1), va_rf none, .int (gi (gpr a 3 (some (c.N k)) σ) (c.N k) 2)]) (gpr a 3 (some (c.N k)) σ) _
      generalize gpr a 3 (some (c.N k)) σ = σ1 at *
      obtain ⟨g1, g2, g3, g4, g5, b, g6, g7⟩ := B1.1.2.2.2.2.2.2 k hk
      rw [g6, g2]
      refine ⟨g1, c_is (c := cut c I) (L := L) (r := .nil) (by omega) B1.1.1.1 (B1.1.nM b1.2.1) g7 trivial b1 (fun τ k b f g l => ?_)⟩
      obtain ⟨u1, u2, u3, u4⟩ := k a (by omega) ne
      exact ok τ (.tag _ .nil) _ .nil _ (by rw [sJudge_fr, hc]) (j1.t2 (jfr.is k g l)) (b.le (by omega) (by omega)) ⟨hk, u1.trans i3, fun z => z.2 h2, by rw [u3]; exact e3, by rw [u2]; exact i1⟩ trivial f ⟨⟨sc.length, (scEnv_all sc).symm⟩, g5, trivial, g3, g4, hz _ hk⟩ (by rw [u2]; exact i2)
  | none =>
    have er5 : r5 = none := by rw [← hr5, hc]; rfl
    subst er5
    have k1 : keep (fun q => q = a) σ (gpr a 3 none σ) := keep.rf.pr (fun _ => rfl)
    have b1 : MB G R (gpr a 3 none σ) X K w (n + 1) (s + 8) := hm.pr' nM
    obtain ⟨j1, B1⟩ := fin k1 ⟨⟨Nat.le_refl _, Nat.le_refl _⟩, fun _ _ => rfl⟩ b1
    have e3 : gr (gpr a 3 none σ) a 3 = none := by rw [gr_pr, if_pos ⟨rfl, rfl⟩]
    have e2 : gr (gpr a 3 none σ) a 2 = some o := by rw [gr_pr, if_neg (by omega)]; exact h5
    have i0 : gi (gpr a 3 none σ) a 0 = iI (p : Int) := h4
    have i2 : gi (gpr a 3 none σ) a 1 = iI (f : Int) := h3
    have i3 : gk (gpr a 3 none σ) a = 12 := h1
    have p6 : pS (gpr a 3 none σ) (R 5) o (TN p) := h6.kpW k1 (fun q z => by subst z; omega)
    have l1 : gle σ (gpr a 3 none σ) := ⟨⟨Nat.le_refl _, Nat.le_refl _⟩, fun _ _ => rfl⟩
    show (gr (gpr a 3 none σ) a 3 = none → _) ∧ (∀ a6, gr (gpr a 3 none σ) a 3 = some a6 → _)
    refine ⟨fun _ => ⟨R 1, B1.1.1.2.1, B1.2.1.2.1, ?_⟩, fun a6 q => ?_⟩
    · show CQ (wP G s0 l KK T) mX2_find (l' + 4) (.ref (R 1) :: [va_rf (gr (gpr a 3 none σ) a 2)]) (gpr a 3 none σ) _
      rw [e2]
      generalize gpr a 3 none σ = σ1 at *
      refine c_tfind (c := cut c I) (J := J) (X := X) (by omega) B1.1 B1.2.1 p6 (fun _ => ?_)
      show ((gi (gpi a 4 _ σ1) a 4 = _ → _) ∧ (¬ gi (gpi a 4 _ σ1) a 4 = _ → _))
      have ef : firstN X.sn (TN p) (cut c I).ns 0 = J.sf p := jn2.symm
      rw [ef]
      cases hs : J.sf p with
      | none =>
        show ((gi (gpi a 4 (iI (-1)) σ1) a 4 = _ → _) ∧ (¬ gi (gpi a 4 (iI (-1)) σ1) a 4 = _ → _))
        have k2 : keep (fun q => q = a) σ (gpi a 4 (iI (-1)) σ1) := k1.pi (fun _ => rfl)
        have b2 : MB G R (gpi a 4 (iI (-1)) σ1) X K w (n + 1) (s + 8) := b1.pi' nM
        have l2 : gle σ (gpi a 4 (iI (-1)) σ1) := l1
        obtain ⟨j2, B2⟩ := fin k2 l2 b2
        have e4 : gi (gpi a 4 (iI (-1)) σ1) a 4 = iI (-1) := by rw [gi_pi, if_pos ⟨rfl, rfl⟩]
        have i0' : gi (gpi a 4 (iI (-1)) σ1) a 0 = iI (p : Int) := by rw [gi_pi, if_neg (by omega)]; exact i0
        have ia : gk (gpi a 4 (iI (-1)) σ1) a = 12 := i3
        refine ⟨fun _ => ⟨b2.2.2.2.gr b2.1, ?_⟩, fun q => absurd e4 q⟩
        generalize gpi a 4 (iI (-1)) σ1 = σ2 at *
        rw [gi_mk (b2.1.ne (by omega)), i0']
        refine c_flt (e := 3) (p := (p : Int)) (by omega) b2.1 (fun τ t1 t2 t3 t4 t5 l => ?_)
        have lf : gle σ2 τ := ⟨⟨by omega, by omega⟩, fun q hq => (t1 q hq id).1⟩
        exact er _ τ 3 p (by rw [sJudge_fr, hc, hs]) t5 (j2.t2 (jfr.N t1 lf B2.1)) (b2.new t1 t2 t3 t4)
      | some v =>
        have hv : v < c.ns := by have := firstN_lt (jn2.symm.trans hs); omega
        have hax := h.1.2.2.2.1 v (by omega)
        show ((gi (gpi a 4 (iI (v : Int)) σ1) a 4 = _ → _) ∧ (¬ gi (gpi a 4 (iI (v : Int)) σ1) a 4 = _ → _))
        have k2 : keep (fun q => q = a) σ (gpi a 4 (iI (v : Int)) σ1) := k1.pi (fun _ => rfl)
        have b2 : MB G R (gpi a 4 (iI (v : Int)) σ1) X K w (n + 1) (s + 8) := b1.pi' nM
        have l2 : gle σ (gpi a 4 (iI (v : Int)) σ1) := l1
        obtain ⟨j2, B2⟩ := fin k2 l2 b2
        have e4 : gi (gpi a 4 (iI (v : Int)) σ1) a 4 = iI (v : Int) := by rw [gi_pi, if_pos ⟨rfl, rfl⟩]
        have e5 : gr (gpi a 4 (iI (v : Int)) σ1) a 3 = none := e3
        have i0' : gi (gpi a 4 (iI (v : Int)) σ1) a 0 = iI (p : Int) := by rw [gi_pi, if_neg (by omega)]; exact i0
        have i1' : gi (gpi a 4 (iI (v : Int)) σ1) a 1 = iI (f : Int) := by rw [gi_pi, if_neg (by omega)]; exact i2
        have ia : gk (gpi a 4 (iI (v : Int)) σ1) a = 12 := i3
        refine ⟨fun q => ?_, fun _ => ⟨R 1, B2.1.1.2.1, B2.2.1.2.1, ?_⟩⟩
        · have q' := e4.symm.trans q
          rw [iI_eq (by omega) (by omega) (by omega) (by omega)] at q'
          omega
        · rw [e4]
          generalize gpi a 4 (iI (v : Int)) σ1 = σ2 at *
          refine c_axiom (c := cut c I) (J := J) (X := X) (by omega) B2.1 B2.2.1 (by show -1 ≤ (v : Int) ∧ (v : Int) < (c.ns : Int); omega) ?_
          rw [if_neg (by omega), Int.toNat_natCast]
          intro l3
          refine ⟨fun q => ⟨b2.2.2.2.gr b2.1, ?_⟩, fun q => ?_⟩
          · rw [iI_eq (by omega) (by omega) (by omega) (by omega)] at q
            rw [gi_mk (b2.1.ne (by omega)), i0']
            refine c_flt (e := 7) (p := (p : Int)) (by omega) b2.1 (fun τ t1 t2 t3 t4 t5 l => ?_)
            have lf : gle σ2 τ := ⟨⟨by omega, by omega⟩, fun q hq => (t1 q hq id).1⟩
            exact er _ τ 7 p (by rw [sJudge_fr, hc, hs]; show (if J.ax v = -1 then _ else _) = _; rw [if_pos q]) t5 (j2.t2 (jfr.N t1 lf B2.1)) (b2.new t1 t2 t3 t4)
          · have q' : J.ax v ≠ -1 := fun z => q (by rw [z])
            obtain ⟨y, hy⟩ : ∃ y : Nat, J.ax v = (y : Int) := ⟨(J.ax v).toNat, by omega⟩
            have hyl : y < c.ns := by omega
            have hay := h.1.2.2.2.1 y (by omega)
            rw [hy]
            refine c_isSort (c := cut c I) (by omega) B2 hyl (b2.le (n' := n + 1) (s' := s + 3 + 5) (by omega) (by omega)) (fun τ j b f l => ?_)
            obtain ⟨u1, u2, u3, u4⟩ := j.1 a (by omega) (by rintro (z | z | z); exact nM z; exact ne z; exact z)
            exact ok τ (.tag v (.align true)) (.tag y (.align true)) .nil (J.ax y) (by rw [sJudge_fr, hc, hs]; show (if J.ax v = -1 then _ else _) = _; rw [if_neg q', hy]; rfl) (j2.tr j (fun _ z => z) (fun _ z => z.elim)) (b.le (by omega) (by omega)) ⟨hv, u1.trans ia, fun z => z.2 h2, by rw [u3]; exact e5, by rw [u2]; exact e4⟩ trivial f ⟨⟨sc.length, (scEnv_all sc).symm⟩, trivial, trivial, hay.2.1, (by have := hay.2.2; omega), Nat.zero_le _⟩ (by rw [u2]; exact i1')
    · rw [e3] at q; cases q
end PJL
