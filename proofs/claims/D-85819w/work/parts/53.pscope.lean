/-! P OVER S (22): judging: what stands around -/
/-- the binders around: each a value, its type, where that stands, its sort -/
def pSc (c : PC) (L : Nat → Nat → Prop) (σ : GSt) : SC → Option Nat → Prop
  | [], none => True
  | e :: sc, some q => gk σ q = 15 ∧ pV c L σ (.append e.1 (scEnv sc)) true (gr σ q 0) ∧ (∃ ty, gr σ q 1 = some ty ∧ pT c σ e.2.1 ty 0) ∧ pV c L σ e.2.2.1 true (gr σ q 2) ∧ gi σ q 3 = iI e.2.2.2 ∧ pSc c L σ sc (gr σ q 4)
  | _, _ => False
/-- which places hold a local -/
def lsh : V → List Bool
  | .append (.tag _ (.align false)) r => true :: lsh r
  | .append _ r => false :: lsh r
  | _ => []
/-- a type as judging finds it, where env is around: it stands somewhere along env, comes to locals alone -/
def tyG (ns z : Nat) (env t r : V) (so : Int) : Prop := (∃ m, r = vdrop m env) ∧ gT t true (lsh r) ∧ gV r true ∧ -1 ≤ so ∧ so < 8 ∧ sw t ≤ z
/-- they are good -/
def gSc (ns z : Nat) : SC → Prop
  | [] => True
  | e :: sc => gV e.1 false ∧ e.1 ≠ .line ∧ tyG ns z (scEnv sc) e.2.1 e.2.2.1 e.2.2.2 ∧ gSc ns z sc
/-- locals of judging -/
def LJ (L : Nat → Nat → Prop) (σ : GSt) (n : Nat) (gg : List Bool) : Prop := LN L σ n gg ∧ (∀ i q q', L i q → L i q' → q = q') ∧ (∀ i j q, L i q → L j q → i = j)
theorem scEnv_len : ∀ (sc : SC), vlen (scEnv sc) = sc.length := by
  intro sc
  induction sc with
  | nil => rfl
  | cons e sc ih => show vlen (scEnv sc) + 1 = _; rw [ih]; rfl
theorem scEnv_shp {ns z : Nat} : ∀ (sc : SC), gSc ns z sc → shp (scEnv sc) = List.replicate sc.length true := by
  intro sc
  induction sc with
  | nil => intro _; rfl
  | cons e sc ih =>
    intro h
    show shp (.append e.1 (scEnv sc)) = _
    rw [shp_cons h.2.1, ih h.2.2.2]
    rfl
theorem scEnv_gV {ns z : Nat} : ∀ (sc : SC), gSc ns z sc → gV (scEnv sc) true := by
  intro sc
  induction sc with
  | nil => intro _; trivial
  | cons e sc ih => intro h; exact ⟨h.1, ih h.2.2.2⟩
/-- more places may be come to -/
def lb (g g' : List Bool) : Prop := g.length = g'.length ∧ ∀ k : Nat, g[k]? = some true → g'[k]? = some true
theorem lb.cons {g g' : List Bool} {b : Bool} (h : lb g g') : lb (b :: g) (b :: g') := ⟨by simp [h.1], fun k => by cases k with
  | zero => exact id
  | succ k => exact h.2 k⟩
theorem lb.up {g g' : List Bool} (h : lb g g') : lb (false :: g) (true :: g') := ⟨by simp [h.1], fun k => by cases k with
  | zero => intro q; cases q
  | succ k => exact h.2 k⟩
theorem lb.dr {g g' : List Bool} (h : lb g g') (m : Nat) : lb (g.drop m) (g'.drop m) := ⟨by simp [h.1], fun k => by rw [List.getElem?_drop, List.getElem?_drop]; exact h.2 _⟩
theorem gT_lb : ∀ (t : V) (y : Bool) (g : List Bool), gT t y g → ∀ g', lb g g' → gT t y g' := by
  intro t y g
  fun_induction gT t y g with
  | case1 k y g => intro h g' hl; exact hl.2 _ h
  | case2 => intros; trivial
  | case3 => intros; trivial
  | case4 y g d b i1 i2 => intro h g' hl; exact ⟨i1 h.1 _ hl, i2 h.2 _ hl.cons⟩
  | case5 y g d b i1 i2 => intro h g' hl; exact ⟨i1 h.1 _ hl, i2 h.2 _ hl.cons⟩
  | case6 y g f ps i1 i2 => intro h g' hl; exact ⟨i1 h.1 _ hl, i2 h.2.1 _ hl, h.2.2⟩
  | case7 p d b y g i1 i2 =>
    intro h g' hl
    have : gT (.tag p (.group (.append d b) .fill)) y g' = (gT d false g' ∧ gT b y (true :: g')) := by rcases p with _ | _ | _ | p <;> rfl
    rw [this]
    exact ⟨i1 h.1 _ hl, i2 h.2 _ hl.cons⟩
  | case8 m t y g i1 => intro h g' hl; exact ⟨h.1, by rw [← hl.1]; exact h.2.1, i1 h.2.2 _ (hl.dr m)⟩
  | case9 t y g i1 => intro h g' hl; rw [gT_snk]; exact ⟨h.1, i1 h.2 _ hl.cons⟩
  | case10 x xs y g i1 i2 => intro h g' hl; exact ⟨i1 h.1 _ hl, i2 h.2 _ hl⟩
  | case11 => intros; trivial
  | case12 => intro h; exact h.elim
theorem lsh_loc {i : Nat} {r : V} : lsh (.append (vLoc i) r) = true :: lsh r := rfl
theorem lsh_oth {v r : V} (h : ∀ i, v ≠ vLoc i) : lsh (.append v r) = false :: lsh r := lsh.eq_2 v r (fun i q => h i q)
theorem lsh_shp : ∀ (r : V), lb (lsh r) (shp r) := by
  intro r
  induction r with
  | append v r _ ih =>
    by_cases h : ∃ i, v = vLoc i
    · obtain ⟨i, rfl⟩ := h
      rw [lsh_loc, shp_cons (by simp [vLoc])]
      exact ih.cons
    · rw [lsh_oth (fun i q => h ⟨i, q⟩)]
      by_cases hv : v = .line
      · subst hv; exact ih.cons
      · rw [shp_cons hv]; exact ih.up
  | _ => exact ⟨rfl, fun k h => by simp [lsh] at h⟩
theorem lsh_drop : ∀ (m : Nat) (r : V), lsh (vdrop m r) = (lsh r).drop m := by
  intro m
  induction m with
  | zero => intro r; rfl
  | succ m ih =>
    intro r
    cases r with
    | append v r =>
      show lsh (vdrop m r) = _
      rw [ih]
      by_cases h : ∃ i, v = vLoc i
      · obtain ⟨i, rfl⟩ := h; rfl
      · rw [lsh_oth (fun i q => h ⟨i, q⟩)]; rfl
    | _ => rfl
theorem vdrop_add : ∀ (k m : Nat) (r : V), vdrop m (vdrop k r) = vdrop (k + m) r := by
  intro k
  induction k with
  | zero => intro m r; rw [Nat.zero_add]; rfl
  | succ k ih =>
    intro m r
    rw [Nat.succ_add]
    cases r with
    | append v r => exact ih m r
    | _ => cases m <;> rfl
theorem vlen_drop : ∀ (m : Nat) (r : V), vlen (vdrop m r) = vlen r - m := by
  intro m
  induction m with
  | zero => intro r; rfl
  | succ m ih =>
    intro r
    cases r with
    | append v r =>
      show vlen (vdrop m r) = vlen r + 1 - (m + 1)
      rw [ih]; omega
    | _ => exact (Nat.zero_sub _).symm
theorem tyG.le {ns z z' : Nat} {env t r : V} {so : Int} (h : tyG ns z env t r so) (hz : z ≤ z') : tyG ns z' env t r so := ⟨h.1, h.2.1, h.2.2.1, h.2.2.2.1, h.2.2.2.2.1, Nat.le_trans h.2.2.2.2.2 hz⟩
theorem tyG.up {ns z : Nat} {env t r v : V} {so : Int} (h : tyG ns z env t r so) : tyG ns z (.append v env) t r so := ⟨h.1.elim fun m e => ⟨m + 1, e⟩, h.2⟩
theorem tyG.sh {ns z : Nat} {env t r : V} {so : Int} (h : tyG ns z env t r so) : gT t true (shp r) := gT_lb _ _ _ h.2.1 _ (lsh_shp r)
theorem gSc.le {ns z z' : Nat} : ∀ {sc : SC}, gSc ns z sc → z ≤ z' → gSc ns z' sc := by
  intro sc
  induction sc with
  | nil => intros; trivial
  | cons e sc ih => intro h hz; exact ⟨h.1, h.2.1, h.2.2.1.le hz, ih h.2.2.2 hz⟩
theorem gSc.get {ns z : Nat} : ∀ {sc : SC} {k : Nat} {e : V × V × V × Int}, gSc ns z sc → sc[k]? = some e → tyG ns z (scEnv sc) e.2.1 e.2.2.1 e.2.2.2 := by
  intro sc
  induction sc with
  | nil => intro k e _ h; simp at h
  | cons e sc ih =>
    intro k e' h hk
    cases k with
    | zero => cases hk; exact h.2.2.1.up
    | succ k => exact (ih h.2.2.2 hk).up
section PSC
variable {G : GPl} {s0 : State} {l : Launch} {KK : Nat → Option Nat} {T : Nat → Nat} {lev d : Nat} {Q : Outcome → GSt → Prop} {R : Nat → Nat} {σ τ st0 : GSt} {X : SX} {J : JX} {K K' : KS} {w n s o : Nat} {c c' : PC} {L L' : Nat → Nat → Prop} {W : Nat → Prop} {sc : SC} {gg : List Bool}
theorem pSc_mv (h : mv c c' L L' σ τ) (hk : keep W σ τ) (hW : ∀ a, gk σ a = 15 → ¬ W a) : ∀ (sc : SC) (x : Option Nat), pSc c L σ sc x → pSc c' L' τ sc x := by
  intro sc
  induction sc with
  | nil => intro x hx; cases x with
    | none => trivial
    | some q => exact hx.elim
  | cons e sc ih => intro x hx; cases x with
    | none => exact hx.elim
    | some q =>
      obtain ⟨h1, h2, ⟨ty, h3, h4⟩, h5, h6, h7⟩ := hx
      obtain ⟨e1, e2, e3, e4⟩ := hk q (by omega) (hW q h1)
      exact ⟨e1.trans h1, by rw [e3]; exact pV_mv h _ _ _ h2, ⟨ty, by rw [e3]; exact h3, pT_mv h _ _ _ h4⟩, by rw [e3]; exact pV_mv h _ _ _ h5, by rw [e2]; exact h6, by rw [e3]; exact ih _ h7⟩
theorem LJ.LF (h : LJ L σ d gg) (hd : d ≤ 1000) : LF L σ K := ⟨fun i q hq => by have := h.1 i q hq; exact ⟨this.2.1, by omega⟩, h.2.1, h.2.2⟩
theorem LJ.LN (h : LJ L σ d gg) : LN L σ d gg := h.1
theorem LJ.mv (h : LJ L σ d gg) (hm : mv c c' L L' σ τ) : LJ L τ d gg := ⟨h.1.mv hm, h.2⟩
/-- the environment that stands around -/
def scY (σ : GSt) (x : Option Nat) : Option Nat := match x with
  | none => none
  | some q => gr σ q 0
theorem pSc_env : ∀ {sc : SC} {x : Option Nat}, pSc c L σ sc x → pV c L σ (scEnv sc) true (scY σ x) := by
  intro sc x h
  cases sc with
  | nil => cases x with
    | none => trivial
    | some q => exact h.elim
  | cons e sc => cases x with
    | none => exact h.elim
    | some q => exact h.2.1
theorem pSc_tag {q : Nat} (h : pSc c L σ sc (some q)) : gk σ q = 15 := by
  cases sc with
  | nil => exact h.elim
  | cons e sc => exact h.1
theorem scY_keep {x : Option Nat} (h : pSc c L σ sc x) (hk : keep W σ τ) (hW : ∀ a, gk σ a = 15 → ¬ W a) : scY τ x = scY σ x := by
  cases x with
  | none => rfl
  | some q =>
    have h1 := pSc_tag h
    exact (hk q (by omega) (hW q h1)).2.2.1 0
theorem c_of {x : Option Nat} (hl : 1 ≤ lev) (hs : pSc c L σ sc x) (ok : Q (.returned (some (va_rf (scY σ x)))) σ) : CQ (wP G s0 l KK T) mX17_of lev [va_rf x] σ Q := by
  obtain ⟨l', rfl⟩ := Nat.exists_eq_add_of_le' hl
  cases x with
  | none => exact tX17_of ⟨fun _ => ok, fun a e => (by cases e)⟩
  | some q =>
    refine tX17_of ⟨fun z => (by cases z), fun a z => ?_⟩
    cases z
    exact ⟨pSc_tag hs, ok⟩
theorem c_depth {y : Option Nat} {r : V} (hl : 1 ≤ lev) (hr : pV c L σ r true y) (ok : Q (.returned (some (.int (iI (vlen r : Int))))) σ) : CQ (wP G s0 l KK T) mX18_depth lev [va_rf y] σ Q := by
  obtain ⟨l', rfl⟩ := Nat.exists_eq_add_of_le' hl
  have hd := pE_dep hr
  refine tX18_depth ⟨fun z => ?_, fun a z => ⟨(hd.2 a z).1, ?_⟩⟩
  · rw [hd.1 z] at ok; exact ok
  · rw [(hd.2 a z).2]; exact ok
/-- a scope is made, in the cell q (which none of those around is): the value at xv -/
theorem c_scope {σ0 : GSt} {q : Nat} {xv xr : Option Nat} {ty : Nat} {v t r : V} {so : Int} {x : Option Nat} (hl : 2 ≤ lev) (hq : gk σ q = 15) (hv : pV c L σ v false xv) (ht : pT c σ t ty 0) (hr : pV c L σ r true xr) (hs0 : pSc c L σ0 sc x) (hq0 : gk σ0 q = 0) (h0 : keep nil0 σ0 σ) (hqM : ¬ isM R q) (h : MB G R σ X K w (n + 1) (s + 3))
    (ok : ∀ τ, keep (fun a => a = q) σ τ → MB G R τ X K w n s → pSc c L τ ((v, t, r, so) :: sc) (some q) → gn τ = gn σ + 1 → Q (.returned none) τ) : CQ (wP G s0 l KK T) mX17_init lev (.ref q :: [va_rf xv, va_rf (some ty), va_rf xr, .int (iI so), va_rf x]) σ Q := by
  obtain ⟨l', rfl⟩ := Nat.exists_eq_add_of_le' hl
  have hz := h.1
  have n0 : gk σ (gn σ) = 0 := hz.at
  have lq : q ≠ gn σ := hz.ne (by omega)
  have nofr : ¬ isM R (gn σ) := h.2.1.fr hz (Nat.le_refl _)
  have e0 : gn (gpr q 2 xr σ) = gn σ := rfl
  have Wq : Wok c (fun a => a = q) σ := fun a z => by subst z; omega
  have k1 : keep (fun a => a = q) σ (gmk 16 3 (gpr q 2 xr σ)) := ((keep.rf (W := fun a => a = q)).pr (fun _ => rfl)).mk n0
  have m1 : mv c c L L σ (gmk 16 3 (gpr q 2 xr σ)) := mv_keep k1 Wq
  have ks1 : keep (fun a => a = q) σ0 (gmk 16 3 (gpr q 2 xr σ)) := (h0.wk (fun _ z => z.elim) : keep (fun a => a = q) σ0 σ).t2 k1
  have m01 : mv c c L L σ0 (gmk 16 3 (gpr q 2 xr σ)) := mv_keep ks1 (fun a z => by subst z; exact Or.inl hq0)
  have hs1 : pSc c L (gmk 16 3 (gpr q 2 xr σ)) sc x := pSc_mv m01 ks1 (fun a ha z => by subst z; omega) _ _ hs0
  have ey1 : scY (gmk 16 3 (gpr q 2 xr σ)) x = scY σ0 x := scY_keep hs0 ks1 (fun a ha z => by subst z; omega)
  have hy0 := pSc_env hs0
  refine tX17_init ⟨hq, (h.2.2.2.gr hz), ?_⟩
  rw [e0]
  refine c_of (by omega) hs1 (onR_ret (fun _ => ?_))
  rw [ey1]
  generalize scY σ0 x = y at hy0
  have hy : pV c L (gmk 16 3 (gpr q 2 xr σ)) (scEnv sc) true y := pV_mv m01 _ _ _ hy0
  have hd := pE_dep hy
  have t16 : gk (gmk 16 3 (gpr q 2 xr σ)) (gn σ) = 16 := gk_new (n := 3) (σ := gpr q 2 xr σ) n0
  refine c_env (d := vlen (scEnv sc)) (by omega) t16 hd.1 (fun e he => ?_) (fun _ => ?_)
  · obtain ⟨d1, d2⟩ := hd.2 e he
    have d3 := ((pE_dep hy0).2 e he).1
    refine ⟨fun z => ?_, d1, d2⟩
    have d4 := (h0 e (by omega) id).1
    rw [z] at d3 d4
    omega
  · have hz1 : gz (gpr q 2 xr σ) := hz
    have n1 : gk (gpr q 2 xr σ) (gn σ) = 0 := n0
    have kN : keep nil0 (gpr q 2 xr σ) (gpi (gn σ) 2 (iI ((vlen (scEnv sc) + 1 : Nat) : Int)) (gpr (gn σ) 1 y (gpr (gn σ) 0 xv (gmk 16 3 (gpr q 2 xr σ))))) := (((keep.rf.mk n1).pr (fun z => absurd n1 z)).pr (fun z => absurd n1 z)).pi (fun z => absurd n1 z)
    have mN := (h.pr' (j := 2) (x := xr) hqM).new kN (gz.mk hz1) rfl rfl
    have f16 : gk (gpi (gn σ) 2 (iI ((vlen (scEnv sc) + 1 : Nat) : Int)) (gpr (gn σ) 1 y (gpr (gn σ) 0 xv (gmk 16 3 (gpr q 2 xr σ))))) (gn σ) = 16 := t16
    have fi : gi (gpi (gn σ) 2 (iI ((vlen (scEnv sc) + 1 : Nat) : Int)) (gpr (gn σ) 1 y (gpr (gn σ) 0 xv (gmk 16 3 (gpr q 2 xr σ))))) (gn σ) 2 = iI ((vlen (scEnv sc) + 1 : Nat) : Int) := by rw [gi_pi, if_pos ⟨rfl, rfl⟩]
    have fa : gr (gpi (gn σ) 2 (iI ((vlen (scEnv sc) + 1 : Nat) : Int)) (gpr (gn σ) 1 y (gpr (gn σ) 0 xv (gmk 16 3 (gpr q 2 xr σ))))) (gn σ) 0 = xv := by rw [gr_pi, gr_pr, if_neg (by omega), gr_pr, if_pos ⟨rfl, rfl⟩]
    have fb : gr (gpi (gn σ) 2 (iI ((vlen (scEnv sc) + 1 : Nat) : Int)) (gpr (gn σ) 1 y (gpr (gn σ) 0 xv (gmk 16 3 (gpr q 2 xr σ))))) (gn σ) 1 = y := by rw [gr_pi, gr_pr, if_pos ⟨rfl, rfl⟩]
    have f2 : gr (gpi (gn σ) 2 (iI ((vlen (scEnv sc) + 1 : Nat) : Int)) (gpr (gn σ) 1 y (gpr (gn σ) 0 xv (gmk 16 3 (gpr q 2 xr σ))))) q 2 = xr := by
      rw [(kN q (show gk σ q ≠ 0 by omega) id).2.2.1 2, gr_pr, if_pos ⟨rfl, rfl⟩]
    have fk : gk (gpi (gn σ) 2 (iI ((vlen (scEnv sc) + 1 : Nat) : Int)) (gpr (gn σ) 1 y (gpr (gn σ) 0 xv (gmk 16 3 (gpr q 2 xr σ))))) q = 15 := (kN q (show gk σ q ≠ 0 by omega) id).1.trans hq
    have fn : gn (gpi (gn σ) 2 (iI ((vlen (scEnv sc) + 1 : Nat) : Int)) (gpr (gn σ) 1 y (gpr (gn σ) 0 xv (gmk 16 3 (gpr q 2 xr σ))))) = gn σ + 1 := rfl
    have kq : keep (fun a => a = q) σ (gpi (gn σ) 2 (iI ((vlen (scEnv sc) + 1 : Nat) : Int)) (gpr (gn σ) 1 y (gpr (gn σ) 0 xv (gmk 16 3 (gpr q 2 xr σ))))) := ((keep.rf (W := fun a => a = q)).pr (fun _ => rfl)).t2 (kN.wk (fun _ z => z.elim))
    generalize gpi (gn σ) 2 (iI ((vlen (scEnv sc) + 1 : Nat) : Int)) (gpr (gn σ) 1 y (gpr (gn σ) 0 xv (gmk 16 3 (gpr q 2 xr σ)))) = σ2 at *
    have kF : keep (fun a => a = q) σ (gpr q 4 x (gpi q 3 (iI so) (gpr q 1 (some ty) (gpr q 0 (some (gn σ)) σ2)))) := (((kq.pr (fun _ => rfl)).pr (fun _ => rfl)).pi (fun _ => rfl)).pr (fun _ => rfl)
    have mF : MB G R (gpr q 4 x (gpi q 3 (iI so) (gpr q 1 (some ty) (gpr q 0 (some (gn σ)) σ2)))) X K w n s := (((mN.pr' hqM).pr' hqM).pi' hqM).pr' hqM
    have k0F : keep (fun a => a = q) σ0 (gpr q 4 x (gpi q 3 (iI so) (gpr q 1 (some ty) (gpr q 0 (some (gn σ)) σ2)))) := (h0.wk (fun _ z => z.elim) : keep (fun a => a = q) σ0 σ).t2 kF
    have vF : mv c c L L σ (gpr q 4 x (gpi q 3 (iI so) (gpr q 1 (some ty) (gpr q 0 (some (gn σ)) σ2)))) := mv_keep kF Wq
    have v0F : mv c c L L σ0 (gpr q 4 x (gpi q 3 (iI so) (gpr q 1 (some ty) (gpr q 0 (some (gn σ)) σ2)))) := mv_keep k0F (fun a z => by subst z; exact Or.inl hq0)
    refine ok _ kF mF ⟨fk, ?_, ⟨ty, ?_, pT_mv vF _ _ _ ht⟩, ?_, ?_, ?_⟩ fn
    · rw [gr_pr, if_neg (by omega), gr_pi, gr_pr, if_neg (by omega), gr_pr, if_pos ⟨rfl, rfl⟩]
      refine ⟨f16, ?_, ?_, ?_⟩
      · rw [gi_pr, gi_pi, if_neg (by omega), gi_pr, gi_pr]; exact fi
      · rw [gr_pr, if_neg (by omega), gr_pi, gr_pr, if_neg (by omega), gr_pr, if_neg (by omega), fa]; exact pV_mv vF _ _ _ hv
      · rw [gr_pr, if_neg (by omega), gr_pi, gr_pr, if_neg (by omega), gr_pr, if_neg (by omega), fb]; exact pV_mv v0F _ _ _ hy0
    · rw [gr_pr, if_neg (by omega), gr_pi, gr_pr, if_pos ⟨rfl, rfl⟩]
    · rw [gr_pr, if_neg (by omega), gr_pi, gr_pr, if_neg (by omega), gr_pr, if_neg (by omega), f2]; exact pV_mv vF _ _ _ hr
    · rw [gi_pr, gi_pi, if_pos ⟨rfl, rfl⟩]
    · rw [gr_pr, if_pos ⟨rfl, rfl⟩]; exact pSc_mv v0F k0F (fun a ha z => by subst z; omega) _ _ hs0
end PSC
