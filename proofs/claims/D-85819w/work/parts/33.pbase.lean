/-! P OVER S (1): ints, states, what stays -/
theorem iI_toInt {z : Int} (h1 : -2147483648 ≤ z) (h2 : z < 2147483648) : (iI z).toInt = z := by
  unfold iI
  exact Int32.toInt_ofInt_of_le h1 h2
theorem iI_nat {a : Nat} (h : a < 2147483648) : (iI (a : Int)).toInt = a := iI_toInt (by omega) (by omega)
theorem iI_eq {x y : Int} (h1 : -2147483648 ≤ x) (h2 : x < 2147483648) (h3 : -2147483648 ≤ y) (h4 : y < 2147483648) : iI x = iI y ↔ x = y :=
  ⟨fun h => by have := congrArg Int32.toInt h; rwa [iI_toInt h1 h2, iI_toInt h3 h4] at this, fun h => by rw [h]⟩
theorem iI_le {x y : Int} (h1 : -2147483648 ≤ x) (h2 : x < 2147483648) (h3 : -2147483648 ≤ y) (h4 : y < 2147483648) : iI x ≤ iI y ↔ x ≤ y := by
  rw [Int32.le_iff_toInt_le, iI_toInt h1 h2, iI_toInt h3 h4]
theorem iI_lt {x y : Int} (h1 : -2147483648 ≤ x) (h2 : x < 2147483648) (h3 : -2147483648 ≤ y) (h4 : y < 2147483648) : iI x < iI y ↔ x < y := by
  rw [Int32.lt_iff_toInt_lt, iI_toInt h1 h2, iI_toInt h3 h4]
theorem iI_add (x y : Int) : iI x + iI y = iI (x + y) := (Int32.ofInt_add x y).symm
theorem iI_sub (x y : Int) : iI x - iI y = iI (x - y) := (Int32.ofInt_sub x y).symm
theorem iI_mul (x y : Int) : iI x * iI y = iI (x * y) := (Int32.ofInt_mul x y).symm
theorem iI_suc (a : Nat) : iI (a : Int) + iI 1 = iI ((a + 1 : Nat) : Int) := by rw [iI_add]; rfl
theorem iI_prd {a : Nat} : iI ((a + 1 : Nat) : Int) - iI 1 = iI (a : Int) := by rw [iI_sub]; congr 1; omega
theorem iI_in {a n : Nat} (h : a < n) (hn : a < 2147483648) : inr (iI (a : Int)) n := by
  unfold inr
  rw [iI_nat hn]
  omega
theorem iI_ix {a : Nat} (h : a < 2147483648) : ix (iI (a : Int)) = a := by
  show (iI (a : Int)).toInt.toNat = a
  rw [iI_nat h]
  rfl
theorem iI_z : (0 : Int32) = iI 0 := rfl
section PB
variable {σ τ υ : GSt} {W W' : Nat → Prop} {a b i j t n : Nat} {v : Int32} {x : Option Nat}
theorem gi_pi : gi (gpi a j v σ) b i = if b = a ∧ i = j then v else gi σ b i := by
  show va_up σ.2.1 a (va_up (σ.2.1 a) j v) b i = _
  by_cases h : b = a
  · subst h
    rw [va_up_self]
    by_cases h2 : i = j
    · subst h2; rw [va_up_self, if_pos ⟨rfl, rfl⟩]
    · rw [va_up_ne _ _ h2, if_neg (fun q => h2 q.2)]
  · rw [va_up_ne _ _ h, if_neg (fun q => h q.1)]
theorem gr_pr : gr (gpr a j x σ) b i = if b = a ∧ i = j then x else gr σ b i := by
  show va_up σ.2.2.1 a (va_up (σ.2.2.1 a) j x) b i = _
  by_cases h : b = a
  · subst h
    rw [va_up_self]
    by_cases h2 : i = j
    · subst h2; rw [va_up_self, if_pos ⟨rfl, rfl⟩]
    · rw [va_up_ne _ _ h2, if_neg (fun q => h2 q.2)]
  · rw [va_up_ne _ _ h, if_neg (fun q => h q.1)]
theorem gi_pr : gi (gpr a j x σ) b i = gi σ b i := rfl
theorem gr_pi : gr (gpi a j v σ) b i = gr σ b i := rfl
theorem gk_pi : gk (gpi a j v σ) b = gk σ b := rfl
theorem gk_pr : gk (gpr a j x σ) b = gk σ b := rfl
theorem gl_pi : gl (gpi a j v σ) b = gl σ b := rfl
theorem gl_pr : gl (gpr a j x σ) b = gl σ b := rfl
theorem gn_pi : gn (gpi a j v σ) = gn σ := rfl
theorem gn_pr : gn (gpr a j x σ) = gn σ := rfl
theorem gm_pi : gm (gpi a j v σ) = gm σ := rfl
theorem gm_pr : gm (gpr a j x σ) = gm σ := rfl
theorem gn_mk : gn (gmk t n σ) = gn σ + 1 := rfl
theorem gm_mk : gm (gmk t n σ) = gm σ + n := rfl
theorem gi_mk (h : b ≠ gn σ) : gi (gmk t n σ) b i = gi σ b i := by
  show va_up σ.2.1 (gn σ) (fun _ => 0) b i = _
  rw [va_up_ne _ _ h]
theorem gr_mk (h : b ≠ gn σ) : gr (gmk t n σ) b i = gr σ b i := by
  show va_up σ.2.2.1 (gn σ) (fun _ => none) b i = _
  rw [va_up_ne _ _ h]
theorem gl_mk (h : b ≠ gn σ) : gl (gmk t n σ) b = gl σ b := by
  show va_up σ.2.2.2.1 (gn σ) n b = _
  rw [va_up_ne _ _ h]
theorem gi_nw : gi (gmk t n σ) (gn σ) i = 0 := by
  show va_up σ.2.1 (gn σ) (fun _ => 0) (gn σ) i = _
  rw [va_up_self]
theorem gr_nw : gr (gmk t n σ) (gn σ) i = none := by
  show va_up σ.2.2.1 (gn σ) (fun _ => none) (gn σ) i = _
  rw [va_up_self]
theorem gl_nw : gl (gmk t n σ) (gn σ) = n := by
  show va_up σ.2.2.2.1 (gn σ) n (gn σ) = _
  rw [va_up_self]
theorem gk_old (h : b ≠ gn σ) : gk (gmk t n σ) b = gk σ b := by
  show (if σ.1 b = 0 ∧ b = σ.2.2.2.2.1 then t else σ.1 b) = σ.1 b
  rw [if_neg (fun q => h q.2)]
/-- behind the last cell nothing stands -/
def gz (σ : GSt) : Prop := ∀ a, gn σ ≤ a → gk σ a = 0
theorem gz.lt (h : gz σ) (hk : gk σ a ≠ 0) : a < gn σ := Nat.not_le.mp fun q => hk (h a q)
theorem gz.ne (h : gz σ) (hk : gk σ a ≠ 0) : a ≠ gn σ := Nat.ne_of_lt (h.lt hk)
theorem gz.at (h : gz σ) : gk σ (gn σ) = 0 := h _ (Nat.le_refl _)
theorem gz.pi (h : gz σ) : gz (gpi a j v σ) := h
theorem gz.pr (h : gz σ) : gz (gpr a j x σ) := h
theorem gz.mk (h : gz σ) : gz (gmk t n σ) := fun b hb => by
  have hb' : gn σ + 1 ≤ b := hb
  rw [gk_old (by omega)]
  exact h b (by omega)
/-- the cells that are not of W stay as they are -/
def keep (W : Nat → Prop) (σ τ : GSt) : Prop := ∀ a, gk σ a ≠ 0 → ¬ W a → gk τ a = gk σ a ∧ (∀ j, gi τ a j = gi σ a j) ∧ (∀ j, gr τ a j = gr σ a j) ∧ gl τ a = gl σ a
theorem keep.rf : keep W σ σ := fun _ _ _ => ⟨rfl, fun _ => rfl, fun _ => rfl, rfl⟩
theorem keep.tr (h : keep W σ τ) (k : keep W' τ υ) (hW : ∀ a, gk σ a ≠ 0 → W' a → W a) : keep W σ υ := fun a h0 hw => by
  obtain ⟨a1, a2, a3, a4⟩ := h a h0 hw
  obtain ⟨b1, b2, b3, b4⟩ := k a (by rw [a1]; exact h0) (fun q => hw (hW a h0 q))
  exact ⟨b1.trans a1, fun j => (b2 j).trans (a2 j), fun j => (b3 j).trans (a3 j), b4.trans a4⟩
theorem keep.t2 (h : keep W σ τ) (k : keep W τ υ) : keep W σ υ := h.tr k (fun _ _ q => q)
theorem keep.wk (h : keep W σ τ) (hW : ∀ a, W a → W' a) : keep W' σ τ := fun a h0 hw => h a h0 (fun q => hw (hW a q))
theorem keep.pi (h : keep W σ τ) (ha : gk σ a ≠ 0 → W a) : keep W σ (gpi a j v τ) := fun b h0 hw => by
  obtain ⟨a1, a2, a3, a4⟩ := h b h0 hw
  have hb : b ≠ a := fun q => hw (q ▸ ha (q ▸ h0))
  exact ⟨a1, fun i => by rw [gi_pi, if_neg (fun q => hb q.1)]; exact a2 i, a3, a4⟩
theorem keep.pr (h : keep W σ τ) (ha : gk σ a ≠ 0 → W a) : keep W σ (gpr a j x τ) := fun b h0 hw => by
  obtain ⟨a1, a2, a3, a4⟩ := h b h0 hw
  have hb : b ≠ a := fun q => hw (q ▸ ha (q ▸ h0))
  exact ⟨a1, a2, fun i => by rw [gr_pr, if_neg (fun q => hb q.1)]; exact a3 i, a4⟩
theorem keep.mk (h : keep W σ τ) (hz : gk σ (gn τ) = 0) : keep W σ (gmk t n τ) := fun b h0 hw => by
  obtain ⟨a1, a2, a3, a4⟩ := h b h0 hw
  have hb : b ≠ gn τ := fun q => h0 (q ▸ hz)
  exact ⟨by rw [gk_old hb]; exact a1, fun i => by rw [gi_mk hb]; exact a2 i, fun i => by rw [gr_mk hb]; exact a3 i, by rw [gl_mk hb]; exact a4⟩
end PB
/-! P OVER S (2): trees, values, environments -/
/-- the place: cells that may change; addresses of the context's names, how many; how many sorts -/
abbrev PC : Type := (Nat → Prop) × (Nat → Nat) × Nat × Nat
abbrev PC.E (c : PC) : Nat → Prop := c.1
abbrev PC.N (c : PC) : Nat → Nat := c.2.1
abbrev PC.nc (c : PC) : Nat := c.2.2.1
abbrev PC.ns (c : PC) : Nat := c.2.2.2
/-- the term t stands at a (0); the list t of terms stands in the row a, from the place i on (i + 1) -/
def pT (c : PC) (σ : GSt) : V → Nat → Nat → Prop
  | .tag k .line, a, 0 => k < 1000000 ∧ gk σ a = 11 ∧ ¬ c.E a ∧ gi σ a 2 = iI (k : Int)
  | .tag k .nil, a, 0 => k < c.nc ∧ gk σ a = 12 ∧ ¬ c.E a ∧ gr σ a 3 = some (c.N k) ∧ gi σ a 4 = iI (-1)
  | .tag s (.align true), a, 0 => s < c.ns ∧ gk σ a = 12 ∧ ¬ c.E a ∧ gr σ a 3 = none ∧ gi σ a 4 = iI (s : Int)
  | .tag 0 (.append d b), a, 0 => gk σ a = 8 ∧ ¬ c.E a ∧ ∃ x y, gr σ a 2 = some x ∧ gr σ a 3 = some y ∧ pT c σ d x 0 ∧ pT c σ b y 0
  | .tag 1 (.append d b), a, 0 => gk σ a = 10 ∧ ¬ c.E a ∧ ∃ x y, gr σ a 2 = some x ∧ gr σ a 3 = some y ∧ pT c σ d x 0 ∧ pT c σ b y 0
  | .tag 2 (.append f ps), a, 0 => gk σ a = 13 ∧ ¬ c.E a ∧ ∃ x y z, gr σ a 2 = some x ∧ gr σ a 3 = some y ∧ gk σ y = 22 ∧ ¬ c.E y ∧ gr σ y 1 = some z ∧ gk σ z = 103 ∧ ¬ c.E z ∧ gi σ y 2 = iI (vlen ps : Int) ∧ vlen ps ≤ 60000 ∧ vlen ps ≤ gl σ z ∧ pT c σ f x 0 ∧ pT c σ ps z 1
  | .tag p (.group (.append d b) .fill), a, 0 => gk σ a = 9 ∧ ¬ c.E a ∧ gi σ a 4 = iI ((p / 8 : Nat) : Int) ∧ gi σ a 5 = iI ((p % 8 : Nat) : Int) ∧ ∃ x y, gr σ a 2 = some x ∧ gr σ a 3 = some y ∧ pT c σ d x 0 ∧ pT c σ b y 0
  | .group (.tag m t) .allOrNone, a, 0 => m < 1000000 ∧ gk σ a = 19 ∧ ¬ c.E a ∧ gi σ a 3 = iI (m : Int) ∧ ∃ x, gr σ a 2 = some x ∧ pT c σ t x 0
  | .group t .fill, a, 0 => gk σ a = 20 ∧ ¬ c.E a ∧ ∃ x, gr σ a 2 = some x ∧ pT c σ t x 0
  | .append x xs, z, i + 1 => gk σ z = 103 ∧ ¬ c.E z ∧ ∃ b, gr σ z i = some b ∧ pT c σ x b 0 ∧ pT c σ xs z (i + 2)
  | .nil, _, _ + 1 => True
  | _, _, _ => False
/-- values (at a closure, or null: false) and environments (true) -/
def pV (c : PC) (L : Nat → Nat → Prop) (σ : GSt) : V → Bool → Option Nat → Prop
  | .append v r, true, some e => gk σ e = 16 ∧ gi σ e 2 = iI ((vlen r + 1 : Nat) : Int) ∧ pV c L σ v false (gr σ e 0) ∧ pV c L σ r true (gr σ e 1)
  | .nil, true, none => True
  | .line, false, none => True
  | .tag 3 (.append t r), false, some q => gk σ q = 14 ∧ (∃ a, gr σ q 0 = some a ∧ pT c σ t a 0) ∧ pV c L σ r true (gr σ q 1)
  | .tag i (.align false), false, some q => gk σ q = 14 ∧ ∃ a, gr σ q 0 = some a ∧ gk σ a = 18 ∧ L i a
  | _, _, _ => False
/-- what something is applied to -/
def pA (c : PC) (L : Nat → Nat → Prop) (σ : GSt) : List V → Option Nat → Prop
  | [], none => True
  | v :: vs, some q => gk σ q = 17 ∧ pV c L σ v false (gr σ q 0) ∧ pA c L σ vs (gr σ q 1)
  | _, _ => False
/-- well scoped; what only moves a term stands along the second parts of products alone (y) -/
def gT : V → Bool → List Bool → Prop
  | .tag k .line, _, g => g[k]? = some true
  | .tag _ .nil, _, _ => True
  | .tag _ (.align true), _, _ => True
  | .tag 0 (.append d b), _, g => gT d false g ∧ gT b false (true :: g)
  | .tag 1 (.append d b), _, g => gT d false g ∧ gT b false (true :: g)
  | .tag 2 (.append f ps), _, g => gT f false g ∧ gT ps false g ∧ 1 ≤ vlen ps
  | .tag _ (.group (.append d b) .fill), y, g => gT d false g ∧ gT b y (true :: g)
  | .group (.tag m t) .allOrNone, y, g => y = true ∧ m ≤ g.length ∧ gT t true (g.drop m)
  | .group t .fill, y, g => y = true ∧ gT t true (false :: g)
  | .append x xs, _, g => gT x false g ∧ gT xs false g
  | .nil, _, _ => True
  | _, _, _ => False
/-- which places of an environment hold something -/
def shp : V → List Bool
  | .append .line r => false :: shp r
  | .append _ r => true :: shp r
  | _ => []
/-- good values (false) and environments (true) -/
def gV : V → Bool → Prop
  | .append v r, true => gV v false ∧ gV r true
  | .nil, true => True
  | .line, false => True
  | .tag 3 (.append t r), false => gT t false (shp r) ∧ gV r true
  | .tag _ (.align false), false => True
  | _, _ => False
/-- how many that sink stand along the second parts -/
def sw : V → Nat
  | .tag _ (.group (.append _ b) .fill) => sw b
  | .group (.tag _ t) .allOrNone => sw t
  | .group t .fill => sw t + 1
  | _ => 0
/-- kinds of cells that no one changes; those of terms, of which some are being made -/
def tmt (t : Nat) : Bool := [8, 9, 10, 11, 12, 13, 19, 20, 22, 103].contains t
def okt (t : Nat) : Bool := !([0, 3, 4, 15, 101, 102].contains t) && !(tmt t)
/-- all that trees look at is there still -/
def mv (c c' : PC) (L L' : Nat → Nat → Prop) (σ τ : GSt) : Prop :=
  (∀ a, okt (gk σ a) = true → gk τ a = gk σ a ∧ (∀ j, gi τ a j = gi σ a j) ∧ (∀ j, gr τ a j = gr σ a j) ∧ gl τ a = gl σ a) ∧
  (∀ a, tmt (gk σ a) = true → ¬ c.E a → ¬ c'.E a ∧ gk τ a = gk σ a ∧ (∀ j, gi τ a j = gi σ a j) ∧ (∀ j, gr τ a j = gr σ a j) ∧ gl τ a = gl σ a) ∧
  c.nc ≤ c'.nc ∧ c.ns ≤ c'.ns ∧ (∀ k, k < c.nc → c'.N k = c.N k) ∧ (∀ i q, gk σ q = 18 → L i q → L' i q)
def Wok (c : PC) (W : Nat → Prop) (σ : GSt) : Prop := ∀ a, W a → gk σ a = 0 ∨ gk σ a = 3 ∨ (gk σ a = 4 ∨ gk σ a = 15) ∨ gk σ a = 101 ∨ gk σ a = 102 ∨ (tmt (gk σ a) = true ∧ c.E a)
section PB2
variable {c c' : PC} {L L' : Nat → Nat → Prop} {σ τ : GSt} {W : Nat → Prop}
theorem okt_ne {t : Nat} (h : okt t = true) : t ≠ 0 ∧ t ≠ 3 ∧ (t ≠ 4 ∧ t ≠ 15) ∧ t ≠ 101 ∧ t ≠ 102 ∧ tmt t = false := by
  unfold okt at h
  simp at h
  exact ⟨by omega, by omega, ⟨by omega, by omega⟩, by omega, by omega, h.2⟩
theorem tmt_ne {t : Nat} (h : tmt t = true) : t ≠ 0 ∧ t ≠ 3 ∧ (t ≠ 4 ∧ t ≠ 15) ∧ t ≠ 101 ∧ t ≠ 102 := by
  unfold tmt at h
  simp at h
  omega
theorem mv_keep (hk : keep W σ τ) (hW : Wok c W σ) : mv c c L L σ τ := by
  refine ⟨fun a ha => hk a (okt_ne ha).1 (fun q => ?_), fun a ha hE => ⟨hE, hk a (tmt_ne ha).1 (fun q => ?_)⟩, Nat.le_refl _, Nat.le_refl _, fun _ _ => rfl, fun _ _ _ h => h⟩
  · have := okt_ne ha
    rcases hW a q with h | h | h | h | h | ⟨h, _⟩ <;> first | omega | (rw [this.2.2.2.2.2] at h; cases h)
  · have := tmt_ne ha
    rcases hW a q with h | h | h | h | h | ⟨_, h⟩ <;> first | omega | exact hE h
theorem mv.cl (h : mv c c' L L' σ τ) {a t : Nat} (ha : gk σ a = t) (ht : okt t = true) : gk τ a = t ∧ (∀ j, gi τ a j = gi σ a j) ∧ (∀ j, gr τ a j = gr σ a j) ∧ gl τ a = gl σ a := by
  subst ha; exact h.1 a ht
theorem mv.ct (h : mv c c' L L' σ τ) {a t : Nat} (ha : gk σ a = t) (hE : ¬ c.E a) (ht : tmt t = true) : gk τ a = t ∧ (∀ j, gi τ a j = gi σ a j) ∧ (∀ j, gr τ a j = gr σ a j) ∧ gl τ a = gl σ a := by
  subst ha; exact (h.2.1 a ht hE).2
theorem mv.ce (h : mv c c' L L' σ τ) {a t : Nat} (ha : gk σ a = t) (hE : ¬ c.E a) (ht : tmt t = true) : ¬ c'.E a := by
  subst ha; exact (h.2.1 a ht hE).1
theorem pT_snk {t : V} {a : Nat} : pT c σ (.group t .fill) a 0 = (gk σ a = 20 ∧ ¬ c.E a ∧ ∃ x, gr σ a 2 = some x ∧ pT c σ t x 0) := by cases t <;> rfl
theorem pT_prod {p a : Nat} {d b : V} : pT c σ (.tag p (.group (.append d b) .fill)) a 0 = (gk σ a = 9 ∧ ¬ c.E a ∧ gi σ a 4 = iI ((p / 8 : Nat) : Int) ∧ gi σ a 5 = iI ((p % 8 : Nat) : Int) ∧ ∃ x y, gr σ a 2 = some x ∧ gr σ a 3 = some y ∧ pT c σ d x 0 ∧ pT c σ b y 0) := by rcases p with _ | _ | _ | p <;> rfl
theorem pV_loc {i q : Nat} : pV c L σ (.tag i (.align false)) false (some q) = (gk σ q = 14 ∧ ∃ a, gr σ q 0 = some a ∧ gk σ a = 18 ∧ L i a) := by rcases i with _ | _ | _ | _ | i <;> rfl
theorem pT_mv (h : mv c c' L L' σ τ) : ∀ (t : V) (a i : Nat), pT c σ t a i → pT c' τ t a i := by
  intro t a i
  fun_induction pT c σ t a i with
  | case1 k a =>
    rintro ⟨h0, h1, hE, h2⟩
    obtain ⟨e1, e2, e3, e4⟩ := h.ct h1 hE rfl
    exact ⟨h0, e1, h.ce h1 hE rfl, by rw [e2]; exact h2⟩
  | case2 k a =>
    rintro ⟨h0, h1, h2, h3, h4⟩
    obtain ⟨e1, e2, e3, e4⟩ := h.ct h1 h2 rfl
    exact ⟨Nat.lt_of_lt_of_le h0 h.2.2.1, e1, h.ce h1 h2 rfl, by rw [e3, h.2.2.2.2.1 k h0]; exact h3, by rw [e2]; exact h4⟩
  | case3 s a =>
    rintro ⟨h0, h1, h2, h3, h4⟩
    obtain ⟨e1, e2, e3, e4⟩ := h.ct h1 h2 rfl
    exact ⟨Nat.lt_of_lt_of_le h0 h.2.2.2.1, e1, h.ce h1 h2 rfl, by rw [e3]; exact h3, by rw [e2]; exact h4⟩
  | case4 d b a i1 i2 =>
    rintro ⟨h1, hE, x, y, h2, h3, h4, h5⟩
    obtain ⟨e1, e2, e3, e4⟩ := h.ct h1 hE rfl
    exact ⟨e1, h.ce h1 hE rfl, x, y, by rw [e3]; exact h2, by rw [e3]; exact h3, i1 x h4, i2 y h5⟩
  | case5 d b a i1 i2 =>
    rintro ⟨h1, hE, x, y, h2, h3, h4, h5⟩
    obtain ⟨e1, e2, e3, e4⟩ := h.ct h1 hE rfl
    exact ⟨e1, h.ce h1 hE rfl, x, y, by rw [e3]; exact h2, by rw [e3]; exact h3, i1 x h4, i2 y h5⟩
  | case6 f ps a i1 i2 =>
    rintro ⟨h1, hE, x, y, z, h2, h3, h4, hE2, h5, h6, hE3, h7, h8, h9, h10, h11⟩
    obtain ⟨e1, e2, e3, e4⟩ := h.ct h1 hE rfl
    obtain ⟨f1, f2, f3, f4⟩ := h.ct h4 hE2 rfl
    obtain ⟨g1, g2, g3, g4⟩ := h.ct h6 hE3 rfl
    exact ⟨e1, h.ce h1 hE rfl, x, y, z, by rw [e3]; exact h2, by rw [e3]; exact h3, f1, h.ce h4 hE2 rfl, by rw [f3]; exact h5, g1, h.ce h6 hE3 rfl, by rw [f2]; exact h7, h8, by rw [g4]; exact h9, i1 x h10, i2 z h11⟩
  | case7 p d b a i1 i2 =>
    rintro ⟨h1, hE, h6, h7, x, y, h2, h3, h4, h5⟩
    obtain ⟨e1, e2, e3, e4⟩ := h.ct h1 hE rfl
    exact ⟨e1, h.ce h1 hE rfl, by rw [e2]; exact h6, by rw [e2]; exact h7, x, y, by rw [e3]; exact h2, by rw [e3]; exact h3, i1 x h4, i2 y h5⟩
  | case8 m t a i1 =>
    rintro ⟨h0, h1, hE, h2, x, h3, h4⟩
    obtain ⟨e1, e2, e3, e4⟩ := h.ct h1 hE rfl
    exact ⟨h0, e1, h.ce h1 hE rfl, by rw [e2]; exact h2, x, by rw [e3]; exact h3, i1 x h4⟩
  | case9 t a i1 =>
    rintro ⟨h1, hE, x, h3, h4⟩
    obtain ⟨e1, e2, e3, e4⟩ := h.ct h1 hE rfl
    rw [pT_snk]
    exact ⟨e1, h.ce h1 hE rfl, x, by rw [e3]; exact h3, i1 x h4⟩
  | case10 x xs z i i1 i2 =>
    rintro ⟨h1, hE, b, h2, h3, h4⟩
    obtain ⟨e1, e2, e3, e4⟩ := h.ct h1 hE rfl
    exact ⟨e1, h.ce h1 hE rfl, b, by rw [e3]; exact h2, i1 b h3, i2 h4⟩
  | case11 => intro _; trivial
  | case12 => intro q; exact q.elim
theorem pV_mv (h : mv c c' L L' σ τ) : ∀ (v : V) (y : Bool) (x : Option Nat), pV c L σ v y x → pV c' L' τ v y x := by
  intro v y x
  fun_induction pV c L σ v y x with
  | case1 v r e i1 i2 =>
    rintro ⟨h1, h2, h3, h4⟩
    obtain ⟨e1, e2, e3, e4⟩ := h.cl h1 rfl
    exact ⟨e1, by rw [e2]; exact h2, by rw [e3]; exact i1 h3, by rw [e3]; exact i2 h4⟩
  | case2 => intro _; trivial
  | case3 => intro _; trivial
  | case4 t r q i1 =>
    rintro ⟨h1, ⟨a, h2, h3⟩, h4⟩
    obtain ⟨e1, e2, e3, e4⟩ := h.cl h1 rfl
    exact ⟨e1, ⟨a, by rw [e3]; exact h2, pT_mv h t a 0 h3⟩, by rw [e3]; exact i1 h4⟩
  | case5 i q =>
    rintro ⟨h1, a, h2, h3, h4⟩
    obtain ⟨e1, e2, e3, e4⟩ := h.cl h1 rfl
    obtain ⟨f1, -⟩ := h.cl h3 rfl
    rw [pV_loc]
    exact ⟨e1, a, by rw [e3]; exact h2, f1, h.2.2.2.2.2 i a h3 h4⟩
  | case6 => intro q; exact q.elim
theorem pA_mv (h : mv c c' L L' σ τ) : ∀ (vs : List V) (x : Option Nat), pA c L σ vs x → pA c' L' τ vs x := by
  intro vs
  induction vs with
  | nil => intro x hx; cases x with
    | none => trivial
    | some q => exact hx.elim
  | cons v vs ih => intro x hx; cases x with
    | none => exact hx.elim
    | some q =>
      obtain ⟨h1, h2, h3⟩ := hx
      obtain ⟨e1, e2, e3, e4⟩ := h.cl h1 rfl
      exact ⟨e1, by rw [e3]; exact pV_mv h _ _ _ h2, by rw [e3]; exact ih _ h3⟩
theorem pT_tm {t : V} {a : Nat} (h : pT c σ t a 0) : isTmA σ a := by
  unfold pT at h
  split at h
  · exact ⟨10, by decide, h.2.1⟩
  · exact ⟨11, by decide, h.2.1⟩
  · exact ⟨11, by decide, h.2.1⟩
  · exact ⟨7, by decide, h.1⟩
  · exact ⟨9, by decide, h.1⟩
  · exact ⟨12, by decide, h.1⟩
  · exact ⟨8, by decide, h.1⟩
  · exact ⟨18, by decide, h.2.1⟩
  · exact ⟨19, by decide, h.1⟩
  · omega
  · omega
  · exact h.elim
theorem pT_18 {t : V} {a : Nat} (h : pT c σ t a 0) : gk σ a ≠ 18 := by
  unfold pT at h
  split at h
  · have := h.2.1; omega
  · have := h.2.1; omega
  · have := h.2.1; omega
  · have := h.1; omega
  · have := h.1; omega
  · have := h.1; omega
  · have := h.1; omega
  · have := h.2.1; omega
  · have := h.1; omega
  · omega
  · omega
  · exact h.elim
end PB2
