/-! P OVER S (23): judging: raw terms, what stays -/
/-- the raw term t stands at a (0), the raw list t in the row a from i on (i + 1); its cells are of I; TN: the names at the text's places -/
def rT (R : Nat → Nat) (TN : Nat → List Nat) (σ : GSt) : V → Nat → Nat → (Nat → Prop) → Prop
  | .tag f (.tag k .line), a, 0, I => gk σ a = 11 ∧ I a ∧ gi σ a 1 = iI (f : Int) ∧ k < 1000000 ∧ gi σ a 2 = iI (k : Int)
  | .tag f (.tag p .nil), a, 0, I => gk σ a = 12 ∧ I a ∧ gi σ a 1 = iI (f : Int) ∧ gi σ a 0 = iI (p : Int) ∧ (∃ o, gr σ a 2 = some o ∧ pS σ (R 5) o (TN p)) ∧ gr σ a 3 = none ∧ gi σ a 4 = iI (-1)
  | .tag f (.tag p (.append d b)), a, 0, I => gk σ a = 8 ∧ I a ∧ gi σ a 1 = iI (f : Int) ∧ gi σ a 0 = iI (p : Int) ∧ ∃ x y I1 I2, gr σ a 2 = some x ∧ gr σ a 3 = some y ∧ (∀ q, I1 q → I q ∧ q ≠ a) ∧ (∀ q, I2 q → I q ∧ q ≠ a ∧ ¬ I1 q) ∧ rT R TN σ d x 0 I1 ∧ rT R TN σ b y 0 I2
  | .tag f (.tag p (.group (.append d b) .fill)), a, 0, I => gk σ a = 9 ∧ I a ∧ gi σ a 1 = iI (f : Int) ∧ gi σ a 0 = iI (p : Int) ∧ ∃ x y I1 I2, gr σ a 2 = some x ∧ gr σ a 3 = some y ∧ (∀ q, I1 q → I q ∧ q ≠ a) ∧ (∀ q, I2 q → I q ∧ q ≠ a ∧ ¬ I1 q) ∧ rT R TN σ d x 0 I1 ∧ rT R TN σ b y 0 I2
  | .tag f (.tag p (.group (.append d b) .allOrNone)), a, 0, I => gk σ a = 10 ∧ I a ∧ gi σ a 1 = iI (f : Int) ∧ gi σ a 0 = iI (p : Int) ∧ ∃ x y I1 I2, gr σ a 2 = some x ∧ gr σ a 3 = some y ∧ (∀ q, I1 q → I q ∧ q ≠ a) ∧ (∀ q, I2 q → I q ∧ q ≠ a ∧ ¬ I1 q) ∧ rT R TN σ d x 0 I1 ∧ rT R TN σ b y 0 I2
  | .tag f (.tag p (.group (.group (.append g ps) .fill) .fill)), a, 0, I => gk σ a = 13 ∧ I a ∧ gi σ a 1 = iI (f : Int) ∧ gi σ a 0 = iI (p : Int) ∧ ∃ x al z I1 I2, gr σ a 2 = some x ∧ gr σ a 3 = some al ∧ gk σ al = 22 ∧ I al ∧ gr σ al 1 = some z ∧ gk σ z = 103 ∧ I z ∧ gi σ al 2 = iI (vlen ps : Int) ∧ vlen ps ≤ 60000 ∧ 1 ≤ vlen ps ∧ vlen ps ≤ gl σ z ∧
      (∀ q, I1 q → I q ∧ q ≠ a ∧ q ≠ al ∧ q ≠ z) ∧ (∀ q, I2 q → I q ∧ q ≠ a ∧ q ≠ al ∧ q ≠ z ∧ ¬ I1 q) ∧ rT R TN σ g x 0 I1 ∧ rT R TN σ ps z 1 I2
  | .append p ps, z, i + 1, I => ∃ b I1 I2, gr σ z i = some b ∧ (∀ q, I1 q → I q) ∧ (∀ q, I2 q → I q ∧ ¬ I1 q) ∧ rT R TN σ p b 0 I1 ∧ rT R TN σ ps z (i + 2) I2
  | .nil, _, _ + 1, _ => True
  | _, _, _, _ => False
/-- a raw term (0), list (1) that is well scoped under m binders, not deeper than n -/
def rG : V → Nat → Nat → Nat → Prop
  | .tag _ (.tag k .line), 0, m, n => k < m ∧ 1 ≤ n
  | .tag _ (.tag _ .nil), 0, _, n => 1 ≤ n
  | .tag _ (.tag _ (.append d b)), 0, m, n => ∃ n', n = n' + 1 ∧ rG d 0 m n' ∧ rG b 0 (m + 1) n'
  | .tag _ (.tag _ (.group (.append d b) .fill)), 0, m, n => ∃ n', n = n' + 1 ∧ rG d 0 m n' ∧ rG b 0 (m + 1) n'
  | .tag _ (.tag _ (.group (.append d b) .allOrNone)), 0, m, n => ∃ n', n = n' + 1 ∧ rG d 0 m n' ∧ rG b 0 (m + 1) n'
  | .tag _ (.tag _ (.group (.group (.append g ps) .fill) .fill)), 0, m, n => ∃ n', n = n' + 1 ∧ rG g 0 m n' ∧ rG ps 1 m n'
  | .append p ps, 1, m, n => rG p 0 m n ∧ rG ps 1 m n
  | .nil, 1, _, _ => True
  | _, _, _, _ => False
/-- how many nodes; how many lets -/
def rN : V → Nat
  | .tag _ (.tag _ .line) => 1
  | .tag _ (.tag _ .nil) => 1
  | .tag _ (.tag _ (.append d b)) => rN d + rN b + 1
  | .tag _ (.tag _ (.group (.append d b) .fill)) => rN d + rN b + 1
  | .tag _ (.tag _ (.group (.append d b) .allOrNone)) => rN d + rN b + 1
  | .tag _ (.tag _ (.group (.group (.append g ps) .fill) .fill)) => rN g + rN ps + 1
  | .append p ps => rN p + rN ps + 1
  | _ => 0
def rB : V → Nat
  | .tag _ (.tag _ (.append d b)) => rB d + rB b
  | .tag _ (.tag _ (.group (.append d b) .fill)) => rB d + rB b
  | .tag _ (.tag _ (.group (.append d b) .allOrNone)) => rB d + rB b + 1
  | .tag _ (.tag _ (.group (.group (.append g ps) .fill) .fill)) => rB g + rB ps
  | .append p ps => rB p + rB ps
  | _ => 0
/-- judging leaves all but the machine's cells, its own fields of a judgement, the cells of I -/
def jfr (R : Nat → Nat) (I : Nat → Prop) (σ τ : GSt) : Prop := keep (isJ R I) σ τ ∧ (∀ j, j < 3 → gr τ (R 3) j = gr σ (R 3) j) ∧ gle σ τ
/-- what judging knows of its state -/
def JB (R : Nat → Nat) (c : PC) (L : Nat → Nat → Prop) (σ : GSt) (X : SX) (J : JX) (sc : SC) (x : Option Nat) : Prop :=
  JT c R σ J ∧ pNm c R σ X ∧ pX c σ X ∧ pSc c L σ sc x ∧ LJ L σ sc.length (lsh (scEnv sc)) ∧ ∀ q, c.E q → tmt (gk σ q) = true
abbrev cut (c : PC) (I : Nat → Prop) : PC := ((fun q => c.E q ∧ ¬ I q), c.2)
section PRW
variable {G : GPl} {s0 : State} {l : Launch} {KK : Nat → Option Nat} {T : Nat → Nat} {lev d : Nat} {Q : Outcome → GSt → Prop} {R : Nat → Nat} {σ τ υ st0 : GSt} {X : SX} {J : JX} {K K' : KS} {w n s o : Nat} {c c' : PC} {L L' : Nat → Nat → Prop} {W I I' I1 I2 : Nat → Prop} {sc : SC} {gg : List Bool} {TN : Nat → List Nat} {x : Option Nat}
theorem pS.kpW {a : Nat} {bs : List Nat} (h : pS σ (R 5) a bs) (hk : keep W σ τ) (hS : ∀ q, W q → gk σ q ≠ 23 ∧ (gk σ q = 102 → q = R 5)) : pS τ (R 5) a bs := by
  obtain ⟨h1, h2, b, h3, h4, h5, h6, h7, h8⟩ := h
  obtain ⟨e1, e2, e3, e4⟩ := hk a (by omega) (fun q => (hS a q).1 h1)
  obtain ⟨f1, f2, f3, f4⟩ := hk b (by omega) (fun q => h5 ((hS b q).2 h4))
  exact ⟨e1.trans h1, by rw [e2]; exact h2, b, by rw [e3]; exact h3, f1.trans h4, h5, by rw [f4]; exact h6, h7, fun j c hc => by rw [f2]; exact h8 j c hc⟩
theorem rT_keep (hk : keep W σ τ) (hS : ∀ q, W q → gk σ q ≠ 23 ∧ (gk σ q = 102 → q = R 5)) : ∀ (t : V) (a i : Nat) (I : Nat → Prop), rT R TN σ t a i I → (∀ q, I q → ¬ W q) → (i ≠ 0 → gk σ a ≠ 0 ∧ ¬ W a) → rT R TN τ t a i I := by
  intro t a i I
  fun_induction rT R TN σ t a i I with
  | case1 f k a I =>
    rintro ⟨h1, h2, h3, h4, h5⟩ hd -
    obtain ⟨e1, e2, e3, e4⟩ := hk a (by omega) (hd a h2)
    exact ⟨e1.trans h1, h2, by rw [e2]; exact h3, h4, by rw [e2]; exact h5⟩
  | case2 f p a I =>
    rintro ⟨h1, h2, h3, h4, ⟨o, h5, h6⟩, h7, h8⟩ hd -
    obtain ⟨e1, e2, e3, e4⟩ := hk a (by omega) (hd a h2)
    exact ⟨e1.trans h1, h2, by rw [e2]; exact h3, by rw [e2]; exact h4, ⟨o, by rw [e3]; exact h5, h6.kpW hk hS⟩, by rw [e3]; exact h7, by rw [e2]; exact h8⟩
  | case3 f p d b a I i1 i2 =>
    rintro ⟨h1, h2, h3, h4, x, y, I1, I2, h5, h6, h7, h8, h9, h10⟩ hd -
    obtain ⟨e1, e2, e3, e4⟩ := hk a (by omega) (hd a h2)
    exact ⟨e1.trans h1, h2, by rw [e2]; exact h3, by rw [e2]; exact h4, x, y, I1, I2, by rw [e3]; exact h5, by rw [e3]; exact h6, h7, h8, i1 x I1 h9 (fun q hq => hd q (h7 q hq).1) (fun z => absurd rfl z), i2 y I2 h10 (fun q hq => hd q (h8 q hq).1) (fun z => absurd rfl z)⟩
  | case4 f p d b a I i1 i2 =>
    rintro ⟨h1, h2, h3, h4, x, y, I1, I2, h5, h6, h7, h8, h9, h10⟩ hd -
    obtain ⟨e1, e2, e3, e4⟩ := hk a (by omega) (hd a h2)
    exact ⟨e1.trans h1, h2, by rw [e2]; exact h3, by rw [e2]; exact h4, x, y, I1, I2, by rw [e3]; exact h5, by rw [e3]; exact h6, h7, h8, i1 x I1 h9 (fun q hq => hd q (h7 q hq).1) (fun z => absurd rfl z), i2 y I2 h10 (fun q hq => hd q (h8 q hq).1) (fun z => absurd rfl z)⟩
  | case5 f p d b a I i1 i2 =>
    rintro ⟨h1, h2, h3, h4, x, y, I1, I2, h5, h6, h7, h8, h9, h10⟩ hd -
    obtain ⟨e1, e2, e3, e4⟩ := hk a (by omega) (hd a h2)
    exact ⟨e1.trans h1, h2, by rw [e2]; exact h3, by rw [e2]; exact h4, x, y, I1, I2, by rw [e3]; exact h5, by rw [e3]; exact h6, h7, h8, i1 x I1 h9 (fun q hq => hd q (h7 q hq).1) (fun z => absurd rfl z), i2 y I2 h10 (fun q hq => hd q (h8 q hq).1) (fun z => absurd rfl z)⟩
  | case6 f p g ps a I i1 i2 =>
    rintro ⟨h1, h2, h3, h4, x, al, z, I1, I2, h5, h6, h7, h8, h9, h10, h11, h12, h13, h14, h15, h16, h17, h18, h19⟩ hd -
    obtain ⟨e1, e2, e3, e4⟩ := hk a (by omega) (hd a h2)
    obtain ⟨f1, f2, f3, f4⟩ := hk al (by omega) (hd al h8)
    obtain ⟨g1, g2, g3, g4⟩ := hk z (by omega) (hd z h11)
    exact ⟨e1.trans h1, h2, by rw [e2]; exact h3, by rw [e2]; exact h4, x, al, z, I1, I2, by rw [e3]; exact h5, by rw [e3]; exact h6, f1.trans h7, h8, by rw [f3]; exact h9, g1.trans h10, h11, by rw [f2]; exact h12, h13, h14, by rw [g4]; exact h15, h16, h17, i1 x I1 h18 (fun q hq => hd q (h16 q hq).1) (fun z => absurd rfl z), i2 z I2 h19 (fun q hq => hd q (h17 q hq).1) (fun _ => ⟨by omega, hd z h11⟩)⟩
  | case7 p ps z i I i1 i2 =>
    rintro ⟨b, I1, I2, h1, h2, h3, h4, h5⟩ hd hz
    obtain ⟨g1, g2, g3, g4⟩ := hk z (hz (by omega)).1 (hz (by omega)).2
    exact ⟨b, I1, I2, by rw [g3]; exact h1, h2, h3, i1 b I1 h4 (fun q hq => hd q (h2 q hq)) (fun z => absurd rfl z), i2 I2 h5 (fun q hq => hd q (h3 q hq).1) (fun _ => hz (by omega))⟩
  | case8 => intros; trivial
  | case9 => intro h; exact h.elim
theorem jfr.rf : jfr R I σ σ := ⟨keep.rf, fun _ _ => rfl, gle.rf⟩
theorem jfr.tr (h : jfr R I1 σ τ) (k : jfr R I2 τ υ) (h1 : ∀ q, I1 q → I q) (h2 : ∀ q, I2 q → I q) : jfr R I σ υ :=
  ⟨(h.1.wk (fun a z => z.imp id (fun z => z.imp id (h1 a)))).tr k.1 (fun a _ z => z.imp id (fun z => z.imp id (h2 a))), fun j hj => (k.2.1 j hj).trans (h.2.1 j hj), h.2.2.tr k.2.2⟩
theorem jfr.t2 (h : jfr R I σ τ) (k : jfr R I τ υ) : jfr R I σ υ := h.tr k (fun _ z => z) (fun _ z => z)
theorem jfr.wk (h : jfr R I1 σ τ) (h1 : ∀ q, I1 q → I q) : jfr R I σ τ := h.tr jfr.rf h1 (fun _ z => z)
theorem JT.nM (h : JT c R σ J) (hm : MS G R σ X K w) : ¬ isM R (R 3) := by
  obtain ⟨⟨m1, m2, m3⟩, -⟩ := hm
  have h3 := h.1.1
  rintro (q | q | q) <;> rw [q] at h3 <;> omega
theorem jfr.M (hk : keep (isM R) σ τ) (hl : gle σ τ) (hJ : JT c R σ J) (hm : MS G R σ X K w) : jfr R I σ τ :=
  ⟨hk.wk (fun _ z => Or.inl z), fun j _ => (hk (R 3) (by have := hJ.1.1; omega) (hJ.nM hm)).2.2.1 j, hl⟩
theorem jfr.N (hk : keep nil0 σ τ) (hl : gle σ τ) (hJ : JT c R σ J) : jfr R I σ τ :=
  ⟨hk.wk (fun _ z => z.elim), fun j _ => (hk (R 3) (by have := hJ.1.1; omega) id).2.2.1 j, hl⟩
theorem JB.wok (h : JB R c L σ X J sc x) (hm : MS G R σ X K w) (hI : ∀ q, I q → c.E q) : Wok c (isJ R I) σ := fun a z => by
  obtain ⟨⟨m1, m2, m3⟩, -⟩ := hm
  rcases z with (rfl | rfl | rfl) | rfl | z
  · omega
  · omega
  · omega
  · have := h.1.1.1; omega
  · exact Or.inr (Or.inr (Or.inr (Or.inr (Or.inr ⟨h.2.2.2.2.2 a (hI a z), hI a z⟩))))
theorem JB.mvc (h : JB R c L σ X J sc x) (hm : MS G R σ X K w) (hj : jfr R I σ τ) (hI : ∀ q, I q → c.E q) (hE : ∀ q, c'.E q → c.E q) (h2 : c'.2 = c.2) : mv c c' L L σ τ := mv_keepE hj.1 (h.wok hm hI) (fun a _ hn hc => hn (hE a hc)) h2
theorem JB.wS (h : JB R c L σ X J sc x) (hm : MS G R σ X K w) (hI : ∀ q, I q → c.E q) : ∀ q, isJ R I q → gk σ q ≠ 23 ∧ (gk σ q = 102 → q = R 5) := fun q z => by
  obtain ⟨⟨m1, m2, m3⟩, -⟩ := hm
  rcases z with (rfl | rfl | rfl) | rfl | z
  · omega
  · omega
  · exact ⟨by omega, fun _ => rfl⟩
  · have := h.1.1.1; omega
  · have := h.2.2.2.2.2 q (hI q z)
    unfold tmt at this
    simp at this
    omega
theorem JT.mvc (h : JT c R σ J) (h1 : gk σ (R 1) = 2) (hm : MS G R σ X K w) (hj : jfr R I σ τ) (hI : ∀ q, I q → c.E q ∧ tmt (gk σ q) = true) (hv : mv c c' L L' σ τ) (h2 : c'.2 = c.2) : JT c' R τ J := by
  have nc : c'.nc = c.nc := by show c'.2.2.1 = c.2.2.1; rw [h2]
  have ns : c'.ns = c.ns := by show c'.2.2.2 = c.2.2.2; rw [h2]
  have nN : ∀ k, c'.N k = c.N k := fun k => by show c'.2.1 k = c.2.1 k; rw [h2]
  obtain ⟨⟨a1, a2, a3, a4⟩, ⟨b1, b2, b3⟩, ⟨d1, d2, d3, d4, d5, d6⟩, e1, e2, ⟨f1, f2, f3, z, f4, f5, f6, f7, f8⟩, g1⟩ := h
  obtain ⟨⟨m1, m2, m3⟩, -⟩ := hm
  have no : ∀ q, gk σ q = 101 → q ≠ R 4 → ¬ isJ R I q := by
    rintro q h3 h4 ((rfl | rfl | rfl) | rfl | z)
    · omega
    · exact h4 rfl
    · omega
    · omega
    · have := (hI q z).2
      rw [h3] at this
      cases this
  obtain ⟨t1, t2, t3, t4⟩ := hv.cl h1 rfl
  obtain ⟨u1, u2, u3, u4⟩ := hj.1 (R 6) (by omega) (no _ d1 d5)
  obtain ⟨v1, v2, v3, v4⟩ := hj.1 (R 7) (by omega) (no _ d3 d6)
  obtain ⟨w1, w2, w3, w4⟩ := hv.ct f1 f2 rfl
  obtain ⟨x1, x2, x3, x4⟩ := hv.ct f5 f6 rfl
  refine ⟨⟨(hj.2.2.2 _ (by omega)).trans a1, (hj.2.1 0 (by omega)).trans a2, (hj.2.1 1 (by omega)).trans a3, (hj.2.1 2 (by omega)).trans a4⟩, ⟨by rw [t3]; exact b1, by rw [t3]; exact b2, by rw [t2, ns]; exact b3⟩, ⟨u1.trans d1, by rw [u4]; exact d2, v1.trans d3, by rw [v4]; exact d4, d5, d6⟩, fun k hk => ?_, fun a b ha hb => ?_, ⟨w1, hv.ce f1 f2 rfl, by rw [w2, nc]; exact f3, z, by rw [w3]; exact f4, x1, hv.ce f5 f6 rfl, by rw [nc, x4]; exact f7, fun k hk => ?_⟩, fun k hk => ?_⟩
  · rw [u2, ns]; exact e1 k hk
  · rw [v2, ns]; exact e2 a b ha hb
  · rw [nN, x3]; exact f8 k (by omega)
  · rw [nc] at hk
    obtain ⟨g1, g2, g3, g4, g5, b, g6, g7⟩ := g1 k hk
    obtain ⟨y1, y2, y3, y4⟩ := hv.cl g1 rfl
    rw [nN]
    exact ⟨y1, by rw [y2]; exact g2, g3, g4, g5, b, by rw [y3]; exact g6, pT_mv hv _ _ _ g7⟩
theorem pNm.mvc (h : pNm c R σ X) (hv : mv c c' L L' σ τ) (hk : keep W σ τ) (hS : ∀ q, W q → gk σ q ≠ 23 ∧ (gk σ q = 102 → q = R 5)) (h2 : c'.2 = c.2) : pNm c' R τ X := by
  have nc : c'.nc = c.nc := by show c'.2.2.1 = c.2.2.1; rw [h2]
  have ns : c'.ns = c.ns := by show c'.2.2.2 = c.2.2.2; rw [h2]
  have nN : ∀ k, c'.N k = c.N k := fun k => by show c'.2.1 k = c.2.1 k; rw [h2]
  obtain ⟨h1, h3, h4, h5, h6, h7, h8⟩ := h
  obtain ⟨t1, t2, t3, t4⟩ := hv.cl h3 rfl
  obtain ⟨u1, u2, u3, u4⟩ := hv.cl h5 rfl
  refine ⟨fun k hk' => ?_, t1, by rw [t3]; exact h4, u1, by rw [u4]; exact h6, by rw [ns]; exact h7, fun i hi => ?_⟩
  · rw [nc] at hk'
    obtain ⟨g1, a, g2, g3⟩ := h1 k hk'
    obtain ⟨y1, y2, y3, y4⟩ := hv.cl g1 rfl
    rw [nN]
    exact ⟨y1, a, by rw [y3]; exact g2, g3.kpW hk hS⟩
  · rw [ns] at hi
    obtain ⟨a, g2, g3⟩ := h8 i hi
    exact ⟨a, by rw [u3]; exact g2, g3.kpW hk hS⟩
theorem JB.nS (h : JB R c L σ X J sc x) (hm : MS G R σ X K w) (hI : ∀ q, I q → c.E q) : ∀ a, gk σ a = 15 → ¬ isJ R I a := by
  intro a ha z
  obtain ⟨⟨m1, m2, m3⟩, -⟩ := hm
  rcases z with (rfl | rfl | rfl) | rfl | z
  · omega
  · omega
  · omega
  · have := h.1.1.1; omega
  · have := h.2.2.2.2.2 a (hI a z)
    rw [ha] at this
    cases this
theorem JB.mv (h : JB R c L σ X J sc x) (hm : MS G R σ X K w) (hj : jfr R I σ τ) (hI : ∀ q, I q → c.E q) (hE : ∀ q, c'.E q → c.E q) (h2 : c'.2 = c.2) : JB R c' L τ X J sc x := by
  have hv := h.mvc hm hj hI hE h2
  refine ⟨h.1.mvc h.2.1.2.1 hm hj (fun q z => ⟨hI q z, h.2.2.2.2.2 q (hI q z)⟩) hv h2, h.2.1.mvc hv hj.1 (h.wS hm hI) h2, pX_mvE hv h2 h.2.2.1, pSc_mv hv hj.1 (h.nS hm hI) _ _ h.2.2.2.1, h.2.2.2.2.1.mv hv, fun q z => ?_⟩
  have h3 := h.2.2.2.2.2 q (hE q z)
  rw [hj.2.2.2 q (tmt_ne h3).1]
  exact h3
/-- raw terms elsewhere stay -/
theorem JB.rT (h : JB R c L σ X J sc x) (hm : MS G R σ X K w) (hj : jfr R I σ τ) (hI : ∀ q, I q → c.E q) {t : V} {a i : Nat} (hr : rT R TN σ t a i I') (hd : ∀ q, I' q → ¬ I q ∧ tmt (gk σ q) = true) (hi : i ≠ 0 → tmt (gk σ a) = true ∧ ¬ I a) : rT R TN τ t a i I' := by
  have no : ∀ q, tmt (gk σ q) = true → ¬ I q → ¬ isJ R I q := by
    rintro q h1 h2 ((rfl | rfl | rfl) | rfl | z)
    · rw [hm.1.1] at h1; cases h1
    · rw [hm.1.2.1] at h1; cases h1
    · rw [hm.1.2.2] at h1; cases h1
    · rw [h.1.1.1] at h1; cases h1
    · exact h2 z
  exact rT_keep hj.1 (h.wS hm hI) _ _ _ _ hr (fun q z => no q (hd q z).2 (hd q z).1) (fun z => ⟨(tmt_ne (hi z).1).1, no a (hi z).1 (hi z).2⟩)
end PRW
