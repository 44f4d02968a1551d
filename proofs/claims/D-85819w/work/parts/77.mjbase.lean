/-! M OVER S (17): judging: what is known, what stays -/
/-- what is looked at stays: the context, the nodes but E, the cells -/
def ag (E : Nat → Prop) (nd ce : Nat) (st st'' : MSt) : Prop := ∀ k j, (k = 23 ∨ k = 24 ∨ k = 25) ∨ (30 ≤ k ∧ k ≤ 38 ∧ j < nd ∧ ¬ E j) ∨ (44 ≤ k ∧ k ≤ 47 ∧ j < ce) → st''.2 k j = st.2 k j
/-- judging leaves all but: its own fields; of the nodes lo .. hi - 1 what they are; what is new -/
def mjf (lo hi nd ce ns ch : Nat) (st st' : MSt) : Prop :=
  (∀ k, k < 39 ∨ (39 < k ∧ k < 43) ∨ (43 < k ∧ k < 48) ∨ (48 < k ∧ k < 51) ∨ k = 58 ∨ (61 < k ∧ k < 64) ∨ k = 74 ∨ 75 < k → st'.1 k = st.1 k) ∧
  (∀ k j, (30 ≤ k ∧ k ≤ 38 → j < nd ∧ (lo ≤ j ∧ j < hi → (32 ≤ k ∧ k ≤ 35) ∨ k = 38)) → (40 ≤ k ∧ k ≤ 41 → j < lo ∨ hi ≤ j) → (k = 42 → j < ns) → (44 ≤ k ∧ k ≤ 47 → j < ce) → (k < 49 ∨ 50 < k) → (k = 58 → j < ch) → k ≠ 74 → st'.2 k j = st.2 k j)
abbrev cutE (E : Nat → Prop) (lo hi : Nat) : Nat → Prop := fun j => E j ∧ (j < lo ∨ hi ≤ j)
/-- a fault of judging -/
def MZj (st : MSt) (X : SX) (K : KS) (e : Nat) (p : Int) : Prop := MJ0 st X K ∧ fI st 72 = iI (e : Int) ∧ fI st 73 = (if p = -1 then fI st 77 else iI p) ∧ 0 < e ∧ e < 100
/-- tables, names, the text -/
def mTb (c : MC) (st : MSt) (X : SX) (J : JX) (TN : Nat → List Nat) : Prop :=
  (fI st 15 = iI 1 ∧ fI st 20 = iI (c.ns : Int) ∧ fI st 27 = iI (c.nc : Int)) ∧ mNm c st X ∧ (∀ k, k < 8 → st.2 18 k = iI (J.ax k) ∧ -1 ≤ J.ax k ∧ J.ax k < c.ns) ∧ (∀ a b, a < 8 → b < 8 → st.2 19 (8 * a + b) = iI (J.ru a b) ∧ -1 ≤ J.ru a b ∧ J.ru a b < c.ns) ∧
  (∀ p, (TN p).length ≤ 12 ∧ ∀ (i b : Nat), (TN p)[i]? = some b → p + i < 4000 ∧ b < 256 ∧ st.2 4 (p + i) = iI (b : Int)) ∧ (∀ k, k < c.nc → -1 ≤ J.cs k ∧ J.cs k < 8 ∧ gT (J.ct k) true []) ∧
  ((∀ k b, k < c.nc → b ∈ X.nm k → b < 256) ∧ (∀ s b, s < c.ns → b ∈ X.sn s → b < 256) ∧ ∀ i j, i < c.ns → j < c.ns → X.sn i = X.sn j → i = j) ∧
  ∀ p, J.cn p = lastN X.nm (TN p) c.nc ∧ J.sf p = firstN X.sn (TN p) c.ns 0
/-- the binders around: their nodes, the places of their names; of what is only put for: no node -/
def tgs : SC → List (Nat × Option Nat) → List Nat
  | e :: sc, b :: bl => (match e.1 with | .tag _ (.align false) => b.1 | _ => 1000000) :: tgs sc bl
  | _, _ => []
/-- the names of locals -/
def Msc (sc : SC) (bl : List (Nat × Option Nat)) : Nat → Int → Prop := fun i k => i < sc.length ∧ ∃ d : Nat, (tgs sc bl)[sc.length - 1 - i]? = some d ∧ d < 140000 ∧ k = (d : Int)
/-- a type at the node nn -/
def mTy (E : Nat → Prop) (c : MC) (ce : Nat) (st : MSt) (sc : SC) (bl : List (Nat × Option Nat)) (ty r : V) (nn : Nat) : Prop := ∃ m, r = vdrop m (scEnv sc) ∧ ∀ st'', ag E c.nd ce st st'' → mT c st'' ty ((tgs sc bl).drop m) nn none
def mSc (TN : Nat → List Nat) (lo hi : Nat) (E : Nat → Prop) (c : MC) (ce : Nat) (st : MSt) : SC → List (Nat × Option Nat) → Prop
  | [], [] => True
  | e :: sc, b :: bl => (b.1 < c.nd ∧ (b.1 < lo ∨ hi ≤ b.1) ∧ b.1 ∉ bl.map (fun z => z.1)) ∧ (e.1 = vLoc sc.length ∨ ∃ t r, e.1 = vClo t r) ∧
    (∀ p, b.2 = some p → ∃ x nn : Nat, x < c.nd ∧ (x < lo ∨ hi ≤ x) ∧ p < 4000 ∧ st.2 31 b.1 = iI (x : Int) ∧ st.2 31 x = iI (p : Int) ∧ st.2 32 x = iI ((TN p).length : Int) ∧ st.2 40 b.1 = iI (nn : Int) ∧ st.2 41 b.1 = iI e.2.2.2 ∧ mTy E c ce st sc bl e.2.1 e.2.2.1 nn) ∧ mSc TN lo hi E c ce st sc bl
  | _, _ => False
/-- the row of those that have names -/
def mSA (st : MSt) : List (Nat × Option Nat) → Nat → Prop
  | [], n => n = 0
  | (i, some _) :: bl, n => ∃ k, n = k + 1 ∧ st.2 42 k = iI (i : Int) ∧ mSA st bl k
  | (_, none) :: bl, n => mSA st bl n
/-- what judging knows of its state -/
def JM (lo hi : Nat) (E : Nat → Prop) (c : MC) (ce : Nat) (st : MSt) (X : SX) (J : JX) (TN : Nat → List Nat) (sc : SC) (bl : List (Nat × Option Nat)) (q ns : Nat) : Prop :=
  mTb c st X J TN ∧
  (∀ st'', ag E c.nd ce st st'' → mXc c st'' X ∧ mSo c st'' ∧ (∀ k, k < c.nc → ∃ n : Nat, st''.2 23 k = iI (n : Int) ∧ st''.2 24 k = iI (J.cs k) ∧ mT c st'' (J.ct k) [] n none) ∧ mE c ce (Msc sc bl) st'' (scEnv sc) (bl.map (fun z => z.1)) q) ∧
  mSc TN lo hi E c ce st sc bl ∧ (mSA st bl ns ∧ fI st 43 = iI (ns : Int)) ∧ (mch st ce ∧ q < ce ∧ ∀ i, i < 140000 → i ∉ bl.map (fun z => z.1) → lk st q i = 0)
section MJB
variable {P : MPl} {s0 : State} {l : Launch} {XX : Prop} {lev : Nat} {Q : Outcome → MSt → Prop} {st st' st'' st0 : MSt} {X : SX} {J : JX} {K K' : KS} {nd nd' ce ce' wa x lo hi lo' hi' lo1 hi1 lo2 hi2 ns ns' ch ch' q : Nat} {c c' : MC} {M M' : Nat → Int → Prop} {E E' : Nat → Prop} {TN : Nat → List Nat} {sc : SC} {bl : List (Nat × Option Nat)}
theorem mjf.rf : mjf lo hi nd ce ns ch st st := ⟨fun _ _ => rfl, fun _ _ _ _ _ _ _ _ _ => rfl⟩
theorem mjf.tr (h : mjf lo1 hi1 nd ce ns ch st st') (k : mjf lo2 hi2 nd' ce' ns' ch' st' st'') (a1 : lo ≤ lo1) (a2 : hi1 ≤ hi) (b1 : lo ≤ lo2) (b2 : hi2 ≤ hi) (n1 : nd ≤ nd') (c1 : ce ≤ ce') (s1 : ns ≤ ns') (h1 : ch ≤ ch') : mjf lo hi nd ce ns ch st st'' :=
  ⟨fun j hj => (k.1 j hj).trans (h.1 j hj), fun j i p1 p2 p3 p4 p5 p6 p7 => (k.2 j i (fun z => by have := p1 z; omega) (fun z => by have := p2 z; omega) (fun z => by have := p3 z; omega) (fun z => by have := p4 z; omega) p5 (fun z => by have := p6 z; omega) p7).trans (h.2 j i (fun z => by have := p1 z; omega) (fun z => by have := p2 z; omega) p3 p4 p5 p6 p7)⟩
theorem mjf.wk (h : mjf lo1 hi1 nd ce ns ch st st') (a1 : lo ≤ lo1) (a2 : hi1 ≤ hi) : mjf lo hi nd ce ns ch st st' := h.tr (mjf.rf (lo := lo) (hi := hi)) a1 a2 (Nat.le_refl _) (Nat.le_refl _) (Nat.le_refl _) (Nat.le_refl _) (Nat.le_refl _) (Nat.le_refl _)
theorem mjf.t2 (h : mjf lo hi nd ce ns ch st st') (k : mjf lo hi nd' ce' ns' ch' st' st'') (n1 : nd ≤ nd') (c1 : ce ≤ ce') (s1 : ns ≤ ns') (h1 : ch ≤ ch') : mjf lo hi nd ce ns ch st st'' := h.tr k (Nat.le_refl _) (Nat.le_refl _) (Nat.le_refl _) (Nat.le_refl _) n1 c1 s1 h1
theorem mfr.toJ (h : mfr nd ce wa st st') : mjf lo hi nd ce ns ch st st' := ⟨fun k hk => h.1 k (by omega), fun k j p1 p2 p3 p4 p5 p6 p7 => h.2 k j (fun z => (p1 z).1) p4 (fun z => by omega) p7⟩
theorem mjf.put {k : Nat} {v : Int32} (hk : k = 43 ∨ (59 ≤ k ∧ k ≤ 61) ∨ k = 72 ∨ k = 73) : mjf lo hi nd ce ns ch st (mput k v st) := ⟨fun j hj => by rw [mput_f, if_neg (by omega)], fun _ _ _ _ _ _ _ _ _ => rfl⟩
theorem mjf.mst {k i : Nat} {v : Int32} (hi : i < 2147483648) (hk : ((k = 30 ∨ k = 31 ∨ k = 36 ∨ k = 37) ∧ lo1 ≤ i ∧ i < hi1) ∨ (30 ≤ k ∧ k ≤ 38 ∧ nd ≤ i) ∨ ((k = 40 ∨ k = 41) ∧ lo1 ≤ i ∧ i < hi1) ∨ (k = 42 ∧ ns ≤ i) ∨ (k = 58 ∧ ch ≤ i)) : mjf lo1 hi1 nd ce ns ch st (mst k (iI (i : Int)) v st) :=
  ⟨fun _ _ => rfl, fun k' j p1 p2 p3 p4 p5 p6 p7 => by
    rw [mst_a hi, if_neg]
    rintro ⟨rfl, rfl⟩
    omega⟩
theorem mjf.ag (h : mjf lo hi nd ce ns ch st st') (hE : ∀ j, lo ≤ j → j < hi → E j) : ag E nd ce st st' := fun k j hk => by
  refine h.2 k j (fun z => ?_) (fun z => by omega) (fun z => by omega) (fun z => by omega) (by omega) (fun z => by omega) (by omega)
  rcases hk with hk | ⟨_, _, h3, h4⟩ | hk
  · omega
  · exact ⟨h3, fun w => absurd (hE j w.1 w.2) h4⟩
  · omega
theorem ag.tr (h : ag E nd ce st st') (k : ag E' nd' ce' st' st'') (hE : ∀ j, E' j → E j) (h1 : nd ≤ nd') (h2 : ce ≤ ce') : ag E nd ce st st'' := fun i j hk => by
  refine (k i j ?_).trans (h i j hk)
  rcases hk with hk | ⟨a, b, d, e⟩ | hk
  · exact Or.inl hk
  · exact Or.inr (Or.inl ⟨a, b, by omega, fun z => e (hE j z)⟩)
  · exact Or.inr (Or.inr (by omega))
theorem ag.rf : ag E nd ce st st := fun _ _ _ => rfl
theorem mT_up (h1 : c.nd ≤ c'.nd) (h2 : c'.2 = c.2) {t : V} {g : List Nat} {n : Nat} {m : Option Nat} (h : mT c st t g n m) : mT c' st t g n m :=
  mT_mv ⟨h1, by show c.2.1 ≤ c'.2.1; rw [h2]; exact Nat.le_refl _, by show c.2.2 ≤ c'.2.2; rw [h2]; exact Nat.le_refl _, fun _ _ _ _ _ => rfl⟩ _ _ _ _ h
theorem mTy.mv {ty r : V} {nn : Nat} (h : mTy E c ce st sc bl ty r nn) (ha : ag E c.nd ce st st') (hE : ∀ j, E' j → E j) (h1 : c.nd ≤ c'.nd) (h2 : c'.2 = c.2) (h3 : ce ≤ ce') : mTy E' c' ce' st' sc bl ty r nn := by
  obtain ⟨m, e, h⟩ := h
  exact ⟨m, e, fun st'' a => mT_up h1 h2 (h st'' (ha.tr a hE h1 h3))⟩
theorem mSc_mv0 (ha : ag E c.nd ce st st') (hE : ∀ j, E' j → E j) (h1 : c.nd ≤ c'.nd) (h2 : c'.2 = c.2) (h3 : ce ≤ ce') (b1 : lo ≤ lo') (b2 : hi' ≤ hi) (g2 : ∀ k j, k = 31 ∨ k = 32 → j < c.nd → (j < lo ∨ hi ≤ j) → st'.2 k j = st.2 k j) : ∀ (sc : SC) (bl : List (Nat × Option Nat)), (∀ k j, k = 40 ∨ k = 41 → j ∈ bl.map (fun z => z.1) → st'.2 k j = st.2 k j) → mSc TN lo hi E c ce st sc bl → mSc TN lo' hi' E' c' ce' st' sc bl := by
  intro sc
  induction sc with
  | nil => intro bl _ h; cases bl with
    | nil => trivial
    | cons b bl => exact h.elim
  | cons e sc ih => intro bl g1 h; cases bl with
    | nil => exact h.elim
    | cons b bl =>
      obtain ⟨⟨d1, d2, d3⟩, d4, d5, d6⟩ := h
      refine ⟨⟨by omega, by omega, d3⟩, d4, fun p hp => ?_, ih bl (fun k j z1 z2 => g1 k j z1 (List.mem_cons_of_mem _ z2)) d6⟩
      obtain ⟨x, nn, e1, e2, e3, e4, e5, e6, e7, e8, e9⟩ := d5 p hp
      exact ⟨x, nn, by omega, by omega, e3, by rw [g2 31 _ (by omega) d1 d2]; exact e4, by rw [g2 31 _ (by omega) e1 e2]; exact e5, by rw [g2 32 _ (by omega) e1 e2]; exact e6, by rw [g1 40 _ (by omega) List.mem_cons_self]; exact e7, by rw [g1 41 _ (by omega) List.mem_cons_self]; exact e8, e9.mv ha hE h1 h2 h3⟩
theorem mSc_at : ∀ {sc : SC} {bl : List (Nat × Option Nat)}, mSc TN lo hi E c ce st sc bl → ∀ d, d ∈ bl.map (fun z => z.1) → d < c.nd ∧ (d < lo ∨ hi ≤ d) := by
  intro sc
  induction sc with
  | nil => intro bl h; cases bl with
    | nil => intro d hd; simp at hd
    | cons b bl => exact h.elim
  | cons e sc ih => intro bl h; cases bl with
    | nil => exact h.elim
    | cons b bl =>
      intro d hd
      rcases List.mem_cons.mp hd with rfl | hd
      · exact ⟨h.1.1, h.1.2.1⟩
      · exact ih h.2.2.2 d hd
theorem mSc_mv (hf : mjf lo2 hi2 c.nd ce ns ch st st') (a1 : lo ≤ lo2) (a2 : hi2 ≤ hi) (hI : ∀ j, lo2 ≤ j → j < hi2 → E j) (hE : ∀ j, E' j → E j) (h1 : c.nd ≤ c'.nd) (h2 : c'.2 = c.2) (h3 : ce ≤ ce') (b1 : lo ≤ lo') (b2 : hi' ≤ hi) (h : mSc TN lo hi E c ce st sc bl) : mSc TN lo' hi' E' c' ce' st' sc bl := by
  have g : ∀ k j, (30 ≤ k ∧ k ≤ 38) ∨ (40 ≤ k ∧ k ≤ 41) → j < c.nd → (j < lo ∨ hi ≤ j) → st'.2 k j = st.2 k j := fun k j z1 z2 z3 => hf.2 k j (fun _ => by omega) (fun _ => by omega) (fun _ => by omega) (fun _ => by omega) (by omega) (fun _ => by omega) (by omega)
  exact mSc_mv0 (hf.ag hI) hE h1 h2 h3 b1 b2 (fun k j z1 z2 z3 => g k j (by omega) z2 z3) sc bl (fun k j z1 z2 => g k j (by omega) (mSc_at h j z2).1 (mSc_at h j z2).2) h
theorem mSA_mv (h : ∀ j, j < ns → st'.2 42 j = st.2 42 j) : ∀ (bl : List (Nat × Option Nat)) (n : Nat), n ≤ ns → mSA st bl n → mSA st' bl n := by
  intro bl
  induction bl with
  | nil => intro n _ h; exact h
  | cons b bl ih =>
    intro n hn hs
    obtain ⟨i, o⟩ := b
    cases o with
    | none => exact ih n hn hs
    | some p =>
      obtain ⟨k, e1, e2, e3⟩ := hs
      exact ⟨k, e1, by rw [h k (by omega)]; exact e2, ih k (by omega) e3⟩
theorem mTb.mv (h : mTb c st X J TN) (hf : mjf lo hi nd ce ns ch st st') (h2 : c'.2 = c.2) : mTb c' st' X J TN := by
  have en : c'.nc = c.nc := by show c'.2.1 = c.2.1; rw [h2]
  have es : c'.ns = c.ns := by show c'.2.2 = c.2.2; rw [h2]
  have g : ∀ k j, k < 30 → st'.2 k j = st.2 k j := fun k j z => hf.2 k j (fun _ => by omega) (fun _ => by omega) (fun _ => by omega) (fun _ => by omega) (by omega) (fun _ => by omega) (by omega)
  obtain ⟨⟨a1, a2, a3⟩, ⟨b1, b2⟩, h3, h4, h5, h6, h7, h8⟩ := h
  rw [mTb, en, es]
  refine ⟨⟨(hf.1 15 (by omega)).trans a1, (hf.1 20 (by omega)).trans a2, (hf.1 27 (by omega)).trans a3⟩, ⟨fun k hk => ?_, fun s hs => ?_⟩, fun k hk => by rw [g 18 _ (by omega)]; exact h3 k hk, fun a b ha hb => by rw [g 19 _ (by omega)]; exact h4 a b ha hb, fun p => ⟨(h5 p).1, fun i b hb => by rw [g 4 _ (by omega)]; exact (h5 p).2 i b hb⟩, h6, h7, h8⟩
  · obtain ⟨d1, d2, d3⟩ := b1 k (by omega)
    exact ⟨by rw [g 22 _ (by omega)]; exact d1, d2, fun j ch hj => by rw [g 21 _ (by omega)]; exact d3 j ch hj⟩
  · obtain ⟨d1, d2, d3⟩ := b2 s (by omega)
    exact ⟨by rw [g 17 _ (by omega)]; exact d1, d2, fun j ch hj => by rw [g 16 _ (by omega)]; exact d3 j ch hj⟩
theorem mch_ag (h : mch st ce) (ha : ag E nd ce st st') : mch st' ce := h.mv (fun k j a b d => ha k j (Or.inr (Or.inr ⟨a, b, d⟩)))
theorem mXc_up0 (h : mXc c st X) (h1 : c.nd ≤ c'.nd) (h2 : c'.2 = c.2) (h3 : c'.nd ≤ 140000) : mXc c' st X := mXc_up h h1 h2 h3
/-- judging knows as much after a part was judged -/
theorem JM.mv (h : JM lo hi E c ce st X J TN sc bl q ns) (hf : mjf lo2 hi2 c.nd ce ns ch st st') (h43 : fI st' 43 = fI st 43) (a1 : lo ≤ lo2) (a2 : hi2 ≤ hi) (hI : ∀ j, lo2 ≤ j → j < hi2 → E j) (hE : ∀ j, E' j → E j) (h1 : c.nd ≤ c'.nd) (h2 : c'.2 = c.2) (h3 : ce ≤ ce') (b1 : lo ≤ lo') (b2 : hi' ≤ hi) (hn : c'.nd ≤ 140000) (hc : mch st' ce') : JM lo' hi' E' c' ce' st' X J TN sc bl q ns := by
  obtain ⟨g1, g2, g3, ⟨g4, g5⟩, g6, g7, g8⟩ := h
  have en : c'.nc = c.nc := by show c'.2.1 = c.2.1; rw [h2]
  have es : c'.ns = c.ns := by show c'.2.2 = c.2.2; rw [h2]
  have hce : ∀ k j, 44 ≤ k → k ≤ 47 → j < ce → st'.2 k j = st.2 k j := fun k j a b d => (hf.ag hI) k j (Or.inr (Or.inr ⟨a, b, d⟩))
  refine ⟨g1.mv hf h2, fun st'' ha => ?_, mSc_mv hf a1 a2 hI hE h1 h2 h3 b1 b2 g3, ⟨mSA_mv (fun j hj => hf.2 42 j (fun _ => by omega) (fun _ => by omega) (fun _ => hj) (fun _ => by omega) (by omega) (fun _ => by omega) (by omega)) _ _ (Nat.le_refl _) g4, h43.trans g5⟩, hc, by omega, fun i hi' hn' => ?_⟩
  · have ha' : ag E c.nd ce st st'' := (hf.ag hI).tr ha hE h1 h3
    obtain ⟨w1, w2, w3, w4⟩ := g2 st'' ha'
    refine ⟨mXc_up w1 h1 h2 hn, ⟨fun s hs => w2.1 s (by omega), by have := w2.2.1; omega, by have := w2.2.2; omega⟩, fun k hk => ?_, ?_⟩
    · obtain ⟨n, z1, z2, z3⟩ := w3 k (by omega)
      exact ⟨n, z1, z2, mT_up h1 h2 z3⟩
    · exact mE_mv ⟨⟨h1, by omega, by omega, fun _ _ _ _ _ => rfl⟩, mch_ag g6 ha', h3, fun _ _ _ _ _ => rfl, fun _ _ z => z⟩ _ _ _ g7 w4
  · rw [lk_same g6 (g6.mv hce) hce q g7]; exact g8 i hi' hn'
end MJB
