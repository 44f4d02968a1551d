/-! M OVER S (18): judging: types and terms as the machine looks at them -/
section MJS
variable {P : MPl} {s0 : State} {l : Launch} {XX : Prop} {lev : Nat} {Q : Outcome → MSt → Prop} {st st' st'' st0 : MSt} {X : SX} {J : JX} {K K' : KS} {nd nd' ce ce' wa x lo hi lo' hi' lo1 hi1 lo2 hi2 ns ns' ch ch' q z : Nat} {c c' : MC} {M M' : Nat → Int → Prop} {E E' : Nat → Prop} {TN : Nat → List Nat} {sc : SC} {bl : List (Nat × Option Nat)}
theorem mSc_len : ∀ {sc : SC} {bl : List (Nat × Option Nat)}, mSc TN lo hi E c ce st sc bl → sc.length = bl.length := by
  intro sc
  induction sc with
  | nil => intro bl h; cases bl with
    | nil => rfl
    | cons b bl => exact h.elim
  | cons e sc ih => intro bl h; cases bl with
    | nil => exact h.elim
    | cons b bl => simp [ih h.2.2.2]
theorem tgs_cons {e : V × V × V × Int} {b : Nat × Option Nat} : tgs (e :: sc) (b :: bl) = (match e.1 with | .tag _ (.align false) => b.1 | _ => 1000000) :: tgs sc bl := rfl
theorem tgs_loc {i : Nat} {t : V × V × Int} {b : Nat × Option Nat} : tgs ((vLoc i, t) :: sc) (b :: bl) = b.1 :: tgs sc bl := rfl
theorem tgs_clo {t r : V} {t' : V × V × Int} {b : Nat × Option Nat} : tgs ((vClo t r, t') :: sc) (b :: bl) = 1000000 :: tgs sc bl := rfl
theorem tgs_len : ∀ {sc : SC} {bl : List (Nat × Option Nat)}, sc.length = bl.length → (tgs sc bl).length = sc.length := by
  intro sc
  induction sc with
  | nil => intro bl _; rfl
  | cons e sc ih => intro bl h; cases bl with
    | nil => simp at h
    | cons b bl => rw [tgs_cons]; simp [ih (by simpa using h)]
/-- the k-th around -/
theorem mSc_get : ∀ {sc : SC} {bl : List (Nat × Option Nat)} {k : Nat} {e : V × V × V × Int} {b : Nat × Option Nat}, mSc TN lo hi E c ce st sc bl → sc[k]? = some e → bl[k]? = some b → (b.1 < c.nd ∧ (b.1 < lo ∨ hi ≤ b.1)) ∧ (e.1 = vLoc (sc.length - 1 - k) ∨ ∃ t r, e.1 = vClo t r) ∧
    (∀ p, b.2 = some p → ∃ x nn : Nat, x < c.nd ∧ (x < lo ∨ hi ≤ x) ∧ p < 4000 ∧ st.2 31 b.1 = iI (x : Int) ∧ st.2 31 x = iI (p : Int) ∧ st.2 32 x = iI ((TN p).length : Int) ∧ st.2 40 b.1 = iI (nn : Int) ∧ st.2 41 b.1 = iI e.2.2.2 ∧ mTy E c ce st sc bl e.2.1 e.2.2.1 nn) := by
  intro sc
  induction sc with
  | nil => intro bl k e b _ h; simp at h
  | cons e sc ih => intro bl k e' b' h he hb; cases bl with
    | nil => exact h.elim
    | cons b bl =>
      have up : ∀ ty r nn, mTy E c ce st sc bl ty r nn → mTy E c ce st (e :: sc) (b :: bl) ty r nn := fun ty r nn ⟨m, e1, h1⟩ => ⟨m + 1, e1, fun st'' a => by rw [tgs_cons]; exact h1 st'' a⟩
      obtain ⟨⟨d1, d2, d3⟩, d4, d5, d6⟩ := h
      cases k with
      | zero =>
        cases he; cases hb
        refine ⟨⟨d1, d2⟩, d4, fun p hp => ?_⟩
        obtain ⟨x, nn, e1, e2, e3, e4, e5, e6, e7, e8, e9⟩ := d5 p hp
        exact ⟨x, nn, e1, e2, e3, e4, e5, e6, e7, e8, up _ _ _ e9⟩
      | succ k =>
        obtain ⟨f1, f2, f3⟩ := ih d6 (k := k) (by simpa using he) (by simpa using hb)
        refine ⟨f1, by rw [show (e :: sc).length - 1 - (k + 1) = sc.length - 1 - k by simp; omega]; exact f2, fun p hp => ?_⟩
        obtain ⟨x, nn, e1, e2, e3, e4, e5, e6, e7, e8, e9⟩ := f3 p hp
        exact ⟨x, nn, e1, e2, e3, e4, e5, e6, e7, e8, up _ _ _ e9⟩
theorem mSc_tgs : ∀ {sc : SC} {bl : List (Nat × Option Nat)}, mSc TN lo hi E c ce st sc bl → ∀ d, d ∈ tgs sc bl → d ∈ bl.map (fun z => z.1) ∨ d = 1000000 := by
  intro sc
  induction sc with
  | nil => intro bl h d hd; cases bl <;> simp [tgs] at hd
  | cons e sc ih => intro bl h; cases bl with
    | nil => exact h.elim
    | cons b bl =>
      intro d hd
      rw [tgs_cons] at hd
      rcases List.mem_cons.mp hd with hd | hd
      · split at hd
        · exact Or.inl (List.mem_cons.mpr (Or.inl hd))
        · exact Or.inr hd
      · exact (ih h.2.2.2 d hd).imp (List.mem_cons_of_mem _) id
/-- the same place: the same node -/
theorem mSc_inj : ∀ {sc : SC} {bl : List (Nat × Option Nat)}, mSc TN lo hi E c ce st sc bl → ∀ (i j d : Nat), d < 1000000 → (tgs sc bl)[i]? = some d → (tgs sc bl)[j]? = some d → i = j := by
  intro sc
  induction sc with
  | nil => intro bl h i j d _ hi; cases bl <;> simp [tgs] at hi
  | cons e sc ih => intro bl h; cases bl with
    | nil => exact h.elim
    | cons b bl =>
      intro i j d hd hi hj
      rw [tgs_cons] at hi hj
      have no : ∀ k, (tgs sc bl)[k]? = some d → d ≠ b.1 := fun k hk e => by
        rcases mSc_tgs h.2.2.2 d (List.mem_of_getElem? hk) with z | z
        · exact h.1.2.2 (e ▸ z)
        · omega
      have hd0 : ∀ y : Nat, some (match e.1 with | .tag _ (.align false) => b.1 | _ => 1000000) = some d → d = b.1 := fun y z => by
        have z' := Option.some.inj z
        split at z'
        · exact z'.symm
        · omega
      cases i with
      | zero => cases j with
        | zero => rfl
        | succ j =>
          simp only [List.getElem?_cons_zero, List.getElem?_cons_succ] at hi hj
          exact absurd (hd0 0 hi) (no j hj)
      | succ i => cases j with
        | zero =>
          simp only [List.getElem?_cons_zero, List.getElem?_cons_succ] at hi hj
          exact absurd (hd0 0 hj) (no i hi)
        | succ j =>
          simp only [List.getElem?_cons_succ] at hi hj
          rw [ih h.2.2.2 i j d hd hi hj]
theorem Msc.up {e : V × V × V × Int} {b : Nat × Option Nat} {i : Nat} {k : Int} (h : Msc sc bl i k) : Msc (e :: sc) (b :: bl) i k := by
  obtain ⟨h1, d, h2, h3, h4⟩ := h
  refine ⟨by simp; omega, d, ?_, h3, h4⟩
  rw [tgs_cons, show (e :: sc).length - 1 - i = (sc.length - 1 - i) + 1 by simp; omega, List.getElem?_cons_succ]
  exact h2
/-- types look at locals alone -/
theorem mE_tg : ∀ {sc : SC} {bl : List (Nat × Option Nat)} {M : Nat → Int → Prop}, mSc TN lo hi E c ce st sc bl → c.nd ≤ 140000 → (∀ i k, Msc sc bl i k → M i k) → mE c' ce' M st' (scEnv sc) (tgs sc bl) 0 := by
  intro sc
  induction sc with
  | nil => intro bl M h _ _; cases bl with
    | nil => trivial
    | cons b bl => exact h.elim
  | cons e sc ih => intro bl M h hn hM; cases bl with
    | nil => exact h.elim
    | cons b bl =>
      obtain ⟨e1, e2⟩ := e
      rcases h.2.1 with q | ⟨t, r, q⟩
      · have q' : e1 = vLoc sc.length := q
        subst q'
        show mE c' ce' M st' (.append (vLoc sc.length) (scEnv sc)) (b.1 :: tgs sc bl) 0
        rw [mE_loc]
        refine ⟨⟨b.1, hM _ _ ⟨by simp, b.1, ?_, by have := h.1.1; omega, rfl⟩, Or.inr ⟨rfl, rfl⟩⟩, ih h.2.2.2 hn (fun i k z => hM i k z.up)⟩
        rw [tgs_loc, show ((vLoc sc.length, e2) :: sc).length - 1 - sc.length = 0 by simp]; rfl
      · have q' : e1 = vClo t r := q
        subst q'
        exact ⟨Or.inl rfl, ih h.2.2.2 hn (fun i k z => hM i k z.up)⟩
theorem mSc.MN (h : mSc TN lo hi E c ce st sc bl) (hn : c.nd ≤ 140000) : MN (Msc sc bl) (tgs sc bl) sc.length c := by
  refine ⟨tgs_len (mSc_len h), fun d hd => ?_, fun i k ⟨h1, d, h2, h3, h4⟩ => ⟨h1, d, h2, ?_, Or.inl h4⟩⟩
  · exact (mSc_tgs h d hd).imp (fun z => (mSc_at h d z).1) id
  · rcases mSc_tgs h d (List.mem_of_getElem? h2) with z | z
    · exact (mSc_at h d z).1
    · omega
theorem mSc.MF (h : mSc TN lo hi E c ce st sc bl) (hl : sc.length ≤ 1000) : MF (Msc sc bl) K := by
  refine ⟨fun j k ⟨h1, d, h2, h3, h4⟩ => by omega, fun j k k' ⟨h1, d, h2, h3, h4⟩ ⟨g1, d', g2, g3, g4⟩ => ?_, fun i j k ⟨h1, d, h2, h3, h4⟩ ⟨g1, d', g2, g3, g4⟩ => ?_⟩
  · rw [h2] at g2; cases g2; omega
  · have : d = d' := by omega
    subst this
    have := mSc_inj h _ _ d (by omega) h2 g2
    omega
/-- wrappers -/
theorem mT_unw : ∀ (ty : V) (g : List Nat) (r : V) (n qq : Nat), (∀ z ∈ g, z < 2147483648) → mT c st ty g n none → mE c ce M st r g qq → ∃ g', (∀ z ∈ g', z < 2147483648) ∧ mT c st (sUnw ty r).1 g' n none ∧ mE c ce M st (sUnw ty r).2 g' qq := by
  intro ty
  generalize hs : SizeOf.sizeOf ty = s
  induction s using Nat.strongRecOn generalizing ty with
  | ind s ih =>
    intro g r n qq hg hT hE
    subst hs
    rcases mT_shape hT with ⟨k', rfl⟩ | ⟨k', rfl⟩ | ⟨k', rfl⟩ | ⟨d, b, rfl⟩ | ⟨d, b, rfl⟩ | ⟨f', ps, rfl⟩ | ⟨p, d, b, rfl⟩ | ⟨m, t', rfl⟩ | ⟨t', rfl⟩
    · exact ⟨g, hg, hT, hE⟩
    · exact ⟨g, hg, hT, hE⟩
    · exact ⟨g, hg, hT, hE⟩
    · exact ⟨g, hg, hT, hE⟩
    · exact ⟨g, hg, hT, hE⟩
    · exact ⟨g, hg, hT, hE⟩
    · exact ⟨g, hg, hT, hE⟩
    · exact ih (SizeOf.sizeOf t') (by simp; omega) t' rfl (g.drop m) (vdrop m r) n qq (fun z hz => hg z (List.mem_of_mem_drop hz)) hT (mE_drop m r g qq hE)
    · rw [mT_snk] at hT
      have e : sUnw (.group t' .fill) r = sUnw t' (.append .line r) := sUnw_snk
      rw [e]
      exact ih (SizeOf.sizeOf t') (by simp; omega) t' rfl (1000000 :: g) (.append .line r) n qq (fun z hz => by rcases List.mem_cons.mp hz with rfl | h; omega; exact hg z h) hT hE
end MJS
