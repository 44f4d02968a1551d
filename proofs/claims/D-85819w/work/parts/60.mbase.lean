/-! M OVER S (1): nodes, cells, what is put for names -/
section MB1
variable {st st' : MSt} {k i j : Nat} {x : Int32}
theorem mput_f : (mput k x st).1 j = if j = k then x else st.1 j := by
  show upd st.1 k x j = _
  by_cases h : j = k
  · subst h; rw [if_pos rfl, pk_us]
  · rw [if_neg h, pk_un h]
theorem mput_a : (mput k x st).2 = st.2 := rfl
theorem mst_f {z : Int32} : (mst k z x st).1 = st.1 := rfl
theorem mst_a {k' : Nat} (hi : i < 2147483648) : (mst k (iI (i : Int)) x st).2 k' j = if k' = k ∧ j = i then x else st.2 k' j := by
  show va_up st.2 k (upd (st.2 k) (ix (iI (i : Int))) x) k' j = _
  rw [iI_ix hi]
  by_cases h : k' = k
  · subst h
    rw [va_up_self]
    by_cases h2 : j = i
    · subst h2; rw [if_pos ⟨rfl, rfl⟩, pk_us]
    · rw [if_neg (fun q => h2 q.2), pk_un h2]
  · rw [va_up_ne _ _ h, if_neg (fun q => h q.1)]
theorem aI_n (hi : i < 2147483648) : aI st k (iI (i : Int)) = st.2 k i := by show st.2 k (ix (iI (i : Int))) = _; rw [iI_ix hi]
end MB1
/-- how many nodes, names of the context, sorts -/
abbrev MC : Type := Nat × Nat × Nat
abbrev MC.nd (c : MC) : Nat := c.1
abbrev MC.nc (c : MC) : Nat := c.2.1
abbrev MC.ns (c : MC) : Nat := c.2.2
/-- the term t stands at the node n (none), the names of g being bound around; a list of parts leads from the node m to n (some m) -/
def mT (c : MC) (st : MSt) : V → List Nat → Nat → Option Nat → Prop
  | .tag k .line, g, n, none => n < c.nd ∧ st.2 30 n = iI 1 ∧ ∃ i : Nat, g[k]? = some i ∧ i < 140000 ∧ st.2 31 n = iI (i : Int)
  | .tag k .nil, _, n, none => n < c.nd ∧ k < c.nc ∧ st.2 30 n = iI 2 ∧ st.2 31 n = iI (k : Int)
  | .tag s (.align true), _, n, none => n < c.nd ∧ s < c.ns ∧ st.2 30 n = iI 3 ∧ st.2 31 n = iI (s : Int)
  | .tag 0 (.append d b), g, n, none => n < c.nd ∧ st.2 30 n = iI 4 ∧ ∃ x y i : Nat, st.2 32 n = iI (x : Int) ∧ st.2 33 n = iI (y : Int) ∧ st.2 38 n = iI (i : Int) ∧ i < c.nd ∧ i ∉ g ∧ mT c st d g x none ∧ mT c st b (i :: g) y none
  | .tag 1 (.append d b), g, n, none => n < c.nd ∧ st.2 30 n = iI 6 ∧ ∃ x y i : Nat, st.2 32 n = iI (x : Int) ∧ st.2 33 n = iI (y : Int) ∧ st.2 38 n = iI (i : Int) ∧ i < c.nd ∧ i ∉ g ∧ mT c st d g x none ∧ mT c st b (i :: g) y none
  | .tag 2 (.append f ps), g, n, none => ∃ m, mT c st f g m none ∧ mT c st ps g n (some m)
  | .tag p (.group (.append d b) .fill), g, n, none => n < c.nd ∧ st.2 30 n = iI 5 ∧ st.2 36 n = iI ((p / 8 : Nat) : Int) ∧ st.2 37 n = iI ((p % 8 : Nat) : Int) ∧ ∃ x y i : Nat, st.2 32 n = iI (x : Int) ∧ st.2 33 n = iI (y : Int) ∧ st.2 38 n = iI (i : Int) ∧ i < c.nd ∧ i ∉ g ∧ mT c st d g x none ∧ mT c st b (i :: g) y none
  | .group (.tag m t) .allOrNone, g, n, none => mT c st t (g.drop m) n none
  | .group t .fill, g, n, none => mT c st t (1000000 :: g) n none
  | .append p ps, g, n, some m => ∃ k a : Nat, k < c.nd ∧ st.2 30 k = iI 7 ∧ st.2 32 k = iI (m : Int) ∧ st.2 33 k = iI (a : Int) ∧ mT c st p g a none ∧ mT c st ps g n (some k)
  | .nil, _, n, some m => m = n
  | _, _, _, _ => False
/-- looking a name up in the cells from q on: the cell, 0 if there is none -/
def lkf (st : MSt) : Nat → Nat → Nat → Nat
  | 0, _, _ => 0
  | f + 1, q, i => if q = 0 then 0 else if st.2 45 q = iI (i : Int) then q else lkf st f (ix (st.2 44 q)) i
def lk (st : MSt) (q i : Nat) : Nat := lkf st (q + 1) q i
/-- cells lead to earlier ones -/
def mch (st : MSt) (ce : Nat) : Prop := ce ≤ 80000 ∧ ∀ q, 0 < q → q < ce → ∃ u : Nat, st.2 44 q = iI (u : Int) ∧ u < q
/-- environments: for each place the name that it is bound by; M: what a local is (its number; a name that is not put for) -/
def mE (c : MC) (ce : Nat) (M : Nat → Int → Prop) (st : MSt) : V → List Nat → Nat → Prop
  | .append .line r, _ :: g, q => mE c ce M st r g q
  | .append (.tag 3 (.append t r')) r, i :: g, q => (i = 1000000 ∨ ∃ (a n q' : Nat) (g' : List Nat), lk st q i = a ∧ 0 < a ∧ a < ce ∧ st.2 46 a = iI (n : Int) ∧ st.2 47 a = iI (q' : Int) ∧ q' < ce ∧ (∀ z ∈ g', z < 2147483648) ∧ mT c st t g' n none ∧ mE c ce M st r' g' q') ∧ mE c ce M st r g q
  | .append (.tag j (.align false)) r, i :: g, q => (∃ k : Int, M j k ∧ ((-2000000 ≤ k ∧ k < 0 ∧ 0 < lk st q i ∧ lk st q i < ce ∧ st.2 46 (lk st q i) = iI k) ∨ (k = (i : Int) ∧ lk st q i = 0))) ∧ mE c ce M st r g q
  | .nil, [], _ => True
  | _, _, _ => False
/-- what has changed at most: counters, and what stands behind the nodes, cells, waiting parts of before -/
def mfr (nd ce wa : Nat) (st st' : MSt) : Prop :=
  (∀ k, k < 39 ∨ (39 < k ∧ k < 48) ∨ (48 < k ∧ k < 51) ∨ (57 < k ∧ k < 64) ∨ k = 74 ∨ 75 < k → st'.1 k = st.1 k) ∧
  (∀ k j, (30 ≤ k ∧ k ≤ 38 → j < nd) → (44 ≤ k ∧ k ≤ 47 → j < ce) → (49 ≤ k ∧ k ≤ 50 → j < wa) → k ≠ 74 → st'.2 k j = st.2 k j)
section MB2
variable {c c' : MC} {ce ce' wa : Nat} {M M' : Nat → Int → Prop} {st st' st'' : MSt}
theorem mfr.rf {nd : Nat} : mfr nd ce wa st st := ⟨fun _ _ => rfl, fun _ _ _ _ _ _ => rfl⟩
theorem mfr.tr {nd nd' wa' : Nat} (h : mfr nd ce wa st st') (k : mfr nd' ce' wa' st' st'') (h1 : nd ≤ nd') (h2 : ce ≤ ce') (h3 : wa ≤ wa') : mfr nd ce wa st st'' :=
  ⟨fun j hj => (k.1 j hj).trans (h.1 j hj), fun j i a1 a2 a3 a4 => (k.2 j i (fun q => Nat.lt_of_lt_of_le (a1 q) h1) (fun q => Nat.lt_of_lt_of_le (a2 q) h2) (fun q => Nat.lt_of_lt_of_le (a3 q) h3) a4).trans (h.2 j i a1 a2 a3 a4)⟩
theorem mT_snk {t : V} {g : List Nat} {n : Nat} : mT c st (.group t .fill) g n none = mT c st t (1000000 :: g) n none := by cases t <;> rfl
theorem mT_prod {p n : Nat} {d b : V} {g : List Nat} : mT c st (.tag p (.group (.append d b) .fill)) g n none = (n < c.nd ∧ st.2 30 n = iI 5 ∧ st.2 36 n = iI ((p / 8 : Nat) : Int) ∧ st.2 37 n = iI ((p % 8 : Nat) : Int) ∧ ∃ x y i : Nat, st.2 32 n = iI (x : Int) ∧ st.2 33 n = iI (y : Int) ∧ st.2 38 n = iI (i : Int) ∧ i < c.nd ∧ i ∉ g ∧ mT c st d g x none ∧ mT c st b (i :: g) y none) := by rcases p with _ | _ | _ | p <;> rfl
/-- nodes stay -/
def mvN (c c' : MC) (st st' : MSt) : Prop := c.nd ≤ c'.nd ∧ c.nc ≤ c'.nc ∧ c.ns ≤ c'.ns ∧ ∀ k j, 30 ≤ k → k ≤ 38 → j < c.nd → st'.2 k j = st.2 k j
theorem mT_mv (h : mvN c c' st st') : ∀ (t : V) (g : List Nat) (n : Nat) (m : Option Nat), mT c st t g n m → mT c' st' t g n m := by
  intro t g n m
  obtain ⟨h1, h2, h3, h4⟩ := h
  fun_induction mT c st t g n m with
  | case1 k g n =>
    rintro ⟨a1, a2, i, a3, a4, a5⟩
    exact ⟨by omega, by rw [h4 _ _ (by omega) (by omega) a1]; exact a2, i, a3, a4, by rw [h4 _ _ (by omega) (by omega) a1]; exact a5⟩
  | case2 k g n =>
    rintro ⟨a1, a2, a3, a4⟩
    exact ⟨by omega, by omega, by rw [h4 _ _ (by omega) (by omega) a1]; exact a3, by rw [h4 _ _ (by omega) (by omega) a1]; exact a4⟩
  | case3 k g n =>
    rintro ⟨a1, a2, a3, a4⟩
    exact ⟨by omega, by omega, by rw [h4 _ _ (by omega) (by omega) a1]; exact a3, by rw [h4 _ _ (by omega) (by omega) a1]; exact a4⟩
  | case4 d b g n i1 i2 =>
    rintro ⟨a1, a2, x, y, i, a3, a4, a5, a6, a7, a8, a9⟩
    exact ⟨by omega, by rw [h4 _ _ (by omega) (by omega) a1]; exact a2, x, y, i, by rw [h4 _ _ (by omega) (by omega) a1]; exact a3, by rw [h4 _ _ (by omega) (by omega) a1]; exact a4, by rw [h4 _ _ (by omega) (by omega) a1]; exact a5, by omega, a7, i1 x a8, i2 y i a9⟩
  | case5 d b g n i1 i2 =>
    rintro ⟨a1, a2, x, y, i, a3, a4, a5, a6, a7, a8, a9⟩
    exact ⟨by omega, by rw [h4 _ _ (by omega) (by omega) a1]; exact a2, x, y, i, by rw [h4 _ _ (by omega) (by omega) a1]; exact a3, by rw [h4 _ _ (by omega) (by omega) a1]; exact a4, by rw [h4 _ _ (by omega) (by omega) a1]; exact a5, by omega, a7, i1 x a8, i2 y i a9⟩
  | case6 f ps g n i1 i2 =>
    rintro ⟨m, a1, a2⟩
    exact ⟨m, i1 m a1, i2 m a2⟩
  | case7 p d b g n i1 i2 =>
    rintro ⟨a1, a2, b1, b2, x, y, i, a3, a4, a5, a6, a7, a8, a9⟩
    rw [mT_prod]
    exact ⟨by omega, by rw [h4 _ _ (by omega) (by omega) a1]; exact a2, by rw [h4 _ _ (by omega) (by omega) a1]; exact b1, by rw [h4 _ _ (by omega) (by omega) a1]; exact b2, x, y, i, by rw [h4 _ _ (by omega) (by omega) a1]; exact a3, by rw [h4 _ _ (by omega) (by omega) a1]; exact a4, by rw [h4 _ _ (by omega) (by omega) a1]; exact a5, by omega, a7, i1 x a8, i2 y i a9⟩
  | case8 m t g n i1 => intro a; exact i1 a
  | case9 t g n i1 => intro a; rw [mT_snk]; exact i1 a
  | case10 p ps g n m i1 i2 =>
    rintro ⟨k, a, a1, a2, a3, a4, a5, a6⟩
    exact ⟨k, a, by omega, by rw [h4 _ _ (by omega) (by omega) a1]; exact a2, by rw [h4 _ _ (by omega) (by omega) a1]; exact a3, by rw [h4 _ _ (by omega) (by omega) a1]; exact a4, i1 a a5, i2 k a6⟩
  | case11 => exact id
  | case12 => intro q; exact q.elim
theorem lkf_fuel {ce : Nat} (h : mch st ce) : ∀ (q f f' i : Nat), q < ce → q < f → q < f' → lkf st f q i = lkf st f' q i := by
  intro q
  induction q using Nat.strongRecOn with
  | ind q ih =>
    intro f f' i hq h1 h2
    obtain ⟨f, rfl⟩ : ∃ g, f = g + 1 := ⟨f - 1, by omega⟩
    obtain ⟨f', rfl⟩ : ∃ g, f' = g + 1 := ⟨f' - 1, by omega⟩
    unfold lkf
    by_cases h0 : q = 0
    · rw [if_pos h0, if_pos h0]
    · rw [if_neg h0, if_neg h0]
      obtain ⟨u, e1, e2⟩ := h.2 q (by omega) hq
      have h8 := h.1
      by_cases hb : st.2 45 q = iI (i : Int)
      · rw [if_pos hb, if_pos hb]
      · rw [if_neg hb, if_neg hb, e1, iI_ix]
        · exact ih u e2 f f' i (by omega) (by omega) (by omega)
        · omega
theorem lk_0 {i : Nat} : lk st 0 i = 0 := rfl
theorem lk_step {ce q u i : Nat} (h : mch st ce) (h0 : 0 < q) (hq : q < ce) (e1 : st.2 44 q = iI (u : Int)) (e2 : u < q) : lk st q i = if st.2 45 q = iI (i : Int) then q else lk st u i := by
  have h8 := h.1
  unfold lk
  rw [lkf, if_neg (by omega), e1, iI_ix (by omega)]
  split
  · rfl
  · exact lkf_fuel h u q (u + 1) i (by omega) (by omega) (by omega)
theorem lk_le {ce i : Nat} (h : mch st ce) : ∀ (q : Nat), q < ce → lk st q i ≤ q := by
  intro q
  induction q using Nat.strongRecOn with
  | ind q ih =>
    intro hq
    by_cases h0 : q = 0
    · subst h0; exact Nat.le_refl _
    · obtain ⟨u, e1, e2⟩ := h.2 q (by omega) hq
      rw [lk_step h (by omega) hq e1 e2]
      split
      · exact Nat.le_refl _
      · have := ih u e2 (by omega); omega
theorem lk_same {ce i : Nat} (h : mch st ce) (h' : mch st' ce) (hs : ∀ k j, 44 ≤ k → k ≤ 47 → j < ce → st'.2 k j = st.2 k j) : ∀ (q : Nat), q < ce → lk st' q i = lk st q i := by
  intro q
  induction q using Nat.strongRecOn with
  | ind q ih =>
    intro hq
    by_cases h0 : q = 0
    · subst h0; rfl
    · obtain ⟨u, e1, e2⟩ := h.2 q (by omega) hq
      rw [lk_step h (by omega) hq e1 e2, lk_step h' (by omega) hq (by rw [hs 44 q (by omega) (by omega) hq]; exact e1) e2, hs 45 q (by omega) (by omega) hq, ih u e2 (by omega)]
theorem mch.mv {ce : Nat} (h : mch st ce) (hs : ∀ k j, 44 ≤ k → k ≤ 47 → j < ce → st'.2 k j = st.2 k j) : mch st' ce := ⟨h.1, fun q h0 hq => by
  obtain ⟨u, e1, e2⟩ := h.2 q h0 hq
  exact ⟨u, by rw [hs 44 q (by omega) (by omega) hq]; exact e1, e2⟩⟩
/-- nodes and cells stay -/
def mvE (c c' : MC) (ce ce' : Nat) (M M' : Nat → Int → Prop) (st st' : MSt) : Prop := mvN c c' st st' ∧ mch st ce ∧ ce ≤ ce' ∧ (∀ k j, 44 ≤ k → k ≤ 47 → j < ce → st'.2 k j = st.2 k j) ∧ ∀ j k, M j k → M' j k
theorem mE_loc {j i q : Nat} {r : V} {g : List Nat} : mE c ce M st (.append (.tag j (.align false)) r) (i :: g) q = ((∃ k : Int, M j k ∧ ((-2000000 ≤ k ∧ k < 0 ∧ 0 < lk st q i ∧ lk st q i < ce ∧ st.2 46 (lk st q i) = iI k) ∨ (k = (i : Int) ∧ lk st q i = 0))) ∧ mE c ce M st r g q) := by rcases j with _ | _ | _ | _ | j <;> rfl
theorem mE_mv {ce ce' : Nat} (h : mvE c c' ce ce' M M' st st') : ∀ (r : V) (g : List Nat) (q : Nat), q < ce → mE c ce M st r g q → mE c' ce' M' st' r g q := by
  obtain ⟨h1, h2, h3, h4, h5⟩ := h
  have h2' : mch st' ce := h2.mv h4
  intro r g q
  fun_induction mE c ce M st r g q with
  | case1 r i g q i1 => intro hq hE; exact i1 hq hE
  | case2 t r' r i g q i1 i2 =>
    rintro hq ⟨rfl | ⟨a, n, q', g', a1, a2, a3, a4, a5, a6, a9, a7, a8⟩, hr⟩
    · exact ⟨Or.inl rfl, i2 hq hr⟩
    exact ⟨Or.inr ⟨a, n, q', g', by rw [lk_same h2 h2' h4 q hq]; exact a1, a2, by omega, by rw [h4 46 a (by omega) (by omega) a3]; exact a4, by rw [h4 47 a (by omega) (by omega) a3]; exact a5, by omega, a9, mT_mv h1 _ _ _ _ a7, i1 q' g' a6 a8⟩, i2 hq hr⟩
  | case3 j r i g q i1 =>
    rintro hq ⟨⟨k, b1, b2⟩, hr⟩
    rw [mE_loc]
    refine ⟨⟨k, h5 j k b1, ?_⟩, i1 hq hr⟩
    rw [lk_same h2 h2' h4 q hq]
    rcases b2 with ⟨c1, c2, c3, c4, c5⟩ | c1
    · exact Or.inl ⟨c1, c2, c3, by omega, by rw [h4 46 _ (by omega) (by omega) c4]; exact c5⟩
    · exact Or.inr c1
  | case4 => intro _ _; trivial
  | case5 => intro _ q; exact q.elim
/-- a cell was made at ce for the name b, leading to q -/
theorem lk_new {ce q b i : Nat} (h : mch st' (ce + 1)) (h0 : 0 < ce) (hq : q < ce) (e1 : st'.2 44 ce = iI (q : Int)) (e2 : st'.2 45 ce = iI (b : Int)) (hb : b < 2147483648) (hi : i < 2147483648) : lk st' ce i = if b = i then ce else lk st' q i := by
  rw [lk_step h h0 (by omega) e1 hq, e2]
  by_cases hbi : b = i
  · subst hbi; rw [if_pos rfl, if_pos rfl]
  · rw [if_neg hbi, if_neg]
    intro q
    rw [iI_eq (by omega) (by omega) (by omega) (by omega)] at q
    omega
/-- .. the environment as it was, from there -/
theorem mE_push {ce q0 b : Nat} (h : mch st (ce + 1)) (h0 : 0 < ce) (hq : q0 < ce) (e1 : st.2 44 ce = iI (q0 : Int)) (e2 : st.2 45 ce = iI (b : Int)) (hb : b < 2147483648) : ∀ (r : V) (g : List Nat) (q : Nat), q = q0 → b ∉ g → (∀ i ∈ g, i < 2147483648) → mE c (ce + 1) M st r g q → mE c (ce + 1) M st r g ce := by
  intro r g q
  have el : ∀ i, i ≠ b → i < 2147483648 → lk st ce i = lk st q0 i := fun i h1 h2 => by rw [lk_new h h0 hq e1 e2 hb h2, if_neg (Ne.symm h1)]
  fun_induction mE c (ce + 1) M st r g q with
  | case1 r i g q i1 => intro hqq hg hg2 hE; exact i1 hqq (fun z => hg (List.mem_cons_of_mem _ z)) (fun j hj => hg2 j (List.mem_cons_of_mem _ hj)) hE
  | case2 t r' r i g q i1 i2 =>
    rintro rfl hg hg2 ⟨hz | ⟨a, n, q', g', a1, a2⟩, hr⟩
    · exact ⟨Or.inl hz, i2 rfl (fun z => hg (List.mem_cons_of_mem _ z)) (fun j hj => hg2 j (List.mem_cons_of_mem _ hj)) hr⟩
    refine ⟨Or.inr ⟨a, n, q', g', ?_, a2⟩, i2 rfl (fun z => hg (List.mem_cons_of_mem _ z)) (fun j hj => hg2 j (List.mem_cons_of_mem _ hj)) hr⟩
    rw [el i (fun z => hg (z ▸ List.mem_cons_self)) (hg2 i List.mem_cons_self)]; exact a1
  | case3 j r i g q i1 =>
    rintro rfl hg hg2 ⟨b2, hr⟩
    rw [mE_loc]
    refine ⟨?_, i1 rfl (fun z => hg (List.mem_cons_of_mem _ z)) (fun j hj => hg2 j (List.mem_cons_of_mem _ hj)) hr⟩
    rw [el i (fun z => hg (z ▸ List.mem_cons_self)) (hg2 i List.mem_cons_self)]; exact b2
  | case4 => intro _ _ _ _; trivial
  | case5 => intro _ _ _ q; exact q.elim
end MB2
