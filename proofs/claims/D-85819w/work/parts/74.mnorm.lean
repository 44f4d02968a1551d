/-! M OVER S (14): normal forms: nodes are made -/
/-- no wrappers, no lets -/
def nT : V → Prop
  | .tag _ .line => True
  | .tag _ .nil => True
  | .tag _ (.align true) => True
  | .tag 0 (.append d b) => nT d ∧ nT b
  | .tag 2 (.append f ps) => nT f ∧ nT ps ∧ 1 ≤ vlen ps
  | .tag _ (.group (.append d b) .fill) => nT d ∧ nT b
  | .append p ps => nT p ∧ nT ps
  | .nil => True
  | _ => False
theorem nT_prod {p : Nat} {d b : V} : nT (.tag p (.group (.append d b) .fill)) = (nT d ∧ nT b) := by rcases p with _ | _ | _ | p <;> rfl
/-- a tree of which all nodes stand from lo on (or are sorts) -/
def mTf (c : MC) (lo : Nat) (st : MSt) (t : V) (g : List Nat) (n : Nat) (m : Option Nat) : Prop := (∀ st'' : MSt, (∀ k j, 30 ≤ k → k ≤ 38 → (lo ≤ j ∧ j < c.nd) ∨ j < 8 → st''.2 k j = st.2 k j) → mT c st'' t g n m) ∧ nT t
/-- the sorts' own nodes -/
def mSo (c : MC) (st : MSt) : Prop := (∀ s, s < c.ns → st.2 30 s = iI 3 ∧ st.2 31 s = iI (s : Int)) ∧ 8 ≤ c.nd ∧ c.ns ≤ 8
/-- locals of a normal form: the names that bind them -/
def MN (M : Nat → Int → Prop) (g : List Nat) (dep : Nat) (c : MC) : Prop := g.length = dep ∧ (∀ z ∈ g, z < c.nd ∨ z = 1000000) ∧ ∀ i k, M i k → i < dep ∧ ∃ id : Nat, g[dep - 1 - i]? = some id ∧ id < c.nd ∧ (k = (id : Int) ∨ k = -2 - (id : Int))
section MNO
variable {P : MPl} {s0 : State} {l : Launch} {XX : Prop} {lev d w : Nat} {Q : Outcome → MSt → Prop} {st st' st0 : MSt} {X : SX} {K K' : KS} {nd ce ce' wa x y base many o : Nat} {c c' : MC} {M M' : Nat → Int → Prop}
theorem mTf.mv {lo lo' n : Nat} {t : V} {g : List Nat} {m : Option Nat} (h : mTf c lo st t g n m) (h1 : c.nd ≤ c'.nd) (h2 : c'.2 = c.2) (h3 : lo' ≤ lo) (hs : ∀ k j, 30 ≤ k → k ≤ 38 → (lo ≤ j ∧ j < c.nd) ∨ j < 8 → st'.2 k j = st.2 k j) : mTf c' lo' st' t g n m := ⟨fun st'' hst => by
  have := h.1 st'' (fun k j a b hj => (hst k j a b (by rcases hj with ⟨z1, z2⟩ | z; exact Or.inl ⟨by omega, by omega⟩; exact Or.inr z)).trans (hs k j a b hj))
  exact mT_mv ⟨h1, by show c.2.1 ≤ c'.2.1; rw [h2]; exact Nat.le_refl _, by show c.2.2 ≤ c'.2.2; rw [h2]; exact Nat.le_refl _, fun _ _ _ _ _ => rfl⟩ _ _ _ _ this, h.2⟩
theorem mSo.mv (h : mSo c st) (hf : mfr c.nd ce wa st st') (h1 : c.nd ≤ c'.nd) (h2 : c'.2 = c.2) : mSo c' st' := by
  obtain ⟨h3, h4, h5⟩ := h
  have e : c'.ns = c.ns := by show c'.2.2 = c.2.2; rw [h2]
  refine ⟨fun s hs => ?_, by omega, by omega⟩
  have hs' : s < c.ns := by omega
  obtain ⟨a1, a2⟩ := h3 s hs'
  exact ⟨by rw [hf.2 30 s (fun _ => by omega) (fun q => by omega) (fun q => by omega) (by omega)]; exact a1, by rw [hf.2 31 s (fun _ => by omega) (fun q => by omega) (fun q => by omega) (by omega)]; exact a2⟩
theorem mXc_up (h : mXc c st X) (h1 : c.nd ≤ c'.nd) (h2 : c'.2 = c.2) (h3 : c'.nd ≤ 140000) : mXc c' st X := by
  obtain ⟨a1, a2, a3, a4⟩ := h
  have e1 : c'.nc = c.nc := by show c'.2.1 = c.2.1; rw [h2]
  have e2 : c'.ns = c.ns := by show c'.2.2 = c.2.2; rw [h2]
  refine ⟨fun k hk => ?_, by omega, by omega, h3⟩
  obtain ⟨b1, b2⟩ := a1 k (by omega)
  refine ⟨b1, fun t ht => ?_⟩
  obtain ⟨d1, n, d2, d3⟩ := b2 t ht
  exact ⟨d1, n, d2, mT_mv ⟨h1, by omega, by omega, fun _ _ _ _ _ => rfl⟩ _ _ _ _ d3⟩
theorem mvE_up (h : mch st ce) (h1 : c.nd ≤ c'.nd) (h2 : c'.2 = c.2) : mvE c c' ce ce M M st st :=
  ⟨⟨h1, by show c.2.1 ≤ c'.2.1; rw [h2]; exact Nat.le_refl _, by show c.2.2 ≤ c'.2.2; rw [h2]; exact Nat.le_refl _, fun _ _ _ _ _ => rfl⟩, h, Nat.le_refl _, fun _ _ _ _ _ => rfl, fun _ _ z => z⟩
theorem MN.up {g : List Nat} {dep : Nat} (h : MN M g dep c) (h1 : c.nd ≤ c'.nd) : MN M g dep c' := ⟨h.1, fun z hz => (h.2.1 z hz).imp (fun q => Nat.lt_of_lt_of_le q h1) id, fun i k q => (h.2.2 i k q).imp id (fun ⟨d, e1, e2, e3⟩ => ⟨d, e1, Nat.lt_of_lt_of_le e2 h1, e3⟩)⟩
/-- a node is made -/
theorem m_node {y1 y2 y3 y4 : Int32} {kd : Int32} (hl : 1 ≤ lev) (hb : fI st 15 = iI 1) (h : MJ st X K nd ce wa) (hnd : nd < 140000)
    (ok : ∀ st', MJ st' X K (nd + 1) ce wa → mfr nd ce wa st st' → st'.2 30 nd = kd → st'.2 31 nd = y1 → st'.2 32 nd = y2 → st'.2 33 nd = y3 → st'.2 38 nd = iI (nd : Int) → (∀ k, k ≠ 39 → st'.1 k = st.1 k) → (∀ k j, k < 30 ∨ 38 < k ∨ j ≠ nd → st'.2 k j = st.2 k j) → Q (.returned (some (.int (iI (nd : Int))))) st') : CQ (wM P s0 l XX) mX5_node lev (.ref P.mo :: [.int kd, .int y1, .int y2, .int y3, .int y4]) st Q := by
  obtain ⟨l', rfl⟩ := Nat.exists_eq_add_of_le' hl
  have h39 := h.2.2.1.1
  refine tX5_node ⟨fun z => absurd (hb.symm.trans z) (by decide), fun _ => ?_⟩
  rw [h39]
  have hin := iI_in (a := nd) (n := 140000) hnd (by omega)
  refine ⟨hin, hin, hin, hin, hin, hin, hin, ?_⟩
  have e9 : iI (nd : Int) + iI 1 - iI 1 = iI (nd : Int) := by rw [iI_suc, iI_prd]
  rw [e9, iI_suc]
  have ar : ∀ k j, (mput 39 (iI ((nd + 1 : Nat) : Int)) (mst 38 (iI (nd : Int)) (iI (nd : Int)) (mst 35 (iI (nd : Int)) y4 (mst 34 (iI (nd : Int)) y4 (mst 33 (iI (nd : Int)) y3 (mst 32 (iI (nd : Int)) y2 (mst 31 (iI (nd : Int)) y1 (mst 30 (iI (nd : Int)) kd st)))))))).2 k j = if k = 38 ∧ j = nd then iI (nd : Int) else if k = 35 ∧ j = nd then y4 else if k = 34 ∧ j = nd then y4 else if k = 33 ∧ j = nd then y3 else if k = 32 ∧ j = nd then y2 else if k = 31 ∧ j = nd then y1 else if k = 30 ∧ j = nd then kd else st.2 k j := fun k j => by
    rw [mput_a, mst_a (by omega), mst_a (by omega), mst_a (by omega), mst_a (by omega), mst_a (by omega), mst_a (by omega), mst_a (by omega)]
  have fr : ∀ k, (mput 39 (iI ((nd + 1 : Nat) : Int)) (mst 38 (iI (nd : Int)) (iI (nd : Int)) (mst 35 (iI (nd : Int)) y4 (mst 34 (iI (nd : Int)) y4 (mst 33 (iI (nd : Int)) y3 (mst 32 (iI (nd : Int)) y2 (mst 31 (iI (nd : Int)) y1 (mst 30 (iI (nd : Int)) kd st)))))))).1 k = if k = 39 then iI ((nd + 1 : Nat) : Int) else st.1 k := fun k => by rw [mput_f]; rfl
  generalize mput 39 (iI ((nd + 1 : Nat) : Int)) (mst 38 (iI (nd : Int)) (iI (nd : Int)) (mst 35 (iI (nd : Int)) y4 (mst 34 (iI (nd : Int)) y4 (mst 33 (iI (nd : Int)) y3 (mst 32 (iI (nd : Int)) y2 (mst 31 (iI (nd : Int)) y1 (mst 30 (iI (nd : Int)) kd st))))))) = st' at ar fr
  obtain ⟨⟨⟨h1, h2, h3, h4⟩, h5, h6⟩, h7, ⟨h8, h9, h10⟩, h11, h12, h13⟩ := h
  have ot : ∀ k j, k < 30 ∨ 38 < k ∨ j ≠ nd → st'.2 k j = st.2 k j := fun k j hk => by
    rw [ar, if_neg (by omega), if_neg (by omega), if_neg (by omega), if_neg (by omega), if_neg (by omega), if_neg (by omega), if_neg (by omega)]
  refine ok st' ⟨⟨⟨?_, ?_, ?_, fun j hj => ?_⟩, ?_, fun j a1 a2 => ?_⟩, ?_, ⟨?_, ?_, ?_⟩, ?_, h12.mv (fun k j a b _ => ot k j (by omega)), h13⟩ ⟨fun k hk => by rw [fr, if_neg (by omega)], fun k j a1 a2 a3 a4 => ot k j (by by_cases hk : 30 ≤ k ∧ k ≤ 38; exact Or.inr (Or.inr (by have := a1 hk; omega)); omega)⟩ ?_ ?_ ?_ ?_ ?_ (fun k hk => by rw [fr, if_neg hk]) ot
  · show st'.1 63 = _; rw [fr, if_neg (by omega)]; exact h1
  · show st'.1 64 = _; rw [fr, if_neg (by omega)]; exact h2
  · show st'.1 65 = _; rw [fr, if_neg (by omega)]; exact h3
  · show st'.1 (66 + j) = _; rw [fr, if_neg (by omega)]; exact h4 j hj
  · show st'.1 75 = _; rw [fr, if_neg (by omega)]; exact h5
  · rw [ot 74 j (by omega)]; exact h6 j a1 a2
  · show st'.1 57 = _; rw [fr, if_neg (by omega)]; exact h7
  · show st'.1 39 = _; rw [fr, if_pos rfl]
  · show st'.1 48 = _; rw [fr, if_neg (by omega)]; exact h9
  · show st'.1 51 = _; rw [fr, if_neg (by omega)]; exact h10
  · show st'.1 72 = _; rw [fr, if_neg (by omega)]; exact h11
  · rw [ar, if_neg (by omega), if_neg (by omega), if_neg (by omega), if_neg (by omega), if_neg (by omega), if_neg (by omega), if_pos ⟨rfl, rfl⟩]
  · rw [ar, if_neg (by omega), if_neg (by omega), if_neg (by omega), if_neg (by omega), if_neg (by omega), if_pos ⟨rfl, rfl⟩]
  · rw [ar, if_neg (by omega), if_neg (by omega), if_neg (by omega), if_neg (by omega), if_pos ⟨rfl, rfl⟩]
  · rw [ar, if_neg (by omega), if_neg (by omega), if_neg (by omega), if_pos ⟨rfl, rfl⟩]
  · rw [ar, if_pos ⟨rfl, rfl⟩]
/-- .. when something is wrong already -/
theorem MZ.mst {e k i : Nat} {v : Int32} (h : MZ st X K e nd ce) (hk : k ≠ 74) (hi : i < 2147483648) : MZ (mst k (iI (i : Int)) v st) X K e nd ce := by
  obtain ⟨⟨h1, h2, h3⟩, h4⟩ := h
  exact ⟨⟨h1, h2, fun j a1 a2 => by rw [mst_a hi, if_neg (fun z => hk z.1.symm)]; exact h3 j a1 a2⟩, h4⟩
theorem mfr_mst {k i : Nat} {v : Int32} (hk : 30 ≤ k ∧ k ≤ 38) (h1 : nd ≤ i) (hi : i < 2147483648) : mfr nd ce wa st (mst k (iI (i : Int)) v st) :=
  ⟨fun _ _ => rfl, fun k' j a1 _ _ _ => by rw [mst_a hi, if_neg (fun z => by have := a1 (by omega); omega)]⟩
theorem MJ.mst {k i : Nat} {v : Int32} (h : MJ st X K nd ce wa) (hk : 30 ≤ k ∧ k ≤ 38) (hi : i < 2147483648) : MJ (mst k (iI (i : Int)) v st) X K nd ce wa := by
  obtain ⟨⟨h1, h2, h3⟩, h4, h5, h6, h7, h8⟩ := h
  exact ⟨⟨h1, h2, fun j a1 a2 => by rw [mst_a hi, if_neg (fun z => by omega)]; exact h3 j a1 a2⟩, h4, h5, h6, h7.mv (fun k' j a b _ => by rw [mst_a hi, if_neg (fun z => by omega)]), h8⟩
theorem m_lookZ {e : Nat} {a : Int32} (hl : 2 ≤ lev) (h : MZ st X K e nd ce) (ok : Q (.returned (some (.int (iI 0)))) st) : CQ (wM P s0 l XX) mX5_look lev (.ref P.mo :: [.int a]) st Q := by
  obtain ⟨l', rfl⟩ := Nat.exists_eq_add_of_le' hl
  exact tX5_look ⟨fun z => absurd z h.ne, fun _ => tX5_look_23 (tX5_may ⟨fun z => absurd z h.ne, fun _ => ⟨fun _ => ok, fun w => absurd rfl w⟩⟩)⟩
theorem m_normZ {e : Nat} {a b d' : Int32} (hl : 3 ≤ lev) (h : MZ st X K e nd ce) (ok : Q (.returned (some (.int (iI 0)))) st) : CQ (wM P s0 l XX) mX5_normal lev (.ref P.mo :: [.int a, .int b, .int d']) st Q := by
  obtain ⟨l', rfl⟩ := Nat.exists_eq_add_of_le' hl
  exact tX5_normal (m_lookZ (by omega) h ⟨fun _ => ok, fun w => absurd rfl w⟩)
theorem m_cellZ {e : Nat} {a b d' f : Int32} (hl : 1 ≤ lev) (h : MZ st X K e nd ce) (hce : ce < 80000) (ok : ∀ r st', MZ st' X K e nd (ce + 1) → (∀ (nd ce0 wa : Nat), ce0 ≤ ce → mfr nd ce0 wa st st') → Q (.returned (some (.int r))) st') : CQ (wM P s0 l XX) mX5_cell lev (.ref P.mo :: [.int a, .int b, .int d', .int f]) st Q := by
  obtain ⟨l', rfl⟩ := Nat.exists_eq_add_of_le' hl
  have h48 := h.2.2.2.2.2
  refine tX5_cell ?_
  rw [h48]
  have hin := iI_in (a := ce) (n := 80000) hce (by omega)
  refine ⟨hin, hin, hin, hin, ?_⟩
  rw [iI_suc]
  have ar : ∀ k j, (mput 48 (iI ((ce + 1 : Nat) : Int)) (mst 47 (iI (ce : Int)) f (mst 46 (iI (ce : Int)) d' (mst 45 (iI (ce : Int)) b (mst 44 (iI (ce : Int)) a st))))).2 k j = if k = 47 ∧ j = ce then f else if k = 46 ∧ j = ce then d' else if k = 45 ∧ j = ce then b else if k = 44 ∧ j = ce then a else st.2 k j := fun k j => by
    rw [mput_a, mst_a (by omega), mst_a (by omega), mst_a (by omega), mst_a (by omega)]
  have fr : ∀ k, (mput 48 (iI ((ce + 1 : Nat) : Int)) (mst 47 (iI (ce : Int)) f (mst 46 (iI (ce : Int)) d' (mst 45 (iI (ce : Int)) b (mst 44 (iI (ce : Int)) a st))))).1 k = if k = 48 then iI ((ce + 1 : Nat) : Int) else st.1 k := fun k => by rw [mput_f]; rfl
  generalize mput 48 (iI ((ce + 1 : Nat) : Int)) (mst 47 (iI (ce : Int)) f (mst 46 (iI (ce : Int)) d' (mst 45 (iI (ce : Int)) b (mst 44 (iI (ce : Int)) a st)))) = st' at ar fr
  obtain ⟨⟨⟨h1, h2, h3, h4⟩, h5, h6⟩, h7, h8, h9, h10, h11⟩ := h
  refine ok _ st' ⟨⟨⟨?_, ?_, ?_, fun j hj => ?_⟩, ?_, fun j a1 a2 => ?_⟩, ?_, ?_, h9, ?_, ?_⟩ (fun nd ce0 wa hc => ⟨fun k hk => by rw [fr, if_neg (by omega)], fun k j a1 a2 a3 a4 => ?_⟩)
  · show st'.1 63 = _; rw [fr, if_neg (by omega)]; exact h1
  · show st'.1 64 = _; rw [fr, if_neg (by omega)]; exact h2
  · show st'.1 65 = _; rw [fr, if_neg (by omega)]; exact h3
  · show st'.1 (66 + j) = _; rw [fr, if_neg (by omega)]; exact h4 j hj
  · show st'.1 75 = _; rw [fr, if_neg (by omega)]; exact h5
  · rw [ar, if_neg (by omega), if_neg (by omega), if_neg (by omega), if_neg (by omega)]; exact h6 j a1 a2
  · show st'.1 72 = _; rw [fr, if_neg (by omega)]; exact h7
  · show st'.1 73 = st'.1 77; rw [fr, if_neg (by omega), fr, if_neg (by omega)]; exact h8
  · show st'.1 39 = _; rw [fr, if_neg (by omega)]; exact h10
  · show st'.1 48 = _; rw [fr, if_pos rfl]
  · rw [ar, if_neg (by omega), if_neg (by omega), if_neg (by omega), if_neg (by omega)]
theorem m_nodeZ {e : Nat} {kd y1 y2 y3 y4 : Int32} (hl : 1 ≤ lev) (hb : fI st 15 = iI 1) (h : MZ st X K e nd ce) (hnd : nd < 140000) (ok : ∀ r st', MZ st' X K e (nd + 1) ce → (∀ (nd0 ce wa : Nat), nd0 ≤ nd → mfr nd0 ce wa st st') → Q (.returned (some (.int r))) st') : CQ (wM P s0 l XX) mX5_node lev (.ref P.mo :: [.int kd, .int y1, .int y2, .int y3, .int y4]) st Q := by
  obtain ⟨l', rfl⟩ := Nat.exists_eq_add_of_le' hl
  have h39 := h.2.2.2.2.1
  refine tX5_node ⟨fun z => absurd (hb.symm.trans z) (by decide), fun _ => ?_⟩
  rw [h39]
  have hin := iI_in (a := nd) (n := 140000) hnd (by omega)
  refine ⟨hin, hin, hin, hin, hin, hin, hin, ?_⟩
  rw [iI_suc]
  have ar : ∀ k j, k < 30 ∨ 38 < k ∨ j ≠ nd → (mput 39 (iI ((nd + 1 : Nat) : Int)) (mst 38 (iI (nd : Int)) (iI (nd : Int)) (mst 35 (iI (nd : Int)) y4 (mst 34 (iI (nd : Int)) y4 (mst 33 (iI (nd : Int)) y3 (mst 32 (iI (nd : Int)) y2 (mst 31 (iI (nd : Int)) y1 (mst 30 (iI (nd : Int)) kd st)))))))).2 k j = st.2 k j := fun k j hk => by
    rw [mput_a, mst_a (by omega), if_neg (by omega), mst_a (by omega), if_neg (by omega), mst_a (by omega), if_neg (by omega), mst_a (by omega), if_neg (by omega), mst_a (by omega), if_neg (by omega), mst_a (by omega), if_neg (by omega), mst_a (by omega), if_neg (by omega)]
  have fr : ∀ k, (mput 39 (iI ((nd + 1 : Nat) : Int)) (mst 38 (iI (nd : Int)) (iI (nd : Int)) (mst 35 (iI (nd : Int)) y4 (mst 34 (iI (nd : Int)) y4 (mst 33 (iI (nd : Int)) y3 (mst 32 (iI (nd : Int)) y2 (mst 31 (iI (nd : Int)) y1 (mst 30 (iI (nd : Int)) kd st)))))))).1 k = if k = 39 then iI ((nd + 1 : Nat) : Int) else st.1 k := fun k => by rw [mput_f]; rfl
  generalize mput 39 (iI ((nd + 1 : Nat) : Int)) (mst 38 (iI (nd : Int)) (iI (nd : Int)) (mst 35 (iI (nd : Int)) y4 (mst 34 (iI (nd : Int)) y4 (mst 33 (iI (nd : Int)) y3 (mst 32 (iI (nd : Int)) y2 (mst 31 (iI (nd : Int)) y1 (mst 30 (iI (nd : Int)) kd st))))))) = st' at ar fr
  obtain ⟨⟨⟨h1, h2, h3, h4⟩, h5, h6⟩, h7, h8, h9, h10, h11⟩ := h
  refine ok _ st' ⟨⟨⟨?_, ?_, ?_, fun j hj => ?_⟩, ?_, fun j a1 a2 => ?_⟩, ?_, ?_, h9, ?_, ?_⟩ (fun nd0 ce wa hc => ⟨fun k hk => by rw [fr, if_neg (by omega)], fun k j a1 a2 a3 a4 => ar k j (by by_cases hk : 30 ≤ k ∧ k ≤ 38; exact Or.inr (Or.inr (by have := a1 hk; omega)); omega)⟩)
  · show st'.1 63 = _; rw [fr, if_neg (by omega)]; exact h1
  · show st'.1 64 = _; rw [fr, if_neg (by omega)]; exact h2
  · show st'.1 65 = _; rw [fr, if_neg (by omega)]; exact h3
  · show st'.1 (66 + j) = _; rw [fr, if_neg (by omega)]; exact h4 j hj
  · show st'.1 75 = _; rw [fr, if_neg (by omega)]; exact h5
  · rw [ar 74 j (by omega)]; exact h6 j a1 a2
  · show st'.1 72 = _; rw [fr, if_neg (by omega)]; exact h7
  · show st'.1 73 = st'.1 77; rw [fr, if_neg (by omega), fr, if_neg (by omega)]; exact h8
  · show st'.1 39 = _; rw [fr, if_pos rfl]
  · show st'.1 48 = _; rw [fr, if_neg (by omega)]; exact h11
end MNO
