/-! M OVER S (3): the head -/
/-- a value that waits, or is looked at: a node, a cell -/
def mC (c : MC) (ce : Nat) (M : Nat → Int → Prop) (st : MSt) (v : V) (a b : Nat) : Prop := ∃ (t r : V) (g : List Nat), v = vClo t r ∧ b < ce ∧ (∀ z ∈ g, z < 2147483648) ∧ mT c st t g a none ∧ mE c ce M st r g b
/-- what waits above base -/
def mW (c : MC) (ce : Nat) (M : Nat → Int → Prop) (st : MSt) (base : Nat) : List V → Prop
  | [] => True
  | v :: vs => (∃ a b : Nat, st.2 49 (base + vs.length) = iI (a : Int) ∧ st.2 50 (base + vs.length) = iI (b : Int) ∧ mC c ce M st v a b) ∧ mW c ce M st base vs
/-- a head -/
def mHd (c : MC) (ce : Nat) (M : Nat → Int → Prop) (st : MSt) (v : V) (n q : Int32) : Prop := (∃ a b : Nat, n = iI (a : Int) ∧ q = iI (b : Int) ∧ mC c ce M st v a b) ∨ (∃ (j : Nat) (k : Int), v = vLoc j ∧ M j k ∧ ((-2000000 ≤ k ∧ k < 0 ∧ n = iI k) ∨ (0 ≤ k ∧ k < 140000 ∧ ∃ a b : Nat, n = iI (a : Int) ∧ q = iI (b : Int) ∧ b < ce ∧ a < c.nd ∧ st.2 30 a = iI 1 ∧ st.2 31 a = iI k)))
/-- the context: what its names stand for -/
def mXc (c : MC) (st : MSt) (X : SX) : Prop := (∀ k, k < c.nc → (X.val k = none → st.2 25 k = iI (-1)) ∧ ∀ t, X.val k = some t → gT t false [] ∧ ∃ n : Nat, st.2 25 k = iI (n : Int) ∧ mT c st t [] n none) ∧ c.nc ≤ 100 ∧ c.ns ≤ 8 ∧ c.nd ≤ 140000
section MH
variable {P : MPl} {s0 : State} {l : Launch} {XX : Prop} {lev : Nat} {Q : Outcome → MSt → Prop} {st st' st0 : MSt} {X : SX} {K K' : KS} {nd ce ce' wa x base : Nat} {c c' : MC} {M M' : Nat → Int → Prop} {x1 x2 : Int32}
theorem mfr.E (h : mfr c.nd ce wa st st') (hch : mch st ce) (h1 : ce ≤ ce') : mvE c c ce ce' M M st st' :=
  ⟨⟨Nat.le_refl _, Nat.le_refl _, Nat.le_refl _, fun k j a b d => h.2 k j (fun _ => d) (fun q => by omega) (fun q => by omega) (by omega)⟩, hch, h1, fun k j a b d => h.2 k j (fun q => by omega) (fun _ => d) (fun q => by omega) (by omega), fun _ _ q => q⟩
theorem mC_mv {v : V} {a b : Nat} (h : mvE c c' ce ce' M M' st st') (hC : mC c ce M st v a b) : mC c' ce' M' st' v a b := by
  obtain ⟨t, r, g, h1, h2, h3, h4, h5⟩ := hC
  exact ⟨t, r, g, h1, Nat.lt_of_lt_of_le h2 h.2.2.1, h3, mT_mv h.1 _ _ _ _ h4, mE_mv h _ _ _ h2 h5⟩
theorem mW_mv (h : mvE c c' ce ce' M M' st st') : ∀ (as : List V), (∀ k j, 49 ≤ k → k ≤ 50 → j < base + as.length → st'.2 k j = st.2 k j) → mW c ce M st base as → mW c' ce' M' st' base as := by
  intro as
  induction as with
  | nil => intro _ _; trivial
  | cons v as ih =>
    intro hs hW
    obtain ⟨⟨a, b, h1, h2, h3⟩, h4⟩ := hW
    refine ⟨⟨a, b, by rw [hs 49 _ (by omega) (by omega) (by simp)]; exact h1, by rw [hs 50 _ (by omega) (by omega) (by simp)]; exact h2, mC_mv h h3⟩, ih (fun k j a b d => hs k j a b (by simp; omega)) h4⟩
theorem mXc_mv (h : mfr c.nd ce wa st st') (hX : mXc c st X) : mXc c st' X := by
  refine ⟨fun k hk => ?_, hX.2⟩
  obtain ⟨h1, h2⟩ := hX.1 k hk
  have e : st'.2 25 k = st.2 25 k := h.2 25 k (fun q => by omega) (fun q => by omega) (fun q => by omega) (by omega)
  refine ⟨fun q => by rw [e]; exact h1 q, fun t ht => ?_⟩
  obtain ⟨g1, n, g2, g3⟩ := h2 t ht
  exact ⟨g1, n, by rw [e]; exact g2, mT_mv ⟨Nat.le_refl _, Nat.le_refl _, Nat.le_refl _, fun k j a b d => h.2 k j (fun _ => d) (fun q => by omega) (fun q => by omega) (by omega)⟩ _ _ _ _ g3⟩
theorem mT_lt : ∀ (t : V) (g : List Nat) (n : Nat) (m : Option Nat), mT c st t g n m → (m = none → n < c.nd) ∧ ∀ m', m = some m' → m' < c.nd → n < c.nd := by
  intro t g n m
  fun_induction mT c st t g n m with
  | case6 f ps g n i1 i2 =>
    rintro ⟨m, a1, a2⟩
    exact ⟨fun _ => (i2 m a2).2 m rfl ((i1 m a1).1 rfl), fun m' q => by cases q⟩
  | case8 m t g n i1 => intro a; exact i1 a
  | case9 t g n i1 => intro a; exact i1 a
  | case10 p ps g n m i1 i2 =>
    rintro ⟨k, a, a1, a2, a3, a4, a5, a6⟩
    exact ⟨fun q => (by cases q), fun m' q hm => (i2 k a6).2 k rfl a1⟩
  | case11 => intro q; exact ⟨fun q => (by cases q), fun m' q2 h2 => by cases q2; omega⟩
  | case12 => intro q; exact q.elim
  | _ => intro a; exact ⟨fun _ => a.1, fun m' q => by cases q⟩
/-- the parts of a use: its nodes, one behind the other -/
theorem mT_use : ∀ (ps : V) (g : List Nat) (n m : Nat), mT c st ps g n (some m) → ∃ h : Nat → Nat, h 0 = m ∧ h (vlen ps) = n ∧ ∀ i, i < vlen ps → h (i + 1) < c.nd ∧ st.2 30 (h (i + 1)) = iI 7 ∧ st.2 32 (h (i + 1)) = iI (h i : Int) ∧ ∃ a : Nat, st.2 33 (h (i + 1)) = iI (a : Int) ∧ mT c st (vget ps i) g a none := by
  intro ps
  induction ps with
  | append p ps _ ih =>
    intro g n m h
    obtain ⟨k, a, a1, a2, a3, a4, a5, a6⟩ := h
    obtain ⟨f, f1, f2, f3⟩ := ih g n k a6
    refine ⟨fun i => match i with | 0 => m | i + 1 => f i, rfl, f2, fun i hi => ?_⟩
    cases i with
    | zero => exact ⟨by show f 0 < _; rw [f1]; exact a1, by show st.2 30 (f 0) = _; rw [f1]; exact a2, by show st.2 32 (f 0) = _; rw [f1]; exact a3, a, by show st.2 33 (f 0) = _; rw [f1]; exact a4, a5⟩
    | succ i => exact f3 i (by simp [vlen] at hi; omega)
  | nil => intro g n m h; exact ⟨fun _ => m, rfl, h, fun i hi => absurd hi (by simp [vlen])⟩
  | _ => intro g n m h; exfalso; unfold mT at h; first | exact h | (split at h <;> first | exact h | (cases ‹some m = none›) | (simp_all))
/-- the environment's place k -/
theorem mE_get : ∀ (r : V) (g : List Nat) (q k : Nat), mE c ce M st r g q → (∀ j, vget r k = vLoc j → ∃ i, g[k]? = some i ∧ ∃ z : Int, M j z ∧ ((-2000000 ≤ z ∧ z < 0 ∧ 0 < lk st q i ∧ lk st q i < ce ∧ st.2 46 (lk st q i) = iI z) ∨ (z = (i : Int) ∧ lk st q i = 0))) ∧
    (∀ t' r', vget r k = vClo t' r' → ∃ i, g[k]? = some i ∧ (i = 1000000 ∨ ∃ (a n q' : Nat) (g' : List Nat), lk st q i = a ∧ 0 < a ∧ a < ce ∧ st.2 46 a = iI (n : Int) ∧ st.2 47 a = iI (q' : Int) ∧ q' < ce ∧ (∀ z ∈ g', z < 2147483648) ∧ mT c st t' g' n none ∧ mE c ce M st r' g' q')) := by
  intro r g q
  fun_induction mE c ce M st r g q with
  | case1 r i g q i1 =>
    intro k hE
    cases k with
    | zero => exact ⟨fun j h => (by cases h), fun t' r' h => (by cases h)⟩
    | succ k => exact i1 k hE
  | case2 t r' r i g q i1 i2 =>
    rintro k ⟨hv, hr⟩
    cases k with
    | zero =>
      refine ⟨fun j h => (by cases h), fun t2 r2 h => ?_⟩
      cases h
      exact ⟨i, rfl, hv⟩
    | succ k => exact i2 k hr
  | case3 j r i g q i1 =>
    rintro k ⟨hv, hr⟩
    cases k with
    | zero =>
      refine ⟨fun j' h => ?_, fun t2 r2 h => (by cases h)⟩
      cases h
      exact ⟨i, rfl, hv⟩
    | succ k => exact i1 k hr
  | case4 => intro k _; exact ⟨fun j h => (by cases k <;> cases h), fun t2 r2 h => (by cases k <;> cases h)⟩
  | case5 => intro k q; exact q.elim
theorem mE_drop : ∀ (m : Nat) (r : V) (g : List Nat) (q : Nat), mE c ce M st r g q → mE c ce M st (vdrop m r) (g.drop m) q := by
  intro m
  induction m with
  | zero => intro r g q h; exact h
  | succ m ih =>
    intro r g q h
    unfold mE at h
    split at h
    · exact ih _ _ _ h
    · exact ih _ _ _ h.2
    · exact ih _ _ _ h.2
    · trivial
    · exact h.elim
theorem m_end {n q : Int32} {b : Int32} (ok : Q (.returned none) (mput 53 q (mput 52 n st))) : jX5_head_25 P s0 l XX lev st0 Q x1 x2 b n q (iI 0) st := tX5_head_25 ⟨fun _ => ok, fun q => absurd rfl q⟩
theorem m_fin {n q : Int32} {b : Int32} {kd : Nat} (hk : kd = 2 ∨ kd = 3 ∨ kd = 5) (ok : Q (.returned none) (mput 53 q (mput 52 n st))) : jX5_head_277 P s0 l XX lev st0 Q x1 x2 b n q (iI 0) (iI (kd : Int)) st := by
  have h4 : ¬ iI (kd : Int) = iI 4 := by rw [iI_eq (by omega) (by omega) (by omega) (by omega)]; omega
  have h6 : ¬ iI (kd : Int) = iI 6 := by rw [iI_eq (by omega) (by omega) (by omega) (by omega)]; omega
  exact tX5_head_277 ⟨fun q => absurd q h4, fun _ => tX5_head_367 ⟨fun q => absurd q h6, fun _ => tX5_head_428 (m_end ok)⟩⟩
/-- one more waits -/
theorem MJ.push {a b : Int32} (h : MJ st X K nd ce wa) (hw : wa < 21000) : MJ (mput 51 (iI ((wa + 1 : Nat) : Int)) (mst 50 (iI (wa : Int)) b (mst 49 (iI (wa : Int)) a st))) X K nd ce (wa + 1) ∧ mfr nd ce wa st (mput 51 (iI ((wa + 1 : Nat) : Int)) (mst 50 (iI (wa : Int)) b (mst 49 (iI (wa : Int)) a st))) ∧ (mput 51 (iI ((wa + 1 : Nat) : Int)) (mst 50 (iI (wa : Int)) b (mst 49 (iI (wa : Int)) a st))).2 49 wa = a ∧ (mput 51 (iI ((wa + 1 : Nat) : Int)) (mst 50 (iI (wa : Int)) b (mst 49 (iI (wa : Int)) a st))).2 50 wa = b := by
  have ar : ∀ k j, (mput 51 (iI ((wa + 1 : Nat) : Int)) (mst 50 (iI (wa : Int)) b (mst 49 (iI (wa : Int)) a st))).2 k j = if k = 50 ∧ j = wa then b else if k = 49 ∧ j = wa then a else st.2 k j := fun k j => by rw [mput_a, mst_a (by omega), mst_a (by omega)]
  have fr : ∀ k, (mput 51 (iI ((wa + 1 : Nat) : Int)) (mst 50 (iI (wa : Int)) b (mst 49 (iI (wa : Int)) a st))).1 k = if k = 51 then iI ((wa + 1 : Nat) : Int) else st.1 k := fun k => by rw [mput_f]; rfl
  generalize mput 51 (iI ((wa + 1 : Nat) : Int)) (mst 50 (iI (wa : Int)) b (mst 49 (iI (wa : Int)) a st)) = st' at ar fr
  obtain ⟨⟨⟨h1, h2, h3, h4⟩, h5, h6⟩, h7, ⟨h8, h9, h10⟩, h11, h12, h13⟩ := h
  refine ⟨⟨⟨⟨?_, ?_, ?_, fun j hj => ?_⟩, ?_, fun j a1 a2 => ?_⟩, ?_, ⟨?_, ?_, ?_⟩, ?_, ⟨h12.1, fun u a1 a2 => ?_⟩, h13⟩, ⟨fun k hk => by rw [fr, if_neg (by omega)], fun k j a1 a2 a3 a4 => by rw [ar, if_neg (by omega), if_neg (by omega)]⟩, by rw [ar, if_neg (by omega), if_pos ⟨rfl, rfl⟩], by rw [ar, if_pos ⟨rfl, rfl⟩]⟩
  · show st'.1 63 = _; rw [fr, if_neg (by omega)]; exact h1
  · show st'.1 64 = _; rw [fr, if_neg (by omega)]; exact h2
  · show st'.1 65 = _; rw [fr, if_neg (by omega)]; exact h3
  · show st'.1 (66 + j) = _; rw [fr, if_neg (by omega)]; exact h4 j hj
  · show st'.1 75 = _; rw [fr, if_neg (by omega)]; exact h5
  · rw [ar, if_neg (by omega), if_neg (by omega)]; exact h6 j a1 a2
  · show st'.1 57 = _; rw [fr, if_neg (by omega)]; exact h7
  · show st'.1 39 = _; rw [fr, if_neg (by omega)]; exact h8
  · show st'.1 48 = _; rw [fr, if_neg (by omega)]; exact h9
  · show st'.1 51 = _; rw [fr, if_pos rfl]
  · show st'.1 72 = _; rw [fr, if_neg (by omega)]; exact h11
  · rw [ar, if_neg (by omega), if_neg (by omega)]; exact h12.2 u a1 a2
/-- one less waits -/
theorem MJ.setw {wa' : Nat} (h : MJ st X K nd ce wa) : MJ (mput 51 (iI (wa' : Int)) st) X K nd ce wa' := by
  obtain ⟨⟨⟨h1, h2, h3, h4⟩, h5, h6⟩, h7, ⟨h8, h9, h10⟩, h11, h12, h13⟩ := h
  refine ⟨⟨⟨?_, ?_, ?_, fun j hj => ?_⟩, ?_, h6⟩, ?_, ⟨?_, ?_, ?_⟩, ?_, h12, h13⟩
  · show (mput 51 _ st).1 63 = _; rw [mput_f, if_neg (by omega)]; exact h1
  · show (mput 51 _ st).1 64 = _; rw [mput_f, if_neg (by omega)]; exact h2
  · show (mput 51 _ st).1 65 = _; rw [mput_f, if_neg (by omega)]; exact h3
  · show (mput 51 _ st).1 (66 + j) = _; rw [mput_f, if_neg (by omega)]; exact h4 j hj
  · show (mput 51 _ st).1 75 = _; rw [mput_f, if_neg (by omega)]; exact h5
  · show (mput 51 _ st).1 57 = _; rw [mput_f, if_neg (by omega)]; exact h7
  · show (mput 51 _ st).1 39 = _; rw [mput_f, if_neg (by omega)]; exact h8
  · show (mput 51 _ st).1 48 = _; rw [mput_f, if_neg (by omega)]; exact h9
  · show (mput 51 _ st).1 51 = _; rw [mput_f, if_pos rfl]
  · show (mput 51 _ st).1 72 = _; rw [mput_f, if_neg (by omega)]; exact h11
end MH
