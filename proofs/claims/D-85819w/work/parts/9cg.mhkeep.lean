/-! THE HOUSE OVER S, M (7): the context; what is told is kept -/
/-- the context's j-th name; kn: the nodes up to it -/
def mEn (st : MSt) (ns j : Nat) (cn : CN) (kn : Nat) : Prop :=
  (st.2 26 j = iI (kn : Int) ∧ 8 ≤ kn ∧ kn ≤ 140000) ∧ mNa st 21 22 j cn.nm ∧ (∃ n : Nat, st.2 23 j = iI (n : Int) ∧ mT (kn, j, ns) st cn.ty [] n none) ∧ st.2 24 j = iI cn.so ∧
  (cn.va = none → st.2 25 j = iI (-1)) ∧ (∀ v, cn.va = some v → gT v false [] ∧ ∃ n : Nat, st.2 25 j = iI (n : Int) ∧ mT (kn, j, ns) st v [] n none) ∧ (-1 ≤ cn.so ∧ cn.so < 8 ∧ gT cn.ty true []) ∧ ∀ b ∈ cn.nm, b < 256
def kT (kn : Nat → Nat) : Nat → Nat
  | 0 => 8
  | n + 1 => kn n
def mCx (st : MSt) (ns : Nat) (cx : List CN) (kn : Nat → Nat) : Prop := (∀ j, j < cx.length → mEn st ns j (cAt cx j) (kn j)) ∧ (∀ i j, i ≤ j → j < cx.length → kn i ≤ kn j) ∧ cx.length ≤ 100
/-- what keeping a name leaves -/
def kfr (nk : Nat) (st st' : MSt) : Prop := (∀ k, k ≠ 27 → k ≠ 62 → st'.1 k = st.1 k) ∧ ∀ k j, (k = 21 → j < 12 * nk) → (22 ≤ k ∧ k ≤ 26 → j < nk) → st'.2 k j = st.2 k j
section MHG
variable {P : MPl} {s0 : State} {l : Launch} {XX : Prop} {lev : Nat} {Q : Outcome → MSt → Prop} {st st' st'' st0 : MSt} {X : SX} {J : JX} {K K' : KS} {nd nd' ce ce' wa x y lo hi ns ch z o nn nd0 p nk : Nat} {c c' : MC} {t : TX} {tb : HT} {cx : List CN} {x1 x2 : Int32} {bs : List Nat} {kn kn' : Nat → Nat} {cn : CN} {E : Nat → Prop}
theorem MJ.kf (h : MJ st X K nd ce wa) (hf : kfr nk st st') : MJ st' X K nd ce wa := by
  obtain ⟨⟨⟨h1, h2, h3, h4⟩, h5, h6⟩, h7, ⟨h8, h9, h10⟩, h11, ⟨h12, h12'⟩, h13⟩ := h
  have e : ∀ k, k ≠ 27 → k ≠ 62 → fI st' k = fI st k := hf.1
  exact ⟨⟨⟨(e 63 (by omega) (by omega)).trans h1, (e 64 (by omega) (by omega)).trans h2, (e 65 (by omega) (by omega)).trans h3, fun j hj => (e _ (by omega) (by omega)).trans (h4 j hj)⟩, (e 75 (by omega) (by omega)).trans h5, fun j a b => (hf.2 74 j (by omega) (by omega)).trans (h6 j a b)⟩, (e 57 (by omega) (by omega)).trans h7, ⟨(e 39 (by omega) (by omega)).trans h8, (e 48 (by omega) (by omega)).trans h9, (e 51 (by omega) (by omega)).trans h10⟩, (e 72 (by omega) (by omega)).trans h11, ⟨h12, fun q a b => by obtain ⟨u, u1, u2⟩ := h12' q a b; exact ⟨u, (hf.2 44 q (by omega) (by omega)).trans u1, u2⟩⟩, h13⟩
theorem m_kcopy (hn : nn < 140000) (hp : p < 4000) (h80 : fI st0 80 = iI (nn : Int)) (e31 : st0.2 31 nn = iI (p : Int)) (e32 : st0.2 32 nn = iI (bs.length : Int)) (hb12 : bs.length ≤ 12) (htx : ∀ (i b : Nat), bs[i]? = some b → p + i < 4000 ∧ b < 256 ∧ st0.2 4 (p + i) = iI (b : Int)) (h27 : fI st0 27 = iI (nk : Int)) (hnk : nk < 100)
    (ok : ∀ st', kfr nk st0 st' → fI st' 27 = iI ((nk + 1 : Nat) : Int) → fI st' 62 = fI st0 39 → mNa st' 21 22 nk bs → st'.2 23 nk = fI st0 60 → st'.2 24 nk = fI st0 61 → st'.2 25 nk = fI st0 78 → st'.2 26 nk = fI st0 39 → Q (.returned none) st') : ∀ (d i : Nat) (st : MSt), i + d = bs.length → st.1 = st0.1 → (∀ k j, k ≠ 21 → st.2 k j = st0.2 k j) → (∀ j, j < 12 * nk → st.2 21 j = st0.2 21 j) → (∀ j b, j < i → bs[j]? = some b → st.2 21 (12 * nk + j) = iI (b : Int)) → jX5_told_198 P s0 l XX lev st'' Q x1 x2 (iI (i : Int)) st := by
  intro d
  induction d with
  | zero =>
    intro i st e h1 h2 h3 h4
    have hi : i = bs.length := by omega
    subst hi
    have f80 : fI st 80 = iI (nn : Int) := by show st.1 80 = _; rw [h1]; exact h80
    have f27 : fI st 27 = iI (nk : Int) := by show st.1 27 = _; rw [h1]; exact h27
    have f39 : fI st 39 = fI st0 39 := by show st.1 39 = _; rw [h1]
    have f60 : fI st 60 = fI st0 60 := by show st.1 60 = _; rw [h1]
    have f61 : fI st 61 = fI st0 61 := by show st.1 61 = _; rw [h1]
    have f78 : fI st 78 = fI st0 78 := by show st.1 78 = _; rw [h1]
    have a32 : aI st 32 (iI (nn : Int)) = iI (bs.length : Int) := by rw [aI_n (by omega), h2 _ _ (by omega)]; exact e32
    refine tX5_told_198 ?_
    rw [f80, f27, f39, f60, f61, f78, a32]
    refine ⟨iI_in (by omega) (by omega), fun _ => ⟨iI_in (by omega) (by omega), iI_in (by omega) (by omega), iI_in (by omega) (by omega), iI_in (by omega) (by omega), iI_in (by omega) (by omega), iI_in (by omega) (by omega), ?_⟩, fun q => absurd (by rw [iI_le (by omega) (by omega) (by omega) (by omega)]; omega) q⟩
    rw [iI_suc]
    generalize hS : mput 62 (fI st0 39) (mput 27 (iI ((nk + 1 : Nat) : Int)) (mst 26 (iI (nk : Int)) (fI st0 39) (mst 25 (iI (nk : Int)) (fI st0 78) (mst 24 (iI (nk : Int)) (fI st0 61) (mst 23 (iI (nk : Int)) (fI st0 60) (mst 22 (iI (nk : Int)) (iI (bs.length : Int)) st)))))) = s2
    have F : ∀ k, s2.1 k = if k = 62 then fI st0 39 else if k = 27 then iI ((nk + 1 : Nat) : Int) else st.1 k := fun k => by
      rw [← hS, mput_f, mput_f]; rfl
    have A : ∀ k j, s2.2 k j = if k = 26 ∧ j = nk then fI st0 39 else if k = 25 ∧ j = nk then fI st0 78 else if k = 24 ∧ j = nk then fI st0 61 else if k = 23 ∧ j = nk then fI st0 60 else if k = 22 ∧ j = nk then iI (bs.length : Int) else st.2 k j := fun k j => by
      rw [← hS, mput_a, mput_a, mst_a (by omega), mst_a (by omega), mst_a (by omega), mst_a (by omega), mst_a (by omega)]
    clear hS
    refine ok s2 ⟨fun k ha hb => ?_, fun k j a b => ?_⟩ ?_ ?_ ⟨?_, hb12, fun j b hj => ?_⟩ ?_ ?_ ?_ ?_
    · rw [F, if_neg hb, if_neg ha, h1]
    · rw [A, if_neg (by omega), if_neg (by omega), if_neg (by omega), if_neg (by omega), if_neg (by omega)]
      by_cases hk : k = 21
      · subst hk; exact h3 j (a rfl)
      · exact h2 k j hk
    · show s2.1 27 = _; rw [F, if_neg (by omega), if_pos rfl]
    · show s2.1 62 = _; rw [F, if_pos rfl]
    · rw [A, if_neg (by omega), if_neg (by omega), if_neg (by omega), if_neg (by omega), if_pos ⟨rfl, rfl⟩]
    · rw [A, if_neg (by omega), if_neg (by omega), if_neg (by omega), if_neg (by omega), if_neg (by omega)]
      have hjl : j < bs.length := by
        rcases Nat.lt_or_ge j bs.length with w | w
        · exact w
        · rw [List.getElem?_eq_none w] at hj; cases hj
      exact h4 j b hjl hj
    · rw [A, if_neg (by omega), if_neg (by omega), if_neg (by omega), if_pos ⟨rfl, rfl⟩]
    · rw [A, if_neg (by omega), if_neg (by omega), if_pos ⟨rfl, rfl⟩]
    · rw [A, if_neg (by omega), if_pos ⟨rfl, rfl⟩]
    · rw [A, if_pos ⟨rfl, rfl⟩]
  | succ d ih =>
    intro i st e h1 h2 h3 h4
    have f80 : fI st 80 = iI (nn : Int) := by show st.1 80 = _; rw [h1]; exact h80
    have f27 : fI st 27 = iI (nk : Int) := by show st.1 27 = _; rw [h1]; exact h27
    have a32 : aI st 32 (iI (nn : Int)) = iI (bs.length : Int) := by rw [aI_n (by omega), h2 _ _ (by omega)]; exact e32
    have a31 : aI st 31 (iI (nn : Int)) = iI (p : Int) := by rw [aI_n (by omega), h2 _ _ (by omega)]; exact e31
    have hil : i < bs.length := by omega
    obtain ⟨b, hbi⟩ : ∃ b, bs[i]? = some b := ⟨bs[i], List.getElem?_eq_getElem hil⟩
    obtain ⟨q1, q2, q3⟩ := htx i b hbi
    have ea : iI (p : Int) + iI (i : Int) = iI ((p + i : Nat) : Int) := by rw [iI_add]; congr 1
    have em : iI 12 * iI (nk : Int) + iI (i : Int) = iI ((12 * nk + i : Nat) : Int) := by rw [iI_mul, iI_add]; congr 1
    have a4 : aI st 4 (iI ((p + i : Nat) : Int)) = iI (b : Int) := by rw [aI_n (by omega), h2 _ _ (by omega)]; exact q3
    refine tX5_told_198 ?_
    rw [f80, f27, a32, a31, ea, em, a4]
    refine ⟨iI_in (by omega) (by omega), fun q => ?_, fun _ => ⟨iI_in (by omega) (by omega), iI_in (by omega) (by omega), iI_in (by omega) (by omega), ?_⟩⟩
    · rw [iI_le (by omega) (by omega) (by omega) (by omega)] at q; omega
    · rw [iI_suc]
      refine ih (i + 1) _ (by omega) h1 (fun k j hk => ?_) (fun j hj => ?_) (fun j b' hj hb' => ?_)
      · rw [mst_a (by omega), if_neg (fun q => hk q.1)]; exact h2 k j hk
      · rw [mst_a (by omega), if_neg (fun q => by omega)]; exact h3 j hj
      · rw [mst_a (by omega)]
        by_cases hji : j = i
        · subst hji
          rw [hbi] at hb'; cases hb'
          rw [if_pos ⟨rfl, rfl⟩]
        · rw [if_neg (fun q => by omega)]; exact h4 j b' (by omega) hb'
/-- the name is kept -/
theorem m_keep {TN : Nat → List Nat} {ty : V} {so : Int} {va : Option V} {tn : Nat} (hn : nn < 140000) (hp : p < 4000) (h80 : fI st 80 = iI (nn : Int)) (e31 : st.2 31 nn = iI (p : Int)) (e32 : st.2 32 nn = iI ((TN p).length : Int)) (hb : mTb c st X J TN) (hnk : c.nc < 100) (hJ : MJ st X K c.nd ce 0) (hnd : 8 ≤ c.nd ∧ c.nd ≤ 140000)
    (h60 : fI st 60 = iI (tn : Int)) (h61 : fI st 61 = iI so) (hty : mT c st ty [] tn none) (hg : -1 ≤ so ∧ so < 8 ∧ gT ty true []) (hv0 : va = none → fI st 78 = iI (-1)) (hv1 : ∀ v, va = some v → gT v false [] ∧ ∃ n : Nat, fI st 78 = iI (n : Int) ∧ mT c st v [] n none)
    (ok : ∀ st', kfr c.nc st st' → fI st' 27 = iI ((c.nc + 1 : Nat) : Int) → fI st' 62 = iI (c.nd : Int) → mEn st' c.ns c.nc (TN p, ty, so, va) c.nd → MJ st' X K c.nd ce 0 → Q (.returned none) st') : jX5_told_196 P s0 l XX lev st0 Q x1 x2 st := by
  obtain ⟨tx1, tx2⟩ := hb.2.2.2.2.1 p
  have h39 : fI st 39 = iI (c.nd : Int) := hJ.2.2.1.1
  refine tX5_told_196 (m_kcopy (bs := TN p) hn hp h80 e31 e32 tx1 tx2 hb.1.2.2 hnk (fun st' d1 d2 d3 d4 d5 d6 d7 d8 => ok st' d1 d2 (d3.trans h39) ?_ (hJ.kf d1)) (TN p).length 0 st (by omega) rfl (fun _ _ _ => rfl) (fun _ _ => rfl) (fun j b q => by omega))
  have mv : ∀ {u : V} {n : Nat}, mT c st u [] n none → mT (c.nd, c.nc, c.ns) st' u [] n none := fun {u n} q => mT_mv (c := c) (c' := (c.nd, c.nc, c.ns)) ⟨Nat.le_refl _, Nat.le_refl _, Nat.le_refl _, fun k j a b _ => d1.2 k j (by omega) (by omega)⟩ _ _ _ _ q
  refine ⟨⟨d8.trans h39, hnd⟩, d4, ⟨tn, d5.trans h60, mv hty⟩, d6.trans h61, fun q => d7.trans (hv0 q), fun v q => ?_, hg, fun b hb' => ?_⟩
  · obtain ⟨g1, n, g2, g3⟩ := hv1 v q
    exact ⟨g1, n, d7.trans g2, mv g3⟩
  · obtain ⟨i, hi⟩ := List.getElem?_of_mem hb'
    exact (tx2 i b hi).2.1
end MHG
