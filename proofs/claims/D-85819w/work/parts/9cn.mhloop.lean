/-! THE HOUSE OVER S, M (14): all statements of a text -/
/-- what a text leaves, its tables and its context beside -/
def lfr (st st' : MSt) : Prop := (∀ k, k < 6 ∨ k = 12 ∨ k = 13 ∨ k = 15 ∨ k = 28 ∨ k = 29 → st'.1 k = st.1 k) ∧ ∀ k j, k < 16 ∨ (26 < k ∧ k < 30) ∨ 74 < k → st'.2 k j = st.2 k j
/-- tables, context, counters -/
def mHc (st : MSt) (lim : Nat) (tb : HT) (cx : List CN) (kn : Nat → Nat) (K : KS) : Prop := mTB st tb ∧ mCx st tb.1.length cx kn ∧ fI st 27 = iI (cx.length : Int) ∧ fI st 39 = iI (kT kn cx.length : Int) ∧ MJ0 st (hX lim tb cx) K ∧ lim ≤ 20000
section MHN
variable {P : MPl} {s0 : State} {l : Launch} {XX : Prop} {lev : Nat} {Q : Outcome → MSt → Prop} {st st' st'' st0 : MSt} {X X' : SX} {J : JX} {K K' : KS} {nd nd' ce ce' wa x y lo hi ns ch z o nn nd0 p nk lim d m : Nat} {t : TX} {tb tb' : HT} {cx cx' : List CN} {x1 x2 : Int32} {kn kn' : Nat → Nat} {cn : CN} {k : TK} {s1 : ST} {ls : List ST}
theorem lfr.rf : lfr st st := ⟨fun _ _ => rfl, fun _ _ _ => rfl⟩
theorem lfr.tr (h : lfr st st') (k : lfr st' st'') : lfr st st'' := ⟨fun j hj => (k.1 j hj).trans (h.1 j hj), fun j i a => (k.2 j i a).trans (h.2 j i a)⟩
theorem dofr.lf (h : dofr st st') : lfr st st' := ⟨fun k hk => h.1 k (by omega), fun k j a => h.2 k j a⟩
theorem rfs.lf {b : Bool} (h : rfs b nd st st') : lfr st st' := ⟨fun k hk => h.1 k (by omega), fun k j a => h.2.2 k j (fun q => by omega)⟩
theorem lfr.pt {k : Nat} {v : Int32} (hk : ¬ (k < 6 ∨ k = 12 ∨ k = 13 ∨ k = 15 ∨ k = 28 ∨ k = 29)) : lfr st (mput k v st) := ⟨fun j hj => by rw [mput_f, if_neg (fun q => hk (by omega))], fun _ _ _ => rfl⟩
theorem rAll_ok (h : rAll t (m + 1) k = .ok ls) (hk : k.ki ≠ 5) : ∃ s k1 p k2 ls', rStat t k = .ok (s, k1) ∧ rNeed t 59 k1 = .ok (p, k2) ∧ rAll t m k2 = .ok ls' ∧ ls = s :: ls' := by
  rw [rAll, if_neg hk] at h
  split at h
  · cases h
  · rename_i s k1 e1
    split at h
    · cases h
    · rename_i p k2 e2
      split at h
      · cases h
      · rename_i ls' e3
        cases h
        exact ⟨s, k1, p, k2, ls', e1, e2, e3, rfl⟩
theorem RG.mv (h : RG t st k) (h1 : ∀ j, 5 ≤ j → j < 12 → st'.1 j = st.1 j) (h2 : ∀ j, st'.2 4 j = st.2 4 j) (h72 : fI st' 72 = 0) : RG t st' k := by
  obtain ⟨⟨a1, a2, a3⟩, ⟨h9, hp, a0, h60, ha0, hcs⟩, h3, h4, h5⟩ := h
  have e : ∀ j, 5 ≤ j → j < 12 → fI st' j = fI st j := h1
  refine ⟨⟨(e 5 (by omega) (by omega)).trans a1, a2, fun j hj => ⟨(h2 j).trans (a3 j hj).1, (a3 j hj).2⟩⟩, ⟨(e 9 (by omega) (by omega)).trans h9, hp, a0, (e 6 (by omega) (by omega)).trans h60, ha0, ?_⟩, h3, h72, h5⟩
  rw [e 7 (by omega) (by omega), e 8 (by omega) (by omega), e 10 (by omega) (by omega), e 11 (by omega) (by omega)]
  exact hcs
theorem mHc.mv (h : mHc st lim tb cx kn K) (h1 : ∀ j, j = 20 ∨ j = 27 ∨ j = 39 ∨ (63 ≤ j ∧ j ≤ 71) ∨ j = 75 → st'.1 j = st.1 j) (h2 : ∀ k j, (16 ≤ k ∧ k ≤ 26) ∨ k = 74 ∨ (30 ≤ k ∧ k ≤ 38 ∧ j < kT kn cx.length) → st'.2 k j = st.2 k j) : mHc st' lim tb cx kn K := by
  obtain ⟨a1, a2, a3, a4, ⟨⟨b1, b2, b3, b4⟩, b5, b6⟩, a6⟩ := h
  have k8 := kT_8 a2
  exact ⟨a1.mv (h1 20 (by omega)) (fun k j a b => h2 k j (by omega)) (fun k j a b d => h2 k j (by omega)), a2.mv (fun k j a b _ _ => h2 k j (by omega)) (fun k i a b d _ => h2 k i (Or.inr (Or.inr ⟨a, b, d⟩))), (h1 27 (by omega)).trans a3, (h1 39 (by omega)).trans a4, ⟨⟨(h1 63 (by omega)).trans b1, (h1 64 (by omega)).trans b2, (h1 65 (by omega)).trans b3, fun j hj => (h1 (66 + j) (by omega)).trans (b4 j hj)⟩, (h1 75 (by omega)).trans b5, fun j a b => (h2 74 j (by omega)).trans (b6 j a b)⟩, a6⟩
/-- begin -/
theorem m_begin (hl : 1 ≤ lev) (h : mHc st lim tb cx kn K) (h72 : fI st 72 = 0) (ok : ∀ st', (∀ k, k ≠ 48 → k ≠ 62 → k ≠ 57 → k ≠ 59 → k ≠ 43 → k ≠ 51 → (k < 66 ∨ 71 < k) → k ≠ 64 → st'.1 k = st.1 k) → st'.2 = st.2 → MJ st' (hX lim tb cx) (kBeg K) (kT kn cx.length) 1 0 → fI st' 43 = iI ((0 : Nat) : Int) → fI st' 59 = iI ((0 : Nat) : Int) → fI st' 62 = iI (kT kn cx.length : Int) → mHc st' lim tb cx kn (kBeg K) → Q (.returned none) st') : CQ (wM P s0 l XX) mX5_begin lev (.ref P.mo :: []) st Q := by
  obtain ⟨l', rfl⟩ : ∃ l', lev = l' + 1 := ⟨lev - 1, by omega⟩
  refine tX5_begin ?_
  obtain ⟨a1, a2, a3, a4, ⟨⟨b1, b2, b3, b4⟩, b5, b6⟩, a6⟩ := h
  rw [a4]
  generalize hS : mput 48 (iI 1) (mput 62 (iI (kT kn cx.length : Int)) (mput 57 (iI 0) (mput 59 (iI 0) (mput 43 (iI 0) (mput 51 (iI 0) (mput 71 (iI 0) (mput 70 (iI 0) (mput 69 (iI 0) (mput 68 (iI 0) (mput 67 (iI 0) (mput 66 (iI 0) (mput 64 (iI 0) st)))))))))))) = s2
  have F : ∀ k, s2.1 k = if k = 48 then iI 1 else if k = 62 then iI (kT kn cx.length : Int) else if k = 57 ∨ k = 59 ∨ k = 43 ∨ k = 51 ∨ (66 ≤ k ∧ k ≤ 71) ∨ k = 64 then iI 0 else st.1 k := fun k => by
    rw [← hS]
    simp only [mput_f]
    by_cases q : k = 57 ∨ k = 59 ∨ k = 43 ∨ k = 51 ∨ (66 ≤ k ∧ k ≤ 71) ∨ k = 64
    · rw [if_pos q]
      have : k = 57 ∨ k = 59 ∨ k = 43 ∨ k = 51 ∨ k = 66 ∨ k = 67 ∨ k = 68 ∨ k = 69 ∨ k = 70 ∨ k = 71 ∨ k = 64 := by omega
      rcases this with w | w | w | w | w | w | w | w | w | w | w <;> subst w <;> rfl
    · rw [if_neg q]
      simp only [not_or, not_and] at q
      obtain ⟨q1, q2, q3, q4, q5, q6⟩ := q
      rw [if_neg q1, if_neg q2, if_neg q3, if_neg q4, if_neg (c := k = 71) (by omega), if_neg (c := k = 70) (by omega), if_neg (c := k = 69) (by omega), if_neg (c := k = 68) (by omega), if_neg (c := k = 67) (by omega), if_neg (c := k = 66) (by omega), if_neg q6]
  have A : s2.2 = st.2 := by rw [← hS]; rfl
  clear hS
  have f1 : ∀ k, k ≠ 48 → k ≠ 62 → k ≠ 57 → k ≠ 59 → k ≠ 43 → k ≠ 51 → (k < 66 ∨ 71 < k) → k ≠ 64 → s2.1 k = st.1 k := fun k e1 e2 e3 e4 e5 e6 e7 e8 => by rw [F, if_neg e1, if_neg e2, if_neg (by omega)]
  have f0 : ∀ k, k = 57 ∨ k = 59 ∨ k = 43 ∨ k = 51 ∨ (66 ≤ k ∧ k ≤ 71) ∨ k = 64 → fI s2 k = iI ((0 : Nat) : Int) := fun k q => by show s2.1 k = _; rw [F, if_neg (by omega), if_neg (by omega), if_pos q]; rfl
  have f2 : ∀ k, k ≠ 48 → k ≠ 62 → k ≠ 57 → k ≠ 59 → k ≠ 43 → k ≠ 51 → (k < 66 ∨ 71 < k) → k ≠ 64 → fI s2 k = fI st k := f1
  have hMJ : MJ0 s2 (hX lim tb cx) (kBeg K) := ⟨⟨(f2 63 (by omega) (by omega) (by omega) (by omega) (by omega) (by omega) (by omega) (by omega)).trans b1, f0 64 (by omega), (f2 65 (by omega) (by omega) (by omega) (by omega) (by omega) (by omega) (by omega) (by omega)).trans b3, fun j hj => f0 (66 + j) (by omega)⟩, (f2 75 (by omega) (by omega) (by omega) (by omega) (by omega) (by omega) (by omega) (by omega)).trans b5, fun j a b => by rw [A]; exact b6 j a b⟩
  have f39 : fI s2 39 = iI (kT kn cx.length : Int) := (f2 39 (by omega) (by omega) (by omega) (by omega) (by omega) (by omega) (by omega) (by omega)).trans a4
  refine ok s2 f1 A ⟨hMJ, f0 57 (by omega), ⟨f39, ?_, f0 51 (by omega)⟩, (f2 72 (by omega) (by omega) (by omega) (by omega) (by omega) (by omega) (by omega) (by omega)).trans h72, ⟨by omega, fun q _ _ => by omega⟩, by omega⟩ (f0 43 (by omega)) (f0 59 (by omega)) ?_ ⟨a1.mv (f2 20 (by omega) (by omega) (by omega) (by omega) (by omega) (by omega) (by omega) (by omega)) (fun k j _ _ => by rw [A]) (fun k j _ _ _ => by rw [A]), a2.mv (fun k j _ _ _ _ => by rw [A]) (fun k j _ _ _ _ => by rw [A]), (f2 27 (by omega) (by omega) (by omega) (by omega) (by omega) (by omega) (by omega) (by omega)).trans a3, f39, hMJ, a6⟩
  · show s2.1 48 = _; rw [F, if_pos rfl]; rfl
  · show s2.1 62 = _; rw [F, if_neg (by omega), if_pos rfl]
end MHN
