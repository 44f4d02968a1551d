/-! THE HOUSE OVER S, M (11): the context as judging wants it -/
section MHK
variable {P : MPl} {s0 : State} {l : Launch} {XX : Prop} {lev : Nat} {Q : Outcome → MSt → Prop} {st st' st'' st0 : MSt} {X : SX} {J : JX} {K K' : KS} {nd nd' ce ce' wa x y lo hi ns ch z o nn nd0 p nk lim : Nat} {c c' : MC} {t : TX} {tb tb' : HT} {cx : List CN} {kn kn' : Nat → Nat} {cn : CN} {E : Nat → Prop} {TN : Nat → List Nat}
theorem sRun_out : ∀ {n k : Nat}, t.2 ≤ k → sRun t isMor n k = k := by
  intro n k h
  cases n with
  | zero => rfl
  | succ n =>
    unfold sRun
    rw [if_neg (fun q => by omega)]
theorem tn_text (hx : mTx t st) (p : Nat) : (tname t p).length ≤ 12 ∧ ∀ (i b : Nat), (tname t p)[i]? = some b → p + i < 4000 ∧ b < 256 ∧ st.2 4 (p + i) = iI (b : Int) := by
  refine ⟨by rw [tname_len rfl]; omega, fun i b h => ?_⟩
  obtain ⟨h1, h2⟩ := (tname_get rfl).mp h
  have hp : p + i < t.2 := by
    rcases Nat.lt_or_ge p t.2 with w | w
    · have := (sRun_ge (t := t) (f := isMor) t.2 p).2 (by omega); omega
    · rw [sRun_out w] at h1; omega
  obtain ⟨h3, h4, h5⟩ := hx
  obtain ⟨h6, h7⟩ := h5 (p + i) hp
  unfold tbyte at h2
  rw [if_pos hp] at h2
  subst h2
  exact ⟨by omega, h7, h6⟩
theorem mTb.mk (hTB : mTB st tb) (hC : mCx st tb.1.length cx kn) (hx : mTx t st) (h15 : fI st 15 = iI 1) (h27 : fI st 27 = iI (cx.length : Int)) : mTb (nd, cx.length, tb.1.length) st (hX lim tb cx) (hJ t tb cx) (tname t) := by
  obtain ⟨⟨a1, a2⟩, a3, a4, a5, a6, a7, a8, a9⟩ := hTB
  obtain ⟨b1, b2, b3⟩ := hC
  refine ⟨⟨h15, a1, h27⟩, ⟨fun k hk => (b1 k hk).2.1, fun s hs => a3 s hs⟩, a4, a5, fun p => tn_text hx p, fun k hk => (b1 k hk).2.2.2.2.2.2.1, ⟨fun k b hk hb => (b1 k hk).2.2.2.2.2.2.2 b hb, a7, a8⟩, fun p => ⟨rfl, rfl⟩⟩
theorem kT_le (hC : mCx st ns cx kn) {j : Nat} (hj : j < cx.length) : kn j ≤ kT kn cx.length := by
  obtain ⟨n, hn⟩ : ∃ n, cx.length = n + 1 := ⟨cx.length - 1, by omega⟩
  rw [hn]
  exact hC.2.1 j n (by omega) (by omega)
theorem kT_8 (hC : mCx st ns cx kn) : 8 ≤ kT kn cx.length ∧ kT kn cx.length ≤ 140000 := by
  rcases Nat.eq_zero_or_pos cx.length with h | h
  · rw [h]; show 8 ≤ 8 ∧ 8 ≤ 140000; omega
  · obtain ⟨n, hn⟩ : ∃ n, cx.length = n + 1 := ⟨cx.length - 1, by omega⟩
    rw [hn]
    exact (hC.1 n (by omega)).1.2
theorem JM.mk (hTB : mTB st tb) (hC : mCx st tb.1.length cx kn) (hx : mTx t st) (h15 : fI st 15 = iI 1) (h27 : fI st 27 = iI (cx.length : Int)) (h43 : fI st 43 = iI ((0 : Nat) : Int)) (hnd : kT kn cx.length ≤ nd) (hn1 : nd ≤ 140000) (hE : ∀ j, E j → kT kn cx.length ≤ j) (hc : mch st ce) (hce : 0 < ce) : JM 0 0 E (nd, cx.length, tb.1.length) ce st (hX lim tb cx) (hJ t tb cx) (tname t) [] [] 0 0 := by
  have hb := mTb.mk (nd := nd) (lim := lim) hTB hC hx h15 h27
  have k8 := kT_8 hC
  obtain ⟨⟨a1, a2⟩, a3, a4, a5, a6, a7, a8, a9⟩ := hTB
  refine ⟨hb, fun st'' ha => ⟨⟨fun k hk => ?_, hC.2.2, a2, hn1⟩, ⟨fun s hs => ?_, by show 8 ≤ nd; omega, a2⟩, fun k hk => ?_, trivial⟩, trivial, ⟨rfl, h43⟩, hc, hce, fun i _ _ => rfl⟩
  · have hk' : k < cx.length := hk
    obtain ⟨e1, e2, e3, e4, e5, e6, e7, e8⟩ := hC.1 k hk'
    have hkn := kT_le hC hk'
    refine ⟨fun q => (ha 25 k (by omega)).trans (e5 q), fun u q => ?_⟩
    obtain ⟨g1, n, g2, g3⟩ := e6 u q
    exact ⟨g1, n, (ha 25 k (by omega)).trans g2, mT_mv (c := (kn k, k, tb.1.length)) (c' := (nd, cx.length, tb.1.length)) ⟨by show kn k ≤ nd; omega, by show k ≤ cx.length; omega, Nat.le_refl _, fun i j z1 z2 z3 => ha i j (Or.inr (Or.inl ⟨z1, z2, by have : j < kn k := z3; show j < nd; omega, fun q => by have := hE j q; have : j < kn k := z3; omega⟩))⟩ _ _ _ _ g3⟩
  · have hs' : s < tb.1.length := hs
    have q : ¬ E s := fun q => by have := hE s q; omega
    exact ⟨(ha 30 s (Or.inr (Or.inl ⟨by omega, by omega, by show s < nd; omega, q⟩))).trans (a6 s hs).1, (ha 31 s (Or.inr (Or.inl ⟨by omega, by omega, by show s < nd; omega, q⟩))).trans (a6 s hs).2⟩
  · have hk' : k < cx.length := hk
    obtain ⟨e1, e2, ⟨n, e3, e3'⟩, e4, e5, e6, e7, e8⟩ := hC.1 k hk'
    have hkn := kT_le hC hk'
    exact ⟨n, (ha 23 k (by omega)).trans e3, (ha 24 k (by omega)).trans e4, mT_mv (c := (kn k, k, tb.1.length)) (c' := (nd, cx.length, tb.1.length)) ⟨by show kn k ≤ nd; omega, by show k ≤ cx.length; omega, Nat.le_refl _, fun i j z1 z2 z3 => ha i j (Or.inr (Or.inl ⟨z1, z2, by have : j < kn k := z3; show j < nd; omega, fun q => by have := hE j q; have : j < kn k := z3; omega⟩))⟩ _ _ _ _ e3'⟩
theorem mEn.mv {j n : Nat} (h : mEn st ns j cn n) (h1 : ∀ k, 22 ≤ k → k ≤ 26 → st'.2 k j = st.2 k j) (h2 : ∀ i, i < 12 → st'.2 21 (12 * j + i) = st.2 21 (12 * j + i)) (h3 : ∀ k i, 30 ≤ k → k ≤ 38 → i < n → st'.2 k i = st.2 k i) : mEn st' ns j cn n := by
  obtain ⟨⟨e0, e1⟩, ⟨e2, e2', e2''⟩, ⟨m, e3, e3'⟩, e4, e5, e6, e7, e8⟩ := h
  have mv : ∀ {u : V} {m : Nat}, mT (n, j, ns) st u [] m none → mT (n, j, ns) st' u [] m none := fun {u m} q => mT_mv (c := (n, j, ns)) (c' := (n, j, ns)) ⟨Nat.le_refl _, Nat.le_refl _, Nat.le_refl _, fun k i a b d => h3 k i a b d⟩ _ _ _ _ q
  refine ⟨⟨(h1 26 (by omega) (by omega)).trans e0, e1⟩, ⟨(h1 22 (by omega) (by omega)).trans e2, e2', fun i ch hi => ?_⟩, ⟨m, (h1 23 (by omega) (by omega)).trans e3, mv e3'⟩, (h1 24 (by omega) (by omega)).trans e4, fun q => (h1 25 (by omega) (by omega)).trans (e5 q), fun v q => ?_, e7, e8⟩
  · have hil : i < cn.nm.length := by
      rcases Nat.lt_or_ge i cn.nm.length with w | w
      · exact w
      · rw [List.getElem?_eq_none w] at hi; cases hi
    exact (h2 i (by omega)).trans (e2'' i ch hi)
  · obtain ⟨g1, m, g2, g3⟩ := e6 v q
    exact ⟨g1, m, (h1 25 (by omega) (by omega)).trans g2, mv g3⟩
theorem mCx.mv (h : mCx st ns cx kn) (h1 : ∀ k j, 21 ≤ k → k ≤ 26 → (k = 21 → j < 12 * cx.length) → (22 ≤ k → j < cx.length) → st'.2 k j = st.2 k j) (h3 : ∀ k i, 30 ≤ k → k ≤ 38 → i < kT kn cx.length → (cx.length = 0 → False) → st'.2 k i = st.2 k i) : mCx st' ns cx kn :=
  ⟨fun j hj => (h.1 j hj).mv (fun k a b => h1 k j (by omega) b (fun q => by omega) (fun _ => hj)) (fun i hi => h1 21 _ (by omega) (by omega) (fun _ => by omega) (fun q => by omega)) (fun k i a b d => h3 k i a b (by have := kT_le h hj; omega) (fun q => by omega)), h.2⟩
theorem mCx.d (h : mCx st ns cx kn) (hd : dfr (kT kn cx.length) st st') : mCx st' ns cx kn := h.mv (fun k j a b _ _ => hd.2 k j (fun q => by omega) (by omega)) (fun k i a b d _ => hd.2 k i (fun _ => d) (by omega))
theorem mTB.mv (h : mTB st tb) (h1 : fI st' 20 = fI st 20) (h2 : ∀ k j, 16 ≤ k → k ≤ 19 → st'.2 k j = st.2 k j) (h3 : ∀ k j, 30 ≤ k → k ≤ 31 → j < 8 → st'.2 k j = st.2 k j) : mTB st' tb := by
  obtain ⟨⟨a1, a2⟩, a3, a4, a5, a6, a7, a8, a9⟩ := h
  refine ⟨⟨h1.trans a1, a2⟩, fun s hs => ?_, fun k hk => ⟨(h2 18 k (by omega) (by omega)).trans (a4 k hk).1, (a4 k hk).2⟩, fun a b ha hb => ⟨(h2 19 _ (by omega) (by omega)).trans (a5 a b ha hb).1, (a5 a b ha hb).2⟩, fun s hs => ⟨(h3 30 s (by omega) (by omega) (by omega)).trans (a6 s hs).1, (h3 31 s (by omega) (by omega) (by omega)).trans (a6 s hs).2⟩, a7, a8, a9⟩
  obtain ⟨b1, b2, b3⟩ := a3 s hs
  exact ⟨(h2 17 s (by omega) (by omega)).trans b1, b2, fun i ch hi => (h2 16 _ (by omega) (by omega)).trans (b3 i ch hi)⟩
theorem mTB.d (h : mTB st tb) (hd : dfr nd0 st st') (h8 : 8 ≤ nd0) : mTB st' tb := h.mv (hd.1 20 (by omega)) (fun k j a b => hd.2 k j (fun q => by omega) (by omega)) (fun k j a b d => hd.2 k j (fun _ => by omega) (by omega))
theorem cAt_l {cn : CN} {j : Nat} (h : j < cx.length) : cAt (cx ++ [cn]) j = cAt cx j := by unfold cAt; rw [List.getD_eq_getElem?_getD, List.getD_eq_getElem?_getD, List.getElem?_append_left h]
theorem cAt_n {cn : CN} : cAt (cx ++ [cn]) cx.length = cn := by unfold cAt; rw [List.getD_eq_getElem?_getD, List.getElem?_append_right (Nat.le_refl _)]; simp
/-- one more -/
theorem mCx.snoc (h : mCx st ns cx kn) (hf : tofr (kT kn cx.length) cx.length st st') (hn : kT kn cx.length ≤ nd) (he : mEn st' ns cx.length cn nd) (hl : cx.length < 100) : mCx st' ns (cx ++ [cn]) (fun j => if j = cx.length then nd else kn j) ∧ kT (fun j => if j = cx.length then nd else kn j) (cx ++ [cn]).length = nd := by
  have h' : mCx st' ns cx kn := h.mv (fun k j a b d e => hf.2 k j (fun q => by omega) d (fun q => e q.1) (by omega)) (fun k i a b d _ => hf.2 k i (fun _ => d) (fun q => by omega) (fun q => by omega) (by omega))
  have hlen : (cx ++ [cn]).length = cx.length + 1 := by simp
  refine ⟨⟨fun j hj => ?_, fun i j hij hj => ?_, by omega⟩, by rw [hlen]; show (if cx.length = cx.length then nd else _) = nd; rw [if_pos rfl]⟩
  · by_cases q : j = cx.length
    · subst q
      show mEn _ _ _ _ (if cx.length = cx.length then nd else _)
      rw [cAt_n, if_pos rfl]; exact he
    · show mEn _ _ _ _ (if j = cx.length then nd else _)
      rw [cAt_l (by omega), if_neg q]; exact h'.1 j (by omega)
  · show (if i = cx.length then nd else kn i) ≤ (if j = cx.length then nd else kn j)
    by_cases q : j = cx.length
    · rw [if_pos q]
      by_cases r : i = cx.length
      · rw [if_pos r]; exact Nat.le_refl _
      · rw [if_neg r]; have := kT_le h (j := i) (by omega); omega
    · rw [if_neg q, if_neg (by omega)]; exact h.2.1 i j hij (by omega)
end MHK
