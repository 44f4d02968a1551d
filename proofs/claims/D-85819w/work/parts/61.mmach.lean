/-! M OVER S (2): counters; what is put for a name; cells -/
/-- counters, what is told; nothing is wrong -/
def MJ0 (st : MSt) (X : SX) (K : KS) : Prop :=
  (fI st 63 = iI (X.lim : Int) ∧ fI st 64 = iI (K.work : Int) ∧ fI st 65 = iI (K.life : Int) ∧ ∀ j, j < 6 → fI st (66 + j) = iI (K.sp j : Int)) ∧ fI st 75 = iI (K.outs : Int) ∧ (∀ j, j < 3000 → j < K.outs → st.2 74 j = iI (K.out j : Int))
def MJ (st : MSt) (X : SX) (K : KS) (nd ce wa : Nat) : Prop := MJ0 st X K ∧ fI st 57 = iI (K.fr : Int) ∧ (fI st 39 = iI (nd : Int) ∧ fI st 48 = iI (ce : Int) ∧ fI st 51 = iI (wa : Int)) ∧ fI st 72 = 0 ∧ mch st ce ∧ 0 < ce
/-- .. something is wrong: e, at the statement's place -/
def MZ (st : MSt) (X : SX) (K : KS) (e nd ce : Nat) : Prop := MJ0 st X K ∧ fI st 72 = iI (e : Int) ∧ fI st 73 = fI st 77 ∧ (0 < e ∧ e < 100) ∧ fI st 39 = iI (nd : Int) ∧ fI st 48 = iI (ce : Int)
/-- bounds; x: cells that were made without anything spent -/
def MK (X : SX) (K : KS) (nd ce wa x : Nat) : Prop := KB X K ∧ nd ≤ 140000 ∧ ce ≤ 1 + 2 * K.work + x ∧ x ≤ 30000 ∧ wa ≤ K.work ∧ K.fr ≤ 2 * K.work + x
section MM1
variable {P : MPl} {s0 : State} {l : Launch} {XX : Prop} {lev : Nat} {Q : Outcome → MSt → Prop} {st st' st0 : MSt} {X : SX} {K K' : KS} {nd ce wa x : Nat} {c : MC} {M : Nat → Int → Prop}
theorem MJ.put {k : Nat} {v : Int32} (h : MJ st X K nd ce wa) (hk : 52 ≤ k ∧ k ≤ 56) : MJ (mput k v st) X K nd ce wa := by
  obtain ⟨⟨⟨h1, h2, h3, h4⟩, h5, h6⟩, h7, ⟨h8, h9, h10⟩, h11, h12, h13⟩ := h
  refine ⟨⟨⟨?_, ?_, ?_, fun j hj => ?_⟩, ?_, h6⟩, ?_, ⟨?_, ?_, ?_⟩, ?_, h12, h13⟩
  · show (mput k v st).1 63 = _; rw [mput_f, if_neg (by omega)]; exact h1
  · show (mput k v st).1 64 = _; rw [mput_f, if_neg (by omega)]; exact h2
  · show (mput k v st).1 65 = _; rw [mput_f, if_neg (by omega)]; exact h3
  · show (mput k v st).1 (66 + j) = _; rw [mput_f, if_neg (by omega)]; exact h4 j hj
  · show (mput k v st).1 75 = _; rw [mput_f, if_neg (by omega)]; exact h5
  · show (mput k v st).1 57 = _; rw [mput_f, if_neg (by omega)]; exact h7
  · show (mput k v st).1 39 = _; rw [mput_f, if_neg (by omega)]; exact h8
  · show (mput k v st).1 48 = _; rw [mput_f, if_neg (by omega)]; exact h9
  · show (mput k v st).1 51 = _; rw [mput_f, if_neg (by omega)]; exact h10
  · show (mput k v st).1 72 = _; rw [mput_f, if_neg (by omega)]; exact h11
theorem MZ.put {e k : Nat} {v : Int32} (h : MZ st X K e nd ce) (hk : 51 ≤ k ∧ k ≤ 57 := by omega) : MZ (mput k v st) X K e nd ce := by
  obtain ⟨⟨⟨h1, h2, h3, h4⟩, h5, h6⟩, h7, h8, h9, h10, h11⟩ := h
  refine ⟨⟨⟨?_, ?_, ?_, fun j hj => ?_⟩, ?_, h6⟩, ?_, ?_, h9, ?_, ?_⟩
  · show (mput k v st).1 63 = _; rw [mput_f, if_neg (by omega)]; exact h1
  · show (mput k v st).1 64 = _; rw [mput_f, if_neg (by omega)]; exact h2
  · show (mput k v st).1 65 = _; rw [mput_f, if_neg (by omega)]; exact h3
  · show (mput k v st).1 (66 + j) = _; rw [mput_f, if_neg (by omega)]; exact h4 j hj
  · show (mput k v st).1 75 = _; rw [mput_f, if_neg (by omega)]; exact h5
  · show (mput k v st).1 72 = _; rw [mput_f, if_neg (by omega)]; exact h7
  · show (mput k v st).1 73 = (mput k v st).1 77; rw [mput_f, if_neg (by omega), mput_f, if_neg (by omega)]; exact h8
  · show (mput k v st).1 39 = _; rw [mput_f, if_neg (by omega)]; exact h10
  · show (mput k v st).1 48 = _; rw [mput_f, if_neg (by omega)]; exact h11
theorem mfr_put {k : Nat} {v : Int32} (hk : k = 39 ∨ k = 48 ∨ (51 ≤ k ∧ k ≤ 57) ∨ (64 ≤ k ∧ k ≤ 73) ∨ k = 75) : mfr nd ce wa st (mput k v st) :=
  ⟨fun j hj => by rw [mput_f, if_neg (by omega)], fun _ _ _ _ _ _ => rfl⟩
/-- a step is paid -/
theorem MJ.spend {k : Nat} (h : MJ st X K nd ce wa) (hk : k < 6) (hs : sSpend X k K = (K', .ok ())) : MJ (mput (66 + k) (fI (mput 65 (fI st 65 + iI 1) (mput 64 (fI st 64 + iI 1) st)) (66 + k) + iI 1) (mput 65 (fI st 65 + iI 1) (mput 64 (fI st 64 + iI 1) st))) X K' nd ce wa := by
  have e : K' = (K.work + 1, K.life + 1, (fun j => if j = k then K.sp k + 1 else K.sp j), K.2.2.2) := by
    unfold sSpend at hs
    split at hs
    · cases hs
    · split at hs
      · cases hs
      · cases hs; rfl
  subst e
  obtain ⟨⟨⟨h1, h2, h3, h4⟩, h5, h6⟩, h7, ⟨h8, h9, h10⟩, h11, h12, h13⟩ := h
  have r : ∀ j, (mput (66 + k) (fI (mput 65 (fI st 65 + iI 1) (mput 64 (fI st 64 + iI 1) st)) (66 + k) + iI 1) (mput 65 (fI st 65 + iI 1) (mput 64 (fI st 64 + iI 1) st))).1 j = if j = 66 + k then st.1 (66 + k) + iI 1 else if j = 65 then st.1 65 + iI 1 else if j = 64 then st.1 64 + iI 1 else st.1 j := fun j => by
    rw [mput_f]
    by_cases hj : j = 66 + k
    · rw [if_pos hj, if_pos hj]
      show (mput 65 _ (mput 64 _ st)).1 (66 + k) + iI 1 = _
      rw [mput_f, if_neg (by omega), mput_f, if_neg (by omega)]
    · rw [if_neg hj, if_neg hj, mput_f, mput_f]
  refine ⟨⟨⟨?_, ?_, ?_, fun j hj => ?_⟩, ?_, h6⟩, ?_, ⟨?_, ?_, ?_⟩, ?_, h12, h13⟩
  · refine (r 63).trans ?_; rw [if_neg (by omega), if_neg (by omega), if_neg (by omega)]; exact h1
  · refine (r 64).trans ?_; rw [if_neg (by omega), if_neg (by omega), if_pos rfl, show st.1 64 = _ from h2, iI_suc]
  · refine (r 65).trans ?_; rw [if_neg (by omega), if_pos rfl, show st.1 65 = _ from h3, iI_suc]
  · refine (r (66 + j)).trans ?_
    show _ = iI ((if j = k then K.sp k + 1 else K.sp j : Nat) : Int)
    by_cases hjk : j = k
    · subst hjk; rw [if_pos rfl, if_pos rfl, show st.1 (66 + j) = _ from h4 _ hj, iI_suc]
    · rw [if_neg (by omega), if_neg (by omega), if_neg (by omega), if_neg hjk]; exact h4 j hj
  · refine (r 75).trans ?_; rw [if_neg (by omega), if_neg (by omega), if_neg (by omega)]; exact h5
  · refine (r 57).trans ?_; rw [if_neg (by omega), if_neg (by omega), if_neg (by omega)]; exact h7
  · refine (r 39).trans ?_; rw [if_neg (by omega), if_neg (by omega), if_neg (by omega)]; exact h8
  · refine (r 48).trans ?_; rw [if_neg (by omega), if_neg (by omega), if_neg (by omega)]; exact h9
  · refine (r 51).trans ?_; rw [if_neg (by omega), if_neg (by omega), if_neg (by omega)]; exact h10
  · refine (r 72).trans ?_; rw [if_neg (by omega), if_neg (by omega), if_neg (by omega)]; exact h11
theorem MJ.bad {e : Nat} (h : MJ st X K nd ce wa) (he : 0 < e ∧ e < 100) : MZ (mput 73 (fI st 77) (mput 72 (iI (e : Int)) st)) X K e nd ce := by
  obtain ⟨⟨⟨h1, h2, h3, h4⟩, h5, h6⟩, -, ⟨h8, h9, -⟩, -⟩ := h
  refine ⟨⟨⟨?_, ?_, ?_, fun j hj => ?_⟩, ?_, h6⟩, ?_, ?_, he, ?_, ?_⟩
  · show (mput 73 _ (mput 72 _ st)).1 63 = _; rw [mput_f, if_neg (by omega), mput_f, if_neg (by omega)]; exact h1
  · show (mput 73 _ (mput 72 _ st)).1 64 = _; rw [mput_f, if_neg (by omega), mput_f, if_neg (by omega)]; exact h2
  · show (mput 73 _ (mput 72 _ st)).1 65 = _; rw [mput_f, if_neg (by omega), mput_f, if_neg (by omega)]; exact h3
  · show (mput 73 _ (mput 72 _ st)).1 (66 + j) = _; rw [mput_f, if_neg (by omega), mput_f, if_neg (by omega)]; exact h4 j hj
  · show (mput 73 _ (mput 72 _ st)).1 75 = _; rw [mput_f, if_neg (by omega), mput_f, if_neg (by omega)]; exact h5
  · show (mput 73 _ (mput 72 _ st)).1 72 = _; rw [mput_f, if_neg (by omega), mput_f, if_pos rfl]
  · show (mput 73 _ (mput 72 _ st)).1 73 = (mput 73 _ (mput 72 _ st)).1 77
    rw [mput_f, if_pos rfl, mput_f, if_neg (by omega), mput_f, if_neg (by omega)]
  · show (mput 73 _ (mput 72 _ st)).1 39 = _; rw [mput_f, if_neg (by omega), mput_f, if_neg (by omega)]; exact h8
  · show (mput 73 _ (mput 72 _ st)).1 48 = _; rw [mput_f, if_neg (by omega), mput_f, if_neg (by omega)]; exact h9
theorem m_may {k : Nat} (hl : 2 ≤ lev) (h : MJ st X K nd ce wa) (hb : KB X K)
    (ok : ∀ K', sSpend X k K = (K', .ok ()) → K'.life = K.life + 1 → K'.work = K.work + 1 → K'.2.2.2 = K.2.2.2 → KB X K' → Q (.returned (some (.int (iI 1)))) (mput 65 (fI st 65 + iI 1) (mput 64 (fI st 64 + iI 1) st)))
    (er : ∀ e st', sSpend X k K = (K, .error e) → MZ st' X K e nd ce → mfr nd ce wa st st' → Q (.returned (some (.int (iI 0)))) st') : CQ (wM P s0 l XX) mX5_may lev (.ref P.mo :: []) st Q := by
  obtain ⟨l', rfl⟩ := Nat.exists_eq_add_of_le' hl
  obtain ⟨k1, k2, k3⟩ := hb
  have h72 := h.2.2.2.1
  obtain ⟨⟨h1, h2, h3, h4⟩, h5, h6⟩ := h.1
  have f72 : ∀ e : Nat, 0 < e → e < 100 → ¬ fI (mput 73 (fI st 77) (mput 72 (iI (e : Int)) st)) 72 = 0 := fun e he he2 q => by
    have q' : (mput 73 (fI st 77) (mput 72 (iI (e : Int)) st)).1 72 = 0 := q
    rw [mput_f, if_neg (by omega), mput_f, if_pos rfl, iI_z, iI_eq (by omega) (by omega) (by omega) (by omega)] at q'
    omega
  refine tX5_may ⟨fun _ => ⟨fun e => ?_, fun e => ⟨fun e2 => ?_, fun e2 => ?_⟩⟩, fun q => absurd h72 q⟩
  · rw [h2, h1, iI_eq (by omega) (by omega) (by omega) (by omega)] at e
    refine tX5_wrong ⟨fun _ => tX5_may_53 ⟨fun q => absurd q (f72 12 (by omega) (by omega)), fun _ => ?_⟩, fun q => absurd h72 q⟩
    exact er 12 _ (by unfold sSpend; rw [if_pos (by omega)]) (h.bad (e := 12) (by omega)) ((mfr_put (by omega)).tr (mfr_put (by omega)) (Nat.le_refl _) (Nat.le_refl _) (Nat.le_refl _))
  · rw [h2, h1, iI_eq (by omega) (by omega) (by omega) (by omega)] at e
    rw [h3, iI_eq (by omega) (by omega) (by omega) (by omega)] at e2
    refine tX5_wrong ⟨fun _ => tX5_may_53 ⟨fun q => absurd q (f72 14 (by omega) (by omega)), fun _ => ?_⟩, fun q => absurd h72 q⟩
    exact er 14 _ (by unfold sSpend; rw [if_neg (by omega), if_pos (by omega)]) (h.bad (e := 14) (by omega)) ((mfr_put (by omega)).tr (mfr_put (by omega)) (Nat.le_refl _) (Nat.le_refl _) (Nat.le_refl _))
  · rw [h2, h1, iI_eq (by omega) (by omega) (by omega) (by omega)] at e
    rw [h3, iI_eq (by omega) (by omega) (by omega) (by omega)] at e2
    refine tX5_may_53 ⟨fun _ => ?_, fun q => absurd h72 q⟩
    exact ok (K.work + 1, K.life + 1, (fun j => if j = k then K.sp k + 1 else K.sp j), K.2.2.2) (by unfold sSpend; rw [if_neg (by omega), if_neg (by omega)]) rfl rfl rfl ⟨by show K.work + 1 ≤ _; omega, k2, by show K.life + 1 ≤ _; omega⟩
theorem m_find {q i : Nat} (hl : 1 ≤ lev) (hch : mch st ce) (hq : q < ce) (hi : i < 2147483648) (h0 : lk st q i = 0 → Q (.returned none) (mput 56 (iI 0) st)) (h1 : ∀ a, lk st q i = a → 0 < a → a < ce → Q (.returned none) (mput 55 (st.2 47 a) (mput 54 (st.2 46 a) (mput 56 (iI 1) st)))) : CQ (wM P s0 l XX) mX5_find lev (.ref P.mo :: [.int (iI (i : Int)), .int (iI (q : Int))]) st Q := by
  obtain ⟨l', rfl⟩ := Nat.exists_eq_add_of_le' hl
  have h8 := hch.1
  have key : ∀ (u : Nat), u < ce → lk st u i = lk st q i → jX5_find_2 P s0 l XX l' st Q (iI (i : Int)) (iI (q : Int)) (iI (u : Int)) st := by
    intro u
    induction u using Nat.strongRecOn with
    | ind u ih =>
      intro hu he
      by_cases hu0 : u = 0
      · subst hu0
        refine tX5_find_2 ⟨fun _ => tX5_find_26 ⟨fun _ => h0 (by rw [← he]; rfl), fun q => absurd rfl q⟩, fun q => absurd rfl q⟩
      · have hz : ¬ iI (u : Int) = 0 := by rw [iI_z, iI_eq (by omega) (by omega) (by omega) (by omega)]; omega
        obtain ⟨v, e1, e2⟩ := hch.2 u (by omega) hu
        rw [lk_step hch (by omega) hu e1 e2] at he
        refine tX5_find_2 ⟨fun q => absurd q hz, fun _ => ⟨iI_in (by omega) (by omega), fun hb => ?_, fun hb => ?_⟩⟩
        · rw [aI_n (by omega)] at hb
          rw [if_pos hb] at he
          refine tX5_find_26 ⟨fun q => absurd q hz, fun _ => ⟨iI_in (by omega) (by omega), iI_in (by omega) (by omega), ?_⟩⟩
          rw [aI_n (by omega), aI_n (by omega)]
          exact h1 u he.symm (by omega) hu
        · rw [aI_n (by omega)] at hb
          rw [if_neg hb] at he
          refine ⟨iI_in (by omega) (by omega), ?_⟩
          rw [aI_n (by omega), e1]
          exact ih v e2 (by omega) he
  exact tX5_find (key q hq rfl)
/-- a cell is made -/
theorem m_cell {q b : Nat} {y z : Int32} (hl : 1 ≤ lev) (h : MJ st X K nd ce wa) (hce : ce < 80000) (hq : q < ce)
    (ok : ∀ st', MJ st' X K nd (ce + 1) wa → mfr nd ce wa st st' → st'.2 44 ce = iI (q : Int) → st'.2 45 ce = iI (b : Int) → st'.2 46 ce = y → st'.2 47 ce = z → (∀ k, k ≠ 48 → st'.1 k = st.1 k) → (∀ k j, k < 44 ∨ 47 < k → st'.2 k j = st.2 k j) → Q (.returned (some (.int (iI (ce : Int))))) st') : CQ (wM P s0 l XX) mX5_cell lev (.ref P.mo :: [.int (iI (q : Int)), .int (iI (b : Int)), .int y, .int z]) st Q := by
  obtain ⟨l', rfl⟩ := Nat.exists_eq_add_of_le' hl
  have h48 := h.2.2.1.2.1
  refine tX5_cell ?_
  rw [h48]
  have hin := iI_in (a := ce) (n := 80000) hce (by omega)
  refine ⟨hin, hin, hin, hin, ?_⟩
  have e9 : iI (ce : Int) + iI 1 - iI 1 = iI (ce : Int) := by rw [iI_suc, iI_prd]
  rw [e9, iI_suc]
  have ar : ∀ k j, (mput 48 (iI ((ce + 1 : Nat) : Int)) (mst 47 (iI (ce : Int)) z (mst 46 (iI (ce : Int)) y (mst 45 (iI (ce : Int)) (iI (b : Int)) (mst 44 (iI (ce : Int)) (iI (q : Int)) st))))).2 k j = if k = 47 ∧ j = ce then z else if k = 46 ∧ j = ce then y else if k = 45 ∧ j = ce then iI (b : Int) else if k = 44 ∧ j = ce then iI (q : Int) else st.2 k j := fun k j => by
    rw [mput_a, mst_a (by omega), mst_a (by omega), mst_a (by omega), mst_a (by omega)]
  have fr : ∀ k, (mput 48 (iI ((ce + 1 : Nat) : Int)) (mst 47 (iI (ce : Int)) z (mst 46 (iI (ce : Int)) y (mst 45 (iI (ce : Int)) (iI (b : Int)) (mst 44 (iI (ce : Int)) (iI (q : Int)) st))))).1 k = if k = 48 then iI ((ce + 1 : Nat) : Int) else st.1 k := fun k => by rw [mput_f]; rfl
  generalize mput 48 (iI ((ce + 1 : Nat) : Int)) (mst 47 (iI (ce : Int)) z (mst 46 (iI (ce : Int)) y (mst 45 (iI (ce : Int)) (iI (b : Int)) (mst 44 (iI (ce : Int)) (iI (q : Int)) st)))) = st' at ar fr
  obtain ⟨⟨⟨h1, h2, h3, h4⟩, h5, h6⟩, h7, ⟨h8, h9, h10⟩, h11, h12, h13⟩ := h
  refine ok st' ⟨⟨⟨?_, ?_, ?_, fun j hj => ?_⟩, ?_, fun j a1 a2 => ?_⟩, ?_, ⟨?_, ?_, ?_⟩, ?_, ⟨by omega, fun u a1 a2 => ?_⟩, by omega⟩ ⟨fun k hk => by rw [fr, if_neg (by omega)], fun k j a1 a2 a3 a4 => ?_⟩ ?_ ?_ ?_ ?_ (fun k hk => by rw [fr, if_neg hk]) (fun k j hk => by rw [ar, if_neg (by omega), if_neg (by omega), if_neg (by omega), if_neg (by omega)])
  · show st'.1 63 = _; rw [fr, if_neg (by omega)]; exact h1
  · show st'.1 64 = _; rw [fr, if_neg (by omega)]; exact h2
  · show st'.1 65 = _; rw [fr, if_neg (by omega)]; exact h3
  · show st'.1 (66 + j) = _; rw [fr, if_neg (by omega)]; exact h4 j hj
  · show st'.1 75 = _; rw [fr, if_neg (by omega)]; exact h5
  · rw [ar, if_neg (by omega), if_neg (by omega), if_neg (by omega), if_neg (by omega)]; exact h6 j a1 a2
  · show st'.1 57 = _; rw [fr, if_neg (by omega)]; exact h7
  · show st'.1 39 = _; rw [fr, if_neg (by omega)]; exact h8
  · show st'.1 48 = _; rw [fr, if_pos rfl]
  · show st'.1 51 = _; rw [fr, if_neg (by omega)]; exact h10
  · show st'.1 72 = _; rw [fr, if_neg (by omega)]; exact h11
  · by_cases hu : u = ce
    · subst hu
      exact ⟨q, by rw [ar, if_neg (by omega), if_neg (by omega), if_neg (by omega), if_pos ⟨rfl, rfl⟩], hq⟩
    · obtain ⟨v, e1, e2⟩ := h12.2 u a1 (by omega)
      exact ⟨v, by rw [ar, if_neg (by omega), if_neg (by omega), if_neg (by omega), if_neg (by omega)]; exact e1, e2⟩
  · rw [ar, if_neg (by omega), if_neg (by omega), if_neg (by omega), if_neg (by omega)]
  · rw [ar, if_neg (by omega), if_neg (by omega), if_neg (by omega), if_pos ⟨rfl, rfl⟩]
  · rw [ar, if_neg (by omega), if_neg (by omega), if_pos ⟨rfl, rfl⟩]
  · rw [ar, if_neg (by omega), if_pos ⟨rfl, rfl⟩]
  · rw [ar, if_pos ⟨rfl, rfl⟩]
end MM1
