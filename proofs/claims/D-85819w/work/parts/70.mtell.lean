/-! M OVER S (10): telling: signs, numbers, names -/
/-- a name in a row of letters -/
def mNa (st : MSt) (kr kl i : Nat) (bs : List Nat) : Prop := st.2 kl i = iI (bs.length : Int) ∧ bs.length ≤ 12 ∧ ∀ (j ch : Nat), bs[j]? = some ch → st.2 kr (12 * i + j) = iI (ch : Int)
def mNm (c : MC) (st : MSt) (X : SX) : Prop := (∀ k, k < c.nc → mNa st 21 22 k (X.nm k)) ∧ ∀ s, s < c.ns → mNa st 16 17 s (X.sn s)
/-- locals: what they are told as -/
def MTl (M : Nat → Int → Prop) : Prop := ∀ j k, M j k → j < 1000000 ∧ k = -1000000 - (j : Int)
section MTE
variable {P : MPl} {s0 : State} {l : Launch} {XX : Prop} {lev d w : Nat} {Q : Outcome → MSt → Prop} {st st' st0 : MSt} {X : SX} {K K' : KS} {nd ce ce' wa x base many o : Nat} {c c' : MC} {M M' : Nat → Int → Prop}
theorem mNm_mv (h : mfr nd ce wa st st') (hN : mNm c st X) : mNm c st' X := by
  have e : ∀ k j, k = 16 ∨ k = 17 ∨ k = 21 ∨ k = 22 → st'.2 k j = st.2 k j := fun k j hk => h.2 k j (fun q => by omega) (fun q => by omega) (fun q => by omega) (by omega)
  refine ⟨fun k hk => ?_, fun s hs => ?_⟩
  · obtain ⟨h1, h2, h3⟩ := hN.1 k hk
    exact ⟨by rw [e 22 _ (by omega)]; exact h1, h2, fun j ch hj => by rw [e 21 _ (by omega)]; exact h3 j ch hj⟩
  · obtain ⟨h1, h2, h3⟩ := hN.2 s hs
    exact ⟨by rw [e 17 _ (by omega)]; exact h1, h2, fun j ch hj => by rw [e 16 _ (by omega)]; exact h3 j ch hj⟩
/-- only what is told changes -/
def mOnly (st st' : MSt) : Prop := (∀ k, k ≠ 75 → st'.1 k = st.1 k) ∧ ∀ k j, k ≠ 74 → st'.2 k j = st.2 k j
theorem mOnly.fr (h : mOnly st st') : mfr nd ce wa st st' := ⟨fun k hk => h.1 k (by omega), fun k j _ _ _ h4 => h.2 k j h4⟩
theorem mOnly.rf : mOnly st st := ⟨fun _ _ => rfl, fun _ _ _ => rfl⟩
theorem mOnly.t {st'' : MSt} (h : mOnly st st') (k : mOnly st' st'') : mOnly st st'' := ⟨fun j hj => (k.1 j hj).trans (h.1 j hj), fun j i hj => (k.2 j i hj).trans (h.2 j i hj)⟩
theorem MJ.only (h : MJ st X K nd ce wa) (hO : mOnly st st') (h2 : MJ0 st' X K') (hfr : K'.fr = K.fr) : MJ st' X K' nd ce wa := by
  obtain ⟨-, h7, ⟨h8, h9, h10⟩, h11, h12, h13⟩ := h
  refine ⟨h2, ?_, ⟨?_, ?_, ?_⟩, ?_, h12.mv (fun k j a b _ => hO.2 k j (by omega)), h13⟩
  · show st'.1 57 = _; rw [hO.1 57 (by omega), hfr]; exact h7
  · show st'.1 39 = _; rw [hO.1 39 (by omega)]; exact h8
  · show st'.1 48 = _; rw [hO.1 48 (by omega)]; exact h9
  · show st'.1 51 = _; rw [hO.1 51 (by omega)]; exact h10
  · show st'.1 72 = _; rw [hO.1 72 (by omega)]; exact h11
theorem m_out {ch : Nat} (hl : 1 ≤ lev) (ho : K.outs < 2000000000) (h : MJ0 st X K) (ok : ∀ st', mOnly st st' → MJ0 st' X (sPut ch K) → Q (.returned none) st') : CQ (wM P s0 l XX) mX5_put lev (.ref P.mo :: [.int (iI (ch : Int))]) st Q := by
  obtain ⟨l', rfl⟩ := Nat.exists_eq_add_of_le' hl
  obtain ⟨⟨h1, h2, h3, h4⟩, h5, h6⟩ := h
  refine tX5_put ⟨fun q => ?_, fun q => ?_⟩
  · rw [h5, iI_le (by omega) (by omega) (by omega) (by omega)] at q
    rw [h5, iI_suc]
    refine ok _ ⟨fun k hk => by rw [mput_f, if_neg hk], fun _ _ _ => rfl⟩ ⟨⟨?_, ?_, ?_, fun j hj => ?_⟩, ?_, fun j a1 a2 => ?_⟩
    · show (mput 75 _ st).1 63 = _; rw [mput_f, if_neg (by omega)]; exact h1
    · show (mput 75 _ st).1 64 = _; rw [mput_f, if_neg (by omega)]; exact h2
    · show (mput 75 _ st).1 65 = _; rw [mput_f, if_neg (by omega)]; exact h3
    · show (mput 75 _ st).1 (66 + j) = _; rw [mput_f, if_neg (by omega)]; exact h4 j hj
    · show (mput 75 _ st).1 75 = _; rw [mput_f, if_pos rfl]; rfl
    · have e : (sPut ch K).out j = K.out j := by show (if j = K.outs then ch else K.out j) = _; rw [if_neg (by omega)]
      rw [e]; exact h6 j a1 (by omega)
  · have q' : K.outs < 3000 := by
      rw [h5, iI_le (by omega) (by omega) (by omega) (by omega)] at q; omega
    refine ⟨by rw [h5]; exact iI_in q' (by omega), ?_⟩
    rw [h5, iI_suc]
    have ar : ∀ k j, (mput 75 (iI ((K.outs + 1 : Nat) : Int)) (mst 74 (iI (K.outs : Int)) (iI (ch : Int)) st)).2 k j = if k = 74 ∧ j = K.outs then iI (ch : Int) else st.2 k j := fun k j => by rw [mput_a, mst_a (by omega)]
    have fr : ∀ k, (mput 75 (iI ((K.outs + 1 : Nat) : Int)) (mst 74 (iI (K.outs : Int)) (iI (ch : Int)) st)).1 k = if k = 75 then iI ((K.outs + 1 : Nat) : Int) else st.1 k := fun k => by rw [mput_f]; rfl
    generalize mput 75 (iI ((K.outs + 1 : Nat) : Int)) (mst 74 (iI (K.outs : Int)) (iI (ch : Int)) st) = st' at ar fr
    refine ok st' ⟨fun k hk => by rw [fr, if_neg hk], fun k j hk => by rw [ar, if_neg (fun z => hk z.1)]⟩ ⟨⟨?_, ?_, ?_, fun j hj => ?_⟩, ?_, fun j a1 a2 => ?_⟩
    · show st'.1 63 = _; rw [fr, if_neg (by omega)]; exact h1
    · show st'.1 64 = _; rw [fr, if_neg (by omega)]; exact h2
    · show st'.1 65 = _; rw [fr, if_neg (by omega)]; exact h3
    · show st'.1 (66 + j) = _; rw [fr, if_neg (by omega)]; exact h4 j hj
    · show st'.1 75 = _; rw [fr, if_pos rfl]; rfl
    · rw [ar]
      by_cases hj : j = K.outs
      · subst hj
        rw [if_pos ⟨rfl, rfl⟩]
        show _ = iI ((if K.outs = K.outs then ch else K.out K.outs : Nat) : Int)
        rw [if_pos rfl]
      · rw [if_neg (fun z => hj z.2)]
        have e : (sPut ch K).out j = K.out j := by show (if j = K.outs then ch else K.out j) = _; rw [if_neg hj]
        have a2' : j < K.outs + 1 := a2
        rw [e]; exact h6 j a1 (by omega)
theorem m_num : ∀ (f v lev : Nat) (st : MSt) (K : KS) (Q : Outcome → MSt → Prop), v < 10 ^ (f + 1) → v < 2147483648 → f + 2 ≤ lev → K.outs + f < 2000000000 → MJ0 st X K → (∀ st', mOnly st st' → MJ0 st' X (sNum (f + 1) v K) → Q (.returned none) st') → CQ (wM P s0 l XX) mX5_number lev (.ref P.mo :: [.int (iI (v : Int))]) st Q := by
  intro f
  induction f with
  | zero =>
    intro v lev st K Q hv hv2 hl ho h ok
    obtain ⟨l', rfl⟩ : ∃ l', lev = l' + 2 := ⟨lev - 2, by omega⟩
    have hv9 : v < 10 := by simpa using hv
    refine tX5_number ⟨fun _ => tX5_number_14 ?_, fun q => ?_⟩
    · rw [iI_rem hv2, iI_add, show (48 : Int) + ((v % 10 : Nat) : Int) = ((48 + v % 10 : Nat) : Int) by omega]
      refine m_out (by omega) (by omega) h (fun st' o1 j1 => ok st' o1 ?_)
      have : sNum 1 v K = sPut (48 + v % 10) K := by unfold sNum; rw [if_neg (by omega)]
      rw [this]
      exact j1
    · exact absurd (by rw [iI_le (by omega) (by omega) (by omega) (by omega)]; omega) q
  | succ f ih =>
    intro v lev st K Q hv hv2 hl ho h ok
    obtain ⟨l', rfl⟩ : ∃ l', lev = l' + 2 := ⟨lev - 2, by omega⟩
    have fin : ∀ (s1 : MSt) (K1 : KS), mOnly st s1 → MJ0 s1 X K1 → K1.outs < 2000000000 → sNum (f + 1 + 1) v K = sPut (48 + v % 10) K1 → jX5_number_14 P s0 l XX (l' + 1) st Q (iI (v : Int)) s1 := fun s1 K1 k1 b1 o1 e1 => by
      refine tX5_number_14 ?_
      rw [iI_rem hv2, iI_add, show (48 : Int) + ((v % 10 : Nat) : Int) = ((48 + v % 10 : Nat) : Int) by omega]
      exact m_out (by omega) o1 b1 (fun st' k2 b2 => ok st' (k1.t k2) (by rw [e1]; exact b2))
    refine tX5_number ⟨fun q => ?_, fun q => ?_⟩
    · rw [iI_le (by omega) (by omega) (by omega) (by omega)] at q
      exact fin st K mOnly.rf h (by omega) (by unfold sNum; rw [if_neg (by omega)])
    · have q' : 9 < v := by
        rw [iI_le (by omega) (by omega) (by omega) (by omega)] at q; omega
      rw [iI_div hv2]
      refine ih (v / 10) (l' + 1) st K _ (by rw [Nat.pow_succ] at hv; omega) (by omega) (by omega) (by omega) h (fun st' k1 b1 => ?_)
      have := sNum_k (f + 1) (v / 10) K
      exact fin st' _ k1 b1 (by omega) (by rw [sNum]; rw [if_pos q'])
theorem m_word {kr kl i : Nat} {bs : List Nat} (hl : 2 ≤ lev) (hk : mK kr = 1) (hm : 12 * i + 12 ≤ mL kr) (hm2 : 12 * i + 12 < 1000000) (hn : mNa st kr kl i bs) (h74 : kr ≠ 74) (ho : K.outs + 12 < 2000000000) (h : MJ0 st X K) (ok : ∀ st', mOnly st st' → MJ0 st' X (sPuts bs K) → Q (.returned none) st') : CQ (wM P s0 l XX) mX5_putWord lev (.ref P.mo :: [.int (iI ((12 * i : Nat) : Int)), va_rf (some (P.ad kr)), .int (iI (bs.length : Int))]) st Q := by
  obtain ⟨l', rfl⟩ := Nat.exists_eq_add_of_le' hl
  obtain ⟨-, n2, n3⟩ := hn
  have key : ∀ (d j : Nat) (s1 : MSt) (K1 : KS), j + d = bs.length → K1.outs + d < 2000000000 → mOnly st s1 → MJ0 s1 X K1 → (∀ st', mOnly st st' → MJ0 st' X (sPuts (bs.drop j) K1) → Q (.returned none) st') → jX5_putWord_3 P s0 l XX (l' + 1) st Q kr (iI ((12 * i : Nat) : Int)) (iI (bs.length : Int)) (iI (j : Int)) s1 := by
    intro d
    induction d with
    | zero =>
      intro j s1 K1 hj ho1 k1 h1 ok1
      refine tX5_putWord_3 hk ⟨fun _ => ok1 s1 k1 (by rw [List.drop_eq_nil_of_le (by omega)]; exact h1), fun q => ?_⟩
      exact absurd (by rw [iI_le (by omega) (by omega) (by omega) (by omega)]; omega) q
    | succ d ih =>
      intro j s1 K1 hj ho1 k1 h1 ok1
      obtain ⟨ch, hch⟩ : ∃ ch, bs[j]? = some ch := ⟨bs[j]'(by omega), List.getElem?_eq_getElem (by omega)⟩
      have edrop : bs.drop j = ch :: bs.drop (j + 1) := by
        rw [List.drop_eq_getElem_cons (by omega)]
        congr 1
        rw [List.getElem?_eq_getElem (by omega)] at hch
        exact Option.some.inj hch
      have e1 : iI ((12 * i : Nat) : Int) + iI (j : Int) = iI ((12 * i + j : Nat) : Int) := by rw [iI_add]; rfl
      refine tX5_putWord_3 hk ⟨fun q => ?_, fun _ => ?_⟩
      · rw [iI_le (by omega) (by omega) (by omega) (by omega)] at q; omega
      · rw [e1]
        refine ⟨iI_in (by omega) (by omega), ?_⟩
        rw [aI_n (by omega), k1.2 kr _ h74, n3 j ch hch]
        refine m_out (by omega) (by omega) h1 (fun st' k2 b2 => ?_)
        rw [iI_suc]
        refine ih (j + 1) st' (sPut ch K1) (by omega) (by rw [sPut_life.2]; omega) (k1.t k2) b2 (fun s3 k3 b3 => ok1 s3 k3 ?_)
        rw [edrop]
        exact b3
  exact tX5_putWord hk (key bs.length 0 st K (by omega) (by omega) mOnly.rf h ok)
end MTE
