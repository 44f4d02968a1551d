/-! THE HOUSE OVER S, M (6): tables (2) -/
section MHF
variable {P : MPl} {s0 : State} {l : Launch} {XX : Prop} {lev : Nat} {Q : Outcome → MSt → Prop} {st st' st'' st0 : MSt} {X : SX} {J : JX} {K K' : KS} {nd nd' ce ce' wa x y lo hi ns ch z o nn nd0 p lim : Nat} {c c' : MC} {t : TX} {tb : HT} {cx : List CN} {x1 x2 : Int32} {bs : List Nat} {s1 : ST} {TN : Nat → List Nat}
theorem mTb.pt {k : Nat} {v : Int32} (h : mTb c st X J TN) (hk : k = 72 ∨ k = 73) : mTb c (mput k v st) X J TN := by
  obtain ⟨⟨h1, h2, h3⟩, h4⟩ := h
  exact ⟨⟨by show (mput k v st).1 15 = _; rw [mput_f, if_neg (by omega)]; exact h1, by show (mput k v st).1 20 = _; rw [mput_f, if_neg (by omega)]; exact h2, by show (mput k v st).1 27 = _; rw [mput_f, if_neg (by omega)]; exact h3⟩, h4⟩
theorem wr_Z {e : Nat} {p : Int} (h : MJ st X K nd ce wa) (he : 0 < e ∧ e < 100) (hp : 0 ≤ p) : MZj (mput 73 (iI p) (mput 72 (iI (e : Int)) st)) X K e p := by
  obtain ⟨⟨⟨h1, h2, h3, h4⟩, h5, h6⟩, -⟩ := h
  have f : ∀ k, k ≠ 72 → k ≠ 73 → (mput 73 (iI p) (mput 72 (iI (e : Int)) st)).1 k = st.1 k := fun k a b => by rw [mput_f, if_neg b, mput_f, if_neg a]
  refine ⟨⟨⟨(f 63 (by omega) (by omega)).trans h1, (f 64 (by omega) (by omega)).trans h2, (f 65 (by omega) (by omega)).trans h3, fun j hj => (f _ (by omega) (by omega)).trans (h4 j hj)⟩, (f 75 (by omega) (by omega)).trans h5, h6⟩, ?_, ?_, he⟩
  · show (mput 73 (iI p) (mput 72 (iI (e : Int)) st)).1 72 = _; rw [mput_f, if_neg (by omega), mput_f, if_pos rfl]
  · show (mput 73 (iI p) (mput 72 (iI (e : Int)) st)).1 73 = _; rw [mput_f, if_pos rfl, if_neg (by omega)]
theorem wr_d {v w : Int32} : dfr nd0 st (mput 73 w (mput 72 v st)) := (dfr.put (by omega)).tr (dfr.put (by omega))
theorem firstN_none {f : Nat → List Nat} {w : List Nat} : ∀ {n i : Nat}, firstN f w n i = none → ∀ j, i ≤ j → j < i + n → f j ≠ w := by
  intro n
  induction n with
  | zero => intro i h j h1 h2; omega
  | succ n ih =>
    intro i h j h1 h2
    unfold firstN at h
    split at h
    · cases h
    · rename_i hne
      by_cases hj : j = i
      · rw [hj]; exact hne
      · exact ih h j (by omega) (by omega)
theorem m_tables (hl : 5 ≤ lev) (hb : mTb (nd, cx.length, tb.1.length) st (hX lim tb cx) (hJ t tb cx) (tname t)) (hTB : mTB st tb) (hc : cx.length ≤ 100) (hJ' : MJ st (hX lim tb cx) K nd ce 0) (hst : mStt t st s1 nd0 nd) (h8 : 8 ≤ nd0) (hnd : nd ≤ 140000) (hg : stGd s1) (hk2 : s1.1 ≤ 2)
    (ok : ∀ st' tb', hTab t tb cx s1 = .ok tb' → cx.length = 0 → tfrM st st' → mTB st' tb' → Q (.returned none) st')
    (er : ∀ st' e p, hTab t tb cx s1 = .error (e, p) → dfr nd0 st st' → MZj st' (hX lim tb cx) K e p → Q (.returned none) st') : CQ (wM P s0 l XX) mX5_tables lev (.ref P.mo :: []) st Q := by
  obtain ⟨l', rfl⟩ : ∃ l', lev = l' + 1 := ⟨lev - 1, by omega⟩
  obtain ⟨i77, i76, a1, a2, b1, b2, -, inm, -⟩ := hst
  have h27 : fI st 27 = iI (cx.length : Int) := hb.1.2.2
  have hns : tb.1.length ≤ 8 := hTB.1.2
  have h72 : fI st 72 = 0 := hJ'.2.2.2.1
  have sf : ∀ p, (hJ t tb cx).sf p = hSo tb (tname t p) := fun p => rfl
  have sfl : ∀ {p k}, hSo tb (tname t p) = some k → k < tb.1.length := fun {p k} q => by have := firstN_lt q; omega
  -- a name of the statement
  have nm : ∀ (i p : Nat), s1.2.2.1[i]? = some p → ∃ xn : Nat, nd0 ≤ xn ∧ xn < 140000 ∧ p < 4000 ∧ fI st (80 + i) = iI (xn : Int) ∧ st.2 31 xn = iI (p : Int) ∧ st.2 32 xn = iI ((tname t p).length : Int) := fun i p hp => by
    obtain ⟨_, xn, w1, w2, _, _, w3, w4, w5, w6⟩ := inm i p hp
    exact ⟨xn, w1, by omega, w3, w4, w5, w6⟩
  have so : ∀ (lv i p : Nat) (st1 : MSt) (Q' : Outcome → MSt → Prop), 2 ≤ lv → s1.2.2.1[i]? = some p → st1.2 = st.2 → (∀ k, k ≠ 72 → k ≠ 73 → st1.1 k = st.1 k) → Q' (.returned (some (.int (iI (match hSo tb (tname t p) with | some k => (k : Int) | none => -1))))) st1 → CQ (wM P s0 l XX) mX5_sortOf lv (.ref P.mo :: [.int (fI st1 (80 + i))]) st1 Q' := by
    intro lv i p st1 Q' hlv hp e2 e1 hQ
    obtain ⟨xn, w1, w2, w3, w4, w5, w6⟩ := nm i p hp
    have f80 : fI st1 (80 + i) = iI (xn : Int) := (e1 _ (by omega) (by omega)).trans w4
    rw [f80]
    have hb1 : mTb (nd, cx.length, tb.1.length) st1 (hX lim tb cx) (hJ t tb cx) (tname t) := by
      obtain ⟨⟨v1, v2, v3⟩, v4⟩ := hb
      obtain ⟨stf, sta⟩ := st1
      obtain ⟨sf', sa'⟩ := st
      cases e2
      exact ⟨⟨(e1 15 (by omega) (by omega)).trans v1, (e1 20 (by omega) (by omega)).trans v2, (e1 27 (by omega) (by omega)).trans v3⟩, v4⟩
    exact m_sortOf (c := (nd, cx.length, tb.1.length)) hlv w2 w3 hns hb1 (by rw [e2]; exact w5) (by rw [e2]; exact w6) hQ
  have pl : ∀ (i p : Nat) (st1 : MSt), s1.2.2.1[i]? = some p → st1.2 = st.2 → (∀ k, k ≠ 72 → k ≠ 73 → st1.1 k = st.1 k) → inr (fI st1 (80 + i)) 140000 ∧ aI st1 31 (fI st1 (80 + i)) = iI (p : Int) := fun i p st1 hp e2 e1 => by
    obtain ⟨xn, w1, w2, w3, w4, w5, w6⟩ := nm i p hp
    have f80 : fI st1 (80 + i) = iI (xn : Int) := (e1 _ (by omega) (by omega)).trans w4
    rw [f80]
    exact ⟨iI_in w2 (by omega), by rw [aI_n (by omega), e2]; exact w5⟩
  have W : ∀ (e : Nat) (v : Int), (mput 73 (iI v) (mput 72 (iI (e : Int)) st)).2 = st.2 ∧ (∀ k, k ≠ 72 → k ≠ 73 → (mput 73 (iI v) (mput 72 (iI (e : Int)) st)).1 k = st.1 k) := fun e v => ⟨rfl, fun k a b => by rw [mput_f, if_neg b, mput_f, if_neg a]⟩
  by_cases hc0 : cx.length = 0
  · have hT : ¬ cx.length ≠ 0 := fun q => q hc0
    refine tX5_tables ⟨fun _ => ?_, fun q => absurd (by rw [h27, hc0]; decide) q⟩
    obtain ⟨s11, s12, s13, s14⟩ := s1
    have hk : (s11 = 0 ∧ ∃ px, s13 = [px]) ∨ (s11 = 1 ∧ ∃ px py, s13 = [px, py]) ∨ (s11 = 2 ∧ ∃ px py pz, s13 = [px, py, pz]) := by
      have hk2' : s11 ≤ 2 := hk2
      rcases hg.1 with q | q | q | q | q | q
      · exact Or.inl q
      · exact Or.inr (Or.inl q)
      · exact Or.inr (Or.inr q)
      · exfalso; have : s11 = 3 := q.1; omega
      · exfalso; have : s11 = 4 ∨ s11 = 5 ∨ s11 = 6 := q.1; omega
      · exfalso; have : s11 = 7 := q.1; omega
    rcases hk with ⟨rfl, px, rfl⟩ | ⟨rfl, px, py, rfl⟩ | ⟨rfl, px, py, pz, rfl⟩
    · -- a sort
      have f76 : fI st 76 = 0 := i76
      have eT := hTab_0 (t := t) (tb := tb) (cx := cx) (p := s12) (x := px) (o := s14) hT
      refine so l' 0 px st _ (by omega) rfl rfl (fun _ _ _ => rfl) (onI_ret ⟨fun _ => ?_, fun q => absurd f76 q⟩)
      obtain ⟨v1, v2⟩ := pl 0 px st rfl rfl (fun _ _ _ => rfl)
      obtain ⟨xn, w1, w2, w3, w4, w5, w6⟩ := nm 0 px rfl
      cases hq : hSo tb (tname t px) with
      | some k =>
        rw [hq] at eT
        obtain ⟨l2, rfl⟩ : ∃ l2, l' = l2 + 1 := ⟨l' - 1, by omega⟩
        refine ⟨fun q => ?_, fun _ => ⟨v1, ?_⟩⟩
        · have := sfl hq
          have q' : iI (k : Int) < 0 := q
          rw [iI_z, iI_lt (by omega) (by omega) (by omega) (by omega)] at q'; omega
        · rw [v2]
          exact tX5_wrong ⟨fun _ => tX5_tables_78 ⟨fun q => absurd q (wr_Z (e := 4) (p := (px : Int)) hJ' (by omega) (by omega)).ne, fun _ => er _ 4 px eT wr_d (wr_Z (e := 4) (p := (px : Int)) hJ' (by omega) (by omega))⟩, fun q => absurd h72 q⟩
      | none =>
        rw [hq] at eT
        dsimp only at eT
        refine ⟨fun _ => ⟨fun q => ?_, fun q => ?_⟩, fun q => absurd (by decide) q⟩
        · rw [hTB.1.1, iI_eq (by omega) (by omega) (by omega) (by omega)] at q
          rw [if_pos (by omega)] at eT
          obtain ⟨l2, rfl⟩ : ∃ l2, l' = l2 + 1 := ⟨l' - 1, by omega⟩
          refine ⟨v1, ?_⟩
          rw [v2]
          exact tX5_wrong ⟨fun _ => tX5_tables_78 ⟨fun q => absurd q (wr_Z (e := 5) (p := (px : Int)) hJ' (by omega) (by omega)).ne, fun _ => er _ 5 px eT wr_d (wr_Z (e := 5) (p := (px : Int)) hJ' (by omega) (by omega))⟩, fun q => absurd h72 q⟩
        · have hlt : tb.1.length < 8 := by
            rcases Nat.lt_or_ge tb.1.length 8 with w | w
            · exact w
            · exfalso; apply q; rw [hTB.1.1, show tb.1.length = 8 by omega]; rfl
          rw [if_neg (by omega)] at eT
          have htx := hb.2.2.2.2.1 px
          refine tX5_tables_78 ⟨fun _ => ?_, fun q => absurd h72 q⟩
          refine m_tcopy (nn := xn) (p := px) (bs := tname t px) (ns := tb.1.length) w2 w3 w4 w5 w6 htx.1 htx.2 hTB.1.1 hlt (by omega) (fun st' u1 u2 u3 u4 u5 u6 u7 u8 u9 u10 u11 => ?_) (tname t px).length 0 st (Nat.zero_add _) rfl (fun _ _ _ => rfl) (fun _ _ _ _ => rfl) (fun j b hj => by omega)
          have el : (tb.1 ++ [tname t px]).length = tb.1.length + 1 := by simp
          have gl : ∀ s, s < tb.1.length → (tb.1 ++ [tname t px]).getD s [] = tb.1.getD s [] := fun s hs => by rw [List.getD_eq_getElem?_getD, List.getElem?_append_left hs, ← List.getD_eq_getElem?_getD]
          have gr : (tb.1 ++ [tname t px]).getD tb.1.length [] = tname t px := by rw [List.getD_eq_getElem?_getD, List.getElem?_append_right (Nat.le_refl _), Nat.sub_self]; rfl
          obtain ⟨⟨T1, T2⟩, T3, T4, T5, T6, T7, T8, T9⟩ := hTB
          have hnew : ∀ i, i < tb.1.length → tb.1.getD i [] ≠ tname t px := fun i hi q => by
            exact firstN_none hq i (Nat.zero_le _) (by omega) q
          refine ok st' (tb.1 ++ [tname t px], tb.2) eT hc0 u1 ⟨⟨by rw [u2, el], by show (tb.1 ++ [tname t px]).length ≤ 8; omega⟩, fun s hs => ?_, fun k hk => ?_, fun a b ha hb' => ?_, fun s hs => ?_, fun s b hs hbb => ?_, fun i j hi hj hij => ?_, fun k hk => ?_⟩
          · replace hs : s < (tb.1 ++ [tname t px]).length := hs
            show mNa st' 16 17 s ((tb.1 ++ [tname t px]).getD s [])
            by_cases hsn : s = tb.1.length
            · subst hsn; rw [gr]; exact u3
            · have hs' : s < tb.1.length := by omega
              rw [gl s hs']
              obtain ⟨y1, y2, y3⟩ := T3 s hs'
              exact ⟨(u5 s hsn).trans y1, y2, fun j c' hj => by
                have hjl : j < 12 := by
                  rcases Nat.lt_or_ge j (tb.1.getD s []).length with w | w
                  · omega
                  · rw [List.getElem?_eq_none w] at hj; cases hj
                exact (u4 s j hsn hjl).trans (y3 j c' hj)⟩
          · show st'.2 18 k = iI (tb.2.1 k) ∧ -1 ≤ tb.2.1 k ∧ tb.2.1 k < (((tb.1 ++ [tname t px]).length : Nat) : Int)
            obtain ⟨y1, y2, y3⟩ := T4 k hk
            by_cases hkn : k = tb.1.length
            · subst hkn
              have := T9 tb.1.length (Nat.le_refl _)
              rw [u7, this]; exact ⟨rfl, by omega, by omega⟩
            · exact ⟨(u6 k hkn).trans y1, y2, by omega⟩
          · show st'.2 19 (8 * a + b) = iI (tb.2.2 a b) ∧ -1 ≤ tb.2.2 a b ∧ tb.2.2 a b < (((tb.1 ++ [tname t px]).length : Nat) : Int)
            obtain ⟨y1, y2, y3⟩ := T5 a b ha hb'
            exact ⟨(u8 _).trans y1, y2, by omega⟩
          · replace hs : s < (tb.1 ++ [tname t px]).length := hs
            by_cases hsn : s = tb.1.length
            · subst hsn; exact ⟨u10, u11⟩
            · obtain ⟨y1, y2⟩ := T6 s (by omega)
              exact ⟨(u9 30 s (Or.inl rfl) hsn).trans y1, (u9 31 s (Or.inr rfl) hsn).trans y2⟩
          · replace hs : s < (tb.1 ++ [tname t px]).length := hs
            replace hbb : b ∈ (tb.1 ++ [tname t px]).getD s [] := hbb
            by_cases hsn : s = tb.1.length
            · subst hsn; rw [gr] at hbb
              obtain ⟨i, hi⟩ := List.getElem?_of_mem hbb
              exact (htx.2 i b hi).2.1
            · rw [gl s (by omega)] at hbb; exact T7 s b (by omega) hbb
          · replace hi : i < (tb.1 ++ [tname t px]).length := hi
            replace hj : j < (tb.1 ++ [tname t px]).length := hj
            replace hij : (tb.1 ++ [tname t px]).getD i [] = (tb.1 ++ [tname t px]).getD j [] := hij
            by_cases hin : i = tb.1.length
            · by_cases hjn : j = tb.1.length
              · omega
              · rw [hin, gr, gl j (by omega)] at hij; exact absurd hij.symm (hnew j (by omega))
            · by_cases hjn : j = tb.1.length
              · rw [hjn, gr, gl i (by omega)] at hij; exact absurd hij (hnew i (by omega))
              · rw [gl i (by omega), gl j (by omega)] at hij; exact T8 i j (by omega) (by omega) hij
          · replace hk : (tb.1 ++ [tname t px]).length ≤ k := hk
            exact T9 k (by omega)
    · -- an axiom
      have f76 : fI st 76 = iI 1 := i76
      have eT := hTab_1 (t := t) (tb := tb) (cx := cx) (p := s12) (x := px) (y := py) (o := s14) hT
      obtain ⟨l2, rfl⟩ : ∃ l2, l' = l2 + 1 := ⟨l' - 1, by omega⟩
      have bad : ∀ (e : Nat) (pp : Nat) (y1 y2 : Int32), 0 < e ∧ e < 100 → hTab t tb cx (1, s12, [px, py], s14) = .error (e, (pp : Int)) → jX5_tables_244 P s0 l XX (l2 + 1) st Q y1 y2 (mput 73 (iI (pp : Int)) (mput 72 (iI (e : Int)) st)) := fun e pp y1 y2 he hE => by
        have Z := wr_Z (e := e) (p := (pp : Int)) hJ' he (by omega)
        have g76 : fI (mput 73 (iI (pp : Int)) (mput 72 (iI (e : Int)) st)) 76 = iI 1 := ((W e pp).2 76 (by omega) (by omega)).trans f76
        exact tX5_tables_244 ⟨fun _ => ⟨fun q => absurd q Z.ne, fun _ => tX5_tables_282 ⟨fun q => absurd q Z.ne, fun _ => er _ e pp hE wr_d Z⟩⟩, fun q => absurd g76 q⟩
      refine so (l2 + 1) 0 px st _ (by omega) rfl rfl (fun _ _ _ => rfl) (onI_ret ⟨fun q => ?_, fun _ => ?_⟩)
      · rw [f76] at q; exact absurd q (by decide)
      obtain ⟨v1, v2⟩ := pl 0 px st rfl rfl (fun _ _ _ => rfl)
      cases hq : hSo tb (tname t px) with
      | none =>
        rw [hq] at eT
        dsimp only at eT
        refine ⟨fun q => absurd q (by decide), fun _ => ⟨v1, ?_⟩⟩
        rw [v2]
        refine tX5_wrong ⟨fun _ => ?_, fun q => absurd h72 q⟩
        refine tX5_tables_217 (so (l2 + 1) 1 py _ _ (by omega) rfl (W 3 px).1 (W 3 px).2 (onI_ret ⟨fun _ => bad 3 px _ _ (by omega) eT, fun _ => ?_⟩))
        obtain ⟨w1, w2⟩ := pl 1 py _ rfl (W 3 px).1 (W 3 px).2
        refine ⟨w1, tX5_wrong ⟨fun q => absurd q (wr_Z (e := 3) (p := (px : Int)) hJ' (by omega) (by omega)).ne, fun _ => bad 3 px _ _ (by omega) eT⟩⟩
      | some ka =>
        rw [hq] at eT
        dsimp only at eT
        have ha := sfl hq
        refine ⟨fun _ => ?_, fun q => absurd (by show (0 : Int32) ≤ iI (ka : Int); rw [iI_z, iI_le (by omega) (by omega) (by omega) (by omega)]; omega) q⟩
        refine tX5_tables_217 (so (l2 + 1) 1 py st _ (by omega) rfl rfl (fun _ _ _ => rfl) (onI_ret ?_))
        obtain ⟨w1, w2⟩ := pl 1 py st rfl rfl (fun _ _ _ => rfl)
        cases hq2 : hSo tb (tname t py) with
        | none =>
          rw [hq2] at eT
          dsimp only at eT
          refine ⟨fun q => absurd q (by decide), fun _ => ⟨w1, ?_⟩⟩
          rw [w2]
          exact tX5_wrong ⟨fun _ => bad 3 py _ _ (by omega) eT, fun q => absurd h72 q⟩
        | some kb =>
          rw [hq2] at eT
          dsimp only at eT
          have hb2 := sfl hq2
          refine ⟨fun _ => ?_, fun q => absurd (by show (0 : Int32) ≤ iI (kb : Int); rw [iI_z, iI_le (by omega) (by omega) (by omega) (by omega)]; omega) q⟩
          obtain ⟨⟨T1, T2⟩, T3, T4, T5, T6, T7, T8, T9⟩ := hTB
          obtain ⟨y1, y2, y3⟩ := T4 ka (by omega)
          have ia : inr (iI (ka : Int)) 8 := iI_in (by omega) (by omega)
          have a18 : aI st 18 (iI (ka : Int)) = iI (tb.2.1 ka) := by rw [aI_n (by omega)]; exact y1
          refine tX5_tables_244 ⟨fun _ => ⟨fun _ => ⟨ia, fun q => ?_, fun q => ?_⟩, fun q => absurd h72 q⟩, fun q => absurd f76 q⟩
          · replace q : aI st 18 (iI (ka : Int)) < 0 := q
            rw [a18, iI_z, iI_lt (by omega) (by omega) (by omega) (by omega)] at q
            have q' : tb.2.1 ka = -1 := by omega
            rw [if_pos q'] at eT
            refine tX5_tables_282 ⟨fun _ => ⟨ia, ?_⟩, fun q => absurd h72 q⟩
            refine ok (mst 18 (iI (ka : Int)) (iI (kb : Int)) st) _ eT hc0 ⟨fun _ _ => rfl, fun k j a b => by rw [mst_a (by omega), if_neg (by omega)]⟩ ⟨⟨T1, T2⟩, fun s hs => ?_, fun k hk => ?_, fun a b ha hb' => ?_, fun s hs => ?_, T7, T8, fun k hk => ?_⟩
            · obtain ⟨z1, z2, z3⟩ := T3 s hs
              exact ⟨by rw [mst_a (by omega), if_neg (by omega)]; exact z1, z2, fun j c' hj => by rw [mst_a (by omega), if_neg (by omega)]; exact z3 j c' hj⟩
            · show (mst 18 (iI (ka : Int)) (iI (kb : Int)) st).2 18 k = iI (if k = ka then (kb : Int) else tb.2.1 k) ∧ -1 ≤ (if k = ka then (kb : Int) else tb.2.1 k) ∧ (if k = ka then (kb : Int) else tb.2.1 k) < (tb.1.length : Int)
              rw [mst_a (by omega)]
              by_cases hka : k = ka
              · rw [if_pos ⟨rfl, hka⟩, if_pos hka]; exact ⟨rfl, by omega, by omega⟩
              · rw [if_neg (fun q => hka q.2), if_neg hka]; exact T4 k hk
            · rw [mst_a (by omega), if_neg (by omega)]; exact T5 a b ha hb'
            · obtain ⟨z1, z2⟩ := T6 s hs
              exact ⟨by rw [mst_a (by omega), if_neg (by omega)]; exact z1, by rw [mst_a (by omega), if_neg (by omega)]; exact z2⟩
            · show (if k = ka then (kb : Int) else tb.2.1 k) = -1
              have hk' : tb.1.length ≤ k := hk
              rw [if_neg (by omega)]; exact T9 k hk'
          · replace q : ¬ aI st 18 (iI (ka : Int)) < 0 := q
            rw [a18, iI_z, iI_lt (by omega) (by omega) (by omega) (by omega)] at q
            rw [if_neg (by omega)] at eT
            refine ⟨v1, ?_⟩
            rw [v2]
            have Z := wr_Z (e := 4) (p := (px : Int)) hJ' (by omega) (by omega)
            exact tX5_wrong ⟨fun _ => tX5_tables_282 ⟨fun q => absurd q Z.ne, fun _ => er _ 4 px eT wr_d Z⟩, fun q => absurd h72 q⟩
    · -- a rule
      have f76 : fI st 76 = iI 2 := i76
      have eT := hTab_2 (t := t) (tb := tb) (cx := cx) (p := s12) (x := px) (y := py) (z := pz) (o := s14) hT
      obtain ⟨l2, rfl⟩ : ∃ l2, l' = l2 + 1 := ⟨l' - 1, by omega⟩
      have bad3 : ∀ (e : Nat) (pp : Nat) (y1 y2 y3 : Int32), 0 < e ∧ e < 100 → hTab t tb cx (2, s12, [px, py, pz], s14) = .error (e, (pp : Int)) → jX5_tables_324 P s0 l XX (l2 + 1) st Q y1 y2 y3 (mput 73 (iI (pp : Int)) (mput 72 (iI (e : Int)) st)) := fun e pp y1 y2 y3 he hE => by
        have Z := wr_Z (e := e) (p := (pp : Int)) hJ' he (by omega)
        exact tX5_tables_324 ⟨fun q => absurd q Z.ne, fun _ => tX5_tables_359 ⟨fun q => absurd q Z.ne, fun _ => er _ e pp hE wr_d Z⟩⟩
      have bad : ∀ (e : Nat) (pp : Nat) (y1 y2 : Int32), 0 < e ∧ e < 100 → hTab t tb cx (2, s12, [px, py, pz], s14) = .error (e, (pp : Int)) → jX5_tables_244 P s0 l XX (l2 + 1) st Q y1 y2 (mput 73 (iI (pp : Int)) (mput 72 (iI (e : Int)) st)) := fun e pp y1 y2 he hE => by
        have Z := wr_Z (e := e) (p := (pp : Int)) hJ' he (by omega)
        have g76 : fI (mput 73 (iI (pp : Int)) (mput 72 (iI (e : Int)) st)) 76 = iI 2 := ((W e pp).2 76 (by omega) (by omega)).trans f76
        refine tX5_tables_244 ⟨fun q => absurd q (by rw [g76]; decide), fun _ => so (l2 + 1) 2 pz _ _ (by omega) rfl (W e pp).1 (W e pp).2 (onI_ret ⟨fun _ => bad3 e pp _ _ _ he hE, fun _ => ?_⟩)⟩
        obtain ⟨w1, w2⟩ := pl 2 pz _ rfl (W e pp).1 (W e pp).2
        exact ⟨w1, tX5_wrong ⟨fun q => absurd q Z.ne, fun _ => bad3 e pp _ _ _ he hE⟩⟩
      refine so (l2 + 1) 0 px st _ (by omega) rfl rfl (fun _ _ _ => rfl) (onI_ret ⟨fun q => ?_, fun _ => ?_⟩)
      · rw [f76] at q; exact absurd q (by decide)
      obtain ⟨v1, v2⟩ := pl 0 px st rfl rfl (fun _ _ _ => rfl)
      cases hq : hSo tb (tname t px) with
      | none =>
        rw [hq] at eT
        dsimp only at eT
        refine ⟨fun q => absurd q (by decide), fun _ => ⟨v1, ?_⟩⟩
        rw [v2]
        refine tX5_wrong ⟨fun _ => ?_, fun q => absurd h72 q⟩
        refine tX5_tables_217 (so (l2 + 1) 1 py _ _ (by omega) rfl (W 3 px).1 (W 3 px).2 (onI_ret ⟨fun _ => bad 3 px _ _ (by omega) eT, fun _ => ?_⟩))
        obtain ⟨w1, w2⟩ := pl 1 py _ rfl (W 3 px).1 (W 3 px).2
        refine ⟨w1, tX5_wrong ⟨fun q => absurd q (wr_Z (e := 3) (p := (px : Int)) hJ' (by omega) (by omega)).ne, fun _ => bad 3 px _ _ (by omega) eT⟩⟩
      | some ka =>
        rw [hq] at eT
        dsimp only at eT
        have ha := sfl hq
        refine ⟨fun _ => ?_, fun q => absurd (by show (0 : Int32) ≤ iI (ka : Int); rw [iI_z, iI_le (by omega) (by omega) (by omega) (by omega)]; omega) q⟩
        refine tX5_tables_217 (so (l2 + 1) 1 py st _ (by omega) rfl rfl (fun _ _ _ => rfl) (onI_ret ?_))
        obtain ⟨w1, w2⟩ := pl 1 py st rfl rfl (fun _ _ _ => rfl)
        cases hq2 : hSo tb (tname t py) with
        | none =>
          rw [hq2] at eT
          dsimp only at eT
          refine ⟨fun q => absurd q (by decide), fun _ => ⟨w1, ?_⟩⟩
          rw [w2]
          exact tX5_wrong ⟨fun _ => bad 3 py _ _ (by omega) eT, fun q => absurd h72 q⟩
        | some kb =>
          rw [hq2] at eT
          dsimp only at eT
          have hb2 := sfl hq2
          refine ⟨fun _ => ?_, fun q => absurd (by show (0 : Int32) ≤ iI (kb : Int); rw [iI_z, iI_le (by omega) (by omega) (by omega) (by omega)]; omega) q⟩
          refine tX5_tables_244 ⟨fun q => absurd q (by rw [f76]; decide), fun _ => so (l2 + 1) 2 pz st _ (by omega) rfl rfl (fun _ _ _ => rfl) (onI_ret ?_)⟩
          obtain ⟨z1, z2⟩ := pl 2 pz st rfl rfl (fun _ _ _ => rfl)
          cases hq3 : hSo tb (tname t pz) with
          | none =>
            rw [hq3] at eT
            dsimp only at eT
            refine ⟨fun q => absurd q (by decide), fun _ => ⟨z1, ?_⟩⟩
            rw [z2]
            exact tX5_wrong ⟨fun _ => bad3 3 pz _ _ _ (by omega) eT, fun q => absurd h72 q⟩
          | some kc =>
            rw [hq3] at eT
            dsimp only at eT
            have hc3 := sfl hq3
            refine ⟨fun _ => ?_, fun q => absurd (by show (0 : Int32) ≤ iI (kc : Int); rw [iI_z, iI_le (by omega) (by omega) (by omega) (by omega)]; omega) q⟩
            obtain ⟨⟨T1, T2⟩, T3, T4, T5, T6, T7, T8, T9⟩ := hTB
            obtain ⟨y1, y2, y3⟩ := T5 ka kb (by omega) (by omega)
            have eI : iI 8 * iI (ka : Int) + iI (kb : Int) = iI ((8 * ka + kb : Nat) : Int) := by rw [iI_mul, iI_add]; congr 1
            have ia : inr (iI 8 * iI (ka : Int) + iI (kb : Int)) 64 := by rw [eI]; exact iI_in (by omega) (by omega)
            have a19 : aI st 19 (iI 8 * iI (ka : Int) + iI (kb : Int)) = iI (tb.2.2 ka kb) := by rw [eI, aI_n (by omega)]; exact y1
            refine tX5_tables_324 ⟨fun _ => ⟨ia, fun q => ?_, fun q => ?_⟩, fun q => absurd h72 q⟩
            · replace q : aI st 19 (iI 8 * iI (ka : Int) + iI (kb : Int)) < 0 := q
              rw [a19, iI_z, iI_lt (by omega) (by omega) (by omega) (by omega)] at q
              have q' : tb.2.2 ka kb = -1 := by omega
              rw [if_pos q'] at eT
              refine tX5_tables_359 ⟨fun _ => ⟨ia, ?_⟩, fun q => absurd h72 q⟩
              show Q _ (mst 19 (iI 8 * iI (ka : Int) + iI (kb : Int)) (iI (kc : Int)) st)
              rw [eI]
              refine ok (mst 19 (iI ((8 * ka + kb : Nat) : Int)) (iI (kc : Int)) st) _ eT hc0 ⟨fun _ _ => rfl, fun k j a b => by rw [mst_a (by omega), if_neg (by omega)]⟩ ⟨⟨T1, T2⟩, fun s hs => ?_, fun k hk => ?_, fun a b ha' hb' => ?_, fun s hs => ?_, T7, T8, T9⟩
              · obtain ⟨z1, z2, z3⟩ := T3 s hs
                exact ⟨by rw [mst_a (by omega), if_neg (by omega)]; exact z1, z2, fun j c' hj => by rw [mst_a (by omega), if_neg (by omega)]; exact z3 j c' hj⟩
              · rw [mst_a (by omega), if_neg (by omega)]; exact T4 k hk
              · show (mst 19 (iI ((8 * ka + kb : Nat) : Int)) (iI (kc : Int)) st).2 19 (8 * a + b) = iI (if a = ka ∧ b = kb then (kc : Int) else tb.2.2 a b) ∧ -1 ≤ (if a = ka ∧ b = kb then (kc : Int) else tb.2.2 a b) ∧ (if a = ka ∧ b = kb then (kc : Int) else tb.2.2 a b) < (tb.1.length : Int)
                rw [mst_a (by omega)]
                by_cases hab : a = ka ∧ b = kb
                · rw [if_pos ⟨rfl, by omega⟩, if_pos hab]; exact ⟨rfl, by omega, by omega⟩
                · rw [if_neg (fun q => hab (by omega)), if_neg hab]; exact T5 a b ha' hb'
              · obtain ⟨z1, z2⟩ := T6 s hs
                exact ⟨by rw [mst_a (by omega), if_neg (by omega)]; exact z1, by rw [mst_a (by omega), if_neg (by omega)]; exact z2⟩
            · replace q : ¬ aI st 19 (iI 8 * iI (ka : Int) + iI (kb : Int)) < 0 := q
              rw [a19, iI_z, iI_lt (by omega) (by omega) (by omega) (by omega)] at q
              rw [if_neg (by omega)] at eT
              refine ⟨v1, ?_⟩
              rw [v2]
              have Z := wr_Z (e := 4) (p := (px : Int)) hJ' (by omega) (by omega)
              exact tX5_wrong ⟨fun _ => tX5_tables_359 ⟨fun q => absurd q Z.ne, fun _ => er _ 4 px eT wr_d Z⟩, fun q => absurd h72 q⟩
  · obtain ⟨l2, rfl⟩ : ∃ l2, l' = l2 + 1 := ⟨l' - 1, by omega⟩
    refine tX5_tables ⟨fun q => ?_, fun _ => ?_⟩
    · rw [h27, iI_z, iI_le (by omega) (by omega) (by omega) (by omega)] at q; omega
    · rw [i77]
      exact tX5_wrong ⟨fun _ => er _ 6 s1.2.1 (hTab_late hc0) wr_d (wr_Z (e := 6) (p := (s1.2.1 : Int)) hJ' (by omega) (by omega)), fun q => absurd h72 q⟩
end MHF
