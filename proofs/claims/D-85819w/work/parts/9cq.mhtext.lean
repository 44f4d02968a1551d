/-! THE HOUSE OVER S, M (17): a text -/
/-- the fault that a text leaves -/
def ftR (r : Option (Nat × Int)) (d : Nat) : Nat × Int × Nat := match r with
  | none => (0, -1, d)
  | some e => (e.1, e.2, d)
section MHQ
variable {P : MPl} {s0 : State} {l : Launch} {XX : Prop} {lev : Nat} {Q : Outcome → MSt → Prop} {st st' st'' st0 : MSt} {X X' : SX} {J : JX} {K K' : KS} {nd nd' ce ce' wa x y lo hi ns ch z o nn nd0 p nk lim u n : Nat} {t : TX} {tb tb' : HT} {cx cx' : List CN} {x1 x2 : Int32} {kn kn' : Nat → Nat} {cn : CN} {s1 : ST} {H : HO}
theorem mHk.mv {H' : HO} (h : mHk st H) (h1 : st'.1 29 = st.1 29) (h2 : ∀ j, st'.2 28 j = st.2 28 j) (hm : H'.mk = H.mk) (hc : H.cx.length ≤ H'.cx.length) : mHk st' H' := by
  obtain ⟨d1, d2, d3, d4⟩ := h
  unfold mHk
  rw [hm]
  exact ⟨(show fI st' 29 = fI st 29 from h1).trans d1, d2, fun i m q => ⟨(h2 i).trans (d3 i m q).1, by have := (d3 i m q).2; omega⟩, d4⟩
theorem sDo_len {s : ST} {K K' : KS} (h : sDo lim t tb cx s K = (K', .ok (tb', cx'))) : cx.length ≤ cx'.length := by
  unfold sDo at h
  split at h
  · split at h
    · cases h
    · cases h; exact Nat.le_refl _
  · split at h
    · generalize hr : hTells t (hX lim tb cx) (hJ t tb cx) cx (s.2.2.1.headD 0) s.2.2.2.1 s.2.2.2.2 K = r at h
      obtain ⟨K6, r⟩ := r
      cases r with
      | error e => cases h
      | ok c =>
        cases h
        unfold hTells at hr
        split at hr
        · cases hr
        · split at hr
          · cases hr
          · generalize hTell (hX lim tb cx) (hJ t tb cx) (tname t (s.2.2.1.headD 0)) s.2.2.2.1 s.2.2.2.2 K = r2 at hr
            obtain ⟨K7, r2⟩ := r2
            cases r2 with
            | error e => cases hr
            | ok c => cases hr; simp
    · generalize hAsk (hX lim tb cx) (hJ t tb cx) s.1 s.2.2.2.1 s.2.2.2.2 K = r at h
      obtain ⟨K6, r⟩ := r
      cases r with
      | error e => cases h
      | ok c => cases h; exact Nat.le_refl _
theorem sRuns_len : ∀ {ls : List ST} {tb tb' : HT} {cx cx' : List CN} {K K' : KS} {d d' : Nat} {r}, sRuns lim t ls tb cx K d = (tb', cx', K', d', r) → cx.length ≤ cx'.length := by
  intro ls
  induction ls with
  | nil => intro tb tb' cx cx' K K' d d' r h; rw [sRuns] at h; cases h; exact Nat.le_refl _
  | cons s ls ih =>
    intro tb tb' cx cx' K K' d d' r h
    rw [sRuns] at h
    generalize hs : sDo lim t tb cx s (kBeg K) = q at h
    obtain ⟨K6, q⟩ := q
    cases q with
    | ok a => obtain ⟨tb2, cx2⟩ := a; have := ih h; have := sDo_len hs; omega
    | error e => obtain ⟨e, p⟩ := e; cases h; exact Nat.le_refl _
/-- a text is read and done -/
theorem m_text (hW : IW P s0 l XX) (hl : 570 ≤ lev) (hlife : H.K.life ≤ 60000) (h : MH st H kn u)
    (bad : ¬ (0 ≤ x1.toInt ∧ x1.toInt ≤ H.tp.2) → ∀ st', MH st' H kn u → fI st' 1 = iI 1 → Q (.returned (some (.int (iI 0)))) st')
    (ok : ∀ (m : Nat) st' kn', x1 = iI (m : Int) → m ≤ H.tp.2 → MH st' (oText m H) kn' (u - m) → fI st' 1 = iI 0 → Q (.returned (some (.int (iI ((oText m H).ft.1 : Int))))) st') : CQ (wM P s0 l XX) mX5_text lev (.ref P.mo :: [.int x1]) st Q := by
  obtain ⟨l', rfl⟩ : ∃ l', lev = l' + 1 := ⟨lev - 1, by omega⟩
  have h0 := h
  obtain ⟨⟨a1, a2, a3, a4⟩, ⟨b1, b2, b3⟩, c, d, ⟨e1, e2⟩, f1, f2⟩ := h0
  have ex := iI_of x1
  obtain ⟨b32, c32⟩ := x_rg x1
  have t17 : ¬ (0 ≤ x1.toInt ∧ x1.toInt ≤ H.tp.2) → jX5_text_17 P s0 l XX l' st Q x1 (mput 1 (iI 0) st) := fun hb => tX5_text_17 (m_fail (by omega) (h.pt (by omega)) (fun st' k1 k2 => onI_ret (bad hb st' k1 k2)))
  refine tX5_text ⟨fun q => t17 (fun w => ?_), fun q1 => ⟨fun q2 => ?_, fun q => t17 (fun w => ?_)⟩⟩
  · rw [ex, iI_z, iI_lt (by omega) (by omega) (by omega) (by omega)] at q; omega
  · have hx0 : 0 ≤ x1.toInt := by
      rw [ex, iI_z, iI_lt (by omega) (by omega) (by omega) (by omega)] at q1; omega
    have hx1 : x1.toInt ≤ H.tp.2 := by
      rw [a1, ex, iI_le (by omega) (by omega) (by omega) (by omega)] at q2; omega
    obtain ⟨m, hm⟩ : ∃ m : Nat, x1.toInt = (m : Int) := ⟨x1.toInt.toNat, by omega⟩
    rw [hm] at ex hx1
    subst ex
    have hmt : m ≤ H.tp.2 := by omega
    refine m_tcop (st0 := mput 1 (iI 0) st) (n := m) (by omega) (fun s2 i1 i2 i3 => ?_) m 0 _ (by omega) rfl (fun _ _ _ => rfl) (fun j hj => by omega)
    refine tX5_text_25 ⟨fun _ => ?_, fun q => absurd (by rw [iI_le (by omega) (by omega) (by omega) (by omega)]; omega) q⟩
    generalize hS : mput 14 (iI 0) (mput 72 (iI 0) (mput 75 (iI 0) (mput 3 (iI 0) (mput 5 (iI (m : Int)) s2)))) = s3
    have F : ∀ k, s3.1 k = if k = 14 ∨ k = 72 ∨ k = 75 ∨ k = 3 then iI 0 else if k = 5 then iI (m : Int) else if k = 1 then iI 0 else st.1 k := fun k => by
      rw [← hS]
      simp only [mput_f, i1]
      by_cases q : k = 14 ∨ k = 72 ∨ k = 75 ∨ k = 3
      · rw [if_pos q]; rcases q with w | w | w | w <;> subst w <;> rfl
      · rw [if_neg q]
        simp only [not_or] at q
        rw [if_neg q.1, if_neg q.2.1, if_neg q.2.2.1, if_neg q.2.2.2]
    have A : s3.2 = s2.2 := by rw [← hS]; rfl
    clear hS
    have FF : ∀ k, ¬ (k = 14 ∨ k = 72 ∨ k = 75 ∨ k = 3) → k ≠ 5 → k ≠ 1 → fI s3 k = fI st k := fun k q1 q2 q3 => by show s3.1 k = _; rw [F, if_neg q1, if_neg q2, if_neg q3]
    have F0 : ∀ k, (k = 14 ∨ k = 72 ∨ k = 75 ∨ k = 3) → fI s3 k = iI 0 := fun k q => by show s3.1 k = _; rw [F, if_pos q]
    have F1 : fI s3 1 = iI 0 := by show s3.1 1 = _; rw [F, if_neg (by omega), if_neg (by omega), if_pos rfl]
    have AA : ∀ k j, k ≠ 4 → s3.2 k j = st.2 k j := fun k j q => by rw [A, i2 k j q]; rfl
    have hx : mTx (H.tp.1, m) s3 := ⟨by show s3.1 5 = _; rw [F, if_neg (by omega), if_pos rfl], by show m ≤ 4000; omega, fun j hj => by
      have hj' : j < m := hj
      rw [A, i3 j hj']; exact a4 j (by omega)⟩
    have hb : ∀ j, j < ((H.tp.1, m) : TX).2 → ((H.tp.1, m) : TX).1 j < 256 := fun j hj => (a4 j (by have : j < m := hj; omega)).2
    obtain ⟨c1, c2, c3, c4, ⟨⟨g1, g2, g3, g4⟩, g5, g6⟩, c6⟩ := c
    have hc3 : mHc s3 H.lim H.tb H.cx kn (kOut0 H.K) := ⟨c1.mv (FF 20 (by omega) (by omega) (by omega)) (fun k j _ _ => AA k j (by omega)) (fun k j _ _ _ => AA k j (by omega)), c2.mv (fun k j _ _ _ _ => AA k j (by omega)) (fun k j _ _ _ _ => AA k j (by omega)), (FF 27 (by omega) (by omega) (by omega)).trans c3, (FF 39 (by omega) (by omega) (by omega)).trans c4, ⟨⟨(FF 63 (by omega) (by omega) (by omega)).trans g1, (FF 64 (by omega) (by omega) (by omega)).trans g2, (FF 65 (by omega) (by omega) (by omega)).trans g3, fun j hj => (FF (66 + j) (by omega) (by omega) (by omega)).trans (g4 j hj)⟩, F0 75 (by omega), fun j _ q => absurd q (Nat.not_lt_zero _)⟩, c6⟩
    -- the end
    have fin : ∀ (s6 : MSt) (H' : HO) (kn' : Nat → Nat) (x2 : Int32), H'.tp = (H.tp.1, 0) → H'.lim = H.lim → H'.mk = H.mk → H.cx.length ≤ H'.cx.length → oText m H = H' → lfr s3 s6 → fI s6 15 = iI 0 → mHc s6 H.lim H'.tb H'.cx kn' H'.K → fI s6 14 = iI (H'.ft.2.2 : Int) → fI s6 72 = iI (H'.ft.1 : Int) → (H'.ft.1 = 0 → H'.ft.2.1 = -1) → (H'.ft.1 ≠ 0 → fI s6 73 = iI H'.ft.2.1 ∧ H'.ft.1 < 100) → kT kn' H'.cx.length + 2 * (60000 - H'.K.life) + (203 + 4 * (u - m)) ≤ 140000 → H'.K.outs < 2000000000 → fI s6 1 = iI 0 → jX5_text_159 P s0 l XX l' st Q (iI (m : Int)) x2 s6 := by
      intro s6 H' kn' x2 v1 v2 v3 v4 v5 v6 v7 v8 v9 v10 v11 v12 v13 v14 v15
      have key : ∀ w : Int32, w = iI H'.ft.2.1 → Q (.returned (some (.int (fI s6 72)))) (mput 72 (iI 0) (mput 13 w (mput 12 (fI s6 72) s6))) := fun w hw => by
        have E : ∀ k, k ≠ 72 → k ≠ 13 → k ≠ 12 → fI (mput 72 (iI 0) (mput 13 w (mput 12 (fI s6 72) s6))) k = fI s6 k := fun k q1 q2 q3 => by rw [fI_put q1, fI_put q2, fI_put q3]
        have hMH : MH (mput 72 (iI 0) (mput 13 w (mput 12 (fI s6 72) s6))) H' kn' (u - m) := by
          refine ⟨⟨?_, by rw [v1]; exact Nat.zero_le _, by omega, fun j hj => by rw [v1] at hj; exact absurd hj (Nat.not_lt_zero _)⟩, ⟨?_, ?_, ?_⟩, ?_, ?_, ⟨?_, ?_⟩, v13, v14⟩
          · rw [E 3 (by omega) (by omega) (by omega), v1]; exact (v6.1 3 (by omega)).trans (F0 3 (by omega))
          · rw [fI_put (by omega), fI_put (by omega), fI_self]; exact v10
          · rw [fI_put (by omega), fI_self]; exact hw
          · rw [E 14 (by omega) (by omega) (by omega)]; exact v9
          · rw [v2]; exact v8.mv (fun j hj => E j (by omega) (by omega) (by omega)) (fun _ _ _ => rfl)
          · exact d.mv ((E 29 (by omega) (by omega) (by omega)).trans ((v6.1 29 (by omega)).trans (FF 29 (by omega) (by omega) (by omega)))) (fun j => (v6.2 28 j (by omega)).trans (AA 28 j (by omega))) v3 v4
          · rw [E 15 (by omega) (by omega) (by omega)]; exact v7
          · rw [fI_self]; rfl
        rw [v10]
        have := ok m _ kn' rfl hmt (v5 ▸ hMH) ((E 1 (by omega) (by omega) (by omega)).trans v15)
        rw [v5] at this
        rw [v10] at this
        exact this
      refine tX5_text_159 ⟨fun q => key _ ?_, fun q => key _ ?_⟩
      · by_cases w : H'.ft.1 = 0
        · rw [v11 w]
        · rw [v10, iI_z, iI_eq (by omega) (by omega) (by have := (v12 w).2; omega) (by have := (v12 w).2; omega)] at q; omega
      · by_cases w : H'.ft.1 = 0
        · exact absurd (by rw [v10, w]; rfl) q
        · exact (v12 w).1
    refine m_readAll hW (by omega) hx (F0 72 (by omega)) (fun t1 ls r1 r2 r3 r4 r5 r6 => onV_ret ⟨fun _ => ?_, fun q => absurd r3 q⟩) (fun t1 e p r1 r2 r3 r4 r5 => onV_ret ⟨fun q => absurd q r2.ne, fun q => ?_⟩)
    · have y5 : mTx (H.tp.1, m) (mput 6 (iI 0) (mput 15 (iI 1) t1)) := ⟨by rw [fI_put (by omega), fI_put (by omega)]; exact r2.1, r2.2.1, r2.2.2⟩
      refine m_nextG (a := 0) hW (by omega) y5 (by rw [fI_put (by omega), fI_put (by omega)]; exact r3) fI_self (Nat.zero_le _) (fun t3 n1 n2 n3 => onV_ret ?_) (fun t3 n1 _ _ => ?_)
      · have lf : lfr (mput 6 (iI 0) (mput 15 (iI 1) t1)) t3 := (n3.s (b := true) (nd := 0)).lf
        have f15 : fI t3 15 = iI 1 := (lf.1 15 (by omega)).trans (by show fI _ 15 = _; rw [fI_put (by omega), fI_self])
        have f3 : ∀ k, k ≠ 15 → (k < 6 ∨ (11 < k ∧ k ≠ 73 ∧ k ≠ 72 ∧ (k < 76 ∨ 82 < k))) → fI t3 k = fI s3 k := fun k q1 q2 => ((n3.1 k (by omega)).trans (by show fI _ k = _; rw [fI_put (by omega), fI_put q1])).trans (r5 k (by omega))
        have hA3 : t3.2 = s3.2 := by rw [n3.2]; exact r6
        have hc4 : mHc t3 H.lim H.tb H.cx kn (kOut0 H.K) := hc3.mv (fun j hj => f3 j (by omega) (by omega)) (fun k j _ => by rw [hA3])
        refine m_tloop (lim := H.lim) (t := (H.tp.1, m)) (o := 1) (y := 4 * (u - m)) hW (by omega) hb (by show m ≤ 2000; omega) (m + 1) (sGo (H.tp.1, m) 0) ls H.tb H.cx kn (kOut0 H.K) 0 t3 (by show m - _ < m + 1; omega) r1 (sGo_L (Nat.zero_le _) hb).1 n1 f15 hc4 hlife ((f3 14 (by omega) (by omega)).trans (F0 14 (by omega))) (by show _ + 2 * (60000 - H.K.life) + (203 + 4 * (m - _) + _) ≤ _; omega) (by show 0 + 100 * (60000 - H.K.life) + (1 + 60 * (m - _)) ≤ 2000000000; omega) (fun s5 tb' cx' kn' K' d' r z1 z2 z3 z4 z5 z6 z7 z8 z9 => ?_)
        refine tX5_text_154 ?_
        have eT : oText m H = ((H.tp.1, 0), ftR r d', H.lim, tb', cx', K', H.mk) := by
          unfold oText
          rw [r1]
          have z1' := z1
          dsimp only
          generalize sRuns H.lim (H.tp.1, m) ls H.tb H.cx (kOut0 H.K) 0 = q at z1' ⊢
          subst z1'
          cases r <;> rfl
        have lf5 : lfr s3 (mput 15 (iI 0) s5) := ⟨fun k hk => by
          by_cases w : k = 15
          · subst w
            rw [mput_f, if_pos rfl]
            exact ((FF 15 (by omega) (by omega) (by omega)).trans e1).symm
          · rw [mput_f, if_neg w]; exact (z2.1 k hk).trans (f3 k w (by omega)), fun k j hk => (z2.2 k j hk).trans (by rw [hA3])⟩
        have G15 : ∀ k, k ≠ 15 → fI (mput 15 (iI 0) s5) k = fI s5 k := fun k q => fI_put q
        refine fin _ ((H.tp.1, 0), ftR r d', H.lim, tb', cx', K', H.mk) kn' _ rfl rfl rfl (sRuns_len z1) eT lf5 fI_self (z3.mv (fun j hj => G15 j (by omega)) (fun _ _ _ => rfl)) ?_ ?_ ?_ ?_ (by show kT kn' cx'.length + 2 * (60000 - K'.life) + _ ≤ _; omega) (by have := z9; unfold OB at this; show K'.outs < _; omega) ((G15 1 (by omega)).trans ((z2.1 1 (by omega)).trans ((f3 1 (by omega) (by omega)).trans F1)))
        · rw [G15 14 (by omega)]
          cases r <;> exact z5
        · rw [G15 72 (by omega)]
          cases r with
          | none => exact z6 rfl
          | some e => obtain ⟨e, p⟩ := e; exact (z7 e p rfl).1
        · intro q
          cases r with
          | none => rfl
          | some e => obtain ⟨e, p⟩ := e; have : e = 0 := q; have := (z7 e p rfl).2.2.1; omega
        · intro q
          cases r with
          | none => exact absurd rfl q
          | some e => obtain ⟨e, p⟩ := e; exact ⟨(G15 73 (by omega)).trans (z7 e p rfl).2.1, (z7 e p rfl).2.2.2⟩
      · exfalso
        have := r1
        unfold sRead at this
        rw [rAll_3 n1] at this
        cases this
    · have eT : oText m H = ((H.tp.1, 0), (e, (p : Int), 0), H.lim, H.tb, H.cx, kOut0 H.K, H.mk) := by
        unfold oText
        rw [r1]
      have f3 : ∀ k, k ≠ 15 → (k < 6 ∨ (11 < k ∧ k ≠ 73 ∧ k ≠ 72 ∧ (k < 76 ∨ 82 < k))) → fI t1 k = fI s3 k := fun k q1 q2 => r4 k (by omega)
      have ep : e = 1 ∨ e = 2 := r2.2.2.2.2
      refine fin t1 ((H.tp.1, 0), (e, (p : Int), 0), H.lim, H.tb, H.cx, kOut0 H.K, H.mk) kn _ rfl rfl rfl (Nat.le_refl _) eT ⟨fun k hk => ?_, fun k j _ => by rw [r5]⟩ r3 (hc3.mv (fun j hj => f3 j (by omega) (by omega)) (fun k j _ => by rw [r5])) ((f3 14 (by omega) (by omega)).trans (F0 14 (by omega))) r2.2.2.1 (fun q => by have : e = 0 := q; omega) (fun _ => ⟨r2.2.2.2.1, by show e < 100; omega⟩) (by show kT kn H.cx.length + 2 * (60000 - H.K.life) + _ ≤ _; omega) (by show 0 < 2000000000; omega) ((f3 1 (by omega) (by omega)).trans F1)
      by_cases w : k = 15
      · subst w; exact r3.trans ((FF 15 (by omega) (by omega) (by omega)).trans e1).symm
      · exact f3 k w (by omega)
  · rw [a1, ex, iI_le (by omega) (by omega) (by omega) (by omega)] at q; omega
end MHQ
