/-! THE HOUSE OVER S, M (13): a statement is done -/
/-- what a statement leaves, its tables and its context beside -/
def dofr (st st' : MSt) : Prop := (∀ k, (k < 39 ∧ k ≠ 20 ∧ k ≠ 27) ∨ (39 < k ∧ k < 43) ∨ k = 63 ∨ 75 < k → st'.1 k = st.1 k) ∧ ∀ k j, k < 16 ∨ (26 < k ∧ k < 30) ∨ 74 < k → st'.2 k j = st.2 k j
section MHM
variable {P : MPl} {s0 : State} {l : Launch} {XX : Prop} {lev : Nat} {Q : Outcome → MSt → Prop} {st st' st'' st0 : MSt} {X X' : SX} {J : JX} {K K' : KS} {nd nd' ce ce' wa x y lo hi ns ch z o nn nd0 p nk a1 a2 b1 b2 n1 n2 kd lim : Nat} {c c' : MC} {t : TX} {tb tb' : HT} {cx cx' : List CN} {x1 x2 : Int32} {bs : List Nat} {kn kn' : Nat → Nat} {cn : CN} {E : Nat → Prop} {v vt u : V} {ty tm : Option V} {s1 : ST}
theorem m_asks (hl : 545 ≤ lev) (hkd : ((kd = 4 ∨ kd = 5 ∨ kd = 6) ∧ tm ≠ none) ∨ (kd = 7 ∧ ty ≠ none ∧ tm ≠ none)) (hG1 : oG ty) (hG2 : oG tm) (hb : nd0 ≤ b1 ∧ nd0 ≤ a1 ∧ nd0 ≤ c.nd ∧ b2 ≤ c.nd ∧ a2 ≤ c.nd ∧ a1 ≤ a2 ∧ b1 ≤ b2) (hab : a2 ≤ b1 ∨ b2 ≤ a1) (h8 : 8 ≤ nd0) (h : JM 0 0 (rwE a1 a2 b1 b2) c ce st X J (tname t) [] [] 0 0) (hz : ∀ k, k < c.nc → sw (J.ct k) ≤ z) (hJ : MJ st X K c.nd ce 0) (hK : MK X K c.nd ce 0 x) (hx : 202 ≤ x) (hx2 : x + (oN ty + oN tm) ≤ 29000) (hy : 203 ≤ y) (hy2 : c.nd + 2 * (60000 - K.life) + (y + (oN ty + oN tm)) ≤ 140000) (h59 : fI st 59 = iI ((0 : Nat) : Int)) (hN : oN ty + oN tm ≤ 4000) (hO : OB K (o + 60))
    (ht0 : ty = none → fI st 79 = iI (-1)) (ht1 : ∀ v, ty = some v → ∃ n : Nat, fI st 79 = iI (n : Int) ∧ mR (tname t) st v [] n a1 a2 none) (hm1 : ∀ v, tm = some v → ∃ n : Nat, fI st 78 = iI (n : Int) ∧ mR (tname t) st v [] n b1 b2 none) (h76 : fI st 76 = iI (wcd kd))
    (ok : ∀ st' K', hAsk X J kd ty tm K = (K', .ok ()) → K.life ≤ K'.life → dfr nd0 st st' → MJ0 st' X K' → KB X K' → fI st' 72 = 0 → OB K' o → Q (.returned none) st')
    (er : ∀ st' K' e p, hAsk X J kd ty tm K = (K', .error (e, p)) → K.life ≤ K'.life → dfr nd0 st st' → MZj st' X K' e p → OB K' o → Q (.returned none) st') : jX5_doStatement_20 P s0 l XX lev st0 Q st := by
  have hE : ∀ j, rwE a1 a2 b1 b2 j → 8 ≤ j ∧ j < c.nd := fun j q => by rcases q with q | q <;> omega
  have hIb : ∀ j, b1 ≤ j → j < b2 → rwE a1 a2 b1 b2 j := fun j q1 q2 => Or.inr ⟨q1, q2⟩
  cases tm with
  | none => rcases hkd with q | q; exact absurd rfl q.2; exact absurd rfl q.2.2
  | some v =>
    obtain ⟨n2, f78, hr⟩ := hm1 v rfl
    obtain ⟨g1, g2⟩ := hG2 v rfl
    have eN : oN (some v) = rN v := rfl
    rcases hkd with ⟨rfl | rfl | rfl, -⟩ | ⟨rfl, hty, -⟩
    · cases ty with
      | none => exact m_ask4n (o := o) (by omega) hr f78 (ht0 rfl) g1 g2 ⟨hb.1, hb.2.2.1⟩ hIb hE h hz hJ hK hx (by omega) hy (by omega) h59 (by omega) (hO.le (by omega)) h76 ok er
      | some vt =>
        obtain ⟨n1, f79, hrt⟩ := ht1 vt rfl
        obtain ⟨g3, g4⟩ := hG1 vt rfl
        have eN2 : oN (some vt) = rN vt := rfl
        exact m_ask4 (o := o) (by omega) hr hrt f78 f79 g1 g2 g3 g4 hb hab h8 h hz hJ hK hx (by omega) hy (by omega) h59 ⟨by omega, by omega⟩ (hO.le (by omega)) h76 ok er
    · exact m_ask5 (o := o) (ty := ty) (by omega) hr f78 g1 g2 ⟨hb.1, hb.2.2.1⟩ hIb hE h hz hJ hK hx (by omega) hy (by omega) h59 (by omega) (hO.le (by omega)) h76 ok er
    · exact m_ask6 (o := o) (ty := ty) (by omega) hr f78 g1 g2 ⟨hb.1, hb.2.2.1⟩ hIb hE h hz hJ hK hx (by omega) hy (by omega) h59 (by omega) hO h76 ok er
    · cases ty with
      | none => exact absurd rfl hty
      | some vt =>
        obtain ⟨n1, f79, hrt⟩ := ht1 vt rfl
        obtain ⟨g3, g4⟩ := hG1 vt rfl
        have eN2 : oN (some vt) = rN vt := rfl
        exact m_ask7 (o := o) (by omega) hr hrt f78 f79 g1 g2 g3 g4 hb hab h8 h hz hJ hK hx (by omega) hy (by omega) h59 ⟨by omega, by omega⟩ (hO.le (by omega)) h76 ok er
theorem dfr.oo (h : dfr nd0 st st') : dofr st st' := ⟨fun k hk => h.1 k (by omega), fun k j hk => h.2 k j (fun q => by omega) (by omega)⟩
theorem tofr.oo (h : tofr nd0 nk st st') : dofr st st' := ⟨fun k hk => h.1 k (by omega), fun k j hk => h.2 k j (fun q => by omega) (fun q => by omega) (fun q => by omega) (by omega)⟩
theorem tfrM.oo (h : tfrM st st') : dofr st st' := ⟨fun k hk => h.1 k (by omega), fun k j hk => h.2 k j (by omega) (fun q => by omega)⟩
theorem MJ0.xl (h : MJ0 st X K) (e : X'.lim = X.lim) : MJ0 st X' K := ⟨⟨by rw [e]; exact h.1.1, h.1.2⟩, h.2⟩
theorem zEx (cx : List CN) : ∃ z, ∀ k, k < cx.length → sw (cAt cx k).ty ≤ z := by
  have : ∀ n, ∃ z, ∀ k, k < n → sw (cAt cx k).ty ≤ z := fun n => by
    induction n with
    | zero => exact ⟨0, fun k hk => by omega⟩
    | succ n ih =>
      obtain ⟨z, hz⟩ := ih
      refine ⟨z + sw (cAt cx n).ty, fun k hk => ?_⟩
      by_cases q : k = n
      · subst q; omega
      · have := hz k (by omega); omega
  exact this _
/-- a statement is done -/
theorem m_do (hl : 560 ≤ lev) (hTB : mTB st tb) (hC : mCx st tb.1.length cx kn) (hx : mTx t st) (h15 : fI st 15 = iI 1) (h27 : fI st 27 = iI (cx.length : Int)) (h43 : fI st 43 = iI ((0 : Nat) : Int)) (h59 : fI st 59 = iI ((0 : Nat) : Int)) (h62 : fI st 62 = iI (kT kn cx.length : Int)) (hM : MJ st (hX lim tb cx) K nd 1 0) (hw : K.work = 0 ∧ K.fr = 0 ∧ K.life ≤ 60000 ∧ lim ≤ 20000) (hst : mStt t st s1 (kT kn cx.length) nd) (hnd : kT kn cx.length ≤ nd) (hg : stGd s1) (hN : stN s1 ≤ 4000) (hy : 203 ≤ y) (hy2 : nd + 2 * (60000 - K.life) + (y + stN s1) ≤ 140000) (hO : OB K (o + 60))
    (ok : ∀ st' K' tb' cx' kn', sDo lim t tb cx s1 K = (K', .ok (tb', cx')) → K.life ≤ K'.life → dofr st st' → mTB st' tb' → mCx st' tb'.1.length cx' kn' → fI st' 27 = iI (cx'.length : Int) → fI st' 62 = iI (kT kn' cx'.length : Int) → MJ0 st' (hX lim tb' cx') K' → K'.life ≤ 60000 → fI st' 72 = 0 → kT kn' cx'.length + 2 * (60000 - K'.life) + y ≤ 140000 → OB K' o → Q (.returned none) st')
    (er : ∀ st' K' e p, sDo lim t tb cx s1 K = (K', .error (e, p)) → K.life ≤ K'.life → dofr st st' → mTB st' tb → mCx st' tb.1.length cx kn → fI st' 27 = iI (cx.length : Int) → fI st' 62 = iI (kT kn cx.length : Int) → MZj st' (hX lim tb cx) K' e p → OB K' o → Q (.returned none) st') : CQ (wM P s0 l XX) mX5_doStatement lev (.ref P.mo :: []) st Q := by
  obtain ⟨l', rfl⟩ : ∃ l', lev = l' + 1 := ⟨lev - 1, by omega⟩
  have k8 := kT_8 hC
  have hlim : (hX lim tb cx).lim = lim := rfl
  have h76 : fI st 76 = iI (wcd s1.1) := hst.2.1
  have er' : ∀ st' K' e p, sDo lim t tb cx s1 K = (K', .error (e, p)) → K.life ≤ K'.life → dfr (kT kn cx.length) st st' → MZj st' (hX lim tb cx) K' e p → OB K' o → Q (.returned none) st' := fun st' K' e p d1 d2 d3 d4 d5 => er st' K' e p d1 d2 d3.oo (hTB.d d3 k8.1) (hC.d d3) ((d3.1 27 (by omega)).trans h27) ((d3.1 62 (by omega)).trans h62) d4 d5
  by_cases k2 : s1.1 ≤ 2
  · have eD : ∀ r, hTab t tb cx s1 = r → sDo lim t tb cx s1 K = (match r with
        | .error e => (K, .error e)
        | .ok tb' => (K, .ok (tb', cx))) := fun r e => by
      cases r <;> (unfold sDo; rw [if_pos k2, e]; try rfl)
    have hwc : wcd s1.1 = (s1.1 : Int) := by
      have : s1.1 = 0 ∨ s1.1 = 1 ∨ s1.1 = 2 := by omega
      rcases this with q | q | q <;> rw [q] <;> rfl
    rw [hwc] at h76
    refine tX5_doStatement ⟨fun q => ?_, fun _ => ⟨fun q => ?_, fun _ => ?_⟩⟩
    · rw [h76, iI_z, iI_lt (by omega) (by omega) (by omega) (by omega)] at q; omega
    · rw [h76, iI_lt (by omega) (by omega) (by omega) (by omega)] at q; omega
    · refine m_tables (by omega) (mTb.mk hTB hC hx h15 h27) hTB hC.2.2 hM hst k8.1 (by omega) hg k2 (fun st' tb' e0 n0 f1 f2 => onV_ret ?_) (fun st' e p e0 d1 d2 => onV_ret (er' st' K e p (eD _ e0) (Nat.le_refl _) d1 d2 (hO.le (by omega))))
      have hcx : cx = [] := List.length_eq_zero_iff.mp n0
      subst hcx
      exact ok st' K tb' [] kn (eD _ e0) (Nat.le_refl _) f1.oo f2 ⟨fun j hj => absurd hj (Nat.not_lt_zero _), fun i j _ hj => absurd hj (Nat.not_lt_zero _), Nat.zero_le _⟩ ((f1.1 27 (by omega)).trans h27) ((f1.1 62 (by omega)).trans h62) ((hM.tf f1).1.xl rfl) hw.2.2.1 (hM.tf f1).2.2.2.1 (by omega) (hO.le (by omega))
  · obtain ⟨z, hz⟩ := zEx cx
    obtain ⟨i77, i76, a1, a2, b1, b2, hi, inm, it0, it1, im0, im1⟩ := hst
    have hm : JM 0 0 (rwE a1 a2 b1 b2) (nd, cx.length, tb.1.length) 1 st (hX lim tb cx) (hJ t tb cx) (tname t) [] [] 0 0 := JM.mk hTB hC hx h15 h27 h43 hnd (by omega) (fun j q => by rcases q with q | q <;> omega) hM.2.2.2.2.1 (by omega)
    have hK : MK (hX lim tb cx) K nd 1 0 202 := ⟨⟨by rw [hw.1]; exact Nat.zero_le _, hw.2.2.2, hw.2.2.1⟩, by omega, by omega, by omega, by omega, by omega⟩
    have hb : kT kn cx.length ≤ b1 ∧ kT kn cx.length ≤ a1 ∧ kT kn cx.length ≤ nd ∧ b2 ≤ nd ∧ a2 ≤ nd ∧ a1 ≤ a2 ∧ b1 ≤ b2 := by omega
    have eN : stN s1 = oN s1.2.2.2.1 + oN s1.2.2.2.2 := rfl
    by_cases k3 : s1.1 = 3
    · obtain ⟨⟨px, hns⟩, hno⟩ : (∃ x, s1.2.2.1 = [x]) ∧ (s1.2.2.2.1 ≠ none ∨ s1.2.2.2.2 ≠ none) := by
        rcases hg.1 with q | q | q | q | q | q
        · exfalso; have := q.1; omega
        · exfalso; have := q.1; omega
        · exfalso; have := q.1; omega
        · exact q.2
        · exfalso; have := q.1; omega
        · exfalso; have := q.1; omega
      obtain ⟨-, xn, w1, w2, w3, w4, w5, w6, w7, w8⟩ := inm 0 px (by rw [hns]; rfl)
      have eD : ∀ K6 r, hTells t (hX lim tb cx) (hJ t tb cx) cx px s1.2.2.2.1 s1.2.2.2.2 K = (K6, r) → sDo lim t tb cx s1 K = jBind (K6, r) fun cx' K => (K, .ok (tb, cx')) := fun K6 r e => by
        unfold sDo
        rw [if_neg k2, if_pos k3, hns]
        show jBind (hTells t (hX lim tb cx) (hJ t tb cx) cx px s1.2.2.2.1 s1.2.2.2.2 K) _ = _
        rw [e]
      have f76 : fI st 76 = iI (-1) := by rw [h76, k3]; rfl
      refine tX5_doStatement ⟨fun _ => tX5_doStatement_20 ⟨fun q => ?_, fun q => ?_, fun q => ?_, fun q => ?_, fun _ => ?_⟩, fun q => absurd (by rw [f76]; decide) q⟩
      · rw [f76] at q; exact absurd q (by decide)
      · rw [f76] at q; exact absurd q (by decide)
      · rw [f76] at q; exact absurd q (by decide)
      · rw [f76] at q; exact absurd q (by decide)
      · refine m_tells (c := (nd, cx.length, tb.1.length)) (nd0 := kT kn cx.length) (o := o) (y := y) (x := 202) (z := z) (ce := 1) (by omega) hno hg.2.1 hg.2.2 hb hi.2.2.2.2.2.2 k8.1 hm hz hM hK (by omega) (by omega) hy (by show nd + _ + _ ≤ _; omega) h59 (by omega) (hO.le (by omega)) it0 it1 im0 im1 ⟨w2, w3, w4⟩ w5 w6 w7 w8 rfl (fun st' K' nd' cn d1 d2 d3 d4 d5 d6 d7 d8 d9 d10 d11 d12 d13 => onV_ret ?_) (fun st' K' e p d1 d2 d3 d4 d5 => onV_ret (er' st' K' e p (by rw [eD _ _ d1]; rfl) d2 d3 d4 d5))
        obtain ⟨c1, c2⟩ := hC.snoc (cn := cn) d3 d4 d7 d13
        refine ok st' K' tb (cx ++ [cn]) _ (by rw [eD _ _ d1]; rfl) d2 d3.oo (hTB.mv (d3.1 20 (by omega)) (fun k j a b => d3.2 k j (fun q => by omega) (fun q => by omega) (fun q => by omega) (by omega)) (fun k j a b e => d3.2 k j (fun _ => by omega) (fun q => by omega) (fun q => by omega) (by omega))) c1 (by rw [show (cx ++ [cn]).length = cx.length + 1 by simp]; exact d5) (by rw [c2]; exact d6) (d8.xl rfl) d9.2.2 d10 (by rw [c2]; exact d11) d12
    · have hkd : ((s1.1 = 4 ∨ s1.1 = 5 ∨ s1.1 = 6) ∧ s1.2.2.2.2 ≠ none) ∨ (s1.1 = 7 ∧ s1.2.2.2.1 ≠ none ∧ s1.2.2.2.2 ≠ none) := by
        rcases hg.1 with q | q | q | q | q | q
        · exfalso; have := q.1; omega
        · exfalso; have := q.1; omega
        · exfalso; have := q.1; omega
        · exfalso; have := q.1; omega
        · exact Or.inl q
        · exact Or.inr q
      have eD : ∀ K6 r, hAsk (hX lim tb cx) (hJ t tb cx) s1.1 s1.2.2.2.1 s1.2.2.2.2 K = (K6, r) → sDo lim t tb cx s1 K = jBind (K6, r) fun _ K => (K, .ok (tb, cx)) := fun K6 r e => by
        unfold sDo
        rw [if_neg k2, if_neg k3, e]
      have ask : jX5_doStatement_20 P s0 l XX l' st Q st := m_asks (c := (nd, cx.length, tb.1.length)) (nd0 := kT kn cx.length) (o := o) (y := y) (x := 202) (z := z) (ce := 1) (kd := s1.1) (by omega) hkd hg.2.1 hg.2.2 hb hi.2.2.2.2.2.2 k8.1 hm hz hM hK (by omega) (by omega) hy (by show nd + _ + _ ≤ _; omega) h59 (by omega) hO it0 it1 im1 h76 (fun st' K' d1 d2 d3 d4 d5 d6 d7 => ok st' K' tb cx kn (by rw [eD _ _ d1]; rfl) d2 d3.oo (hTB.d d3 k8.1) (hC.d d3) ((d3.1 27 (by omega)).trans h27) ((d3.1 62 (by omega)).trans h62) d4 d5.2.2 d6 (by omega) d7) (fun st' K' e p d1 d2 d3 d4 d5 => er' st' K' e p (by rw [eD _ _ d1]; rfl) d2 d3 d4 d5)
      have hw2 : ¬ fI st 76 < 0 ∧ iI 2 < fI st 76 := by
        rw [h76]
        have : s1.1 = 4 ∨ s1.1 = 5 ∨ s1.1 = 6 ∨ s1.1 = 7 := by omega
        rcases this with q | q | q | q <;> rw [q] <;> decide
      exact tX5_doStatement ⟨fun q => absurd q hw2.1, fun _ => ⟨fun _ => ask, fun q => absurd hw2.2 q⟩⟩
end MHM
