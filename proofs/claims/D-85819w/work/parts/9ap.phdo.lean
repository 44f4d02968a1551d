/-! THE HOUSE OVER S, P (12): a statement is done -/
def sfr (R : Nat → Nat) (I : Nat → Prop) (σ τ : GSt) : Prop := keep (fun q => isJ R I q ∨ q = R 9 ∨ (gr σ (R 9) 1 = some q ∧ 0 < gl σ q) ∨ q = R 1 ∨ q = R 6 ∨ q = R 7 ∨ q = R 8) σ τ ∧ gle σ τ ∧ ∀ q, gr τ (R 9) 1 = some q → gr σ (R 9) 1 = some q ∨ gk σ q = 0
section PHDO
variable {G : GPl} {s0 : State} {l : Launch} {KK : Nat → Option Nat} {T : Nat → Nat} {lev : Nat} {Q : Outcome → GSt → Prop} {R : Nat → Nat} {σ τ υ st0 ρ : GSt} {X : SX} {J : JX} {K K' : KS} {w n s o z m Z Yc Ys a y kd lim lo pl nn : Nat} {c c' : PC} {L L' : Nat → Nat → Prop} {W I I' I1 I2 D E : Nat → Prop} {N : Nat → Nat} {TN : Nat → List Nat} {sc : SC} {x : Option Nat} {t : TX} {ty tm : Option V} {v u : V} {tb tb' : HT} {cx : List CN} {ns : List Nat} {s1 : ST}
theorem MB.xl {X' : SX} (h : MB G R σ X K w n s) (e : X'.lim = X.lim) : MB G R σ X' K w n s := by
  obtain ⟨h1, ⟨m1, m2, m3, m4, ⟨a, b, c, d, e'⟩, m6⟩, ⟨k1, k2, k3⟩, h4⟩ := h
  exact ⟨h1, ⟨m1, m2, m3, m4, ⟨a, b, by rw [e]; exact c, d, e'⟩, m6⟩, ⟨k1, by rw [e]; exact k2, k3⟩, h4⟩
theorem jfr.sf (h : jfr R I σ τ) (h9 : gr τ (R 9) 1 = gr σ (R 9) 1) : sfr R I σ τ := ⟨h.1.wk (fun _ q => Or.inl q), h.2.2, fun q hq => Or.inl (by rw [← h9]; exact hq)⟩
theorem r9b (h : JB R c L σ X J sc x) : ¬ (R 9 = R 1 ∨ R 9 = R 6 ∨ R 9 = R 7 ∨ R 9 = R 8) := by
  have f1 := h.1.2.2.2.2.2.1.1
  have i2 := h.2.1.2.1
  have i8 := h.2.1.2.2.2.1
  obtain ⟨-, -, ⟨d1, d2, d3, d4, d5, d6⟩, -⟩ := h.1
  rintro (q | q | q | q) <;> (rw [q] at f1; omega)
theorem r9J (h : JB R c L σ X J sc x) (hm : MS G R σ X K w) (hI : ∀ q, I q → c.E q) : ¬ isJ R I (R 9) := by
  obtain ⟨f1, f2, -⟩ := h.1.2.2.2.2.2.1
  obtain ⟨⟨m1, m2, m3⟩, -⟩ := hm
  have m4 := h.1.1.1
  rintro ((q | q | q) | q | q)
  · rw [q] at f1; omega
  · rw [q] at f1; omega
  · rw [q] at f1; omega
  · rw [q] at f1; omega
  · exact f2 (hI _ q)
theorem c_does (hl : 670 ≤ lev) (hKJ : KJ KK) (hh : hcl R σ) (hT : pS σ (R 5) (T 0) [121, 101, 115]) (hT1 : pS σ (R 5) (T 1) [110, 111]) (h1 : pS1 KK R t lo σ y s1.1 s1.2.1 s1.2.2.1) (hs : PSt R t (E, N, cx.length, tb.1.length) σ y s1.2.2.2.1 s1.2.2.2.2 I1 I2) (hg : stGd s1) (h : JB R (E, N, cx.length, tb.1.length) nilL σ (hX lim tb cx) (hJ t tb cx) [] none) (hC : CxR KK R σ cx.length) (hz : ∀ k, k < cx.length → sw (cAt cx k).ty ≤ z) (hm : MB G R σ (hX lim tb cx) K 0 (n + (stN s1 + 6) * (12 + 4 * (z + stB s1))) (s + (stN s1 + 6) * (64 + 12 * (z + stB s1)))) (hO : OB K (o + 60))
    (ok : ∀ τ K' tb' cx' N', sDo lim t tb cx s1 K = (K', .ok (tb', cx')) → K.life ≤ K'.life → sfr R (orI I1 I2) σ τ → JB R ((fun q => E q ∧ ¬ orI I1 I2 q), N', cx'.length, tb'.1.length) nilL τ (hX lim tb' cx') (hJ t tb' cx') [] none → CxR KK R τ cx'.length → MB G R τ (hX lim tb' cx') K' 0 n s → OB K' o → (∀ k, k < cx'.length → sw (cAt cx' k).ty ≤ z + stB s1) → (cxB cx → cxB cx') → Q (.returned none) τ)
    (er : ∀ x τ K' (e : Nat) p w', sDo lim t tb cx s1 K = (K', .error (e, p)) → K.life ≤ K'.life → flt τ x (e : Int) p → jfr R (orI I1 I2) σ τ → MB G R τ (hX lim tb cx) K' w' n s → OB K' o → Q (.threw x) τ) : CQ (wP G s0 l KK T) mX1_does lev (.ref (R 0) :: [va_rf (some y)]) σ Q := by
  rw [Nat.add_mul, Nat.add_mul] at hm
  have hJN : JN (E, N, cx.length, tb.1.length) (hX lim tb cx) (hJ t tb cx) (tname t) := fun p => ⟨rfl, rfl⟩
  have hI : ∀ q, orI I1 I2 q → E q := hs.2.2.2.1
  by_cases k2 : s1.1 ≤ 2
  · have eD : ∀ r, hTab t tb cx s1 = r → sDo lim t tb cx s1 K = (match r with
        | .error e => (K, .error e)
        | .ok tb' => (K, .ok (tb', cx))) := fun r e => by
      cases r <;> (unfold sDo; rw [if_pos k2, e]; try rfl)
    have hC0 := hC
    have tab : ∀ l2, 8 ≤ l2 → CQ (wP G s0 l KK T) mX1_table l2 (.ref (R 0) :: [va_rf (some y)]) σ Q := fun l2 hl2 => by
      refine c_table (lim := lim) (c := (E, N, cx.length, tb.1.length)) (X := hX lim tb cx) (K := K) (n := n) (s := s) hl2 hKJ hh h1 hg k2 h ⟨rfl, rfl⟩ hC (hm.le (by omega) (by omega)) (fun τ tb' e0 n0 b1 b2 b3 b4 => ?_) (fun x τ e p e0 t1 t2 t3 t4 => er x τ K e p 0 (eD _ e0) (Nat.le_refl _) t1 (jfr.N t2 t3 h.1) t4 (hO.le (by omega)))
      have ec : cx = [] := List.length_eq_zero_iff.mp n0
      subst ec
      have hb : JB R ((fun q => E q ∧ ¬ orI I1 I2 q), N, 0, tb'.1.length) nilL τ (hX lim tb' []) (hJ t tb' []) [] none := b2.mv (I := nil0) (b4.xl (X' := hX lim tb' []) rfl).2.1 jfr.rf (fun _ z => z.elim) (fun q z => z.1) rfl
      exact ok τ K tb' [] N (eD _ e0) (Nat.le_refl _) ⟨b1.1.wk (fun q w => Or.inr (Or.inr (Or.inr w))), b1.2, fun q hq => Or.inl (by rw [← (b1.1 (R 9) (by rw [h.1.2.2.2.2.2.1.1]; omega) (r9b h)).2.2.1]; exact hq)⟩ hb b3 (b4.xl rfl) (hO.le (by omega)) (fun k hk => by simp at hk) id
    obtain ⟨l', rfl⟩ : ∃ l', lev = l' + 1 := ⟨lev - 1, by omega⟩
    have k012 : s1.1 = 0 ∨ s1.1 = 1 ∨ s1.1 = 2 := by omega
    have tabV : ∀ l2, 8 ≤ l2 → CQ (wP G s0 l KK T) mX1_table l2 (.ref (R 0) :: [va_rf (some y)]) σ (onV (fun t5 => gle σ t5 → Q (.returned none) t5) (fun x t => gle σ t → Q (.threw x) t)) := fun l2 hl2 => by
      refine c_table (lim := lim) (c := (E, N, cx.length, tb.1.length)) (X := hX lim tb cx) (K := K) (n := n) (s := s) hl2 hKJ hh h1 hg k2 h ⟨rfl, rfl⟩ hC (hm.le (by omega) (by omega)) (fun τ tb' e0 n0 b1 b2 b3 b4 => fun _ => ?_) (fun x τ e p e0 t1 t2 t3 t4 => fun _ => er x τ K e p 0 (eD _ e0) (Nat.le_refl _) t1 (jfr.N t2 t3 h.1) t4 (hO.le (by omega)))
      have ec : cx = [] := List.length_eq_zero_iff.mp n0
      subst ec
      have hb : JB R ((fun q => E q ∧ ¬ orI I1 I2 q), N, 0, tb'.1.length) nilL τ (hX lim tb' []) (hJ t tb' []) [] none := b2.mv (I := nil0) (b4.xl (X' := hX lim tb' []) rfl).2.1 jfr.rf (fun _ z => z.elim) (fun q z => z.1) rfl
      exact ok τ K tb' [] N (eD _ e0) (Nat.le_refl _) ⟨b1.1.wk (fun q w => Or.inr (Or.inr (Or.inr w))), b1.2, fun q hq => Or.inl (by rw [← (b1.1 (R 9) (by rw [h.1.2.2.2.2.2.1.1]; omega) (r9b h)).2.2.1]; exact hq)⟩ hb b3 (b4.xl rfl) (hO.le (by omega)) (fun k hk => by simp at hk) id
    have dk : gr σ y 0 = KK (6 + s1.1) := h1.2.1
    rcases k012 with q | q | q <;> rw [q] at dk
    · exact tX1_does ⟨y, rfl, hs.1, 0, ⟨by omega, dk⟩, fun _ => ⟨hh.1, tabV l' (by omega)⟩, fun e => absurd e (by decide), fun e => absurd e (by decide), fun e => absurd e (by decide), fun e => absurd e (by decide), fun e => absurd e (by decide), fun e => absurd e (by decide), fun e => absurd e (by unfold tout; decide)⟩
    · exact tX1_does ⟨y, rfl, hs.1, 1, ⟨by omega, dk⟩, fun e => absurd e (by decide), fun _ => ⟨hh.1, tabV l' (by omega)⟩, fun e => absurd e (by decide), fun e => absurd e (by decide), fun e => absurd e (by decide), fun e => absurd e (by decide), fun e => absurd e (by decide), fun e => absurd e (by unfold tout; decide)⟩
    · exact tX1_does ⟨y, rfl, hs.1, 2, ⟨by omega, dk⟩, fun e => absurd e (by decide), fun e => absurd e (by decide), fun _ => ⟨hh.1, tabV l' (by omega)⟩, fun e => absurd e (by decide), fun e => absurd e (by decide), fun e => absurd e (by decide), fun e => absurd e (by decide), fun e => absurd e (by unfold tout; decide)⟩
  · by_cases k3 : s1.1 = 3
    · obtain ⟨l', rfl⟩ : ∃ l', lev = l' + 1 := ⟨lev - 1, by omega⟩
      obtain ⟨⟨px, hns⟩, hno⟩ : (∃ x, s1.2.2.1 = [x]) ∧ (s1.2.2.2.1 ≠ none ∨ s1.2.2.2.2 ≠ none) := by
        rcases hg.1 with q | q | q | q | q | q
        · exfalso; have := q.1; omega
        · exfalso; have := q.1; omega
        · exfalso; have := q.1; omega
        · exact q.2
        · exfalso; have := q.1; omega
        · exfalso; have := q.1; omega
      have eD : sDo lim t tb cx s1 K = jBind (hTells t (hX lim tb cx) (hJ t tb cx) cx px s1.2.2.2.1 s1.2.2.2.2 K) fun cx' K => (K, .ok (tb, cx')) := by
        unfold sDo
        rw [if_neg k2, if_pos k3, hns]
        rfl
      have dk : gr σ y 0 = KK (6 + s1.1) := h1.2.1
      rw [k3] at dk
      rw [k3, hns] at h1
      refine tX1_does ⟨y, rfl, hs.1, 3, ⟨by omega, dk⟩, fun e => absurd e (by decide), fun e => absurd e (by decide), fun e => absurd e (by decide), fun _ => ⟨hh.1, ?_⟩, fun e => absurd e (by decide), fun e => absurd e (by decide), fun e => absurd e (by decide), fun e => absurd e (by unfold tout; decide)⟩
      refine c_tells (Z := z + stB s1) (Yc := 12 + 4 * (z + stB s1)) (Ys := 64 + 12 * (z + stB s1)) (m := n) (s := s) (o := o) (by omega) (Nat.le_refl _) (Nat.le_refl _) hh h1 hs hno hg.2.1 hg.2.2 h ⟨rfl, rfl⟩ hC hz (Nat.le_refl _) (hm.le (by show n + stN s1 * _ + _ + _ ≤ _; omega) (by show s + stN s1 * _ + _ + _ ≤ _; omega)) (hO.le (by omega)) (fun τ K' cn nn e0 e1 e2 e3 e4 e5 e6 e7 e8 => fun _ => ?_) (fun x τ K' e p w' e0 e1 e2 e3 e4 e5 => fun _ => er x τ K' e p w' (by rw [eD, e0]; rfl) e1 e2 e3 e4 e5)
      have el : (cx ++ [cn]).length = cx.length + 1 := by simp
      refine ok τ K' tb (cx ++ [cn]) _ (by rw [eD, e0]; rfl) e1 ⟨e2.1.wk (fun q w => ?_), e2.2.1, e2.2.2⟩ (by rw [el]; exact e3) (by rw [el]; exact e4) (e5.xl rfl) e6 (fun k hk => ?_) (fun hB j hj => ?_)
      · rcases w with w | w | w
        · exact Or.inl w
        · exact Or.inr (Or.inl w)
        · exact Or.inr (Or.inr (Or.inl w))
      · rw [cAt_snoc]
        split
        · exact e7
        · exact Nat.le_trans (hz k (by omega)) (by omega)
      · rw [cAt_snoc]
        split
        · rename_i hj'; rw [hj']; exact e8
        · exact hB j (by omega)
    · have hkd : ((s1.1 = 4 ∨ s1.1 = 5 ∨ s1.1 = 6) ∧ s1.2.2.2.2 ≠ none) ∨ (s1.1 = 7 ∧ s1.2.2.2.1 ≠ none ∧ s1.2.2.2.2 ≠ none) := by
        rcases hg.1 with q | q | q | q | q | q
        · exfalso; have := q.1; omega
        · exfalso; have := q.1; omega
        · exfalso; have := q.1; omega
        · exact absurd q.1 k3
        · exact Or.inl q
        · exact Or.inr q
      have eD : sDo lim t tb cx s1 K = jBind (hAsk (hX lim tb cx) (hJ t tb cx) s1.1 s1.2.2.2.1 s1.2.2.2.2 K) fun _ K => (K, .ok (tb, cx)) := by
        unfold sDo
        rw [if_neg k2, if_neg k3]
      refine c_asks (Z := z + stB s1) (Yc := 12 + 4 * (z + stB s1)) (Ys := 64 + 12 * (z + stB s1)) (m := n) (s := s) (o := o) (by omega) (Nat.le_refl _) (Nat.le_refl _) hJN hh hT hT1 h1.2.1 hs hkd hg.2.1 hg.2.2 h hz (Nat.le_refl _) (hm.le (by show n + stN s1 * _ + _ + _ ≤ _; omega) (by show s + stN s1 * _ + _ + _ ≤ _; omega)) hO (fun τ K' e0 e1 e2 e3 e4 => ?_) (fun x τ K' e p w' e0 e1 e2 e3 e4 e5 => er x τ K' e p w' (by rw [eD, e0]; rfl) e1 e2 e3 e4 e5)
      exact ok τ K' tb cx N (by rw [eD, e0]; rfl) e1 (e2.sf ((e2.1 (R 9) (by rw [h.1.2.2.2.2.2.1.1]; omega) (r9J h hm.2.1 hI)).2.2.1 1)) (h.mv hm.2.1 e2 hI (fun q z => z.1) rfl) (hC.mv h hm.2.1 e2 hI) e3 e4 (fun k hk => Nat.le_trans (hz k hk) (by omega)) id
end PHDO
