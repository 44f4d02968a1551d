/-! THE HOUSE OVER S, P (16): all statements of a text (3) -/
section PHR3
variable {G : GPl} {s0 : State} {l : Launch} {KK : Nat → Option Nat} {T : Nat → Nat} {lev : Nat} {Q : Outcome → GSt → Prop} {R : Nat → Nat} {σ τ υ st0 ρ σ0 : GSt} {X : SX} {J : JX} {K K' : KS} {w n s o z m a y tp lo kd pl lim sl zr u0 k k' : Nat} {W I : Nat → Prop} {t : TX} {ns : List Nat} {ss : List ST} {Y : Nat → Nat} {I1 I2 : Nat → Nat → Prop} {c : PC} {L : Nat → Nat → Prop} {sc : SC} {x : Option Nat} {tb : HT} {cx : List CN} {N : Nat → Nat}
theorem pOp.k2 {r : Option Nat} {v : Option V} (h : pOp R t σ r v I) (hk : keep W σ τ) (hS : ∀ q, W q → gk σ q ≠ 23 ∧ (gk σ q = 102 → q = R 5)) (hI : ∀ q, I q → ¬ W q) : pOp R t τ r v I := by
  cases v with
  | none => exact h
  | some v =>
    obtain ⟨x, h1, h2⟩ := h
    exact ⟨x, h1, rT_keep hk hS _ _ _ _ h2 hI (fun q => absurd rfl q)⟩
theorem TR.kp (h : TR KK R t ss Y I1 I2 sl zr lo k σ) (hk : keep W σ τ) (hkk : k ≤ k') (hW : ∀ q, W q → gk σ q ≠ 6 ∧ (gk σ q = 104 → q < lo) ∧ (gk σ q = 101 → q < lo) ∧ gk σ q ≠ 23 ∧ (gk σ q = 102 → q = R 5)) (hI : ∀ i, k' ≤ i → i < ss.length → ∀ q, I1 i q ∨ I2 i q → ¬ W q) (h1 : ¬ W sl) (h2 : ¬ W zr) : TR KK R t ss Y I1 I2 sl zr lo k' τ := by
  obtain ⟨a1, b1, b2, b3, b4, b5, b6⟩ := h
  obtain ⟨c1, c2, c3, c4⟩ := hk sl (by omega) h1
  obtain ⟨d1, d2, d3, d4⟩ := hk zr (by omega) h2
  refine ⟨fun i st hi hs => ?_, c1.trans b1, by rw [c3]; exact b2, d1.trans b3, by rw [c2]; exact b4, by rw [d4]; exact b5, fun i hi => by rw [d3]; exact b6 i hi⟩
  obtain ⟨e1, e2, e3, e4⟩ := a1 i st (by omega) hs
  have hil : i < ss.length := by
    rcases Nat.lt_or_ge i ss.length with q | q
    · exact q
    · rw [List.getElem?_eq_none q] at hs; cases hs
  obtain ⟨f1, f2, f3, f4⟩ := hk (Y i) (by have := e1.1; omega) (fun q => (hW _ q).1 e1.1)
  have hS : ∀ q, W q → gk σ q ≠ 23 ∧ (gk σ q = 102 → q = R 5) := fun q hq => ⟨(hW q hq).2.2.2.1, (hW q hq).2.2.2.2⟩
  exact ⟨e1.k2 hk hW, by rw [f3]; exact e2.k2 hk hS (fun q hq => hI i hi hil q (Or.inl hq)), by rw [f3]; exact e3.k2 hk hS (fun q hq => hI i hi hil q (Or.inr hq)), e4⟩
theorem TR.sf (h : TR KK R t ss Y I1 I2 sl zr lo k σ) (hs : sfr R I σ τ) (hkk : k ≤ k') (hj : JB R (inE ss.length I1 I2 k, N, cx.length, tb.1.length) nilL σ X J [] none) (hm : MS G R σ X K w) (hI : ∀ q, I q → inE ss.length I1 I2 k q) (hd : ∀ i, k' ≤ i → i < ss.length → ∀ q, I1 i q ∨ I2 i q → ¬ I q) (hT : TS R ss I1 I2 sl zr lo σ0) (hl : 0 < ss.length) (hz : gr σ (R 9) 1 ≠ some zr) (h0 : gle σ0 σ) : TR KK R t ss Y I1 I2 sl zr lo k' τ := by
  obtain ⟨t1, t2, t3, t4, t5, t5', t6, t7, t8⟩ := hT
  obtain ⟨f1, f2, f3, z0, f4, f5, f6, f7, f8⟩ := hj.1.2.2.2.2.2.1
  have tg := sfr_tg (lo := lo) hj hm hI (fun q _ hq => t7 q (by rcases hq with hq | hq; exact Or.inr (Or.inr (Or.inr hq.2)); rcases hq with hq | hq | hq; exact Or.inl hq; exact Or.inr (Or.inl hq); exact Or.inr (Or.inr (Or.inl hq))))
  have r9 : ∀ q, gk σ0 q = 0 → q ≠ R 9 := fun q hq w => by rw [w, t5] at hq; omega
  refine h.kp hs.1 hkk (fun q hq => by obtain ⟨u0, u1, u2, u3, u4, u5, u6⟩ := tg q hq; exact ⟨u1, u2, u3, u4, u5⟩) (fun i hi hil q hq hw => ?_) (fun hw => ?_) (fun hw => ?_)
  · have hqE : inE ss.length I1 I2 k q := ⟨i, by omega, hil, hq⟩
    rcases (tg q hw).2.2.2.2.2.2 (hj.2.2.2.2.2 q hqE) with w | w | w
    · exact hd i hi hil q hq w
    · exact r9 q (t1 i hil q hq).1 w
    · rw [f4] at w; cases w; exact f6 hqE
  · rcases (tg sl hw).2.2.2.2.2.2 (by rw [h.2.1]; rfl) with w | w | w
    · obtain ⟨i, _, hi, w⟩ := hI _ w; exact (t1 i hi sl w).2.1 rfl
    · exact r9 sl t3 w
    · rw [f4] at w; cases w; have := h.2.1; omega
  · rcases (tg zr hw).2.2.2.2.2.2 (by rw [h.2.2.2.1]; rfl) with w | w | w
    · obtain ⟨i, _, hi, w⟩ := hI _ w; exact (t1 i hi zr w).2.2 rfl
    · exact r9 zr (t4 hl) w
    · exact hz w
theorem ssZ_drop {k : Nat} {st : ST} (h : ss[k]? = some st) : ssZ (ss.drop k) = stN st + 15 * stB st + 6 + ssZ (ss.drop (k + 1)) := by
  have hk : k < ss.length := by
    rcases Nat.lt_or_ge k ss.length with q | q
    · exact q
    · rw [List.getElem?_eq_none q] at h; cases h
  rw [List.drop_eq_getElem_cons hk]
  rw [List.getElem?_eq_getElem hk] at h
  cases h
  rfl
theorem sRuns_ok {st : ST} {d : Nat} {K' : KS} {tb' : HT} {cx' : List CN} (h : ss[k]? = some st) (e : sDo lim t tb cx st (kBeg K) = (K', .ok (tb', cx'))) : sRuns lim t (ss.drop k) tb cx K d = sRuns lim t (ss.drop (k + 1)) tb' cx' K' (d + 1) := by
  have hk : k < ss.length := by
    rcases Nat.lt_or_ge k ss.length with q | q
    · exact q
    · rw [List.getElem?_eq_none q] at h; cases h
  rw [List.drop_eq_getElem_cons hk]
  rw [List.getElem?_eq_getElem hk] at h
  cases h
  rw [sRuns, e]
theorem sRuns_er {st : ST} {d : Nat} {K' : KS} {x : Nat} {p : Int} (h : ss[k]? = some st) (e : sDo lim t tb cx st (kBeg K) = (K', .error (x, p))) : sRuns lim t (ss.drop k) tb cx K d = (tb, cx, K', d, some (x, if 12 ≤ x then (st.2.1 : Int) else p)) := by
  have hk : k < ss.length := by
    rcases Nat.lt_or_ge k ss.length with q | q
    · exact q
    · rw [List.getElem?_eq_none q] at h; cases h
  rw [List.drop_eq_getElem_cons hk]
  rw [List.getElem?_eq_getElem hk] at h
  cases h
  rw [sRuns, e]
/-- a fault ends it -/
theorem c_tflt {xf e : Nat} {p xp : Int} {x1 : Int32} (hx : flt τ xf (e : Int) p) (he : e < 100) (h0 : gk τ (R 0) = 1)
    (ok : ∀ υ, keep (fun q => q = R 0) τ υ → gle τ υ → gn υ = gn τ → gm υ = gm τ → (∀ a j, gr υ a j = gr τ a j) → (∀ a, gk υ a = gk τ a) → (∀ a, gl υ a = gl τ a) → gi υ (R 0) 2 = iI (e : Int) → gi υ (R 0) 3 = iI (if 12 ≤ e then xp else p) → (∀ j, j ≠ 2 → j ≠ 3 → gi υ (R 0) j = gi τ (R 0) j) → Q (.returned (some (.int (iI (e : Int))))) υ) : jX1_text_127 G s0 l KK T lev st0 Q (R 0) x1 (iI xp) (some xf) τ := by
  obtain ⟨f1, f2, f3⟩ := hx
  have n0 : xf ≠ R 0 := fun q => by rw [q] at f1; omega
  have e6 : gi (gpi (R 0) 2 (gi τ xf 6) τ) xf 6 = iI (e : Int) := by rw [gi_pi, if_neg (fun q => n0 q.1)]; exact f2
  have e7 : gi (gpi (R 0) 2 (gi τ xf 6) τ) xf 7 = iI p := by rw [gi_pi, if_neg (fun q => n0 q.1)]; exact f3
  refine tX1_text_127 ⟨xf, rfl, f1, h0, fun q => ?_, fun q => ?_⟩
  · rw [e6, iI_lt (by omega) (by omega) (by omega) (by omega)] at q
    rw [e7, gi_pi, if_neg (by omega), gi_pi, if_pos ⟨rfl, rfl⟩, f2]
    refine ok _ (((keep.rf (W := fun q => q = R 0)).pi (fun _ => rfl)).pi (fun _ => rfl)) ⟨⟨Nat.le_refl _, Nat.le_refl _⟩, fun _ _ => rfl⟩ rfl rfl (fun _ _ => rfl) (fun _ => rfl) (fun _ => rfl) ?_ ?_ (fun j h2 h3 => ?_)
    · rw [gi_pi, if_neg (by omega), gi_pi, if_pos ⟨rfl, rfl⟩]
    · rw [gi_pi, if_pos ⟨rfl, rfl⟩, if_neg (by omega)]
    · rw [gi_pi, if_neg (fun q => h3 q.2), gi_pi, if_neg (fun q => h2 q.2)]
  · rw [e6, iI_lt (by omega) (by omega) (by omega) (by omega)] at q
    rw [gi_pi, if_neg (by omega), gi_pi, if_pos ⟨rfl, rfl⟩, f2]
    refine ok _ (((keep.rf (W := fun q => q = R 0)).pi (fun _ => rfl)).pi (fun _ => rfl)) ⟨⟨Nat.le_refl _, Nat.le_refl _⟩, fun _ _ => rfl⟩ rfl rfl (fun _ _ => rfl) (fun _ => rfl) (fun _ => rfl) ?_ ?_ (fun j h2 h3 => ?_)
    · rw [gi_pi, if_neg (by omega), gi_pi, if_pos ⟨rfl, rfl⟩]
    · rw [gi_pi, if_pos ⟨rfl, rfl⟩, if_pos (by omega)]
    · rw [gi_pi, if_neg (fun q => h3 q.2), gi_pi, if_neg (fun q => h2 q.2)]
end PHR3
