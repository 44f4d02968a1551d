/-! THE HOUSE OVER S, P (10): tables -/
def KJ (KK : Nat → Option Nat) : Prop := ∀ i j, i < 8 → j < 8 → KK (6 + i) = KK (6 + j) → i = j
/-- what a table's statement leaves -/
def bfr (R : Nat → Nat) (σ τ : GSt) : Prop := keep (fun q => q = R 1 ∨ q = R 6 ∨ q = R 7 ∨ q = R 8) σ τ ∧ gle σ τ
section PHTB
variable {G : GPl} {s0 : State} {l : Launch} {KK : Nat → Option Nat} {T : Nat → Nat} {lev : Nat} {Q : Outcome → GSt → Prop} {R : Nat → Nat} {σ τ υ st0 ρ : GSt} {X : SX} {J : JX} {K K' : KS} {w n s o z m Z Yc Ys a y kd lim lo pl nn : Nat} {c c' : PC} {L L' : Nat → Nat → Prop} {W I I' I1 I2 D : Nat → Prop} {TN : Nat → List Nat} {sc : SC} {x : Option Nat} {t : TX} {ty tm : Option V} {v u : V} {tb tb' : HT} {cx : List CN} {ns : List Nat}
/-- tables without names of a context -/
theorem JB_tb {E : Nat → Prop} {N : Nat → Nat} (hp : R 6 ≠ R 4 ∧ R 7 ≠ R 4) (h3 : gk τ (R 3) = 4 ∧ gr τ (R 3) 0 = some (R 1) ∧ gr τ (R 3) 1 = some (R 2) ∧ gr τ (R 3) 2 = some (R 9)) (h1 : gk τ (R 1) = 2 ∧ gr τ (R 1) 0 = some (R 8) ∧ gr τ (R 1) 1 = some (R 6) ∧ gr τ (R 1) 2 = some (R 7) ∧ gi τ (R 1) 3 = iI (tb.1.length : Int)) (h6 : gk τ (R 6) = 101 ∧ gl τ (R 6) = 8 ∧ gk τ (R 7) = 101 ∧ gl τ (R 7) = 64 ∧ gk τ (R 8) = 104 ∧ gl τ (R 8) = 8)
    (hax : ∀ k, k < 8 → gi τ (R 6) k = iI (tb.2.1 k) ∧ -1 ≤ tb.2.1 k ∧ tb.2.1 k < tb.1.length) (hru : ∀ a b, a < 8 → b < 8 → gi τ (R 7) (8 * a + b) = iI (tb.2.2 a b) ∧ -1 ≤ tb.2.2 a b ∧ tb.2.2 a b < tb.1.length) (hnm : ∀ i, i < tb.1.length → ∃ a, gr τ (R 8) i = some a ∧ pS τ (R 5) a (tb.1.getD i [])) (h8 : tb.1.length ≤ 8) (h9 : gk τ (R 9) = 22 ∧ ¬ E (R 9) ∧ gi τ (R 9) 2 = iI 0 ∧ ∃ z, gr τ (R 9) 1 = some z ∧ gk τ z = 103 ∧ ¬ E z) (hE : ∀ q, E q → tmt (gk τ q) = true) : JB R (E, N, 0, tb.1.length) nilL τ (hX lim tb []) (hJ t tb []) [] none := by
  obtain ⟨g1, g2, g3, z, g4, g5, g6⟩ := h9
  have n0 : ∀ k, k < 0 → False := fun k hk => by omega
  exact ⟨⟨h3, ⟨h1.2.2.1, h1.2.2.2.1, h1.2.2.2.2⟩, ⟨h6.1, h6.2.1, h6.2.2.1, h6.2.2.2.1, hp.1, hp.2⟩, hax, hru, ⟨g1, g2, g3, z, g4, g5, g6, Nat.zero_le _, fun k hk => (n0 k hk).elim⟩, fun k hk => (n0 k hk).elim⟩, ⟨fun k hk => (n0 k hk).elim, h1.1, h1.2.1, h6.2.2.2.2.1, h6.2.2.2.2.2, h8, hnm⟩, ⟨fun k hk => (n0 k hk).elim, fun i _ hi => (n0 i hi).elim, h8, Nat.zero_le _⟩, trivial, ⟨fun _ _ z => z.elim, fun _ _ _ z => z.elim, fun _ _ _ z => z.elim⟩, hE⟩
theorem c_sortAt {i p : Nat} (hl : 6 ≤ lev) (hh : hcl R σ) (h1 : pS1 KK R t lo σ y kd pl ns) (hi : ns[i]? = some p) (hi3 : i < 3) (h : JB R c nilL σ (hX lim tb cx) (hJ t tb cx) [] none) (hc : c.ns = tb.1.length) (hm : MB G R σ X K w (n + 1) (s + 8))
    (ok : ∀ k, hSo tb (tname t p) = some k → k < c.ns → Q (.returned (some (.int (iI (k : Int))))) σ)
    (er : ∀ x τ, hSo tb (tname t p) = none → flt τ x 3 (p : Int) → keep nil0 σ τ → gle σ τ → MB G R τ X K w n s → Q (.threw x) τ) : CQ (wP G s0 l KK T) mX1_sortAt lev (.ref (R 0) :: [va_rf (some y), .int (iI (i : Int))]) σ Q := by
  obtain ⟨l', rfl⟩ : ∃ l', lev = l' + 1 := ⟨lev - 1, by omega⟩
  have h1' := h1
  obtain ⟨a1, a2, a3, a4, nm, ps, a5, a6, a7, a8, a9, a10, a11, a12, a13⟩ := h1
  obtain ⟨a14, sa, a15, a16⟩ := a13 i p hi
  have h8 := h.2.2.1.2.2.1
  refine tX1_sortAt ⟨hh.1, y, rfl, a1, nm, a5, a6, by rw [a7]; exact iI_in hi3 (by omega), R 1, hh.2.1, h.2.1.2.1, ?_⟩
  rw [iI_ix (by omega), a15]
  refine c_tfind (by omega) h.1 h.2.1 a16 (fun _ => ?_)
  have e : firstN (hX lim tb cx).sn (tname t p) c.ns 0 = hSo tb (tname t p) := by rw [hc]; rfl
  have e' := e
  rw [e]
  cases hq : hSo tb (tname t p) with
  | none =>
    refine ⟨fun _ => ?_, fun q => absurd rfl q⟩
    have q := c_pfl (s0 := s0) (l := l) (T := T) (lev := l') (Q := Q) (e := 3) (by omega) h1' hi hi3 hm (fun x τ t1 t2 t3 t4 => er x τ hq t1 t2 t3 t4)
    rw [iI_ix (by omega)] at q
    exact q
  | some k =>
    rw [hq] at e'
    have hk := firstN_lt e'
    refine ⟨fun q => ?_, fun _ => ok k hq (by omega)⟩
    rw [iI_eq (by omega) (by omega) (by omega) (by omega)] at q
    omega
theorem st_str {sa : Nat} (h : gk σ sa = 23) : stOK σ (some sa) "java/lang/String" := Or.inr ⟨sa, 22, rfl, h, by omega, Or.inr rfl⟩
theorem JB.s8 (h : JB R c L σ X J sc x) : gk σ (R 8) = 104 := h.2.1.2.2.2.1
theorem MB.bw {X' : SX} (hm : MB G R σ X K w n s) (h : JB R c L σ X' J sc x) (hk : keep (fun q => q = R 1 ∨ q = R 6 ∨ q = R 7 ∨ q = R 8) σ τ) (hz : gz τ) (h1 : gn τ = gn σ) (h2 : gm τ = gm σ) : MB G R τ X K w n s := by
  have noM : ∀ a, (a = R 1 ∨ a = R 6 ∨ a = R 7 ∨ a = R 8) → ¬ isM R a := fun a q w => by
    obtain ⟨⟨m1, m2, m3⟩, -⟩ := hm.2.1
    obtain ⟨-, -, ⟨d1, d2, d3, d4, d5, d6⟩, -⟩ := h.1
    have e1 := h.2.1.2.1
    have e8 := h.s8
    rcases q with rfl | rfl | rfl | rfl <;> rcases w with w | w | w <;> first | exact d5 w | exact d6 w | (rw [w] at e1; omega) | (rw [w] at d1; omega) | (rw [w] at d3; omega) | (rw [w] at e8; omega)
  exact ⟨hz, hm.2.1.mv (fun a ha => by obtain ⟨e1, e2, e3, e4⟩ := hk a (hm.2.1.tg ha) (fun q => noM a q ha); exact ⟨e1, e2, e4⟩) (fun j _ => (hk (R 2) (hm.2.1.tg (Or.inl rfl)) (fun q => noM _ q (Or.inl rfl))).2.2.1 j), hm.2.2.1, ⟨by rw [h1]; exact hm.2.2.2.1, by rw [h2]; exact hm.2.2.2.2⟩⟩
end PHTB
