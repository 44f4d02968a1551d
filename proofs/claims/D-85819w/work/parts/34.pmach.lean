/-! P OVER S (3): the machine's counters, faults -/
/-- the machine's own cells: itself, what is spent, what is told -/
def isM (R : Nat → Nat) (a : Nat) : Prop := a = R 2 ∨ a = R 4 ∨ a = R 5
def MS (G : GPl) (R : Nat → Nat) (σ : GSt) (X : SX) (K : KS) (w : Nat) : Prop :=
  (gk σ (R 2) = 3 ∧ gk σ (R 4) = 101 ∧ gk σ (R 5) = 102) ∧ (gr σ (R 2) 0 = some (R 1) ∧ gr σ (R 2) 4 = some (R 4) ∧ gr σ (R 2) 9 = some (R 5)) ∧ (gl σ (R 4) = 6 ∧ gl σ (R 5) = 3000 ∧ G.h0.size ≤ R 5) ∧
  (∀ j, j < 6 → gi σ (R 4) j = iI (K.sp j : Int)) ∧ (gi σ (R 2) 5 = iI (K.work : Int) ∧ gi σ (R 2) 6 = iI (K.life : Int) ∧ gi σ (R 2) 7 = iI (X.lim : Int) ∧ gi σ (R 2) 8 = iI (w : Int) ∧ gi σ (R 2) 10 = iI (K.outs : Int)) ∧
  (∀ j, j < 3000 → j < K.outs → gi σ (R 5) j = iI (K.out j : Int))
def KB (X : SX) (K : KS) : Prop := K.work ≤ X.lim ∧ X.lim ≤ 20000 ∧ K.life ≤ 60000
def KP (X : SX) (K : KS) : Prop := K.work ≤ K.life ∧ X.lim ≤ 20000 ∧ K.life ≤ 60000
/-- room: 10 cells, 36 slots for each that may be spent yet; n cells, s slots beside -/
def RO (G : GPl) (σ : GSt) (K : KS) (n s : Nat) : Prop := gn σ + 10 * (60000 - K.life) + n ≤ G.cc ∧ gm σ + 36 * (60000 - K.life) + s ≤ G.cs
def MB (G : GPl) (R : Nat → Nat) (σ : GSt) (X : SX) (K : KS) (w n s : Nat) : Prop := gz σ ∧ MS G R σ X K w ∧ KP X K ∧ RO G σ K n s
/-- a fault that was made -/
def flt (σ : GSt) (x : Nat) (e p : Int) : Prop := gk σ x = 7 ∧ gi σ x 6 = iI e ∧ gi σ x 7 = iI p
def nil0 (_ : Nat) : Prop := False
section PM
variable {G : GPl} {s0 : State} {l : Launch} {KK : Nat → Option Nat} {T : Nat → Nat} {lev : Nat} {Q : Outcome → GSt → Prop} {R : Nat → Nat} {σ τ : GSt} {X : SX} {K : KS} {w n s : Nat}
theorem MS.mv (h : MS G R σ X K w) (h1 : ∀ a, isM R a → gk τ a = gk σ a ∧ (∀ j, gi τ a j = gi σ a j) ∧ gl τ a = gl σ a) (h2 : ∀ j, j = 0 ∨ j = 4 ∨ j = 9 → gr τ (R 2) j = gr σ (R 2) j) : MS G R τ X K w := by
  obtain ⟨⟨m1, m2, m3⟩, ⟨m4, m5, m6⟩, ⟨m7, m8, m9⟩, m10, ⟨m11, m12, m13, m14, m15⟩, m16⟩ := h
  obtain ⟨a1, a2, a3⟩ := h1 (R 2) (Or.inl rfl)
  obtain ⟨b1, b2, b3⟩ := h1 (R 4) (Or.inr (Or.inl rfl))
  obtain ⟨c1, c2, c3⟩ := h1 (R 5) (Or.inr (Or.inr rfl))
  refine ⟨⟨a1.trans m1, b1.trans m2, c1.trans m3⟩, ⟨(h2 0 (by omega)).trans m4, (h2 4 (by omega)).trans m5, (h2 9 (by omega)).trans m6⟩, ⟨b3.trans m7, c3.trans m8, m9⟩, fun j hj => (b2 j).trans (m10 j hj), ⟨(a2 5).trans m11, (a2 6).trans m12, (a2 7).trans m13, (a2 8).trans m14, (a2 10).trans m15⟩, fun j h3 h4 => (c2 j).trans (m16 j h3 h4)⟩
theorem MS.tg (h : MS G R σ X K w) {a : Nat} (ha : isM R a) : gk σ a ≠ 0 := by
  obtain ⟨⟨m1, m2, m3⟩, -⟩ := h
  rcases ha with rfl | rfl | rfl <;> omega
theorem MS.new (h : MS G R σ X K w) (hk : keep nil0 σ τ) : MS G R τ X K w :=
  h.mv (fun a ha => by obtain ⟨e1, e2, e3, e4⟩ := hk a (h.tg ha) id; exact ⟨e1, e2, e4⟩) (fun j _ => (hk (R 2) (h.tg (Or.inl rfl)) id).2.2.1 j)
theorem MS.ok {c : PC} (h : MS G R σ X K w) : Wok c (isM R) σ := fun a ha => by
  obtain ⟨⟨m1, m2, m3⟩, -⟩ := h
  rcases ha with rfl | rfl | rfl <;> omega
/-- the machine's term, environment or arguments are written -/
theorem MS.pr (h : MS G R σ X K w) {j : Nat} {x : Option Nat} (hj : j = 1 ∨ j = 2 ∨ j = 3) : MS G R (gpr (R 2) j x σ) X K w :=
  h.mv (fun a _ => ⟨rfl, fun _ => rfl, rfl⟩) (fun i hi => by rw [gr_pr, if_neg (fun q => by omega)])
theorem RO.mk {t k : Nat} (h : RO G σ K (n + 1) (s + k)) : RO G (gmk t k σ) K n s := by
  obtain ⟨h1, h2⟩ := h
  refine ⟨?_, ?_⟩
  · rw [gn_mk]; omega
  · rw [gm_mk]; omega
theorem RO.le {n' s' : Nat} (h : RO G σ K n s) (h1 : n' ≤ n) (h2 : s' ≤ s) : RO G σ K n' s' := ⟨by have := h.1; omega, by have := h.2; omega⟩
theorem MB.le {n' s' : Nat} (h : MB G R σ X K w n s) (h1 : n' ≤ n) (h2 : s' ≤ s) : MB G R σ X K w n' s' := ⟨h.1, h.2.1, h.2.2.1, h.2.2.2.le h1 h2⟩
theorem RO.gr {k : Nat} (h : RO G σ K (n + 1) (s + k)) (hz : gz σ) : groom G k σ := ⟨by have := h.1; omega, by have := h.2; omega, hz.at⟩
/-- a cell was made -/
theorem MB.new {k : Nat} (h : MB G R σ X K w (n + 1) (s + k)) (hk : keep nil0 σ τ) (hz : gz τ) (h1 : gn τ = gn σ + 1) (h2 : gm τ = gm σ + k) : MB G R τ X K w n s :=
  ⟨hz, h.2.1.new hk, h.2.2.1, ⟨by have := h.2.2.2.1; omega, by have := h.2.2.2.2; omega⟩⟩
/-- a fault is made -/
theorem c_flt {e p : Int} (hl : 4 ≤ lev) (hz : gz σ) (ok : ∀ τ, keep nil0 σ τ → gz τ → gn τ = gn σ + 1 → gm τ = gm σ + 8 → flt τ (gn σ) e p → Q (.returned none) τ) : CQ (wP G s0 l KK T) mX8_init lev (.ref (gn σ) :: [.int (iI e), .int (iI p)]) (gmk 7 8 σ) Q := by
  obtain ⟨l', rfl⟩ := Nat.exists_eq_add_of_le' hl
  have hk7 : gk (gmk 7 8 σ) (gn σ) = 7 := gk_new hz.at
  refine tX8_init (tJ8_init ⟨by omega, 6, by decide, hk7, gr_nw, fun _ => ⟨hk7, ?_⟩⟩)
  have h0 : ∀ a, a = gn σ → gk σ a ≠ 0 → nil0 a := fun a h q => q (h ▸ hz.at)
  refine ok _ ?_ (gz.mk hz) rfl rfl ⟨hk7, ?_, ?_⟩
  · exact ((((((keep.rf.mk hz.at).pr (h0 _ rfl)).pr (h0 _ rfl)).pr (h0 _ rfl)).pr (h0 _ rfl)).pi (h0 _ rfl)).pi (h0 _ rfl)
  · rw [gi_pi, if_neg (by omega), gi_pi, if_pos ⟨rfl, rfl⟩]
  · rw [gi_pi, if_pos ⟨rfl, rfl⟩]
theorem c_spend {c : Nat} (hl : 5 ≤ lev) (hc : c < 6) (h : MB G R σ X K w (n + 1) (s + 8))
    (ok : ∀ τ K', sSpend X c K = (K', .ok ()) → K'.life = K.life + 1 → keep (isM R) σ τ → MB G R τ X K' w (n + 11) (s + 44) → (∀ j, gr τ (R 2) j = gr σ (R 2) j) → gn τ = gn σ → Q (.returned none) τ)
    (er : ∀ x τ e, sSpend X c K = (K, .error e) → flt τ x e (-1) → keep (isM R) σ τ → MB G R τ X K w n s → Q (.threw x) τ) : CQ (wP G s0 l KK T) mX3_spend lev [.ref (R 2), .int (iI (c : Int))] σ Q := by
  obtain ⟨l', rfl⟩ := Nat.exists_eq_add_of_le' hl
  have hMB := h
  obtain ⟨hz, hm, ⟨k1, k2, k3⟩, r1, r2⟩ := h
  have hm0 := hm
  obtain ⟨⟨m1, m2, m3⟩, ⟨m4, m5, m6⟩, ⟨m7, m8, m9⟩, m10, ⟨m11, m12, m13, m14, m15⟩, m16⟩ := hm
  have n1 : R 2 ≠ R 4 := fun q => by rw [← q] at m2; omega
  have n2 : R 2 ≠ R 5 := fun q => by rw [← q] at m3; omega
  have n3 : R 4 ≠ R 5 := fun q => by rw [← q] at m3; omega
  refine tX3_spend ⟨m1, fun e => ?_, fun e => ⟨fun e2 => ?_, fun e2 => ?_⟩⟩
  · rw [m11, m13, iI_eq (by omega) (by omega) (by omega) (by omega)] at e
    refine ⟨hMB.2.2.2.gr hz, c_flt (by omega) hz (fun τ t1 t2 t3 t4 t5 _ => ?_)⟩
    exact er _ τ 12 (by unfold sSpend; rw [if_pos (by omega)]) t5 (t1.wk (fun _ q => q.elim)) (hMB.new t1 t2 t3 t4)
  · rw [m11, m13, iI_eq (by omega) (by omega) (by omega) (by omega)] at e
    rw [m12, iI_eq (by omega) (by omega) (by omega) (by omega)] at e2
    refine ⟨hMB.2.2.2.gr hz, c_flt (by omega) hz (fun τ t1 t2 t3 t4 t5 _ => ?_)⟩
    exact er _ τ 14 (by unfold sSpend; rw [if_neg (by omega), if_pos (by omega)]) t5 (t1.wk (fun _ q => q.elim)) (hMB.new t1 t2 t3 t4)
  · rw [m11, m13, iI_eq (by omega) (by omega) (by omega) (by omega)] at e
    rw [m12, iI_eq (by omega) (by omega) (by omega) (by omega)] at e2
    refine ⟨R 4, m5, m2, by rw [m7]; exact iI_in hc (by omega), by rw [m7]; exact iI_in hc (by omega), ?_⟩
    rw [iI_ix (by omega)]
    refine ok _ (K.work + 1, K.life + 1, (fun j => if j = c then K.sp c + 1 else K.sp j), K.2.2.2) (by unfold sSpend; rw [if_neg (by omega), if_neg (by omega)]) rfl ?_ ⟨hz, ⟨⟨m1, m2, m3⟩, ⟨m4, m5, m6⟩, ⟨m7, m8, m9⟩, fun j hj => ?_, ⟨?_, ?_, ?_, ?_, ?_⟩, fun j h1 h2 => ?_⟩, ⟨?_, k2, ?_⟩, ?_, ?_⟩ (fun _ => rfl) rfl
    · exact ((keep.rf.pi (fun _ => Or.inr (Or.inl rfl))).pi (fun _ => Or.inl rfl)).pi (fun _ => Or.inl rfl)
    · rw [gi_pi, if_neg (fun q => n1 q.1.symm), gi_pi, if_neg (fun q => n1 q.1.symm), gi_pi]
      by_cases hj : j = c
      · subst hj; rw [if_pos ⟨rfl, rfl⟩, m10 _ hc, iI_suc]; simp [KS.sp]
      · rw [if_neg (fun q => hj q.2), m10 j (by omega)]; simp [KS.sp, hj]
    · rw [gi_pi, if_neg (by omega), gi_pi, if_pos ⟨rfl, rfl⟩, gi_pi, if_neg (fun q => n1 q.1), m11, iI_suc]
    · rw [gi_pi, if_pos ⟨rfl, rfl⟩, gi_pi, if_neg (by omega), gi_pi, if_neg (fun q => n1 q.1), m12, iI_suc]
    · rw [gi_pi, if_neg (by omega), gi_pi, if_neg (by omega), gi_pi, if_neg (fun q => n1 q.1), m13]
    · rw [gi_pi, if_neg (by omega), gi_pi, if_neg (by omega), gi_pi, if_neg (fun q => n1 q.1), m14]
    · rw [gi_pi, if_neg (by omega), gi_pi, if_neg (by omega), gi_pi, if_neg (fun q => n1 q.1), m15]
    · rw [gi_pi, if_neg (fun q => n2 q.1.symm), gi_pi, if_neg (fun q => n2 q.1.symm), gi_pi, if_neg (fun q => n3 q.1.symm)]
      exact m16 j h1 h2
    · show K.work + 1 ≤ K.life + 1; omega
    · show K.life + 1 ≤ 60000; omega
    · show gn σ + 10 * (60000 - (K.life + 1)) + (n + 11) ≤ G.cc; omega
    · show gm σ + 36 * (60000 - (K.life + 1)) + (s + 44) ≤ G.cs; omega
end PM
