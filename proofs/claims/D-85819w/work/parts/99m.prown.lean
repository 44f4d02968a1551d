/-! P OVER S (40): reading: what is a term's own; a body -/
/-- cells that were made between σ and τ, and are of terms -/
def oI (bl : Nat) (σ τ : GSt) (I : Nat → Prop) : Prop := ∀ q, I q → gn σ ≤ q ∧ q < gn τ ∧ tmt (gk τ q) = true ∧ gr τ bl 1 ≠ some q
/-- the contract of term -/
def CRt (G : GPl) (s0 : State) (l : Launch) (KK : Nat → Option Nat) (T : Nat → Nat) (R : Nat → Nat) (X : SX) (K : KS) (w : Nat) (t : TX) (a tp bl sl lev d : Nat) : Prop :=
  ∀ (bs : List (Option Nat)) (k : TK) (n s : Nat) (σ : GSt) (Q : Outcome → GSt → Prop), RS G KK T R X K w t a tp bl sl bs (40 - (d : Int)) k n s σ → bs.length + d ≤ 40 →
    (∀ τ y v k' I, rTerm t d bs k = .ok (v, k') → RS G KK T R X K w t a tp bl sl bs (40 - (d : Int)) k' n s τ → rF a bl σ τ → rT R (tname t) τ v y 0 I → oI bl σ τ I → k.pl < k'.pl → Q (.returned (some (va_rf (some y)))) τ) →
    (∀ x τ (e : Nat) p, rTerm t d bs k = .error (e, p) → flt τ x (e : Int) p → rF a bl σ τ → MB G R τ X K w n s → Q (.threw x) τ) → CQ (wP G s0 l KK T) mX6_term lev (.ref a :: []) σ Q
section PRM
variable {G : GPl} {s0 : State} {l : Launch} {KK : Nat → Option Nat} {T : Nat → Nat} {lev d : Nat} {Q : Outcome → GSt → Prop} {R : Nat → Nat} {σ τ υ st0 : GSt} {X : SX} {K : KS} {w n s n' s' o a tp bl sl : Nat} {W I I1 I2 : Nat → Prop} {t : TX} {bs : List (Option Nat)} {m : Int} {k : TK} {TN : Nat → List Nat}
theorem RS.fr (h : RS G KK T R X K w t a tp bl sl bs m k n s σ) (hk : keep W σ τ) (hW : ∀ q, W q → gk σ q ≠ 5 ∧ gk σ q ≠ 23 ∧ gk σ q ≠ 102 ∧ q ≠ bl ∧ gr σ bl 1 ≠ some q) (hM : MB G R τ X K w (n' + 1 + 12 * (t.2 - k.pl)) (s' + 8 + 128 * (t.2 - k.pl))) : RS G KK T R X K w t a tp bl sl bs m k n' s' τ := by
  obtain ⟨h1, h2, h3, h4, h5, h6, h7, h8, h9⟩ := h
  obtain ⟨d1, d2, d3, d4, d5, d6, d7, d8, d9⟩ := h1
  have hS : ∀ q, W q → gk σ q ≠ 23 ∧ (gk σ q = 102 → q = R 5) := fun q hq => ⟨(hW q hq).2.1, fun z => absurd z (hW q hq).2.2.1⟩
  obtain ⟨y1, y2, y3, y4⟩ := hk a (by omega) (fun q => (hW a q).1 d1)
  obtain ⟨z1, z2, z3, z4⟩ := hk tp (by omega) (fun q => (hW tp q).2.2.1 d6)
  obtain ⟨k1, k2, k3, k4, k5, k6, k7, k8⟩ := h3
  refine ⟨⟨y1.trans d1, (y3 0).trans d2, (y2 1).trans d3, (y3 8).trans d4, (y3 9).trans d5, z1.trans d6, by rw [z4]; exact d7, d8, fun j hj => by rw [z2]; exact d9 j hj⟩, h2.mv hk hS, ⟨(y2 3).trans k1, (y3 7).trans k2, (y2 2).trans k3, fun q => ?_, fun q => (y2 4).trans (k5 q), k6, k7, k8⟩, (y2 5).trans h4, h5.kp hk (fun q => (hW bl q).2.2.2.1 rfl) (fun q hq w => (hW q w).2.2.2.2 hq) hS, hM, h7, h8, h9⟩
  obtain ⟨v, v1, v2, v3⟩ := k4 q
  refine ⟨v, (y3 6).trans v1, v2.kpW hk hS, fun z => ?_⟩
  obtain ⟨x1, x2, x3, x4⟩ := hk v (by have := v2.1; omega) (fun q => (hW v q).2.1 v2.1)
  rw [x2]
  exact v3 z
theorem RS.le (h : RS G KK T R X K w t a tp bl sl bs m k n s σ) (hn : n' ≤ n) (hs : s' ≤ s) : RS G KK T R X K w t a tp bl sl bs m k n' s' σ :=
  ⟨h.1, h.2.1, h.2.2.1, h.2.2.2.1, h.2.2.2.2.1, h.2.2.2.2.2.1.le (by omega) (by omega), h.2.2.2.2.2.2⟩
theorem RS.M (h : RS G KK T R X K w t a tp bl sl bs m k n s σ) : MB G R σ X K w n s := h.2.2.2.2.2.1.le (by omega) (by omega)
theorem RS.z (h : RS G KK T R X K w t a tp bl sl bs m k n s σ) : gz σ := h.2.2.2.2.2.1.1
theorem RS.la (h : RS G KK T R X K w t a tp bl sl bs m k n s σ) : a < gn σ := h.z.lt (by rw [h.1.1]; omega)
theorem RS.lb (h : RS G KK T R X K w t a tp bl sl bs m k n s σ) : bl < gn σ := h.z.lt (by rw [h.2.2.2.2.1.1]; omega)
theorem RS.tg (h : RS G KK T R X K w t a tp bl sl bs m k n s σ) : ∀ q, rW a bl σ q → gk σ q = 5 ∨ gk σ q = 22 ∨ gk σ q = 103 := fun q hq => by
  rcases hq with rfl | hq
  · exact Or.inl h.1.1
  · exact Or.inr (h.2.2.2.2.1.tg q hq)
theorem RS.S (h : RS G KK T R X K w t a tp bl sl bs m k n s σ) : ∀ q, rW a bl σ q → gk σ q ≠ 23 ∧ (gk σ q = 102 → q = R 5) := fun q hq => by
  have := h.tg q hq; omega
/-- a term's own cells stay -/
theorem oI.F (ho : oI bl σ τ I) (ha : a < gn σ) (hb : bl < gn σ) (hf : rF a bl τ υ) : oI bl σ υ I ∧ ∀ q, I q → ¬ rW a bl τ q := by
  have no : ∀ q, I q → ¬ rW a bl τ q := fun q hq hw => by
    obtain ⟨h1, h2, h3, h4⟩ := ho q hq
    rcases hw with hw | hw | hw
    · omega
    · omega
    · exact h4 hw.1
  refine ⟨fun q hq => ?_, no⟩
  obtain ⟨h1, h2, h3, h4⟩ := ho q hq
  have h0 := (tmt_ne h3).1
  refine ⟨h1, Nat.lt_of_lt_of_le h2 hf.2.2.1.1, by rw [hf.2.2.2 q h0]; exact h3, fun z => ?_⟩
  rcases hf.2.1 q z with z | z
  · exact h4 z
  · exact h0 z
theorem oI.lo (ho : oI bl σ τ I) (h : gn υ ≤ gn σ) : oI bl υ τ I := fun q hq => ⟨Nat.le_trans h (ho q hq).1, (ho q hq).2⟩
theorem rT.F {v : V} {y : Nat} (h : RS G KK T R X K w t a tp bl sl bs m k n s τ) (hr : rT R TN τ v y 0 I) (ho : oI bl σ τ I) (ha : a < gn σ) (hb : bl < gn σ) (hf : rF a bl τ υ) : rT R TN υ v y 0 I :=
  rT_keep hf.1 h.S v y 0 I hr (ho.F ha hb hf).2 (fun z => absurd rfl z)
/-- where a term is said to begin -/
theorem rT_from {f : Nat} : ∀ (v : V) (y i : Nat) (I : Nat → Prop), rT R TN σ v y i I → i = 0 → rT R TN (gpi y 1 (iI (f : Int)) σ) (refrom f v) y i I := by
  intro v y i I
  have kp : ∀ y, keep (fun q => q = y) σ (gpi y 1 (iI (f : Int)) σ) := fun y => keep.rf.pi (fun _ => rfl)
  fun_cases rT R TN σ v y i I with
  | case1 f' k a I =>
    rintro ⟨h1, h2, h3, h4, h5⟩ -
    exact ⟨h1, h2, by rw [gi_pi, if_pos ⟨rfl, rfl⟩], h4, by rw [gi_pi, if_neg (by omega)]; exact h5⟩
  | case2 f' p a I =>
    rintro ⟨h1, h2, h3, h4, ⟨o, h5, h6⟩, h7, h8⟩ -
    exact ⟨h1, h2, by rw [gi_pi, if_pos ⟨rfl, rfl⟩], by rw [gi_pi, if_neg (by omega)]; exact h4, ⟨o, h5, h6.kpW (kp _) (fun q hq => by subst hq; omega)⟩, h7, by rw [gi_pi, if_neg (by omega)]; exact h8⟩
  | case3 f' p d b a I =>
    rintro ⟨h1, h2, h3, h4, x, y, I1, I2, h5, h6, h7, h8, h9, h10⟩ -
    exact ⟨h1, h2, by rw [gi_pi, if_pos ⟨rfl, rfl⟩], by rw [gi_pi, if_neg (by omega)]; exact h4, x, y, I1, I2, h5, h6, h7, h8, rT_keep (kp _) (fun q hq => by subst hq; omega) _ _ _ _ h9 (fun q hq => (h7 q hq).2) (fun z => absurd rfl z), rT_keep (kp _) (fun q hq => by subst hq; omega) _ _ _ _ h10 (fun q hq => (h8 q hq).2.1) (fun z => absurd rfl z)⟩
  | case4 f' p d b a I =>
    rintro ⟨h1, h2, h3, h4, x, y, I1, I2, h5, h6, h7, h8, h9, h10⟩ -
    exact ⟨h1, h2, by rw [gi_pi, if_pos ⟨rfl, rfl⟩], by rw [gi_pi, if_neg (by omega)]; exact h4, x, y, I1, I2, h5, h6, h7, h8, rT_keep (kp _) (fun q hq => by subst hq; omega) _ _ _ _ h9 (fun q hq => (h7 q hq).2) (fun z => absurd rfl z), rT_keep (kp _) (fun q hq => by subst hq; omega) _ _ _ _ h10 (fun q hq => (h8 q hq).2.1) (fun z => absurd rfl z)⟩
  | case5 f' p d b a I =>
    rintro ⟨h1, h2, h3, h4, x, y, I1, I2, h5, h6, h7, h8, h9, h10⟩ -
    exact ⟨h1, h2, by rw [gi_pi, if_pos ⟨rfl, rfl⟩], by rw [gi_pi, if_neg (by omega)]; exact h4, x, y, I1, I2, h5, h6, h7, h8, rT_keep (kp _) (fun q hq => by subst hq; omega) _ _ _ _ h9 (fun q hq => (h7 q hq).2) (fun z => absurd rfl z), rT_keep (kp _) (fun q hq => by subst hq; omega) _ _ _ _ h10 (fun q hq => (h8 q hq).2.1) (fun z => absurd rfl z)⟩
  | case6 f' p g ps a I =>
    rintro ⟨h1, h2, h3, h4, x, al, z, I1, I2, h5, h6, h7, h8, h9, h10, h11, h12, h13, h14, h15, h16, h17, h18, h19⟩ -
    refine ⟨h1, h2, by rw [gi_pi, if_pos ⟨rfl, rfl⟩], by rw [gi_pi, if_neg (by omega)]; exact h4, x, al, z, I1, I2, h5, h6, h7, h8, h9, h10, h11, ?_, h13, h14, h15, h16, h17, rT_keep (kp _) (fun q hq => by subst hq; omega) _ _ _ _ h18 (fun q hq => (h16 q hq).2.1) (fun z => absurd rfl z), rT_keep (kp _) (fun q hq => by subst hq; omega) _ _ _ _ h19 (fun q hq => (h17 q hq).2.1) (fun _ => ⟨by omega, fun q => by rw [q] at h10; omega⟩)⟩
    rw [gi_pi, if_neg (by omega)]; exact h12
  | case7 p ps z i I => intro _ q; omega
  | case8 => intro _ q; omega
  | case9 => intro q; exact q.elim
theorem rT_tm : ∀ (v : V) (y i : Nat) (I : Nat → Prop), rT R TN σ v y i I → i = 0 → isTmA σ y ∧ I y ∧ (gk σ y = 8 ∨ gk σ y = 9 ∨ gk σ y = 10 ∨ gk σ y = 11 ∨ gk σ y = 12 ∨ gk σ y = 13) := by
  intro v y i I
  fun_cases rT R TN σ v y i I with
  | case1 f' k a I => rintro ⟨h1, h2, -⟩ -; exact ⟨⟨10, by decide, h1⟩, h2, by omega⟩
  | case2 f' p a I => rintro ⟨h1, h2, -⟩ -; exact ⟨⟨11, by decide, h1⟩, h2, by omega⟩
  | case3 f' p d b a I => rintro ⟨h1, h2, -⟩ -; exact ⟨⟨7, by decide, h1⟩, h2, by omega⟩
  | case4 f' p d b a I => rintro ⟨h1, h2, -⟩ -; exact ⟨⟨8, by decide, h1⟩, h2, by omega⟩
  | case5 f' p d b a I => rintro ⟨h1, h2, -⟩ -; exact ⟨⟨9, by decide, h1⟩, h2, by omega⟩
  | case6 f' p g ps a I => rintro ⟨h1, h2, -⟩ -; exact ⟨⟨12, by decide, h1⟩, h2, by omega⟩
  | case7 p ps z i I => intro _ q; omega
  | case8 => intro _ q; omega
  | case9 => intro q; exact q.elim
/-- a body, under one more name -/
theorem c_rbody {p : Option Nat} (ih : CRt G s0 l KK T R X K w t a tp bl sl lev d) (hl : 8 ≤ lev) (h : RS G KK T R X K w t a tp bl sl bs (40 - (d : Int)) k (n + 1) (s + 60) σ) (hd : bs.length + 1 + d ≤ 40) (ho : pS σ (R 5) o (bnm t p))
    (ok : ∀ τ y v k' I, rTerm t d (p :: bs) k = .ok (v, k') → RS G KK T R X K w t a tp bl sl bs (40 - (d : Int)) k' n s τ → rF a bl σ τ → rT R (tname t) τ v y 0 I → oI bl σ τ I → k.pl < k'.pl → Q (.returned (some (va_rf (some y)))) τ)
    (er : ∀ x τ (e : Nat) q, rTerm t d (p :: bs) k = .error (e, q) → flt τ x (e : Int) q → rF a bl σ τ → MB G R τ X K w n s → Q (.threw x) τ) : CQ (wP G s0 l KK T) mX6_body (lev + 1) (.ref a :: [va_rf (some o)]) σ Q := by
  obtain ⟨l', rfl⟩ : ∃ l', lev = l' + 1 := ⟨lev - 1, by omega⟩
  have hB := h.2.2.2.2.1
  refine tX6_body ⟨h.1.1, bl, h.1.2.2.2.1, hB.1, c_push (n := n + 1 + 12 * (t.2 - k.pl)) (s := s + 8 + 128 * (t.2 - k.pl)) (by omega) hB (by omega) (h.2.2.2.2.2.1.le (by omega) (by omega)) ho (fun τ f1 f2 f3 _ => ?_)⟩
  have hS := hB.S
  -- the reader, under the new name
  have h1 : RS G KK T R X K w t a tp bl sl (p :: bs) (40 - (d : Int)) k n s τ := by
    obtain ⟨⟨d1, d2, d3, d4, d5, d6, d7, d8, d9⟩, h2, ⟨k1, k2, k3, k4, k5, k6, k7, k8⟩, h4, h5, h6, h7, h8, h9⟩ := h
    have tg := hB.tg
    obtain ⟨y1, y2, y3, y4⟩ := f1.1 a (by omega) (fun q => by have := tg a q; omega)
    obtain ⟨z1, z2, z3, z4⟩ := f1.1 tp (by omega) (fun q => by have := tg tp q; omega)
    refine ⟨⟨y1.trans d1, (y3 0).trans d2, (y2 1).trans d3, (y3 8).trans d4, (y3 9).trans d5, z1.trans d6, by rw [z4]; exact d7, d8, fun j hj => by rw [z2]; exact d9 j hj⟩, h2.mv f1.1 hS, ⟨(y2 3).trans k1, (y3 7).trans k2, (y2 2).trans k3, fun q => ?_, fun q => (y2 4).trans (k5 q), k6, k7, k8⟩, (y2 5).trans h4, f2, f3, h7, h8, h9⟩
    obtain ⟨v, v1, v2, v3⟩ := k4 q
    refine ⟨v, (y3 6).trans v1, v2.kpW f1.1 hS, fun z => ?_⟩
    obtain ⟨x1, x2, x3, x4⟩ := f1.1 v (by have := v2.1; omega) (fun q => (hS v q).1 v2.1)
    rw [x2]
    exact v3 z
  refine ih (p :: bs) k n s τ _ h1 (by rw [List.length_cons]; omega) (fun τ1 y v k' I e1 e2 e3 e4 e5 e6 => fun _ => ?_) (fun x τ1 e q e1 e2 e3 e4 => fun _ => er x τ1 e q e1 e2 (f1.F.tr e3) e4)
  have hB1 := e2.2.2.2.2.1
  refine ⟨bl, e2.1.2.2.2.1, hB1.1, tJ2_size ⟨hB1.1, fun _ => ?_⟩⟩
  rw [hB1.2.1, List.length_cons, iI_prd]
  refine c_pop (by omega) hB1 (by omega) e2.2.2.2.2.2.1 (fun τ2 x g1 g2 g3 g4 => onR_ret (fun _ => ?_))
  have hS1 := hB1.S
  have h2 : RS G KK T R X K w t a tp bl sl bs (40 - (d : Int)) k' n s τ2 := by
    obtain ⟨⟨d1, d2, d3, d4, d5, d6, d7, d8, d9⟩, h2, ⟨k1, k2, k3, k4, k5, k6, k7, k8⟩, h4, h5, h6, h7, h8, h9⟩ := e2
    have tg := hB1.tg
    obtain ⟨y1, y2, y3, y4⟩ := g1.1 a (by omega) (fun q => by have := tg a q; omega)
    obtain ⟨z1, z2, z3, z4⟩ := g1.1 tp (by omega) (fun q => by have := tg tp q; omega)
    refine ⟨⟨y1.trans d1, (y3 0).trans d2, (y2 1).trans d3, (y3 8).trans d4, (y3 9).trans d5, z1.trans d6, by rw [z4]; exact d7, d8, fun j hj => by rw [z2]; exact d9 j hj⟩, h2.mv g1.1 hS1, ⟨(y2 3).trans k1, (y3 7).trans k2, (y2 2).trans k3, fun q => ?_, fun q => (y2 4).trans (k5 q), k6, k7, k8⟩, (y2 5).trans h4, g2, g3, h7, h8, h9⟩
    obtain ⟨v, v1, v2, v3⟩ := k4 q
    refine ⟨v, (y3 6).trans v1, v2.kpW g1.1 hS1, fun z => ?_⟩
    obtain ⟨x1, x2, x3, x4⟩ := g1.1 v (by have := v2.1; omega) (fun q => (hS1 v q).1 v2.1)
    rw [x2]
    exact v3 z
  have lo : gn σ ≤ gn τ := f1.2.2.1.1
  have hF : rF a bl τ1 τ2 := g1.F
  exact ok τ2 y v k' I e1 h2 (f1.F.tr (e3.tr hF)) (e4.F e2 e5 h1.la h1.lb hF) ((e5.F h1.la h1.lb hF).1.lo lo) e6
end PRM
