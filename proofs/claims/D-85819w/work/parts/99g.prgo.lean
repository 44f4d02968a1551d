/-! P OVER S (34): reading: tokens -/
/-- the text on the tape -/
def pTx (t : TX) (σ : GSt) (tp : Nat) : Prop := gk σ tp = 102 ∧ t.2 ≤ gl σ tp ∧ t.2 ≤ 4000 ∧ ∀ j, j < t.2 → gi σ tp j &&& iI 255 = iI (t.1 j : Int) ∧ t.1 j < 256
/-- the reader -/
def pRd (t : TX) (σ : GSt) (a tp bl sl : Nat) : Prop := gk σ a = 5 ∧ gr σ a 0 = some tp ∧ gi σ a 1 = iI (t.2 : Int) ∧ gr σ a 8 = some bl ∧ gr σ a 9 = some sl ∧ pTx t σ tp
/-- texts of the reader's own -/
def TT (R : Nat → Nat) (σ : GSt) (T : Nat → Nat) : Prop := (∀ w, w < 9 → pS σ (R 5) (T (4 + w)) (kept.getD w [])) ∧ pS σ (R 5) (T 13) [92, 33, 58, 46, 59, 61, 40, 41] ∧ pS σ (R 5) (T 14) []
def KI (KK : Nat → Option Nat) : Prop := ∀ i j, i ≤ 5 → j ≤ 5 → KK i = KK j → i = j
/-- the token at hand -/
def pTk (KK : Nat → Option Nat) (R : Nat → Nat) (t : TX) (σ : GSt) (a : Nat) (k : TK) : Prop := gi σ a 3 = iI (k.pl : Int) ∧ gr σ a 7 = KK k.ki ∧ gi σ a 2 = iI (k.nx : Int) ∧ (k.ki ≤ 1 → ∃ w, gr σ a 6 = some w ∧ pS σ (R 5) w (tname t k.pl) ∧ (k.ki = 1 → gi σ w 2 = jh 0 (tname t k.pl) ∧ jh 0 (tname t k.pl) ≠ 0)) ∧ (k.ki = 2 → gi σ a 4 = iI (k.sg : Int)) ∧ k.ki ≤ 5 ∧ k.pl ≤ t.2 ∧ k.nx ≤ t.2
/-- what reading a token leaves -/
def rk (a : Nat) (σ τ : GSt) : Prop := keep (fun q => q = a) σ τ ∧ gk τ a = gk σ a ∧ (∀ j, j = 1 ∨ j = 5 → gi τ a j = gi σ a j) ∧ ∀ j, j ≠ 6 → j ≠ 7 → gr τ a j = gr σ a j
section PRG
variable {G : GPl} {s0 : State} {l : Launch} {KK : Nat → Option Nat} {T : Nat → Nat} {lev : Nat} {Q : Outcome → GSt → Prop} {R : Nat → Nat} {σ τ υ st0 : GSt} {X : SX} {K : KS} {w n s o a tp bl sl : Nat} {W : Nat → Prop} {t : TX}
theorem gpi_pi {j : Nat} {v u : Int32} : gpi a j v (gpi a j u σ) = gpi a j v σ := by
  have e : va_up (va_up σ.2.1 a (upd (σ.2.1 a) j u)) a (upd (va_up σ.2.1 a (upd (σ.2.1 a) j u) a) j v) = va_up σ.2.1 a (upd (σ.2.1 a) j v) := by
    funext b i
    by_cases hb : b = a
    · subst hb
      rw [va_up_self, va_up_self, va_up_self]
      by_cases hi : i = j
      · subst hi; rw [pk_us, pk_us]
      · rw [pk_un hi, pk_un hi, pk_un hi]
    · rw [va_up_ne _ _ hb, va_up_ne _ _ hb, va_up_ne _ _ hb]
  show (σ.1, va_up (va_up σ.2.1 a (upd (σ.2.1 a) j u)) a (upd (va_up σ.2.1 a (upd (σ.2.1 a) j u) a) j v), σ.2.2) = _
  rw [e]
  rfl
theorem rk.rf : rk a σ σ := ⟨keep.rf, rfl, fun _ _ => rfl, fun _ _ _ => rfl⟩
theorem rk.tr (h : rk a σ τ) (k : rk a τ υ) : rk a σ υ := ⟨h.1.t2 k.1, k.2.1.trans h.2.1, fun j hj => (k.2.2.1 j hj).trans (h.2.2.1 j hj), fun j h1 h2 => (k.2.2.2 j h1 h2).trans (h.2.2.2 j h1 h2)⟩
theorem rk.pi {j : Nat} {v : Int32} (hj : j = 2 ∨ j = 3 ∨ j = 4) : rk a σ (gpi a j v σ) := ⟨keep.rf.pi (fun _ => rfl), rfl, fun i hi => by rw [gi_pi, if_neg (by omega)], fun _ _ _ => rfl⟩
theorem rk.pr {j : Nat} {x : Option Nat} (hj : j = 6 ∨ j = 7) : rk a σ (gpr a j x σ) := ⟨keep.rf.pr (fun _ => rfl), rfl, fun _ _ => rfl, fun i h1 h2 => by rw [gr_pr, if_neg (by omega)]⟩
theorem rk.nl (hk : keep nil0 σ τ) (ha : gk σ a ≠ 0) : rk a σ τ := by
  obtain ⟨h1, h2, h3, h4⟩ := hk a ha id
  exact ⟨hk.wk (fun _ z => z.elim), h1, fun j _ => h2 j, fun j _ _ => h3 j⟩
theorem pRd.mv (h : pRd t σ a tp bl sl) (hk : rk a σ τ) : pRd t τ a tp bl sl := by
  obtain ⟨h1, h2, h3, h4, h5, h6, h7, h8, h9⟩ := h
  obtain ⟨y1, y2, y3, y4⟩ := hk.1 tp (by omega) (fun q => by rw [q] at h6; omega)
  exact ⟨hk.2.1.trans h1, (hk.2.2.2 0 (by omega) (by omega)).trans h2, (hk.2.2.1 1 (by omega)).trans h3, (hk.2.2.2 8 (by omega) (by omega)).trans h4, (hk.2.2.2 9 (by omega) (by omega)).trans h5, y1.trans h6, by rw [y4]; exact h7, h8, fun j hj => by rw [y2]; exact h9 j hj⟩
theorem TT.mv (h : TT R σ T) (hk : keep W σ τ) (hS : ∀ q, W q → gk σ q ≠ 23 ∧ (gk σ q = 102 → q = R 5)) : TT R τ T := ⟨fun w hw => (h.1 w hw).kpW hk hS, h.2.1.kpW hk hS, h.2.2.kpW hk hS⟩
theorem rk.S (hk : rk a σ τ) (h5 : gk σ a = 5) : ∀ q, q = a → gk σ q ≠ 23 ∧ (gk σ q = 102 → q = R 5) := fun q hq => by subst hq; omega
theorem c_byte {k : Nat} (hl : 1 ≤ lev) (h : pRd t σ a tp bl sl) (hk : k ≤ 5000) (ok : tbyte t k < 256 → Q (.returned (some (.int (iI (tbyte t k : Int))))) σ) : CQ (wP G s0 l KK T) mX6_byteAt lev (.ref a :: [.int (iI (k : Int))]) σ Q := by
  obtain ⟨l', rfl⟩ := Nat.exists_eq_add_of_le' hl
  obtain ⟨h1, h2, h3, h4, h5, h6, h7, h8, h9⟩ := h
  refine tX6_byteAt ⟨h1, fun q => ?_, fun q => ⟨tp, h2, h6, ?_⟩⟩
  · rw [h3, iI_le (by omega) (by omega) (by omega) (by omega)] at q
    have e : tbyte t k = 0 := by unfold tbyte; rw [if_neg (by omega)]
    rw [e] at ok
    exact ok (by omega)
  · have hk2 : k < t.2 := by
      apply Classical.byContradiction
      intro z
      exact q (by rw [h3, iI_le (by omega) (by omega) (by omega) (by omega)]; omega)
    obtain ⟨y1, y2⟩ := h9 k hk2
    refine ⟨iI_in (by omega) (by omega), ?_⟩
    rw [iI_ix (by omega), y1, ← tbyte_lt hk2]
    exact ok (by rw [tbyte_lt hk2]; exact y2)
theorem c_sk47 (hl : 1 ≤ lev) (h : pRd t σ a tp bl sl) : ∀ (m k : Nat), t.2 ≤ m + k → k ≤ t.2 → (∀ e, sRun t (fun c => c != 125) m k = e → k ≤ e → e ≤ t.2 → jX6_skips_77 G s0 l KK T lev st0 Q a (iI 123) (iI (e : Int)) σ) → jX6_skips_47 G s0 l KK T lev st0 Q a (iI 123) (iI (k : Int)) σ := by
  have h8 := h.2.2.2.2.2.2.2.1
  intro m
  induction m with
  | zero =>
    intro k hm hk ok
    exact tX6_skips_47 ⟨fun _ => ⟨h.1, fun _ => ok k rfl (Nat.le_refl _) hk, fun q => absurd (by rw [h.2.2.1, iI_le (by omega) (by omega) (by omega) (by omega)]; omega) q⟩, fun q => absurd rfl q⟩
  | succ m ih =>
    intro k hm hk ok
    refine tX6_skips_47 ⟨fun _ => ⟨h.1, fun q => ?_, fun q => ?_⟩, fun q => absurd rfl q⟩
    · rw [h.2.2.1, iI_le (by omega) (by omega) (by omega) (by omega)] at q
      exact ok k (by unfold sRun; rw [if_neg (by omega)]) (Nat.le_refl _) hk
    · have hk2 : k < t.2 := by
        apply Classical.byContradiction
        intro z
        exact q (by rw [h.2.2.1, iI_le (by omega) (by omega) (by omega) (by omega)]; omega)
      refine c_byte hl h (by omega) (fun hb => fun _ => ⟨fun w => ?_, fun w => ?_⟩)
      · rw [iI_eq (by omega) (by omega) (by omega) (by omega)] at w
        refine ok k ?_ (Nat.le_refl _) hk
        unfold sRun
        rw [if_neg]
        rintro ⟨-, q⟩
        rw [show tbyte t k = 125 by omega] at q
        exact absurd q (by decide)
      · rw [iI_suc]
        refine ih (k + 1) (by omega) hk2 (fun e e1 e2 e3 => ok e ?_ (by omega) e3)
        have hb : (fun c => c != 125) (tbyte t k) = true := bne_iff_ne.mpr (fun q => w (by rw [q]; rfl))
        unfold sRun
        rw [if_pos ⟨hk2, hb⟩]
        exact e1
theorem c_skips (hl : 1 ≤ lev) : ∀ (m k : Nat) (σ : GSt), pRd t σ a tp bl sl → t.2 < m + k → k ≤ t.2 → gi σ a 2 = iI (k : Int) → (∀ p b, sSkip t m k = (b, p) → p ≤ t.2 → ∀ τ, (τ = σ ∨ ∃ v, τ = gpi a 2 v σ) → gi τ a 2 = iI (p : Int) → Q (.returned (some (.int (bI b)))) τ) → jX6_skips_0 G s0 l KK T lev st0 Q a σ := by
  intro m
  induction m with
  | zero => intro k σ h hm hk; omega
  | succ m ih =>
    intro k σ h hm hk h2 ok
    have h8 := h.2.2.2.2.2.2.2.1
    -- go on, at k2
    have go : ∀ k2, k < k2 → k2 ≤ t.2 → sSkip t (m + 1) k = sSkip t m k2 → jX6_skips_0 G s0 l KK T lev st0 Q a (gpi a 2 (iI (k2 : Int)) σ) := fun k2 h1 h3 hs => by
      have hr : rk a σ (gpi a 2 (iI (k2 : Int)) σ) := rk.pi (Or.inl rfl)
      refine ih k2 _ (h.mv hr) (by omega) h3 (by rw [gi_pi, if_pos ⟨rfl, rfl⟩]) (fun p b e1 e2 τ hτ hi => ok p b (hs.trans e1) e2 τ ?_ hi)
      rcases hτ with rfl | ⟨v, rfl⟩
      · exact Or.inr ⟨_, rfl⟩
      · refine Or.inr ⟨v, ?_⟩
        exact gpi_pi
    refine tX6_skips_0 ⟨h.1, fun q => ?_, fun q => ?_⟩
    · rw [h.2.2.1, h2, iI_le (by omega) (by omega) (by omega) (by omega)] at q
      exact ok k false (by rw [sSkip, if_neg (by omega)]) hk σ (Or.inl rfl) h2
    · have hk2 : k < t.2 := by
        apply Classical.byContradiction
        intro z
        exact q (by rw [h.2.2.1, h2, iI_le (by omega) (by omega) (by omega) (by omega)]; omega)
      rw [h2]
      have white : tbyte t k = 10 ∨ tbyte t k = 32 → tbyte t k < 256 → jX6_skips_40 G s0 l KK T lev st0 Q a (iI (tbyte t k : Int)) σ := fun hb h256 => by
        have ne : ¬ iI (tbyte t k : Int) = iI 123 := fun w => by rw [iI_eq (by omega) (by omega) (by omega) (by omega)] at w; omega
        refine tX6_skips_40 ⟨h.1, ?_⟩
        rw [h2, iI_suc]
        exact tX6_skips_47 ⟨fun w => absurd w ne, fun _ => tX6_skips_77 ⟨fun w => absurd w ne, fun _ => tX6_skips_93 ⟨fun w => absurd w ne, fun _ => ⟨h.1, go (k + 1) (by omega) hk2 (by rw [sSkip, if_pos hk2, if_pos hb])⟩⟩⟩⟩
      refine c_byte hl h (by omega) (fun hb => fun _ => ⟨fun w => white (Or.inl ?_) hb, fun w => ⟨fun w1 => white (Or.inr ?_) hb, fun w1 => ⟨fun w2 => ?_, fun w2 => ?_⟩⟩⟩)
      · rw [iI_eq (by omega) (by omega) (by omega) (by omega)] at w; omega
      · rw [iI_eq (by omega) (by omega) (by omega) (by omega)] at w1; omega
      · rw [w2]
        rw [iI_eq (by omega) (by omega) (by omega) (by omega)] at w2
        have b123 : tbyte t k = 123 := by omega
        refine tX6_skips_40 ⟨h.1, ?_⟩
        rw [h2, iI_suc]
        refine c_sk47 hl h t.2 (k + 1) (by omega) hk2 (fun e e1 e2 e3 => tX6_skips_77 ⟨fun _ => ⟨h.1, fun w3 => ?_, fun w3 => ?_⟩, fun w3 => absurd rfl w3⟩)
        · rw [h.2.2.1, iI_eq (by omega) (by omega) (by omega) (by omega)] at w3
          refine ok k true ?_ hk σ (Or.inl rfl) h2
          rw [sSkip, if_pos hk2, if_neg (by omega), if_pos b123]
          show (if sRun t (fun c => c != 125) t.2 (k + 1) = t.2 then (true, k) else _) = _
          rw [if_pos (by omega)]
        · have ne : e ≠ t.2 := fun z => w3 (by rw [h.2.2.1, z])
          refine tX6_skips_93 ⟨fun _ => ⟨h.1, ?_⟩, fun w3 => absurd rfl w3⟩
          rw [iI_suc]
          refine go (e + 1) (by omega) (by omega) ?_
          rw [sSkip, if_pos hk2, if_neg (by omega), if_pos b123]
          show (if sRun t (fun c => c != 125) t.2 (k + 1) = t.2 then (true, k) else sSkip t m (sRun t (fun c => c != 125) t.2 (k + 1) + 1)) = _
          rw [e1, if_neg ne]
      · refine ok k false ?_ hk σ (Or.inl rfl) h2
        rw [sSkip, if_pos hk2, if_neg, if_neg]
        · exact fun z => w2 (by rw [z]; rfl)
        · rintro (z | z)
          · exact w (by rw [z]; rfl)
          · exact w1 (by rw [z]; rfl)
end PRG
