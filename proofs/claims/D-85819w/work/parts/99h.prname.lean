/-! P OVER S (35): reading: signs, names, the next token -/
section PRH
variable {G : GPl} {s0 : State} {l : Launch} {KK : Nat → Option Nat} {T : Nat → Nat} {lev : Nat} {Q : Outcome → GSt → Prop} {R : Nat → Nat} {σ τ υ st0 : GSt} {X : SX} {K : KS} {w n s o a tp bl sl : Nat} {W : Nat → Prop} {t : TX}
theorem c_sign {p c : Nat} (hl : 6 ≤ lev) (h : pRd t σ a tp bl sl) (hT : TT R σ T) (hp : p < t.2) (h2 : gi σ a 2 = iI (p : Int)) (hc : c = tbyte t p) (hc2 : c < 256)
    (ok : Q (.returned none) (gpi a 2 (iI ((p + (if (c == 45 && tbyte t (p + 1) == 62) || (c == 58 && tbyte t (p + 1) == 61) then 2 else 1) : Nat) : Int)) (gpi a 4 (iI ((if (c == 45 && tbyte t (p + 1) == 62) then 256 else if (c == 58 && tbyte t (p + 1) == 61) then 257 else c : Nat) : Int)) (gpr a 7 (KK (if ((c == 45 && tbyte t (p + 1) == 62) || [92, 33, 58, 46, 59, 61, 40, 41].contains c) then 2 else 4)) σ)))) : CQ (wP G s0 l KK T) mX6_sign lev (.ref a :: [.int (iI (c : Int))]) σ Q := by
  obtain ⟨l', rfl⟩ : ∃ l', lev = l' + 1 := ⟨lev - 1, by omega⟩
  have h8 := h.2.2.2.2.2.2.2.1
  have h5 := h.1
  have e2 : ∀ (v : Int32) (x : Option Nat), gi (gpi a 4 v (gpr a 7 x σ)) a 2 = iI (p : Int) := fun v x => by rw [gi_pi, if_neg (by omega), gi_pr]; exact h2
  have pl2 : iI (p : Int) + iI 2 = iI ((p + 2 : Nat) : Int) := by rw [iI_add]; rfl
  have j52 : ¬ (c = 45 ∧ tbyte t (p + 1) = 62) → ¬ (c = 58 ∧ tbyte t (p + 1) = 61) → jX6_sign_52 G s0 l KK T l' σ Q a (iI (c : Int)) (iI 0) σ := fun n1 n2 => by
    have f1 : (c == 45 && tbyte t (p + 1) == 62) = false := by
      apply Bool.eq_false_iff.mpr; intro q; simp only [Bool.and_eq_true, beq_iff_eq] at q; exact n1 q
    have f2 : (c == 58 && tbyte t (p + 1) == 61) = false := by
      apply Bool.eq_false_iff.mpr; intro q; simp only [Bool.and_eq_true, beq_iff_eq] at q; exact n2 q
    rw [f1, f2] at ok
    refine tX6_sign_52 ⟨fun _ => ⟨hT.2.1.1, c_index (by omega) hT.2.1 hc2 (by decide) (fun r r1 r2 r3 => fun _ => ⟨fun q => ?_, fun q => ?_⟩)⟩, fun q => absurd rfl q⟩
    · have nc : [92, 33, 58, 46, 59, 61, 40, 41].contains c = false := by
        apply Bool.eq_false_iff.mpr
        intro z
        have := r3.mpr z
        rw [iI_z, iI_lt (by omega) (by omega) (by omega) (by omega)] at q; omega
      rw [nc] at ok
      refine ⟨h5, fun _ => ⟨fun _ => ?_, fun q => absurd rfl q⟩, fun q => absurd rfl q⟩
      rw [e2, iI_suc]
      exact ok
    · have nc : [92, 33, 58, 46, 59, 61, 40, 41].contains c = true := by
        refine r3.mp ?_
        apply Classical.byContradiction
        intro z
        exact q (by rw [iI_z, iI_lt (by omega) (by omega) (by omega) (by omega)]; omega)
      rw [nc] at ok
      refine ⟨h5, fun _ => ⟨fun _ => ?_, fun q => absurd rfl q⟩, fun q => absurd rfl q⟩
      rw [e2, iI_suc]
      exact ok
  have j25 : ¬ (c = 45 ∧ tbyte t (p + 1) = 62) → jX6_sign_25 G s0 l KK T l' σ Q a (iI (c : Int)) σ := fun n1 => by
    refine tX6_sign_25 ⟨fun q => ⟨h5, ?_⟩, fun q => j52 n1 (fun z => q (by rw [z.1]; rfl))⟩
    have c58 : c = 58 := by rw [iI_eq (by omega) (by omega) (by omega) (by omega)] at q; omega
    rw [h2, iI_suc]
    refine c_byte (by omega) h (by omega) (fun hb => fun _ => ⟨fun q2 => ⟨hT.2.1.1, ?_⟩, fun q2 => j52 n1 (fun z => q2 (by rw [z.2]; rfl))⟩)
    have b61 : tbyte t (p + 1) = 61 := by rw [iI_eq (by omega) (by omega) (by omega) (by omega)] at q2; omega
    have f1 : (c == 45 && tbyte t (p + 1) == 62) = false := by rw [c58]; rfl
    have f2 : (c == 58 && tbyte t (p + 1) == 61) = true := by rw [c58, b61]; rfl
    have f3 : [92, 33, 58, 46, 59, 61, 40, 41].contains c = true := by rw [c58]; rfl
    rw [f1, f2, f3] at ok
    refine c_index (by omega) hT.2.1 hc2 (by decide) (fun r r1 r2 r3 => fun _ => ⟨fun q3 => ?_, fun _ => ?_⟩)
    · have := r3.mpr f3
      rw [iI_z, iI_lt (by omega) (by omega) (by omega) (by omega)] at q3; omega
    · rw [e2, pl2]
      exact ok
  refine tX6_sign ⟨fun q => ⟨h5, ?_⟩, fun q => j25 (fun z => q (by rw [z.1]; rfl))⟩
  have c45 : c = 45 := by rw [iI_eq (by omega) (by omega) (by omega) (by omega)] at q; omega
  rw [h2, iI_suc]
  refine c_byte (by omega) h (by omega) (fun hb => fun _ => ⟨fun q2 => ⟨fun q3 => ?_, fun _ => ?_⟩, fun q2 => j25 (fun z => q2 (by rw [z.2]; rfl))⟩)
  · rw [c45] at q3; exact absurd q3 (by decide)
  · have b62 : tbyte t (p + 1) = 62 := by rw [iI_eq (by omega) (by omega) (by omega) (by omega)] at q2; omega
    have f1 : (c == 45 && tbyte t (p + 1) == 62) = true := by rw [c45, b62]; rfl
    rw [f1] at ok
    refine tX6_sign_52 ⟨fun q => absurd q (by decide), fun _ => ⟨h5, fun q => absurd q (by decide), fun _ => ⟨fun q => absurd q (by decide), fun _ => ?_⟩⟩⟩
    rw [e2, pl2]
    exact ok
/-- a name that is being built: B the builder, v its bytes, from p, as far as k -/
def nB (t : TX) (σ : GSt) (a B v p k : Nat) : Prop := gi σ a 2 = iI (k : Int) ∧ gk σ B = 24 ∧ gr σ B 0 = some v ∧ gk σ v = 102 ∧ gl σ v = 12 ∧ gi σ B 1 = 0 ∧ gi σ B 3 = iI ((min 12 (k - p) : Nat) : Int) ∧ ∀ j, j < min 12 (k - p) → gi σ v j = iI (tbyte t (p + j) : Int) ∧ tbyte t (p + j) < 128
def nF (a B v : Nat) (σ τ : GSt) : Prop := keep (fun q => q = a ∨ q = B ∨ q = v) σ τ ∧ (∀ b, gk τ b = gk σ b) ∧ (∀ j, j ≠ 2 → gi τ a j = gi σ a j) ∧ (∀ j, gr τ a j = gr σ a j) ∧ gn τ = gn σ ∧ gm τ = gm σ
theorem nF.rf {B v : Nat} : nF a B v σ σ := ⟨keep.rf, fun _ => rfl, fun _ _ => rfl, fun _ => rfl, rfl, rfl⟩
theorem nF.tr {B v : Nat} (h : nF a B v σ τ) (k : nF a B v τ υ) : nF a B v σ υ := ⟨h.1.t2 k.1, fun b => (k.2.1 b).trans (h.2.1 b), fun j hj => (k.2.2.1 j hj).trans (h.2.2.1 j hj), fun j => (k.2.2.2.1 j).trans (h.2.2.2.1 j), k.2.2.2.2.1.trans h.2.2.2.2.1, k.2.2.2.2.2.trans h.2.2.2.2.2⟩
theorem nF.Rd {B v : Nat} (h : pRd t σ a tp bl sl) (hk : nF a B v σ τ) (hB : gk σ B ≠ 102) (hv : tp ≠ v) : pRd t τ a tp bl sl := by
  obtain ⟨h1, h2, h3, h4, h5, h6, h7, h8, h9⟩ := h
  obtain ⟨y1, y2, y3, y4⟩ := hk.1 tp (by omega) (fun q => by
    rcases q with q | q | q
    · rw [q] at h6; omega
    · rw [q] at h6; omega
    · exact hv q)
  exact ⟨(hk.2.1 a).trans h1, (hk.2.2.2.1 0).trans h2, (hk.2.2.1 1 (by omega)).trans h3, (hk.2.2.2.1 8).trans h4, (hk.2.2.2.1 9).trans h5, y1.trans h6, by rw [y4]; exact h7, h8, fun j hj => by rw [y2]; exact h9 j hj⟩
theorem isMor_128 {c : Nat} (h : isMor c = true) : c < 128 := by
  unfold isMor isLet at h
  simp only [Bool.and_eq_true, Bool.or_eq_true, decide_eq_true_eq, beq_iff_eq] at h
  omega
/-- the letters of a name -/
theorem c_nloop {p B v : Nat} (hl : 8 ≤ lev) (hBv : G.h0.size ≤ v) (hv : tp ≠ v) : ∀ (m k : Nat) (σ : GSt), t.2 ≤ m + k → p ≤ k → k ≤ t.2 → pRd t σ a tp bl sl → nB t σ a B v p k →
    (∀ τ e, sRun t isMor m k = e → k ≤ e → e ≤ t.2 → isMor (tbyte t e) = false → nF a B v σ τ → pRd t τ a tp bl sl → nB t τ a B v p e → jX6_name_10 G s0 l KK T lev st0 Q a (some B) τ) → jX6_name_10 G s0 l KK T lev st0 Q a (some B) σ := by
  intro m
  induction m with
  | zero =>
    intro k σ hm hp hk h hB ok
    refine ok σ k rfl (Nat.le_refl _) hk ?_ nF.rf h hB
    unfold tbyte
    rw [if_neg (by omega)]
    rfl
  | succ m ih =>
    intro k σ hm hp hk h hB ok
    have h8 := h.2.2.2.2.2.2.2.1
    cases hM : isMor (tbyte t k) with
    | false => exact ok σ k (by unfold sRun; rw [if_neg (fun q => by rw [hM] at q; cases q.2)]) (Nat.le_refl _) hk hM nF.rf h hB
    | true =>
      have hk2 : k < t.2 := by
        apply Classical.byContradiction
        intro z
        unfold tbyte at hM
        rw [if_neg z] at hM
        cases hM
      obtain ⟨b1, b2, b3, b4, b5, b6, b7, b8⟩ := hB
      have c128 := isMor_128 hM
      have aB : a ≠ B := fun q => by have := h.1; rw [q] at this; omega
      have av : a ≠ v := fun q => by have := h.1; rw [q] at this; omega
      have Bv : B ≠ v := fun q => by rw [q] at b2; omega
      -- one more place
      have go : ∀ τ, nF a B v σ τ → pRd t τ a tp bl sl → nB t (gpi a 2 (iI ((k + 1 : Nat) : Int)) τ) a B v p (k + 1) → gi τ a 2 = iI (k : Int) → jX6_name_47 G s0 l KK T lev st0 Q a (some B) τ := fun τ f1 f2 f3 f4 => by
        refine tX6_name_47 ⟨f2.1, ?_⟩
        rw [f4, iI_suc]
        have f5 : nF a B v σ (gpi a 2 (iI ((k + 1 : Nat) : Int)) τ) := f1.tr ⟨keep.rf.pi (fun _ => Or.inl rfl), fun _ => rfl, fun j hj => by rw [gi_pi, if_neg (fun q => hj q.2)], fun _ => rfl, rfl, rfl⟩
        refine ih (k + 1) _ (by omega) (by omega) hk2 (f2.mv (rk.pi (Or.inl rfl))) f3 (fun τ' e e1 e2 e3 e4 e5 e6 e7 => ok τ' e ?_ (by omega) e3 e4 (f5.tr e5) e6 e7)
        unfold sRun
        rw [if_pos ⟨hk2, hM⟩]
        exact e1
      refine tX6_name_10 ⟨h.1, ?_⟩
      rw [b1]
      refine c_byte (by omega) h (by omega) (fun hb => fun _ => c_more (by omega) hb (fun _ => ⟨fun q => by rw [hM] at q; exact absurd q (by decide), fun _ => ⟨B, rfl, b2, ?_⟩⟩))
      obtain ⟨l', rfl⟩ : ∃ l', lev = l' + 2 := ⟨lev - 2, by omega⟩
      refine tJ13_length ⟨b2, tJ12_length ⟨b2, fun _ => fun _ => ?_⟩⟩
      rw [b7]
      refine ⟨fun q => go σ nF.rf h ?_ b1, fun q => ?_⟩
      · rw [iI_le (by omega) (by omega) (by omega) (by omega)] at q
        refine ⟨by rw [gi_pi, if_pos ⟨rfl, rfl⟩], b2, b3, b4, b5, by rw [gi_pi, if_neg (fun q => aB q.1.symm)]; exact b6, by rw [gi_pi, if_neg (fun q => aB q.1.symm), b7]; congr 2; omega, fun j hj => ?_⟩
        rw [gi_pi, if_neg (fun q => av q.1.symm)]
        exact b8 j (by omega)
      · have hlt : k - p < 12 := by
          apply Classical.byContradiction
          intro z
          exact q (by rw [iI_le (by omega) (by omega) (by omega) (by omega)]; omega)
        rw [b1]
        refine c_byte (by omega) h (by omega) (fun hb => fun _ => ?_)
        rw [c16_nat _ c128]
        have e1 : min 12 (k - p) = k - p := by omega
        rw [e1] at b7 b8
        refine c_sbapp (by omega) b2 b3 b4 b5 b6 b7 hlt c128 hBv (fun _ => go _ ?_ ?_ ?_ ?_)
        · exact ⟨(keep.rf.pi (fun _ => Or.inr (Or.inl rfl))).pi (fun _ => Or.inr (Or.inr rfl)), fun _ => rfl, fun j hj => by rw [gi_pi, if_neg (fun q => av q.1), gi_pi, if_neg (fun q => aB q.1)], fun _ => rfl, rfl, rfl⟩
        · refine nF.Rd (B := B) (v := v) h ⟨(keep.rf.pi (fun _ => Or.inr (Or.inl rfl))).pi (fun _ => Or.inr (Or.inr rfl)), fun _ => rfl, fun j hj => by rw [gi_pi, if_neg (fun q => av q.1), gi_pi, if_neg (fun q => aB q.1)], fun _ => rfl, rfl, rfl⟩ (by omega) hv
        · have e2 : min 12 (k + 1 - p) = k - p + 1 := by omega
          refine ⟨by rw [gi_pi, if_pos ⟨rfl, rfl⟩], b2, b3, b4, b5, ?_, ?_, fun j hj => ?_⟩
          · rw [gi_pi, if_neg (fun q => aB q.1.symm), gi_pi, if_neg (fun q => Bv q.1), gi_pi, if_neg (by omega)]; exact b6
          · rw [gi_pi, if_neg (fun q => aB q.1.symm), gi_pi, if_neg (fun q => Bv q.1), gi_pi, if_pos ⟨rfl, rfl⟩, e2]
          · rw [gi_pi, if_neg (fun q => av q.1.symm), gi_pi]
            by_cases hj2 : j = k - p
            · subst hj2
              rw [if_pos ⟨rfl, rfl⟩, show p + (k - p) = k by omega]
              exact ⟨rfl, c128⟩
            · rw [if_neg (fun q => hj2 q.2), gi_pi, if_neg (fun q => Bv q.1.symm)]
              exact b8 j (by omega)
        · rw [gi_pi, if_neg (fun q => av q.1), gi_pi, if_neg (fun q => aB q.1)]; exact b1
theorem tname_get {p e j c : Nat} (he : sRun t isMor t.2 p = e) : (tname t p)[j]? = some c ↔ j < min 12 (e - p) ∧ tbyte t (p + j) = c := by
  unfold tname
  rw [he, List.getElem?_map]
  by_cases h : j < min 12 (e - p)
  · rw [List.getElem?_range h]
    simp [h]
  · rw [List.getElem?_eq_none (by simp; omega)]
    simp [h]
theorem tname_len {p e : Nat} (he : sRun t isMor t.2 p = e) : (tname t p).length = min 12 (e - p) := by
  unfold tname
  rw [he]
  simp
/-- a name -/
theorem c_rname {p e : Nat} (hl : 9 ≤ lev) (h : pRd t σ a tp bl sl) (hT : TT R σ T) (hK : KI KK) (hp : p < t.2) (h2 : gi σ a 2 = iI (p : Int)) (h3 : gi σ a 3 = iI (p : Int)) (he : sRun t isMor t.2 p = e) (hM : MB G R σ X K w (n + 4) (s + 32))
    (ok : ∀ τ, rk a σ τ → MB G R τ X K w n s → pTk KK R t τ a (if 12 < e - p then 3 else if kept.contains (tname t p) then 1 else 0, p, 0, e) → Q (.returned none) τ) : CQ (wP G s0 l KK T) mX6_name lev (.ref a :: []) σ Q := by
  obtain ⟨l', rfl⟩ : ∃ l', lev = l' + 1 := ⟨lev - 1, by omega⟩
  have h8 := h.2.2.2.2.2.2.2.1
  have hz := hM.1
  have n0 : gk σ (gn σ) = 0 := hz.at
  have ha0 : a < gn σ := hz.lt (by rw [h.1]; omega)
  have hm1 : MB G R (gmk 24 4 σ) X K w (n + 3) (s + 28) := (hM.le (n' := n + 3 + 1) (s' := s + 28 + 4) (by omega) (by omega)).mk
  have e12 : (iI 12).toInt.toNat = 12 := by decide
  have hh0 : G.h0.size ≤ gn σ := hM.2.1.h0 hz
  have frB : ¬ isM R (gn σ) := hM.2.1.fr hz (Nat.le_refl _)
  have frv : ¬ isM R (gn σ + 1) := hM.2.1.fr hz (by omega)
  refine tX6_name ⟨⟨by have := hM.2.2.2.1; omega, by have := hM.2.2.2.2; omega, n0⟩, ?_⟩
  obtain ⟨l2, rfl⟩ : ∃ l2, l' = l2 + 2 := ⟨l' - 2, by omega⟩
  refine tJ13_init (tJ12_init ?_)
  rw [e12]
  have n1 : gk (gmk 24 4 σ) (gn σ + 1) = 0 := hm1.1.at
  refine ⟨iI_in (a := 12) (by omega) (by omega), ⟨by have := hm1.2.2.2.1; omega, by have := hm1.2.2.2.2; omega, n1⟩, ?_, fun _ => fun _ => ?_⟩
  · rw [gk_old (show gn σ ≠ gn σ + 1 by omega)]
    exact gk_new n0
  rw [show gn (gmk 24 4 σ) = gn σ + 1 from rfl]
  have hm2 : MB G R (gpi (gn σ) 1 (iI 0) (gpr (gn σ) 0 (some (gn σ + 1)) (gmk 102 12 (gmk 24 4 σ)))) X K w (n + 2) (s + 16) := ((hm1.le (n' := n + 2 + 1) (s' := s + 16 + 12) (by omega) (by omega)).mk.pr' frB).pi' frB
  have k2 : keep nil0 σ (gpi (gn σ) 1 (iI 0) (gpr (gn σ) 0 (some (gn σ + 1)) (gmk 102 12 (gmk 24 4 σ)))) := (((keep.rf.mk n0).mk (hz _ (by show gn σ ≤ gn σ + 1; omega))).pr (fun q => absurd n0 q)).pi (fun q => absurd n0 q)
  have B1 : gk (gpi (gn σ) 1 (iI 0) (gpr (gn σ) 0 (some (gn σ + 1)) (gmk 102 12 (gmk 24 4 σ)))) (gn σ) = 24 := by
    show gk (gmk 102 12 (gmk 24 4 σ)) (gn σ) = 24
    rw [gk_old (show gn σ ≠ gn σ + 1 by omega)]
    exact gk_new n0
  have B2 : gk (gpi (gn σ) 1 (iI 0) (gpr (gn σ) 0 (some (gn σ + 1)) (gmk 102 12 (gmk 24 4 σ)))) (gn σ + 1) = 102 := gk_new (σ := gmk 24 4 σ) (n := 12) n1
  have B3 : gl (gpi (gn σ) 1 (iI 0) (gpr (gn σ) 0 (some (gn σ + 1)) (gmk 102 12 (gmk 24 4 σ)))) (gn σ + 1) = 12 := gl_nw (σ := gmk 24 4 σ) (t := 102)
  have B4 : gr (gpi (gn σ) 1 (iI 0) (gpr (gn σ) 0 (some (gn σ + 1)) (gmk 102 12 (gmk 24 4 σ)))) (gn σ) 0 = some (gn σ + 1) := by rw [gr_pi, gr_pr, if_pos ⟨rfl, rfl⟩]
  have B5 : gi (gpi (gn σ) 1 (iI 0) (gpr (gn σ) 0 (some (gn σ + 1)) (gmk 102 12 (gmk 24 4 σ)))) (gn σ) 1 = 0 := by rw [gi_pi, if_pos ⟨rfl, rfl⟩]; rfl
  have B6 : gi (gpi (gn σ) 1 (iI 0) (gpr (gn σ) 0 (some (gn σ + 1)) (gmk 102 12 (gmk 24 4 σ)))) (gn σ) 3 = 0 := by
    rw [gi_pi, if_neg (by omega), gi_pr, gi_mk (show gn σ ≠ gn σ + 1 by omega)]
    exact gi_nw
  have B7 : gn (gpi (gn σ) 1 (iI 0) (gpr (gn σ) 0 (some (gn σ + 1)) (gmk 102 12 (gmk 24 4 σ)))) = gn σ + 2 := rfl
  generalize gpi (gn σ) 1 (iI 0) (gpr (gn σ) 0 (some (gn σ + 1)) (gmk 102 12 (gmk 24 4 σ))) = σ2 at *
  have ka := k2 a (by rw [h.1]; omega) id
  have r2 : rk a σ σ2 := rk.nl k2 (by rw [h.1]; omega)
  have hd2 : pRd t σ2 a tp bl sl := h.mv r2
  have tpv : tp ≠ gn σ + 1 := fun q => by have := hz.lt (show gk σ tp ≠ 0 by rw [h.2.2.2.2.2.1]; omega); omega
  refine c_nloop (p := p) (by omega) (show G.h0.size ≤ gn σ + 1 by omega) tpv t.2 p σ2 (by omega) (Nat.le_refl _) (by omega) hd2 ⟨by rw [ka.2.1]; exact h2, B1, B4, B2, B3, B5, by rw [B6, show min 12 (p - p) = 0 by omega]; rfl, fun j hj => by omega⟩ (fun τ e' e1 e2 e3 e4 f1 hd3 hB3 => ?_)
  have : e' = e := e1.symm.trans he
  subst this
  obtain ⟨b1, b2, b3, b4, b5, b6, b7, b8⟩ := hB3
  -- the machine
  have noa : ∀ υ, MB G R υ X K w (n + 2) (s + 16) → gk υ a = 5 → ¬ isM R a := fun υ hu hk => hu.2.1.no hk (by omega) (by omega) (Or.inl (by omega))
  have na : ¬ isM R a := noa σ2 hm2 hd2.1
  have hm3 : MB G R τ X K w (n + 2) (s + 16) := hm2.kp f1.1 (fun q hq hw => by
    rcases hw with hw | hw | hw <;> subst hw
    · exact na hq
    · exact frB hq
    · exact frv hq) (fun b hb => by rw [f1.2.1]; exact hm2.1 b (by rw [← f1.2.2.2.2.1]; exact hb)) f1.2.2.2.2.1 f1.2.2.2.2.2
  have r3 : rk a σ τ := by
    refine ⟨r2.1.tr f1.1 (fun q hq hw => ?_), (f1.2.1 a).trans r2.2.1, fun j hj => (f1.2.2.1 j (by omega)).trans (r2.2.2.1 j hj), fun j j1 j2 => (f1.2.2.2.1 j).trans (r2.2.2.2 j j1 j2)⟩
    rcases hw with hw | hw | hw
    · exact hw
    · rw [hw] at hq; exact absurd n0 hq
    · rw [hw] at hq; exact absurd (hz _ (by omega)) hq
  have h3' : gi τ a 3 = iI (p : Int) := by rw [f1.2.2.1 3 (by omega), ka.2.1]; exact h3
  have aB : a ≠ gn σ := by omega
  refine tX6_name_10 ⟨hd3.1, ?_⟩
  rw [b1]
  refine c_byte (by omega) hd3 (by omega) (fun hb => fun _ => c_more (by omega) hb (fun _ => ⟨fun _ => ?_, fun q => by rw [e4] at q; exact absurd rfl q⟩))
  rw [h3', b1, iI_sub]
  have nmL : (tname t p).length = min 12 (e' - p) := tname_len he
  have nmG : ∀ (j c : Nat), (tname t p)[j]? = some c → gi τ (gn σ + 1) j = iI (c : Int) ∧ c < 128 := fun j c hj => by
    obtain ⟨j1, j2⟩ := (tname_get he).mp hj
    rw [← j2]
    exact b8 j j1
  -- the end, whatever the sort
  have str : ∀ (i : Nat) (Q' : Outcome → GSt → Prop), (∀ υ, rk a σ υ → MB G R υ X K w n s → gi υ a 2 = iI (e' : Int) → gi υ a 3 = iI (p : Int) → gr υ a 7 = KK i → pS υ (R 5) (gn σ + 2) (tname t p) → gi υ (gn σ + 2) 2 = 0 → gi υ (gn σ + 2) 3 = 0 → (∃ b, gr υ (gn σ + 2) 0 = some b ∧ gn σ ≤ b) → gk υ a = 5 → TT R υ T → Q' (.returned (some (va_rf (some (gn σ + 2))))) υ) → CQ (wP G s0 l KK T) mJ13_toString (l2 + 2) (.ref (gn σ) :: []) (gpr a 7 (KK i) τ) Q' := fun i Q' hQ => by
    have gn2 : gn (gpr a 7 (KK i) τ) = gn σ + 2 := by rw [gn_pr, f1.2.2.2.2.1, B7]
    refine c_tostr (R := R) (X := X) (K := K) (w := w) (n := n) (s := s) (bs := tname t p) (by omega) b2 (by rw [gr_pr, if_neg (fun q => aB q.1.symm)]; exact b3) b4 b5 b6 b7 (by omega) (by omega) nmL nmG (hm3.pr' na) (fun υ u1 u2 u3 u4 u5 u6 u7 => ?_)
    rw [gn2] at u4 u5 u6 u7 ⊢
    have r4 : rk a σ υ := (r3.tr (rk.pr (Or.inr rfl))).tr (rk.nl u1 (by rw [gk_pr]; rw [hd3.1]; omega))
    have ua := u1 a (by rw [gk_pr, hd3.1]; omega) id
    refine hQ υ r4 u2 (by rw [ua.2.1, gi_pr]; exact b1) (by rw [ua.2.1, gi_pr]; exact h3') (by rw [ua.2.2.1, gr_pr, if_pos ⟨rfl, rfl⟩]) u4 u5 u6 ?_ ?_ (hT.mv r4.1 (r4.S h.1))
    · obtain ⟨b, v1, v2⟩ := u7
      exact ⟨b, v1, by omega⟩
    · exact r4.2.1.trans h.1
  refine ⟨fun q => ⟨gn σ, rfl, b2, str 0 _ (fun υ u1 u2 u3 u4 u5 u6 u7 u8 u9 u10 u11 => fun _ => ⟨fun _ => ?_, fun z => ?_⟩)⟩, fun q => ⟨gn σ, rfl, b2, str 3 _ (fun υ u1 u2 u3 u4 u5 u6 u7 u8 u9 u10 u11 => fun _ => ⟨fun z => ?_, fun _ => ?_⟩)⟩⟩
  · rw [iI_le (by omega) (by omega) (by omega) (by omega)] at q
    have le12 : ¬ 12 < e' - p := by omega
    rw [if_neg le12] at ok
    have gw : gr (gpr a 6 (some (gn σ + 2)) υ) a 6 = some (gn σ + 2) := by rw [gr_pr, if_pos ⟨rfl, rfl⟩]
    rw [gw]
    obtain ⟨b, v1, v2⟩ := u9
    have ur : rk a σ (gpr a 6 (some (gn σ + 2)) υ) := u1.tr (rk.pr (Or.inl rfl))
    have wa : gn σ + 2 ≠ a := by omega
    have kw : ∀ x bs, pS υ (R 5) x bs → pS (gpr a 6 (some (gn σ + 2)) υ) (R 5) x bs := fun x bs hx => hx.kpW (W := fun q => q = a) (keep.rf.pr (fun _ => rfl)) (fun q hq => by subst hq; omega)
    refine c_kept (o := R 5) (a := gn σ + 2) (b := b) (by omega) (kw _ _ u6) (by rw [gr_pr, if_neg (fun q => wa q.1)]; exact v1) u7 u8 (by omega) (by omega) (fun w hw => ⟨fun q => ?_, kw _ _ (u11.1 w hw)⟩) (fun j v hj hs1 => fun _ => ?_)
    · have := (hT.1 w hw).1
      have := hz.lt (show gk σ (T (4 + w)) ≠ 0 by omega)
      omega
    · have r5 : rk a σ (gpi (gn σ + 2) j v (gpr a 6 (some (gn σ + 2)) υ)) := by
        refine ⟨ur.1.pi (fun q => absurd (hz _ (by omega)) q), ur.2.1, fun i hi => ?_, ur.2.2.2⟩
        rw [gi_pi, if_neg (fun q => wa q.1.symm)]
        exact ur.2.2.1 i hi
      have no2 : ¬ isM R (gn σ + 2) := hM.2.1.fr hz (by omega)
      have m5 : MB G R (gpi (gn σ + 2) j v (gpr a 6 (some (gn σ + 2)) υ)) X K w n s := (u2.pr' na).pi' no2
      have g2 : gi (gpi (gn σ + 2) j v (gpr a 6 (some (gn σ + 2)) υ)) a 2 = iI (e' : Int) := by rw [gi_pi, if_neg (fun q => wa q.1.symm), gi_pr]; exact u3
      have g3 : gi (gpi (gn σ + 2) j v (gpr a 6 (some (gn σ + 2)) υ)) a 3 = iI (p : Int) := by rw [gi_pi, if_neg (fun q => wa q.1.symm), gi_pr]; exact u4
      have g6 : gr (gpi (gn σ + 2) j v (gpr a 6 (some (gn σ + 2)) υ)) a 6 = some (gn σ + 2) := by rw [gr_pi]; exact gw
      have g7 : gr (gpi (gn σ + 2) j v (gpr a 6 (some (gn σ + 2)) υ)) a 7 = KK 0 := by rw [gr_pi, gr_pr, if_neg (by omega)]; exact u5
      have gh : kept.contains (tname t p) = true → gi (gpi (gn σ + 2) j v (gpr a 6 (some (gn σ + 2)) υ)) (gn σ + 2) 2 = jh 0 (tname t p) ∧ jh 0 (tname t p) ≠ 0 := fun hk => by
        obtain ⟨i, hi⟩ := List.mem_iff_getElem?.mp (List.contains_iff_mem.mp hk)
        have hi9 : i < 9 := (List.getElem?_eq_some_iff.mp hi).1
        have hjk := jh_kept i hi9
        rw [List.getD_eq_getElem?_getD, hi] at hjk
        have hj0 : ∀ i, i < 9 → jhs.getD i 0 ≠ 0 := by decide
        have hne : jh 0 (tname t p) ≠ 0 := fun q => hj0 i hi9 (hjk.symm.trans q)
        rcases hj with ⟨j1, j2, j3⟩ | ⟨j1, j2⟩
        · subst j1
          rw [gi_pi, if_pos ⟨rfl, rfl⟩]
          exact ⟨j2, hne⟩
        · exact absurd j2 hne
      generalize gpi (gn σ + 2) j v (gpr a 6 (some (gn σ + 2)) υ) = τ5 at *
      cases hk : kept.contains (tname t p) with
      | false =>
        rw [hk] at ok
        exact ⟨fun _ => ok τ5 r5 m5 ⟨g3, g7, g2, fun _ => ⟨_, g6, hs1, fun q => absurd q (by show ¬ (0 : Nat) = 1; decide)⟩, fun q => absurd q (by show ¬ (0 : Nat) = 2; decide), by show 0 ≤ 5; omega, by show p ≤ t.2; omega, e3⟩, fun q => absurd rfl q⟩
      | true =>
        rw [hk] at ok
        refine ⟨fun q => absurd q (by decide), fun _ => ?_⟩
        refine ok _ (r5.tr (rk.pr (Or.inr rfl))) (m5.pr' na) ⟨by rw [gi_pr]; exact g3, by rw [gr_pr, if_pos ⟨rfl, rfl⟩]; rfl, by rw [gi_pr]; exact g2, fun _ => ⟨gn σ + 2, by rw [gr_pr, if_neg (by omega)]; exact g6, hs1.kpW (W := fun q => q = a) (keep.rf.pr (fun _ => rfl)) (fun q hq => by subst hq; have := r5.2.1; have := h.1; omega), fun _ => gh hk⟩, fun q => absurd q (by show ¬ (1 : Nat) = 2; decide), by show 1 ≤ 5; omega, by show p ≤ t.2; omega, e3⟩
  · exact absurd (by rw [gr_pr, if_neg (by omega)]; exact u5) z
  · rw [gr_pr, if_neg (by omega), u5] at z
    exact absurd (hK 3 0 (by omega) (by omega) z) (by omega)
  · have gt12 : 12 < e' - p := by
      apply Classical.byContradiction
      intro z
      exact q (by rw [iI_le (by omega) (by omega) (by omega) (by omega)]; omega)
    rw [if_pos gt12] at ok
    refine ok _ (u1.tr (rk.pr (Or.inl rfl))) (u2.pr' na) ⟨by rw [gi_pr]; exact u4, by rw [gr_pr, if_neg (by omega)]; exact u5, by rw [gi_pr]; exact u3, fun q => absurd q (by show ¬ (3 : Nat) ≤ 1; decide), fun q => absurd q (by show ¬ (3 : Nat) = 2; decide), by show 3 ≤ 5; omega, by show p ≤ t.2; omega, e3⟩
end PRH
