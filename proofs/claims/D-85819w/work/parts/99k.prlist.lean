/-! P OVER S (38): reading: the binders' list, names -/
def lW (bl : Nat) (σ : GSt) (q : Nat) : Prop := q = bl ∨ (gr σ bl 1 = some q ∧ 0 < gl σ q)
/-- the list alone is changed -/
def lF (bl : Nat) (σ τ : GSt) : Prop := keep (lW bl σ) σ τ ∧ (∀ q, gr τ bl 1 = some q → gr σ bl 1 = some q ∨ gk σ q = 0) ∧ gle σ τ
/-- the node of a name -/
def nV (σ : GSt) (y o : Nat) : Option Nat → Prop
  | some i => gk σ y = 11 ∧ gi σ y 2 = iI (i : Int)
  | none => gk σ y = 12 ∧ gr σ y 2 = some o ∧ gr σ y 3 = none ∧ gi σ y 4 = iI (-1)
section PRL
variable {G : GPl} {s0 : State} {l : Launch} {KK : Nat → Option Nat} {T : Nat → Nat} {lev : Nat} {Q : Outcome → GSt → Prop} {R : Nat → Nat} {σ τ υ st0 : GSt} {X : SX} {K : KS} {w n s o a tp bl sl : Nat} {W : Nat → Prop} {t : TX} {bs : List (Option Nat)} {m : Int} {k : TK}
theorem lF.F (h : lF bl σ τ) : rF a bl σ τ := ⟨h.1.wk (fun _ q => Or.inr q), h.2⟩
theorem pBl.tg (h : pBl R KK t σ bl bs) : ∀ q, lW bl σ q → gk σ q = 22 ∨ gk σ q = 103 := fun q hq => by
  obtain ⟨h1, -, z, h3, h4, -⟩ := h
  rcases hq with rfl | ⟨hq, -⟩
  · exact Or.inl h1
  · rw [h3] at hq; cases hq; exact Or.inr h4
theorem pBl.S (h : pBl R KK t σ bl bs) : ∀ q, lW bl σ q → gk σ q ≠ 23 ∧ (gk σ q = 102 → q = R 5) := fun q hq => by
  have := h.tg q hq; omega
theorem MB.lF (h : MB G R σ X K w n s) (hb : pBl R KK t σ bl bs) : ∀ q, isM R q → ¬ lW bl σ q := fun q hq hw => by
  have h1 := hb.tg q hw
  obtain ⟨⟨m1, m2, m3⟩, -⟩ := h.2.1
  rcases hq with rfl | rfl | rfl <;> omega
/-- a binder more -/
theorem c_push {p : Option Nat} (hl : 7 ≤ lev) (h : pBl R KK t σ bl bs) (hlen : bs.length ≤ 40) (hM : MB G R σ X K w (n + 1) (s + 60)) (ho : pS σ (R 5) o (bnm t p))
    (ok : ∀ τ, lF bl σ τ → pBl R KK t τ bl (p :: bs) → MB G R τ X K w n s → Q (.returned (some (.int (iI 1)))) τ) : CQ (wP G s0 l KK T) mJ2_add lev (.ref bl :: [va_rf (some o)]) σ Q := by
  have hb := h
  obtain ⟨h1, h2, z, h3, h4, h5, h6, h7⟩ := h
  have hz := hM.1
  have hh0 := hM.2.1.h0 hz
  have lb := hz.ne (show gk σ bl ≠ 0 by omega)
  have so : stOK σ (some o) "java/lang/Object" := stO (t := 22) ho.1 (by decide)
  rcases h6 with ⟨h6, h8⟩ | ⟨h6, h8⟩
  · -- the first of all
    have b0 : bs = [] := List.eq_nil_of_length_eq_zero (by omega)
    subst b0
    obtain ⟨l', rfl⟩ : ∃ l', lev = l' + 4 := ⟨lev - 4, by omega⟩
    have e0 : gi σ bl 2 = iI ((0 : Nat) : Int) := h2
    refine tJ2_add ⟨h1, ?_⟩
    rw [gr_pi, h3, gi_pi, if_neg (by omega), e0]
    have q0 : gr (gpi bl 0 (gi σ bl 0 + iI 1) σ) bl 1 = some z := h3
    have q1 : gi (gpi bl 0 (gi σ bl 0 + iI 1) σ) bl 2 = iI ((0 : Nat) : Int) := by rw [gi_pi, if_neg (by omega)]; exact e0
    have q2 : keep (lW bl σ) σ (gpi bl 0 (gi σ bl 0 + iI 1) σ) := keep.rf.pi (fun _ => Or.inl rfl)
    have nb : ¬ isM R bl := hM.2.1.no h1 (by omega) (by omega) (Or.inl (by omega))
    have q3 : MB G R (gpi bl 0 (gi σ bl 0 + iI 1) σ) X K w (n + 1) (s + 60) := hM.pi' nb
    have q4 : gk (gpi bl 0 (gi σ bl 0 + iI 1) σ) bl = 22 := h1
    have q5 : gk (gpi bl 0 (gi σ bl 0 + iI 1) σ) z = 103 := h4
    have q6 : gl (gpi bl 0 (gi σ bl 0 + iI 1) σ) z = 0 := h8
    have q7 : gn (gpi bl 0 (gi σ bl 0 + iI 1) σ) = gn σ := rfl
    have q8 : ∀ b, gk (gpi bl 0 (gi σ bl 0 + iI 1) σ) b = gk σ b := fun _ => rfl
    have q9 : gm (gpi bl 0 (gi σ bl 0 + iI 1) σ) = gm σ := rfl
    generalize gpi bl 0 (gi σ bl 0 + iI 1) σ = τ1 at *
    have e10 : (if iI 10 < iI ((1 : Nat) : Int) then iI ((1 : Nat) : Int) else iI 10) = iI 10 := by decide
    have e11 : (iI 10).toInt.toNat = 10 := by decide
    have e12 : iI ((0 : Nat) : Int) + iI 1 = iI ((1 : Nat) : Int) := iI_suc 0
    have lb1 : bl ≠ gn τ1 := by rw [q7]; exact lb
    have n1 : gk τ1 (gn τ1) = 0 := q3.1.at
    refine tJ2_add_2 ⟨z, rfl, q5, fun _ => ⟨q4, tJ2_grow ⟨q4, ?_⟩⟩, fun q => absurd (by rw [q6]) q⟩
    rw [q1, e12]
    refine tJ2_grow_2 ⟨q4, z, q0, q5, fun q => ?_, fun _ => ⟨fun _ => ?_, fun q => absurd (by rw [q0, h6]) q⟩⟩
    · rw [q6] at q; exact absurd q (by decide)
    rw [e10, e11]
    refine ⟨iI_in (a := 10) (by omega) (by omega), ⟨by have := q3.2.2.2.1; omega, by have := q3.2.2.2.2; omega, n1⟩, onR_ret (fun _ => onR_ret (fun _ => ?_))⟩
    have z1 : gk (gpr bl 1 (some (gn τ1)) (gmk 103 10 τ1)) (gn τ1) = 103 := gk_new (n := 10) n1
    have z2 : gl (gpr bl 1 (some (gn τ1)) (gmk 103 10 τ1)) (gn τ1) = 10 := gl_nw (t := 103)
    have so1 : gk (gpr bl 1 (some (gn τ1)) (gmk 103 10 τ1)) o = 23 := by
      rw [gk_pr, gk_old (show o ≠ gn τ1 from q3.1.ne (by rw [q8, ho.1]; omega)), q8]; exact ho.1
    refine tJ2_add_2_11 ⟨gn τ1, rfl, z1, ?_, stO (t := 22) so1 (by decide), ?_, fun hle => ?_⟩
    · rw [z2]; exact iI_in (a := 0) (by omega) (by omega)
    · rw [gk_pr, gk_pr, gk_old lb1]; exact q4
    rw [e12, show ix (iI ((0 : Nat) : Int)) = 0 from rfl] at *
    have fr1 : ¬ isM R (gn τ1) := q3.2.1.fr q3.1 (Nat.le_refl _)
    have kF : keep (lW bl σ) σ (gpi bl 2 (iI ((1 : Nat) : Int)) (gpr (gn τ1) 0 (some o) (gpr bl 1 (some (gn τ1)) (gmk 103 10 τ1)))) := ((((q2.mk (by rw [q7]; exact hz.at)).pr (fun _ => Or.inl rfl)).pr (fun q => absurd (by rw [q7]; exact hz.at) q)).pi (fun _ => Or.inl rfl))
    have mF : MB G R (gpi bl 2 (iI ((1 : Nat) : Int)) (gpr (gn τ1) 0 (some o) (gpr bl 1 (some (gn τ1)) (gmk 103 10 τ1)))) X K w n s := (((((q3.le (n' := n + 1) (s' := s + 10) (by omega) (by omega)).mk (k := 10)).pr' nb).pr' fr1).pi' nb)
    have gF : gr (gpi bl 2 (iI ((1 : Nat) : Int)) (gpr (gn τ1) 0 (some o) (gpr bl 1 (some (gn τ1)) (gmk 103 10 τ1)))) bl 1 = some (gn τ1) := by rw [gr_pi, gr_pr, if_neg (fun q => lb1 q.1), gr_pr, if_pos ⟨rfl, rfl⟩]
    refine ok _ ⟨kF, fun q hq => ?_, ?_⟩ ⟨?_, ?_, gn τ1, gF, z1, ?_, Or.inr ?_, fun i p' hp => ?_⟩ mF
    · rw [gF] at hq; cases hq; right; rw [q7]; exact hz.at
    · refine ⟨⟨by show gn σ ≤ gn τ1 + 1; omega, by show gm σ ≤ gm τ1 + 10; omega⟩, fun x hx => ?_⟩
      show gk (gmk 103 10 τ1) x = gk σ x
      rw [gk_old (fun q => hx (by rw [q, q7]; exact hz.at)), q8]
    · show gk (gmk 103 10 τ1) bl = 22
      rw [gk_old lb1]; exact q4
    · rw [gi_pi, if_pos ⟨rfl, rfl⟩]; rfl
    · show 1 ≤ gl _ (gn τ1); rw [show gl (gpi bl 2 (iI ((1 : Nat) : Int)) (gpr (gn τ1) 0 (some o) (gpr bl 1 (some (gn τ1)) (gmk 103 10 τ1)))) (gn τ1) = 10 from z2]; omega
    · rw [show gl (gpi bl 2 (iI ((1 : Nat) : Int)) (gpr (gn τ1) 0 (some o) (gpr bl 1 (some (gn τ1)) (gmk 103 10 τ1)))) (gn τ1) = 10 from z2]; omega
    · have hi : i = 0 := by have := (List.getElem?_eq_some_iff.mp hp).1; simp at this; exact this
      subst hi
      have : p = p' := by simpa using hp
      subst this
      exact ⟨o, by rw [gr_pi]; show gr (gpr (gn τ1) 0 (some o) _) (gn τ1) 0 = _; rw [gr_pr, if_pos ⟨rfl, rfl⟩], ho.kpW kF hb.S⟩
  · refine (c_add (Q := fun o τ => gle σ τ → Q o τ) (k := bs.length) (cap := gl σ z) (by omega) hz hh0 h1 h3 h4 rfl h2 h5 (by omega) (by omega) so (fun j hj => ?_) (fun q => ⟨by have := hM.2.2.2.1; omega, by have := hM.2.2.2.2; omega⟩) (fun τ z' u1 u2 u3 u4 u5 u6 u7 u8 u9 hle => ?_)).gl
    · obtain ⟨p', hp⟩ : ∃ p', bs[bs.length - 1 - j]? = some p' := ⟨_, List.getElem?_eq_getElem (by omega)⟩
      obtain ⟨o', g1, g2⟩ := h7 _ p' hp
      rw [show bs.length - 1 - (bs.length - 1 - j) = j by omega] at g1
      rw [g1]
      exact stO (t := 22) g2.1 (by decide)
    · have kF : keep (lW bl σ) σ τ := u1.wk (fun q hq => by
        rcases hq with hq | hq
        · exact Or.inl hq
        · exact Or.inr ⟨by rw [hq]; exact h3, by rw [hq]; omega⟩)
      have hgl : bs.length + 1 ≤ gl τ z' ∧ 10 ≤ gl τ z' ∧ gl τ z' ≤ 70 := by omega
      refine ok τ ⟨kF, fun q hq => ?_, hle⟩ ⟨u3, by rw [List.length_cons]; exact u6, z', u4, u5, by rw [List.length_cons]; omega, Or.inr ⟨by omega, by omega⟩, fun i p' hp => ?_⟩ ?_
      · rw [u4] at hq
        cases hq
        rcases u9 with u9 | u9
        · left; rw [u9.2.1]; exact h3
        · right; rw [u9.2.1]; exact hz.at
      · rw [List.length_cons]
        cases i with
        | zero =>
          have : p = p' := by simpa using hp
          subst this
          exact ⟨o, by rw [show bs.length + 1 - 1 - 0 = bs.length by omega]; exact u8, ho.kpW kF hb.S⟩
        | succ i =>
          have hp' : bs[i]? = some p' := by simpa using hp
          obtain ⟨o', g1, g2⟩ := h7 i p' hp'
          have hi := (List.getElem?_eq_some_iff.mp hp').1
          refine ⟨o', ?_, g2.kpW kF hb.S⟩
          rw [show bs.length + 1 - 1 - (i + 1) = bs.length - 1 - i by omega, u7 _ (by omega)]
          exact g1
      · refine ⟨u2, hM.2.1.kp kF (hM.lF hb), hM.2.2.1, ⟨?_, ?_⟩⟩
        · have := hM.2.2.2.1; omega
        · have := hM.2.2.2.2; omega
/-- the last binder goes -/
theorem c_pop {p : Option Nat} (hl : 4 ≤ lev) (h : pBl R KK t σ bl (p :: bs)) (hlen : bs.length ≤ 40) (hM : MB G R σ X K w n s)
    (ok : ∀ τ x, lF bl σ τ → pBl R KK t τ bl bs → MB G R τ X K w n s → gn τ = gn σ → Q (.returned (some (va_rf x))) τ) : CQ (wP G s0 l KK T) mJ2_remove lev (.ref bl :: [.int (iI (bs.length : Int))]) σ Q := by
  have hb := h
  obtain ⟨h1, h2, z, h3, h4, h5, h6, h7⟩ := h
  obtain ⟨l', rfl⟩ : ∃ l', lev = l' + 3 := ⟨lev - 3, by omega⟩
  rw [List.length_cons] at h2 h5
  have hne : bl ≠ z := fun q => by rw [q] at h1; omega
  refine tJ2_remove ⟨h1, tJ19_checkIndex (tJ5_checkIndex ⟨fun q => ?_, fun _ => ⟨fun _ => (fun _ => fun _ => ?_), fun q => ?_⟩⟩)⟩
  · rw [iI_z, iI_lt (by omega) (by omega) (by omega) (by omega)] at q; omega
  · refine ⟨z, h3, h4, iI_in (by omega) (by omega), ?_⟩
    rw [h3]
    have e1 : gi (gpi bl 0 (gi σ bl 0 + iI 1) σ) bl 2 - iI 1 = iI (bs.length : Int) := by rw [gi_pi, if_neg (by omega), h2, iI_prd]
    refine tJ2_fastRemove ⟨h1, ?_⟩
    rw [e1]
    refine ⟨fun _ => ⟨z, rfl, h4, iI_in (by rw [gl_pi, gl_pi]; omega) (by omega), fun hle => ?_⟩, fun q => absurd (Int32.le_refl _) q⟩
    rw [iI_ix (by omega)] at *
    have kF : keep (lW bl σ) σ (gpr z bs.length none (gpi bl 2 (iI (bs.length : Int)) (gpi bl 0 (gi σ bl 0 + iI 1) σ))) := ((keep.rf.pi (fun _ => Or.inl rfl)).pi (fun _ => Or.inl rfl)).pr (fun _ => Or.inr ⟨h3, by omega⟩)
    refine ok _ _ ⟨kF, fun q hq => Or.inl ?_, hle⟩ ⟨h1, ?_, z, ?_, h4, ?_, h6, fun i p' hp => ?_⟩ ⟨hM.1, hM.2.1.kp kF (hM.lF hb), hM.2.2⟩ rfl
    · rw [gr_pr, if_neg (fun q => hne q.1)] at hq; exact hq
    · rw [gi_pr, gi_pi, if_pos ⟨rfl, rfl⟩]
    · rw [gr_pr, if_neg (fun q => hne q.1)]; exact h3
    · show bs.length ≤ gl σ z; omega
    · obtain ⟨o', g1, g2⟩ := h7 (i + 1) p' (by simpa using hp)
      have hi := (List.getElem?_eq_some_iff.mp hp).1
      rw [List.length_cons] at g1
      refine ⟨o', ?_, g2.kpW kF hb.S⟩
      rw [gr_pr, if_neg (by omega), gr_pi, gr_pi]
      rw [show bs.length + 1 - 1 - (i + 1) = bs.length - 1 - i by omega] at g1
      exact g1
  · rw [h2, iI_lt (by omega) (by omega) (by omega) (by omega)] at q; omega
end PRL
