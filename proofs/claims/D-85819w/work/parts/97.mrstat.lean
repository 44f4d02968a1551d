/-! M OVER S (37): reading: statements -/
/-- the model's number of a statement's kind -/
def wcd : Nat → Int
  | 0 => 0
  | 1 => 1
  | 2 => 2
  | 3 => -1
  | 4 => 3
  | 5 => 4
  | 6 => 6
  | _ => 5
/-- a statement that was read: its nodes are lo .. hi - 1 -/
def mStt (t : TX) (st : MSt) (s : ST) (lo hi : Nat) : Prop := fI st 77 = iI (s.2.1 : Int) ∧ fI st 76 = iI (wcd s.1) ∧ ∃ a1 a2 b1 b2 : Nat, (lo ≤ a1 ∧ a1 ≤ a2 ∧ a2 ≤ hi ∧ lo ≤ b1 ∧ b1 ≤ b2 ∧ b2 ≤ hi ∧ (a2 ≤ b1 ∨ b2 ≤ a1)) ∧
  (∀ (i p : Nat), s.2.2.1[i]? = some p → i < 3 ∧ ∃ x : Nat, lo ≤ x ∧ x < hi ∧ (x < a1 ∨ a2 ≤ x) ∧ (x < b1 ∨ b2 ≤ x) ∧ p < 4000 ∧ fI st (80 + i) = iI (x : Int) ∧ st.2 31 x = iI (p : Int) ∧ st.2 32 x = iI ((tname t p).length : Int)) ∧
  (s.2.2.2.1 = none → fI st 79 = iI (-1)) ∧ (∀ v, s.2.2.2.1 = some v → ∃ n : Nat, fI st 79 = iI (n : Int) ∧ mR (tname t) st v [] n a1 a2 none) ∧ (s.2.2.2.2 = none → fI st 78 = iI (-1)) ∧ (∀ v, s.2.2.2.2 = some v → ∃ n : Nat, fI st 78 = iI (n : Int) ∧ mR (tname t) st v [] n b1 b2 none)
def rfs (b : Bool) (nd : Nat) (st st' : MSt) : Prop := (∀ k, k < 6 ∨ (11 < k ∧ k ≠ 39 ∧ k ≠ 72 ∧ k ≠ 73 ∧ (k < 76 ∨ 82 < k)) → st'.1 k = st.1 k) ∧ (b = false → st'.1 39 = st.1 39) ∧ ∀ k j, (30 ≤ k ∧ k ≤ 38 → b = true → j < nd) → st'.2 k j = st.2 k j
section MRS
variable {P : MPl} {s0 : State} {l : Launch} {XX : Prop} {lev n nd : Nat} {Q : Outcome → MSt → Prop} {st st' st'' st0 : MSt} {t : TX} {k : TK} {b : Bool} {bs : List (Option Nat)} {TN : Nat → List Nat}
theorem rfs.rf : rfs b nd st st := ⟨fun _ _ => rfl, fun _ => rfl, fun _ _ _ => rfl⟩
theorem rfs.tr {nd' : Nat} (h : rfs b nd st st') (k : rfs b nd' st' st'') (hn : nd ≤ nd') : rfs b nd st st'' :=
  ⟨fun j hj => (k.1 j hj).trans (h.1 j hj), fun hb => (k.2.1 hb).trans (h.2.1 hb), fun j i q => (k.2.2 j i (fun w1 w2 => Nat.lt_of_lt_of_le (q w1 w2) hn)).trans (h.2.2 j i q)⟩
theorem rfr.s (h : rfr b nd st st') : rfs b nd st st' := ⟨fun k hk => h.1 k (by omega), h.2.1, h.2.2⟩
theorem rfs.put {j : Nat} {v : Int32} (hj : 76 ≤ j ∧ j ≤ 82) : rfs b nd st (mput j v st) := ⟨fun k hk => by rw [mput_f, if_neg (by omega)], fun _ => by rw [mput_f, if_neg (by omega)], fun _ _ _ => rfl⟩
theorem RG.put {j : Nat} {v : Int32} (h : RG t st k) (hj : 76 ≤ j ∧ j ≤ 82) : RG t (mput j v st) k := by
  obtain ⟨hx, ⟨h9, hp, a0, h60, ha0, hcs⟩, h3, h4, h5⟩ := h
  refine ⟨⟨(fI_put (by omega)).trans hx.1, hx.2.1, hx.2.2⟩, ⟨(fI_put (by omega)).trans h9, hp, a0, (fI_put (by omega)).trans h60, ha0, ?_⟩, h3, (fI_put (by omega)).trans h4, h5⟩
  rw [fI_put (by omega), fI_put (by omega), fI_put (by omega), fI_put (by omega)]
  exact hcs
theorem RB.put {j e p : Nat} {v : Int32} (h : RB t st e p) (hj : 76 ≤ j ∧ j ≤ 82) : RB t (mput j v st) e p := by
  obtain ⟨hx, ⟨a, ha, h6⟩, h1, h2, h3⟩ := h
  exact ⟨⟨(fI_put (by omega)).trans hx.1, hx.2.1, hx.2.2⟩, ⟨a, ha, (fI_put (by omega)).trans h6⟩, (fI_put (by omega)).trans h1, (fI_put (by omega)).trans h2, h3⟩
theorem mrf.s (h : mrf st st') : rfs b nd st st' := (h.r (b := b) (nd := nd)).s
/-- a term of a statement -/
theorem m_t40 (hW : IW P s0 l XX) (hl : 132 ≤ lev) (h : RG t st k) (h15 : fI st 15 = iI (if b then 1 else 0)) (hb : b = true → fI st 39 = iI (nd : Int) ∧ nd + 2 * (t.2 - k.pl) ≤ 140000 ∧ ∀ e p, ¬ rBad (rTerm t 40 [] k) e p)
    (ok : ∀ st' v k' vn nd', rTerm t 40 [] k = .ok (v, k') → RG t st' k' → k.pl < k'.pl → rfr b nd st st' → nd ≤ nd' → (b = true → fI st' 39 = iI ((nd' : Nat) : Int) ∧ mR (tname t) st' v [] vn nd nd' none ∧ nd' + 2 * (t.2 - k'.pl) + 1 ≤ nd + 2 * (t.2 - k.pl)) → Q (.returned (some (.int (iI ((vn : Nat) : Int))))) st')
    (er : ∀ st' e p r, b = false → rBad (rTerm t 40 [] k) e p → RB t st' e p → rfr b nd st st' → Q (.returned (some (.int r))) st') : CQ (wM P s0 l XX) mX5_readTerm lev (.ref P.mo :: [.int (iI 0)]) st Q :=
  m_rterm hW 40 lev (by omega) (by omega) [] k st nd Q h h15 hb ok er
theorem mR_fr {v : V} {vn lo hi : Nat} (h : mR TN st v bs vn lo hi none) (hs : ∀ k j, 30 ≤ k → k ≤ 38 → j < hi → st'.2 k j = st.2 k j) : mR TN st' v bs vn lo hi none := mR_mv _ _ _ _ _ _ h (fun k j z1 z2 _ z4 => hs k j z1 z2 z4) (fun _ _ w => by cases w)
/-- what is told -/
theorem m_told (hW : IW P s0 l XX) (hl : 134 ≤ lev) (h : RG t st k) (h15 : fI st 15 = iI (if b then 1 else 0)) (h77 : fI st 77 = iI (k.pl : Int)) (h76 : fI st 76 = iI (-1)) (h78 : fI st 78 = iI (-1)) (h79 : fI st 79 = iI (-1)) (hb : b = true → fI st 39 = iI (nd : Int) ∧ nd + 2 * (t.2 - k.pl) ≤ 140000 ∧ ∀ e p, ¬ rBad (rTell t k) e p)
    (ok : ∀ st' s k' nd', rTell t k = .ok (s, k') → RG t st' k' → k.pl < k'.pl → rfs b nd st st' → nd ≤ nd' → (b = true → fI st' 39 = iI ((nd' : Nat) : Int) ∧ nd' + 2 * (t.2 - k'.pl) ≤ nd + 2 * (t.2 - k.pl) ∧ mStt t st' s nd nd') → Q (.returned none) st')
    (er : ∀ st' e p, b = false → rBad (rTell t k) e p → RB t st' e p → rfs b nd st st' → Q (.returned none) st') : CQ (wM P s0 l XX) mX5_readTold lev (.ref P.mo :: []) st Q := by
  obtain ⟨l', rfl⟩ : ∃ l', lev = l' + 1 := ⟨lev - 1, by omega⟩
  have hx2 := h.1.2.1
  generalize hR : rTell t k = RES at hb ok er
  have hR0 : (rBind (rName t k) fun x k1 =>
      if isSg k1 58 then rBind (rTerm t 40 [] (sGo t k1.nx)) fun ty k2 =>
        if isSg k2 257 then rBind (rTerm t 40 [] (sGo t k2.nx)) fun v k3 => (.ok ((3, k.pl, [x], some ty, some v), k3) : RR ST) else .ok ((3, k.pl, [x], some ty, none), k2)
      else rBind (rNeed t 257 k1) fun _ k2 => rBind (rTerm t 40 [] k2) fun v k3 => .ok ((3, k.pl, [x], none, some v), k3)) = RES := hR
  have bf : ∀ {e p : Nat}, rBad RES e p → b = false := fun hbd => by
    cases hbb : b with
    | false => rfl
    | true => exact absurd hbd ((hb hbb).2.2 _ _)
  have z1 : ∀ (x : Nat) k1, k1.ki = 3 → rBad (if isSg k1 58 then rBind (rTerm t 40 [] (sGo t k1.nx)) fun ty k2 =>
        if isSg k2 257 then rBind (rTerm t 40 [] (sGo t k2.nx)) fun v k3 => (.ok ((3, k.pl, [x], some ty, some v), k3) : RR ST) else .ok ((3, k.pl, [x], some ty, none), k2)
      else rBind (rNeed t 257 k1) fun _ k2 => rBind (rTerm t 40 [] k2) fun v k3 => .ok ((3, k.pl, [x], none, some v), k3)) 2 k1.pl := fun x k1 h3 => by
    have e : isSg k1 58 = false := by unfold isSg; rw [h3]; rfl
    rw [e]
    exact rBad.er (rNeed_3 h3)
  refine tX5_readTold (m_nameG (b := b) (nd := nd) hW (by omega) h h15 (fun hbb => ⟨(hb hbb).1, ?_, fun e p hbd => (hb hbb).2.2 e p (by rw [← hR0]; exact hbd.bind z1)⟩) (fun sa vx ea ka ga pa Fa na => ?_) (fun sa e p r b0 hbd' ga Fa => ⟨fun w => absurd w ga.ne, fun _ => er _ e p b0 (by rw [← hR0]; exact hbd'.bind z1) (ga.put (by omega)) (Fa.s.tr (rfs.put (by omega)) (Nat.le_refl _))⟩))
  · have h2 := (hb hbb).2.1
    by_cases hk0 : k.ki = 0
    · have := (h.2.2.1.2 (by omega)); omega
    · exfalso
      refine (hb hbb).2.2 1 k.pl ?_
      rw [← hR0]
      refine rBad.er ?_
      unfold rName rWrong
      rw [if_neg hk0, if_neg h.2.2.2.2]
  -- its name is read
  have hR1 : (if isSg (sGo t k.nx) 58 then rBind (rTerm t 40 [] (sGo t (sGo t k.nx).nx)) fun ty k2 =>
        if isSg k2 257 then rBind (rTerm t 40 [] (sGo t k2.nx)) fun v k3 => (.ok ((3, k.pl, [k.pl], some ty, some v), k3) : RR ST) else .ok ((3, k.pl, [k.pl], some ty, none), k2)
      else rBind (rNeed t 257 (sGo t k.nx)) fun _ k2 => rBind (rTerm t 40 [] k2) fun v k3 => .ok ((3, k.pl, [k.pl], none, some v), k3)) = RES := by rw [← hR0, ea]; rfl
  refine ⟨fun _ => ?_, fun w => absurd ga.2.2.2.1 w⟩
  generalize sGo t k.nx = k1 at *
  have Ga := ga.put (j := 80) (v := iI (vx : Int)) (by omega)
  have Fa2 : rfs b nd st (mput 80 (iI (vx : Int)) sa) := Fa.s.tr (rfs.put (by omega)) (Nat.le_refl _)
  have va : ∀ j, j ≠ 80 → fI (mput 80 (iI (vx : Int)) sa) j = fI sa j := fun j hj => fI_put hj
  have va80 : fI (mput 80 (iI (vx : Int)) sa) 80 = iI (vx : Int) := fI_self
  have va2 : (mput 80 (iI (vx : Int)) sa).2 = sa.2 := rfl
  generalize mput 80 (iI (vx : Int)) sa = sb at *
  have fS : ∀ j, 75 < j → j ≠ 80 → fI sb j = fI st j := fun j q1 q2 => (va j q2).trans (Fa.1 j (by omega))
  have h15b : fI sb 15 = iI (if b then 1 else 0) := (Fa2.1 15 (by omega)).trans h15
  have h39b : b = true → fI sb 39 = iI ((nd + 1 : Nat) : Int) := fun hbb => (va 39 (by omega)).trans (na hbb).2.1
  -- the name's node, later
  have nmx : ∀ {s' : MSt} {nd' : Nat}, b = true → rfs b (nd + 1) sb s' → fI s' 80 = fI sb 80 → nd < nd' → k.pl < 4000 → fI s' (80 + 0) = iI (nd : Int) ∧ s'.2 31 nd = iI (k.pl : Int) ∧ s'.2 32 nd = iI ((tname t k.pl).length : Int) := fun hbb F q1 q2 q3 => by
    obtain ⟨y1, y2, y3, y4, y5, y6⟩ := na hbb
    refine ⟨(q1.trans va80).trans (by rw [y1]), ?_, ?_⟩
    · rw [F.2.2 31 nd (fun _ _ => Nat.lt_succ_self _), va2]; exact y4
    · rw [F.2.2 32 nd (fun _ _ => Nat.lt_succ_self _), va2]; exact y5
  have hpl := h.2.2.1.2 (by omega)
  refine m_isSign (s := 58) (by omega) Ga (by omega) ?_
  cases hS : isSg k1 58 with
  | false =>
    rw [hS, if_neg (by decide)] at hR1
    refine ⟨fun _ => ?_, fun w => absurd rfl w⟩
    have z2 : ∀ (_ : Nat) k2, k2.ki = 3 → rBad (rBind (rTerm t 40 [] k2) fun v k3 => (.ok ((3, k.pl, [k.pl], none, some v), k3) : RR ST)) 2 k2.pl := fun _ k2 h3 => rBad.er (rTerm_3 h3)
    have z3 : ∀ (v : V) k3, k3.ki = 3 → rBad (.ok ((3, k.pl, [k.pl], none, some v), k3) : RR ST) 2 k3.pl := fun v k3 h3 => Or.inr ⟨_, _, rfl, h3, rfl, rfl⟩
    refine m_need (s := 257) hW (by omega) Ga (by omega) (fun sc ec gc pc Fc => ?_) (fun sc e p hbd' gc Fc => ?_)
    · have hR2 : (rBind (rTerm t 40 [] (sGo t k1.nx)) fun v k3 => (.ok ((3, k.pl, [k.pl], none, some v), k3) : RR ST)) = RES := by rw [← hR1, ec]; rfl
      refine m_t40 (b := b) (nd := nd + 1) hW (by omega) gc ((Fc.1 15 (by omega)).trans h15b) (fun hbb => ⟨(Fc.1 39 (by omega)).trans (h39b hbb), by have := (hb hbb).2.1; have := gc.2.2.1.1; omega, fun e p hbd => (hb hbb).2.2 e p (by rw [← hR2]; exact hbd.bind z3)⟩) (fun sd v k3 vn nd' ed gd pd Fd hnd nd2 => ?_) (fun sd e p r b0 hbd' gd Fd => er _ e p b0 (by rw [← hR2]; exact hbd'.bind z3) (gd.put (by omega)) (((Fa2.tr Fc.s (Nat.le_refl _)).tr Fd.s (Nat.le_succ _)).tr (rfs.put (by omega)) (Nat.le_refl _)))
      have F1 : rfs b (nd + 1) sb (mput 78 (iI (vn : Int)) sd) := ((Fc.s (b := b) (nd := nd + 1)).tr Fd.s (Nat.le_refl _)).tr (rfs.put (by omega)) (Nat.le_refl _)
      have fD : ∀ j, 75 < j → fI sd j = fI sb j := fun j q => (Fd.1 j (by omega)).trans (Fc.1 j (by omega))
      refine ok _ (3, k.pl, [k.pl], none, some v) k3 nd' (by rw [← hR2, ed]; rfl) (gd.put (by omega)) (by omega) (Fa2.tr F1 (Nat.le_succ _)) (by omega) (fun hbb => ?_)
      obtain ⟨y1, y2, y3⟩ := nd2 hbb
      have i2 := (hb hbb).2.1
      obtain ⟨x1, x2, x3⟩ := nmx (nd' := nd') hbb F1 (by rw [fI_put (by omega)]; exact fD 80 (by omega)) (by omega) (by omega)
      refine ⟨(fI_put (by omega)).trans y1, by have := gd.2.2.1.1; omega, ?_, ?_, nd + 1, nd + 1, nd + 1, nd', ⟨by omega, by omega, by omega, by omega, by omega, by omega, by omega⟩, fun i p hp => ?_, fun _ => ?_, fun w q => (by cases q), fun q => (by cases q), fun w q => ?_⟩
      · rw [fI_put (by omega), fD 77 (by omega), fS 77 (by omega) (by omega)]; exact h77
      · rw [fI_put (by omega), fD 76 (by omega), fS 76 (by omega) (by omega)]; exact h76
      · cases i with
        | zero => cases hp; exact ⟨by omega, nd, Nat.le_refl _, by omega, by omega, by omega, by omega, x1, x2, x3⟩
        | succ i => simp at hp
      · rw [fI_put (by omega), fD 79 (by omega), fS 79 (by omega) (by omega)]; exact h79
      · cases q
        exact ⟨vn, fI_self, mR_fr y2 (fun _ _ _ _ _ => rfl)⟩
    · have hbd : rBad RES e p := by rw [← hR1]; exact hbd'.bind z2
      exact m_termB (by omega) gc (er _ e p (bf hbd) hbd (gc.put (by omega)) ((Fa2.tr Fc.s (Nat.le_refl _)).tr (rfs.put (by omega)) (Nat.le_refl _)))
  | true =>
    rw [hS, if_pos rfl] at hR1
    have k12 : k1.ki = 2 := by unfold isSg at hS; simp only [Bool.and_eq_true, beq_iff_eq] at hS; exact hS.1
    obtain ⟨w1, w2, w3⟩ := Ga.at (by omega)
    have z2 : ∀ (ty : V) k2, k2.ki = 3 → rBad (if isSg k2 257 then rBind (rTerm t 40 [] (sGo t k2.nx)) fun v k3 => (.ok ((3, k.pl, [k.pl], some ty, some v), k3) : RR ST) else .ok ((3, k.pl, [k.pl], some ty, none), k2)) 2 k2.pl := fun ty k2 h3 => by
      have e : isSg k2 257 = false := by unfold isSg; rw [h3]; rfl
      rw [e]
      exact Or.inr ⟨_, _, rfl, h3, rfl, rfl⟩
    have z3 : ∀ (ty v : V) k3, k3.ki = 3 → rBad (.ok ((3, k.pl, [k.pl], some ty, some v), k3) : RR ST) 2 k3.pl := fun ty v k3 h3 => Or.inr ⟨_, _, rfl, h3, rfl, rfl⟩
    refine ⟨fun w => absurd w (by decide), fun _ => m_nextG hW (by omega) Ga.1 Ga.2.2.2.1 w1 w2 (fun sc gc pc Fc => ?_) (fun sc gc1 gc2 Fc => ?_)⟩
    · refine m_t40 (b := b) (nd := nd + 1) hW (by omega) gc ((Fc.1 15 (by omega)).trans h15b) (fun hbb => ⟨(Fc.1 39 (by omega)).trans (h39b hbb), by have := (hb hbb).2.1; omega, fun e p hbd => (hb hbb).2.2 e p (by rw [← hR1]; exact hbd.bind z2)⟩) (fun sd ty k2 tn nd1 ed gd pd Fd hnd nd2 => ?_) (fun sd e p r b0 hbd' gd Fd => ⟨fun w => absurd w gd.ne, fun _ => er _ e p b0 (by rw [← hR1]; exact hbd'.bind z2) (gd.put (by omega)) (((Fa2.tr Fc.s (Nat.le_refl _)).tr Fd.s (Nat.le_succ _)).tr (rfs.put (by omega)) (Nat.le_refl _))⟩)
      have hR2 : (if isSg k2 257 then rBind (rTerm t 40 [] (sGo t k2.nx)) fun v k3 => (.ok ((3, k.pl, [k.pl], some ty, some v), k3) : RR ST) else .ok ((3, k.pl, [k.pl], some ty, none), k2)) = RES := by rw [← hR1, ed]; rfl
      refine ⟨fun _ => ?_, fun w => absurd gd.2.2.2.1 w⟩
      have Gd := gd.put (j := 79) (v := iI (tn : Int)) (by omega)
      have F1 : rfs b (nd + 1) sb (mput 79 (iI (tn : Int)) sd) := ((Fc.s (b := b) (nd := nd + 1)).tr Fd.s (Nat.le_refl _)).tr (rfs.put (by omega)) (Nat.le_refl _)
      have fD : ∀ j, 75 < j → j ≠ 79 → fI (mput 79 (iI (tn : Int)) sd) j = fI sb j := fun j q1 q2 => (fI_put q2).trans ((Fd.1 j (by omega)).trans (Fc.1 j (by omega)))
      have v79 : fI (mput 79 (iI (tn : Int)) sd) 79 = iI (tn : Int) := fI_self
      have v39 : b = true → fI (mput 79 (iI (tn : Int)) sd) 39 = iI (nd1 : Int) := fun hbb => (fI_put (by omega)).trans (nd2 hbb).1
      have ve : (mput 79 (iI (tn : Int)) sd).2 = sd.2 := rfl
      generalize mput 79 (iI (tn : Int)) sd = se at *
      refine m_isSign (s := 257) (by omega) Gd (by omega) ?_
      cases hS2 : isSg k2 257 with
      | false =>
        rw [hS2, if_neg (by decide)] at hR2
        refine ⟨fun _ => ok se _ k2 nd1 hR2.symm Gd (by omega) (Fa2.tr F1 (Nat.le_succ _)) (by omega) (fun hbb => ?_), fun w => absurd rfl w⟩
        obtain ⟨y1, y2, y3⟩ := nd2 hbb
        have i2 := (hb hbb).2.1
        obtain ⟨x1, x2, x3⟩ := nmx (nd' := nd1) hbb F1 (fD 80 (by omega) (by omega)) (by omega) (by omega)
        refine ⟨v39 hbb, by have := gd.2.2.1.1; omega, ?_, ?_, nd + 1, nd1, nd1, nd1, ⟨by omega, by omega, by omega, by omega, by omega, by omega, by omega⟩, fun i p hp => ?_, fun q => (by cases q), fun w q => ?_, fun _ => ?_, fun w q => (by cases q)⟩
        · rw [fD 77 (by omega) (by omega), fS 77 (by omega) (by omega)]; exact h77
        · rw [fD 76 (by omega) (by omega), fS 76 (by omega) (by omega)]; exact h76
        · cases i with
          | zero => cases hp; exact ⟨by omega, nd, Nat.le_refl _, by omega, by omega, by omega, by omega, x1, x2, x3⟩
          | succ i => simp at hp
        · cases q
          exact ⟨tn, v79, mR_fr y2 (fun k j _ _ _ => by rw [ve])⟩
        · rw [fD 78 (by omega) (by omega), fS 78 (by omega) (by omega)]; exact h78
      | true =>
        rw [hS2, if_pos rfl] at hR2
        have k22 : k2.ki = 2 := by unfold isSg at hS2; simp only [Bool.and_eq_true, beq_iff_eq] at hS2; exact hS2.1
        obtain ⟨w1, w2, w3⟩ := Gd.at (by omega)
        refine ⟨fun w => absurd w (by decide), fun _ => m_nextG hW (by omega) Gd.1 Gd.2.2.2.1 w1 w2 (fun sf gf pf Ff => ?_) (fun sf gf1 gf2 Ff => ?_)⟩
        · refine m_t40 (b := b) (nd := nd1) hW (by omega) gf ((Ff.1 15 (by omega)).trans ((F1.1 15 (by omega)).trans h15b)) (fun hbb => ⟨(Ff.1 39 (by omega)).trans (v39 hbb), by have := (hb hbb).2.1; have := (nd2 hbb).2.2; omega, fun e p hbd => (hb hbb).2.2 e p (by rw [← hR2]; exact hbd.bind (z3 ty))⟩) (fun sg v k3 vn nd3 eg gg pg Fg hng ng => ?_) (fun sg e p r b0 hbd' gg Fg => er _ e p b0 (by rw [← hR2]; exact hbd'.bind (z3 ty)) (gg.put (by omega)) ((((Fa2.tr F1 (Nat.le_succ _)).tr Ff.s (Nat.le_refl _)).tr Fg.s (by omega)).tr (rfs.put (by omega)) (Nat.le_refl _)))
          have F2 : rfs b (nd + 1) sb (mput 78 (iI (vn : Int)) sg) := ((F1.tr Ff.s (Nat.le_refl _)).tr Fg.s (by omega)).tr (rfs.put (by omega)) (Nat.le_refl _)
          have fG : ∀ j, 75 < j → fI sg j = fI se j := fun j q => (Fg.1 j (by omega)).trans (Ff.1 j (by omega))
          refine ok _ (3, k.pl, [k.pl], some ty, some v) k3 nd3 (by rw [← hR2, eg]; rfl) (gg.put (by omega)) (by omega) (Fa2.tr F2 (Nat.le_succ _)) (by omega) (fun hbb => ?_)
          obtain ⟨y1, y2, y3⟩ := nd2 hbb
          obtain ⟨u1, u2, u3⟩ := ng hbb
          have i2 := (hb hbb).2.1
          obtain ⟨x1, x2, x3⟩ := nmx (nd' := nd3) hbb F2 (by rw [fI_put (by omega), fG 80 (by omega)]; exact fD 80 (by omega) (by omega)) (by omega) (by omega)
          refine ⟨(fI_put (by omega)).trans u1, by have := gg.2.2.1.1; omega, ?_, ?_, nd + 1, nd1, nd1, nd3, ⟨by omega, by omega, by omega, by omega, by omega, by omega, by omega⟩, fun i p hp => ?_, fun q => (by cases q), fun w q => ?_, fun q => (by cases q), fun w q => ?_⟩
          · rw [fI_put (by omega), fG 77 (by omega), fD 77 (by omega) (by omega), fS 77 (by omega) (by omega)]; exact h77
          · rw [fI_put (by omega), fG 76 (by omega), fD 76 (by omega) (by omega), fS 76 (by omega) (by omega)]; exact h76
          · cases i with
            | zero => cases hp; exact ⟨by omega, nd, Nat.le_refl _, by omega, by omega, by omega, by omega, x1, x2, x3⟩
            | succ i => simp at hp
          · cases q
            exact ⟨tn, by rw [fI_put (by omega), fG 79 (by omega)]; exact v79, mR_fr y2 (fun k j _ _ q => by show sg.2 k j = _; rw [Fg.2.2 k j (fun _ _ => q), Ff.2, ve])⟩
          · cases q
            exact ⟨vn, fI_self, mR_fr u2 (fun _ _ _ _ _ => rfl)⟩
        · have hbd : rBad RES 2 (sGo t k2.nx).pl := by rw [← hR2]; exact rBad.er (rTerm_3 gf1)
          exact m_termB (by omega) gf2 (er _ 2 _ (bf hbd) hbd (gf2.put (by omega)) (((Fa2.tr F1 (Nat.le_succ _)).tr Ff.s (Nat.le_refl _)).tr (rfs.put (by omega)) (Nat.le_refl _)))
    · have hbd : rBad RES 2 (sGo t k1.nx).pl := by rw [← hR1]; exact rBad.er (rTerm_3 gc1)
      exact m_termB (by omega) gc2 ⟨fun w => absurd w gc2.ne, fun _ => er _ 2 _ (bf hbd) hbd (gc2.put (by omega)) ((Fa2.tr Fc.s (Nat.le_refl _)).tr (rfs.put (by omega)) (Nat.le_refl _))⟩
end MRS
