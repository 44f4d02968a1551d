/-! M OVER S (40): reading: all of the text, in form alone -/
section MRY
variable {P : MPl} {s0 : State} {l : Launch} {XX : Prop} {lev n nd : Nat} {Q : Outcome → MSt → Prop} {st st' st'' st0 : MSt} {t : TX} {k : TK} {b : Bool}
theorem RG.end (h : RG t st k) : fI st 7 = 0 ↔ k.ki = 5 := by
  obtain ⟨-, ⟨-, -, a, -, -, h1⟩, -, -, h3⟩ := h
  rcases h1 with ⟨k0, k1, -⟩ | ⟨k0, k1, -⟩ | ⟨k0, k1, -⟩ | ⟨k0, -⟩ | ⟨k0, k1, -⟩ | ⟨k0, k1, -⟩
  · exact ⟨fun q => absurd (k1.symm.trans q) (by decide), fun q => by omega⟩
  · exact ⟨fun q => absurd (k1.symm.trans q) (by decide), fun q => by omega⟩
  · exact ⟨fun q => absurd (k1.symm.trans q) (by decide), fun q => by omega⟩
  · exact absurd k0 h3
  · exact ⟨fun q => absurd (k1.symm.trans q) (by decide), fun q => by omega⟩
  · exact ⟨fun _ => k0, fun _ => k1⟩
theorem rStat_3 (h : k.ki = 3) : rStat t k = .error (2, (k.pl : Int)) := by
  unfold rStat
  have e : ∀ w, isWd t k w = false := fun w => by unfold isWd; rw [h]; rfl
  rw [if_neg (by omega), e, e, e, e, e, e, e]
  unfold rWrong
  rw [h]
  rfl
theorem rAll_3 {m : Nat} (h : k.ki = 3) : rAll t (m + 1) k = .error (2, (k.pl : Int)) := by
  rw [rAll, if_neg (by omega), rStat_3 h]
theorem m_raloop (hW : IW P s0 l XX) (hl : 137 ≤ lev) : ∀ (m : Nat) (k : TK) (st : MSt), t.2 - k.pl < m → RG t st k → fI st 15 = iI 0 → (∀ st' k' ls, rAll t m k = .ok ls → RG t st' k' → rfs false 0 st st' → Q (.returned none) st') → (∀ st' e p, rAll t m k = .error (e, ((p : Nat) : Int)) → RB t st' e p → rfs false 0 st st' → Q (.returned none) st') → jX5_readAll_14 P s0 l XX lev st0 Q st := by
  intro m
  induction m with
  | zero => intro k st hm; omega
  | succ m ih =>
    intro k st hm h h15 ok er
    refine tX5_readAll_14 ⟨fun _ => ⟨fun w => ?_, fun w => ?_⟩, fun w => absurd h.2.2.2.1 w⟩
    · exact ok st k [] (by rw [rAll, if_pos (h.end.mp w)]) h rfs.rf
    · have hk : k.ki ≠ 5 := fun q => w (h.end.mpr q)
      refine m_stat (b := false) (nd := 0) hW (by omega) h h15 (fun q => by cases q) (fun s1 s k1 nd1 e1 g1 p1 F1 _ _ => ⟨fun _ => ?_, fun w => absurd g1.2.2.2.1 w⟩) (fun s1 e p _ hbd g1 F1 => ⟨fun w => absurd w g1.ne, fun _ => tX5_readAll_14 ⟨fun w => absurd w g1.ne, fun _ => ?_⟩⟩)
      · refine m_need (s := 59) hW (by omega) g1 (by omega) (fun s2 e2 g2 p2 F2 => ?_) (fun s2 e p hbd g2 F2 => tX5_readAll_14 ⟨fun w => absurd w g2.ne, fun _ => ?_⟩)
        · have F12 : rfs false 0 st s2 := F1.tr F2.s (Nat.le_refl _)
          have eq : ∀ r, rAll t m (sGo t k1.nx) = r → rAll t (m + 1) k = match r with | .error e => .error e | .ok ls => .ok (s :: ls) := fun r hr => by
            rw [rAll, if_neg hk, e1]
            show (match rNeed t 59 k1 with | .error e => _ | .ok (_, k2) => _) = _
            rw [e2]
            show (match rAll t m (sGo t k1.nx) with | .error e => _ | .ok ls => _) = _
            rw [hr]
          have gp1 := g1.2.2.1.1
          exact ih (sGo t k1.nx) s2 (by omega) g2 ((F12.1 15 (by omega)).trans h15) (fun s3 k3 ls e3 g3 F3 => ok s3 k3 (s :: ls) (eq _ e3) g3 (F12.tr F3 (Nat.le_refl _))) (fun s3 e p e3 g3 F3 => er s3 e p (eq _ e3) g3 (F12.tr F3 (Nat.le_refl _)))
        · refine er s2 e p ?_ g2 (F1.tr F2.s (Nat.le_refl _))
          rw [rAll, if_neg hk, e1]
          show (match rNeed t 59 k1 with | .error e => _ | .ok (_, k2) => _) = _
          rcases hbd with q | ⟨a, k2, q1, q2, q3, q4⟩
          · rw [q]
          · rw [q1]
            subst q3 q4
            show (match rAll t m k2 with | .error e => _ | .ok ls => _) = _
            have gp1 := g1.2.2.1.1
            obtain ⟨m', rfl⟩ : ∃ m', m = m' + 1 := ⟨m - 1, by omega⟩
            rw [rAll_3 q2]
      · refine er s1 e p ?_ g1 F1
        rw [rAll, if_neg hk]
        rcases hbd with q | ⟨a, k2, q1, q2, q3, q4⟩
        · rw [q]
        · rw [q1]
          subst q3 q4
          show (match rNeed t 59 k2 with | .error e => _ | .ok (_, k3) => _) = _
          rw [rNeed_3 q2]
/-- all of the text is read, nothing is made -/
theorem m_readAll (hW : IW P s0 l XX) (hl : 138 ≤ lev) (hx : mTx t st) (h72 : fI st 72 = 0) (ok : ∀ st' ls, sRead t = .ok ls → mTx t st' → fI st' 72 = 0 → fI st' 15 = iI 0 → (∀ k, k < 6 ∨ (11 < k ∧ k ≠ 15 ∧ k ≠ 73 ∧ k ≠ 72 ∧ (k < 76 ∨ 82 < k)) → st'.1 k = st.1 k) → st'.2 = st.2 → Q (.returned none) st')
    (er : ∀ st' e p, sRead t = .error (e, ((p : Nat) : Int)) → RB t st' e p → fI st' 15 = iI 0 → (∀ k, k < 6 ∨ (11 < k ∧ k ≠ 15 ∧ k ≠ 73 ∧ k ≠ 72 ∧ (k < 76 ∨ 82 < k)) → st'.1 k = st.1 k) → st'.2 = st.2 → Q (.returned none) st') : CQ (wM P s0 l XX) mX5_readAll lev (.ref P.mo :: []) st Q := by
  obtain ⟨l', rfl⟩ : ∃ l', lev = l' + 1 := ⟨lev - 1, by omega⟩
  have x1 : mTx t (mput 6 (iI 0) (mput 15 (iI 0) st)) := ⟨by rw [fI_put (by omega), fI_put (by omega)]; exact hx.1, hx.2.1, hx.2.2⟩
  have y72 : fI (mput 6 (iI 0) (mput 15 (iI 0) st)) 72 = 0 := by rw [fI_put (by omega), fI_put (by omega)]; exact h72
  have y6 : fI (mput 6 (iI 0) (mput 15 (iI 0) st)) 6 = iI ((0 : Nat) : Int) := fI_self
  have y15 : fI (mput 6 (iI 0) (mput 15 (iI 0) st)) 15 = iI 0 := by rw [fI_put (by omega), fI_self]
  have yo : ∀ k, k ≠ 6 → k ≠ 15 → (mput 6 (iI 0) (mput 15 (iI 0) st)).1 k = st.1 k := fun k a c => by rw [mput_f, if_neg a, mput_f, if_neg c]
  have ya : (mput 6 (iI 0) (mput 15 (iI 0) st)).2 = st.2 := rfl
  refine tX5_readAll ?_
  generalize mput 6 (iI 0) (mput 15 (iI 0) st) = s1 at *
  have arr : ∀ {s2 s3 : MSt}, rfs false 0 s2 s3 → s3.2 = s2.2 := fun F => by
    funext k j
    exact F.2.2 k j (fun _ q => by cases q)
  have fld : ∀ {s2 s3 : MSt}, mrf s1 s2 → rfs false 0 s2 s3 → ∀ k, k < 6 ∨ (11 < k ∧ k ≠ 15 ∧ k ≠ 73 ∧ k ≠ 72 ∧ (k < 76 ∨ 82 < k)) → s3.1 k = st.1 k := fun F G k hk => by
    by_cases q : k = 39
    · subst q; rw [G.2.1 rfl, F.1 39 (by omega)]; exact yo 39 (by omega) (by omega)
    · rw [G.1 k (by omega), F.1 k (by omega)]; exact yo k (by omega) (by omega)
  refine m_nextG hW (by omega) x1 y72 y6 (Nat.zero_le _) (fun s2 g2 _ F2 => ?_) (fun s2 g21 g22 F2 => tX5_readAll_14 ⟨fun w => absurd w g22.ne, fun _ => ?_⟩)
  · refine m_raloop hW (by omega) (t.2 + 1) (sGo t 0) s2 (by have := g2.2.2.1.1; omega) g2 ((F2.1 15 (by omega)).trans y15) (fun s3 k3 ls e3 g3 F3 => ok s3 ls e3 g3.1 g3.2.2.2.1 ((F3.1 15 (by omega)).trans ((F2.1 15 (by omega)).trans y15)) (fld F2 F3) (by rw [arr F3, F2.2, ya])) (fun s3 e p e3 g3 F3 => er s3 e p e3 g3 ((F3.1 15 (by omega)).trans ((F2.1 15 (by omega)).trans y15)) (fld F2 F3) (by rw [arr F3, F2.2, ya]))
  · exact er s2 2 _ (by unfold sRead; exact rAll_3 g21) g22 ((F2.1 15 (by omega)).trans y15) (fld F2 rfs.rf) (by rw [F2.2, ya])
end MRY
