/-! M OVER S (36): reading: terms -/
theorem kept_inj {w w' : Nat} {x : List Nat} (hw : w < 9) (hw' : w' < 9) (h : kept[w]? = some x) (h' : kept[w']? = some x) : w = w' := by
  have key : ∀ i, i < 9 → ∀ j, j < 9 → kept[i]? = kept[j]? → i = j := by decide
  exact key w hw w' hw' (h.trans h'.symm)
/-- the word in -/
def rInW (t : TX) (k : TK) : RR Nat := if isWd t k 8 then .ok (k.pl, sGo t k.nx) else rWrong k
theorem rInW_3 {t : TX} {k : TK} (h : k.ki = 3) : rInW t k = .error (2, (k.pl : Int)) := by
  unfold rInW rWrong isWd
  rw [h]
  rfl
section MRF
variable {P : MPl} {s0 : State} {l : Launch} {XX : Prop} {lev n nd : Nat} {Q : Outcome → MSt → Prop} {st st' st'' st0 : MSt} {t : TX} {k : TK} {b : Bool} {bs : List (Option Nat)} {TN : Nat → List Nat}
theorem wd_iff {w : Nat} (h : RG t st k) (hw : w < 9) : (fI st 7 = iI 1 ∧ fI st 11 = iI (w : Int)) ↔ isWd t k w = true := by
  obtain ⟨-, ⟨-, -, a, -, -, h1⟩, -, -, h3⟩ := h
  have no : k.ki ≠ 1 → isWd t k w = false := fun hk => by unfold isWd; rw [beq_false_of_ne hk]; rfl
  rcases h1 with ⟨k0, k1, k2, -⟩ | ⟨k0, k1, ⟨w', q1, q2, q3⟩, -⟩ | ⟨k0, k1, -⟩ | ⟨k0, -⟩ | ⟨k0, k1, -⟩ | ⟨k0, k1, -⟩
  · rw [no (by omega)]
    refine ⟨fun q => ?_, fun q => by cases q⟩
    have := k2.symm.trans q.2
    rw [iI_eq (by omega) (by omega) (by omega) (by omega)] at this
    omega
  · have e : isWd t k w = (kept[w]? == some (tname t k.pl)) := by unfold isWd; rw [k0]; rfl
    rw [e, beq_iff_eq]
    constructor
    · rintro ⟨-, q⟩
      rw [q2, iI_eq (by omega) (by omega) (by omega) (by omega)] at q
      have : w' = w := by omega
      subst this
      exact q3
    · intro q
      have := kept_inj q1 hw q3 q
      subst this
      exact ⟨k1, q2⟩
  · rw [no (by omega)]
    exact ⟨fun q => absurd (k1.symm.trans q.1) (by decide), fun q => by cases q⟩
  · exact absurd k0 h3
  · rw [no (by omega)]
    exact ⟨fun q => absurd (k1.symm.trans q.1) (by decide), fun q => by cases q⟩
  · rw [no (by omega)]
    exact ⟨fun q => absurd (k1.symm.trans q.1) (by decide), fun q => by cases q⟩
theorem m_needIn (hW : IW P s0 l XX) (hl : 6 ≤ lev) (h : RG t st k) (ok : ∀ st' x, rInW t k = .ok (x, sGo t k.nx) → RG t st' (sGo t k.nx) → k.pl < (sGo t k.nx).pl → mrf st st' → Q (.returned none) st') (er : ∀ st' e p, rBad (rInW t k) e p → RB t st' e p → mrf st st' → Q (.returned none) st') : CQ (wM P s0 l XX) mX5_needWord lev (.ref P.mo :: [.int (iI 8)]) st Q := by
  obtain ⟨l', rfl⟩ : ∃ l', lev = l' + 1 := ⟨lev - 1, by omega⟩
  have hi := wd_iff (w := 8) h (by omega)
  have no : ¬ (fI st 7 = iI 1 ∧ fI st 11 = iI 8) → jX5_needWord_23 P s0 l XX l' st Q (iI 8) st := fun q => by
    have hf : isWd t k 8 = false := Bool.eq_false_iff.mpr (fun w => q (hi.mpr w))
    refine tX5_needWord_23 (m_cantG (by omega) h (fun st' g1 g2 => er st' 1 k.pl (Or.inl ?_) g1 g2))
    unfold rInW rWrong
    rw [if_neg (by rw [hf]; decide), if_neg h.2.2.2.2]
  refine tX5_needWord ⟨fun w1 => ⟨fun w2 => ?_, fun w2 => no (fun q => w2 q.2)⟩, fun w1 => no (fun q => w1 q.1)⟩
  have hS := hi.mp ⟨w1, w2⟩
  have k1 : k.ki = 1 := by
    unfold isWd at hS
    simp only [Bool.and_eq_true, beq_iff_eq] at hS
    exact hS.1
  have e : rInW t k = .ok (k.pl, sGo t k.nx) := by unfold rInW; rw [if_pos hS]
  obtain ⟨w1, w2, w3⟩ := h.at (by omega)
  exact m_nextG hW (by omega) h.1 h.2.2.2.1 w1 w2 (fun st' g1 g2 g3 => ok st' _ e g1 (by omega) g3) (fun st' g1 g2 g3 => er st' 2 _ (Or.inr ⟨_, _, e, g1, rfl, rfl⟩) g2 g3)
theorem m_needInB {e p : Nat} {s : Int32} (hW : IW P s0 l XX) (hl : 6 ≤ lev) (h : RB t st e p) (ok : ∀ st', RB t st' e p → mrf st st' → Q (.returned none) st') : CQ (wM P s0 l XX) mX5_needWord lev (.ref P.mo :: [.int s]) st Q := by
  obtain ⟨l', rfl⟩ : ∃ l', lev = l' + 1 := ⟨lev - 1, by omega⟩
  have no : jX5_needWord_23 P s0 l XX l' st Q s st := tX5_needWord_23 (m_cantB (by omega) h (ok st h mrf.rf))
  exact tX5_needWord ⟨fun _ => ⟨fun _ => m_nextB hW (by omega) h ok, fun _ => no⟩, fun _ => no⟩
/-- terms are read as the spec says -/
theorem m_rterm (hW : IW P s0 l XX) : ∀ (n lev : Nat), n ≤ 40 → 3 * n + 12 ≤ lev → MRt P s0 l XX t b lev n := by
  intro n
  induction n with
  | zero =>
    intro lev _ hl bs k st nd Q h h15 hb ok er
    obtain ⟨l', rfl⟩ : ∃ l', lev = l' + 2 := ⟨lev - 2, by omega⟩
    have bf : ∀ {e p : Nat}, rBad (rTerm t 0 bs k) e p → b = false := fun hbd => by
      cases hbb : b with
      | false => rfl
      | true => exact absurd hbd ((hb hbb).2.2 _ _)
    refine tX5_readTerm ⟨fun _ => ⟨fun w => ?_, fun w => ?_⟩, fun w => absurd rfl w⟩
    · have k5 : k.ki = 5 := by
        obtain ⟨-, ⟨-, -, a, -, -, h1⟩, -, -, h3⟩ := h
        rcases h1 with ⟨k0, k1, -⟩ | ⟨k0, k1, -⟩ | ⟨k0, k1, -⟩ | ⟨k0, -⟩ | ⟨k0, k1, -⟩ | ⟨k0, k1, -⟩
        · exact absurd (k1.symm.trans w) (by decide)
        · exact absurd (k1.symm.trans w) (by decide)
        · exact absurd (k1.symm.trans w) (by decide)
        · exact absurd k0 h3
        · exact absurd (k1.symm.trans w) (by decide)
        · exact k0
      have hbd : rBad (rTerm t 0 bs k) 1 k.pl := Or.inl (by unfold rTerm rWrong; rw [if_pos k5, if_neg (by omega)])
      exact m_cantG (by omega) h (fun s1 g1 g2 => tX5_readTerm_29 ⟨fun w => absurd w g1.ne, fun _ => er s1 1 _ _ (bf hbd) hbd g1 g2.r⟩)
    · have k5 : k.ki ≠ 5 := fun q => by
        obtain ⟨-, ⟨-, -, a, -, -, h1⟩, -, -, h3⟩ := h
        rcases h1 with ⟨k0, -⟩ | ⟨k0, -⟩ | ⟨k0, -⟩ | ⟨k0, -⟩ | ⟨k0, -⟩ | ⟨k0, k1, -⟩
        · omega
        · omega
        · omega
        · omega
        · omega
        · exact w k1
      have hbd : rBad (rTerm t 0 bs k) 2 k.pl := Or.inl (by unfold rTerm; rw [if_neg k5])
      obtain ⟨hx, ⟨h9, hp, a, h6, ha, -⟩, -, h72, -⟩ := h
      have F : mrf st (mput 73 (fI st 9) (mput 72 (iI 2) st)) := (mrf.put (by omega)).tr (mrf.put (by omega))
      have g1 : RB t (mput 73 (fI st 9) (mput 72 (iI 2) st)) 2 k.pl := ⟨hx.mv F, ⟨a, ha, by rw [fI_put (by omega), fI_put (by omega)]; exact h6⟩, by rw [fI_put (by omega), fI_self]; rfl, by rw [fI_self]; exact h9, Or.inr rfl⟩
      exact tX5_wrong ⟨fun _ => tX5_readTerm_29 ⟨fun w => absurd w g1.ne, fun _ => er _ 2 _ _ (bf hbd) hbd g1 F.r⟩, fun w => absurd h72 w⟩
  | succ n ih =>
    intro lev hn hl bs k st nd Q h h15 hb ok er
    obtain ⟨l', rfl⟩ : ∃ l', lev = l' + 3 := ⟨lev - 3, by omega⟩
    have ih1 : MRt P s0 l XX t b (l' + 2) n := ih (l' + 2) (by omega) (by omega)
    have hx2 := h.1.2.1
    have ex : iI (40 - ((n + 1 : Nat) : Int)) + iI 1 = iI (40 - (n : Int)) := by rw [iI_add]; congr 1; omega
    have e40 : ¬ iI (40 - ((n + 1 : Nat) : Int)) = iI 40 := fun q => by
      rw [iI_eq (by omega) (by omega) (by omega) (by omega)] at q; omega
    -- \ and !
    have bnd : (isSg k 92 || isSg k 33) = true → jX5_readTerm_61 P s0 l XX (l' + 2) st Q (iI (40 - ((n + 1 : Nat) : Int))) (fI st 9) st := fun hc => by
      have k2 : k.ki = 2 := by
        rw [Bool.or_eq_true] at hc
        rcases hc with q | q <;> (unfold isSg at q; simp only [Bool.and_eq_true, beq_iff_eq] at q; exact q.1)
      have eT : rTerm t (n + 1) bs k = rBind (rName t (sGo t k.nx)) fun x k1 => rBind (rNeed t 58 k1) fun _ k2 => rBind (rTerm t n bs k2) fun d k3 => rBind (rNeed t 46 k3) fun _ k4 => rBind (rTerm t n (some x :: bs) k4) fun bb k5 => .ok (.tag k.pl (.tag k.pl (if k.sg = 92 then .append d bb else .group (.append d bb) .fill)), k5) := by
        rw [rTerm, if_pos hc]
      rw [eT] at hb er
      have gen : ∀ (kd : Int32), (kd = iI 4 ∧ k.sg = 92) ∨ (kd = iI 5 ∧ k.sg ≠ 92) → CQ (wM P s0 l XX) mX5_node (l' + 2) (.ref P.mo :: [.int kd, .int (iI 0), .int (iI 0), .int (iI 0), .int (fI st 9)]) st (onI (fun r4 t3 => (CQ (wM P s0 l XX) mX5_next (l' + 2) (.ref P.mo :: []) t3 (onV (fun t5 => (CQ (wM P s0 l XX) mX5_nameNode (l' + 2) (.ref P.mo :: []) t5 (onI (fun r8 t7 => (CQ (wM P s0 l XX) mX5_need (l' + 2) (.ref P.mo :: [.int (iI 58)]) t7 (onV (fun t9 => (CQ (wM P s0 l XX) mX5_readTerm (l' + 2) (.ref P.mo :: [.int (iI (40 - ((n + 1 : Nat) : Int)) + (iI 1))]) t9 (onI (fun r12 t11 => (CQ (wM P s0 l XX) mX5_need (l' + 2) (.ref P.mo :: [.int (iI 46)]) t11 (onV (fun t13 => (CQ (wM P s0 l XX) mX5_readTerm (l' + 2) (.ref P.mo :: [.int (iI (40 - ((n + 1 : Nat) : Int)) + (iI 1))]) t13 (onI (fun r16 t15 => (CQ (wM P s0 l XX) mX5_parts (l' + 2) (.ref P.mo :: [.int r4, .int r8, .int r12, .int r16]) t15 (onI (fun r18 t17 => Q (.returned (some (.int r18))) t17) (fun x t => Q (.threw x) t)))) (fun x t => Q (.threw x) t)))) (fun x t => Q (.threw x) t)))) (fun x t => Q (.threw x) t)))) (fun x t => Q (.threw x) t)))) (fun x t => Q (.threw x) t)))) (fun x t => Q (.threw x) t)))) (fun x t => Q (.threw x) t)) := fun kd hkd => by
        rw [h.2.1.1]
        refine m_bind3 (s1 := 58) (fr0 := k.pl) (mds := mX5_need) (as2 := [.int (iI 46)]) (rSep := rNeed t 46) (F := fun d bb => .tag k.pl (.tag k.pl (if k.sg = 92 then .append d bb else .group (.append d bb) .fill))) ih1 ex hW (by omega) (by omega) (fun k' s' Q' g1 g2 g3 => m_need (s := 46) hW (by omega) g1 (by omega) (fun s2 q1 q2 q3 q4 => g2 s2 _ q1 q2 q3 q4) g3) (fun s' e p Q' g1 g2 => m_needB hW (by omega) g1 g2) (fun k' h3 => Or.inl (rNeed_3 h3)) h (by omega) h15 hb (fun s' x d bb k' vn nd' q1 q2 q3 q4 q5 q6 => ok s' _ k' vn nd' (by rw [eT]; exact q1) q2 q3 q4 q5 (fun hbb => ?_)) er
        obtain ⟨z1, z2, z3, z4, z5, z6, z7, z8, u, v, l2, z9, z10, z11, z12, z13, z14⟩ := q6 hbb
        subst z1
        refine ⟨z2, ?_, z3⟩
        rcases hkd with ⟨rfl, hsg⟩ | ⟨rfl, hsg⟩
        · rw [if_pos hsg]
          exact ⟨Nat.le_refl _, by omega, z4, z5, z6, z7, u, v, vn + 2, l2, nd', some x, ⟨by omega, z9, z10, Nat.le_refl _, by omega⟩, (by simp), z8, z11, z12, z13, z14⟩
        · rw [if_neg hsg]
          exact ⟨Nat.le_refl _, by omega, z4, z5, z6, z7, u, v, vn + 2, l2, nd', some x, ⟨by omega, z9, z10, Nat.le_refl _, by omega⟩, z8, z11, z12, z13, z14⟩
      refine tX5_readTerm_61 (m_isSign (s := 92) (by omega) h (by omega) ?_)
      cases hS : isSg k 92 with
      | true =>
        have : k.sg = 92 := by unfold isSg at hS; simp only [Bool.and_eq_true, beq_iff_eq] at hS; exact hS.2
        exact ⟨fun w => absurd w (by decide), fun _ => gen (iI 4) (Or.inl ⟨rfl, this⟩)⟩
      | false =>
        have : k.sg ≠ 92 := fun q => by unfold isSg at hS; rw [k2, q] at hS; cases hS
        exact ⟨fun _ => gen (iI 5) (Or.inr ⟨rfl, this⟩), fun w => absurd rfl w⟩
    refine tX5_readTerm ⟨fun w => absurd w e40, fun _ => tX5_readTerm_29 ⟨fun _ => m_isSign (s := 92) (by omega) h (by omega) ?_, fun w => absurd h.2.2.2.1 w⟩⟩
    cases h92 : isSg k 92 with
    | true => exact ⟨fun w => absurd w (by decide), fun _ => bnd (by rw [h92]; rfl)⟩
    | false =>
      refine ⟨fun _ => m_isSign (s := 33) (by omega) h (by omega) ?_, fun w => absurd rfl w⟩
      cases h33 : isSg k 33 with
      | true => exact ⟨fun w => absurd w (by decide), fun _ => bnd (by rw [h33, Bool.or_true])⟩
      | false =>
        refine ⟨fun _ => ?_, fun w => absurd rfl w⟩
        have hno : ¬ (isSg k 92 || isSg k 33) = true := by rw [h92, h33]; decide
        have hi := wd_iff (w := 7) h (by omega)
        -- a use
        have use : isWd t k 7 = false → jX5_readTerm_217 P s0 l XX (l' + 2) st Q (iI (40 - ((n + 1 : Nat) : Int))) (fI st 9) st := fun hc => by
          have eT : rTerm t (n + 1) bs k = rBind (rUse t (rTerm t n) bs k) fun v k1 => if isSg k1 256 then rBind (rTerm t n (none :: bs) (sGo t k1.nx)) fun b k2 => .ok (.tag k.pl (.tag k1.pl (.group (.append v b) .fill)), k2) else .ok (v, k1) := by
            rw [rTerm, if_neg hno, if_neg (by rw [hc]; decide)]
          rw [eT] at hb er
          refine tX5_readTerm_217 ?_
          rw [h.2.1.1]
          exact m_useG (ih (l' + 1) (by omega) (by omega)) (m_atom (ih l' (by omega) (by omega)) hW (by omega)) hW (by omega) ex h h15 hb (fun s' v k' vn nd' q1 => ok s' v k' vn nd' (eT.trans q1)) er
        refine ⟨fun w7 => ⟨fun w11 => ?_, fun w11 => use (Bool.eq_false_iff.mpr (fun q => w11 (hi.mpr q).2))⟩, fun w7 => use (Bool.eq_false_iff.mpr (fun q => w7 (hi.mpr q).1))⟩
        -- let
        have hc : isWd t k 7 = true := hi.mp ⟨w7, w11⟩
        have k1 : k.ki = 1 := by unfold isWd at hc; simp only [Bool.and_eq_true, beq_iff_eq] at hc; exact hc.1
        have eT : rTerm t (n + 1) bs k = rBind (rName t (sGo t k.nx)) fun x k1 => rBind (rNeed t 257 k1) fun _ k2 => rBind (rTerm t n bs k2) fun d k3 => rBind (rInW t k3) fun _ k4 => rBind (rTerm t n (some x :: bs) k4) fun bb k5 => .ok (.tag k.pl (.tag k.pl (.group (.append d bb) .allOrNone)), k5) := by
          rw [rTerm, if_neg hno, if_pos hc]
          congr 1
          funext x k1
          congr 1
          funext _ k2
          congr 1
          funext v k3
          unfold rInW
          split
          · rfl
          · rfl
        rw [eT] at hb er
        rw [h.2.1.1]
        refine m_bind3 (s1 := 257) (fr0 := k.pl) (mds := mX5_needWord) (as2 := [.int (iI 8)]) (rSep := rInW t) (F := fun d bb => .tag k.pl (.tag k.pl (.group (.append d bb) .allOrNone))) ih1 ex hW (by omega) (by omega) (fun k' s' Q' g1 g2 g3 => m_needIn hW (by omega) g1 g2 g3) (fun s' e p Q' g1 g2 => m_needInB hW (by omega) g1 g2) (fun k' h3 => Or.inl (rInW_3 h3)) h (by omega) h15 hb (fun s' x d bb k' vn nd' q1 q2 q3 q4 q5 q6 => ok s' _ k' vn nd' (by rw [eT]; exact q1) q2 q3 q4 q5 (fun hbb => ?_)) er
        obtain ⟨z1, z2, z3, z4, z5, z6, z7, z8, u, v, l2, z9, z10, z11, z12, z13, z14⟩ := q6 hbb
        subst z1
        exact ⟨z2, ⟨Nat.le_refl _, by omega, z4, z5, z7, u, v, vn + 2, l2, nd', some x, ⟨by omega, z9, z10, Nat.le_refl _, by omega⟩, (by simp), z8, z11, z12, z13, z14⟩, z3⟩
end MRF
