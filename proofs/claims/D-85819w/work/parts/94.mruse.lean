/-! M OVER S (34): reading: atoms, uses, terms -/
/-- the contract of reading an atom -/
def MRa (P : MPl) (s0 : State) (l : Launch) (XX : Prop) (t : TX) (b : Bool) (lev n : Nat) : Prop := ∀ (bs : List (Option Nat)) (k : TK) (st : MSt) (nd : Nat) (x1 : Int32) (Q : Outcome → MSt → Prop), x1 + iI 1 = iI (40 - (n : Int)) → RG t st k → fI st 15 = iI (if b then 1 else 0) → (b = true → fI st 39 = iI (nd : Int) ∧ nd + 2 * (t.2 - k.pl) ≤ 140000 ∧ ∀ e p, ¬ rBad (rAtom t (rTerm t n) bs k) e p) →
  (∀ st' v k' vn nd', rAtom t (rTerm t n) bs k = .ok (v, k') → RG t st' k' → k.pl < k'.pl → rfr b nd st st' → nd ≤ nd' → (b = true → fI st' 39 = iI ((nd' : Nat) : Int) ∧ mR (tname t) st' v bs vn nd nd' none ∧ st'.2 34 vn = iI (k.pl : Int) ∧ nd' + 2 * (t.2 - k'.pl) + 1 ≤ nd + 2 * (t.2 - k.pl)) → Q (.returned (some (.int (iI ((vn : Nat) : Int))))) st') →
  (∀ st' e p r, b = false → rBad (rAtom t (rTerm t n) bs k) e p → RB t st' e p → rfr b nd st st' → Q (.returned (some (.int r))) st') → CQ (wM P s0 l XX) mX5_readAtom lev (.ref P.mo :: [.int x1]) st Q
section MRU
variable {P : MPl} {s0 : State} {l : Launch} {XX : Prop} {lev n nd : Nat} {Q : Outcome → MSt → Prop} {st st' st'' st0 : MSt} {t : TX} {k : TK} {b : Bool} {bs : List (Option Nat)} {TN : Nat → List Nat}
theorem rFind_n {w : List Nat} : ∀ (bs : List (Option Nat)) (i : Nat), rFind t w bs i = nfind (tname t) w bs i := by
  intro bs
  induction bs with
  | nil => intro i; rfl
  | cons o bs ih =>
    intro i
    cases o with
    | none => exact ih (i + 1)
    | some p =>
      show (if tname t p = w then some i else rFind t w bs (i + 1)) = (if tname t p = w then some i else nfind (tname t) w bs (i + 1))
      rw [ih]
/-- a name that was read -/
theorem mR_var {p vn : Nat} (h4 : p < 4000) (h0 : st.2 30 vn = iI 0) (h1 : st.2 31 vn = iI (p : Int)) (h2 : st.2 32 vn = iI ((tname t p).length : Int)) (h3 : st.2 34 vn = iI (p : Int)) : mR (tname t) st (rVar t bs p) bs vn vn (vn + 1) none := by
  unfold rVar
  rw [rFind_n]
  cases hf : nfind (tname t) (tname t p) bs 0 with
  | none => exact ⟨Nat.le_refl _, Nat.lt_succ_self _, h0, h3, h4, h1, h2, hf⟩
  | some i => exact ⟨Nat.le_refl _, Nat.lt_succ_self _, h0, h3, p, h4, h1, h2, hf⟩
theorem mR_ge : ∀ (ps : V) (bs : List (Option Nat)) (n lo hi m pp : Nat), mR TN st ps bs n lo hi (some (m, pp)) → 1 ≤ vlen ps → lo ≤ n := by
  intro ps
  induction ps with
  | append p ps _ ih =>
    intro bs n lo hi m pp h _
    obtain ⟨a1, k, a, l1, b1, b2, b3, a2, a3, a4, a5, a6⟩ := h
    by_cases hv : 1 ≤ vlen ps
    · have := ih bs n (k + 1) hi k pp a6 hv; omega
    · cases ps with
      | append q qs => exact absurd (show 1 ≤ vlen qs + 1 by omega) hv
      | nil => have : k = n := a6; omega
      | _ => exfalso; unfold mR at a6; first | exact a6 | (split at a6 <;> first | exact a6.elim | (simp_all))
  | _ => intro bs n lo hi m pp h hv; exact absurd hv (by show ¬ 1 ≤ 0; omega)
/-- the place of a list's last node changes -/
theorem mR_l34 : ∀ (ps : V) (bs : List (Option Nat)) (n lo hi m pp : Nat), mR TN st ps bs n lo hi (some (m, pp)) → (∀ k j, 30 ≤ k → k ≤ 38 → lo ≤ j → j < hi → (k ≠ 34 ∨ j ≠ n) → st'.2 k j = st.2 k j) → (1 ≤ vlen ps → st'.2 34 m = st.2 34 m) → mR TN st' ps bs n lo hi (some (m, pp)) := by
  intro ps
  induction ps with
  | append p ps _ ih =>
    intro bs n lo hi m pp h hs hm
    have hn := mR_ge _ _ _ _ _ _ _ h (show 1 ≤ vlen ps + 1 by omega)
    obtain ⟨a1, k, a, l1, b1, b2, b3, a2, a3, a4, a5, a6⟩ := h
    have hkn : k ≤ n := by
      by_cases hv : 1 ≤ vlen ps
      · have := mR_ge ps bs n (k + 1) hi k pp a6 hv; omega
      · cases ps with
        | append q qs => exact absurd (show 1 ≤ vlen qs + 1 by omega) hv
        | nil => have : k = n := a6; omega
        | _ => exfalso; unfold mR at a6; first | exact a6 | (split at a6 <;> first | exact a6.elim | (simp_all))
    refine ⟨(hm (show 1 ≤ vlen ps + 1 by omega)).trans a1, k, a, l1, b1, b2, b3, by rw [hs 30 k (by omega) (by omega) (by omega) b3 (by omega)]; exact a2, by rw [hs 32 k (by omega) (by omega) (by omega) b3 (by omega)]; exact a3, by rw [hs 33 k (by omega) (by omega) (by omega) b3 (by omega)]; exact a4, mR_mv _ _ _ _ _ _ a5 (fun k' j z1 z2 z3 z4 => hs k' j z1 z2 z3 (by omega) (by omega)) (fun _ _ w => by cases w), ih bs n (k + 1) hi k pp a6 (fun k' j z1 z2 z3 z4 z5 => hs k' j z1 z2 (by omega) z4 z5) (fun hv => hs 34 k (by omega) (by omega) (by omega) b3 (Or.inr ?_))⟩
    have := mR_ge ps bs n (k + 1) hi k pp a6 hv
    omega
  | nil => intro bs n lo hi m pp h _ _; exact h
  | _ => intro bs n lo hi m pp h; exfalso; unfold mR at h; first | exact h | (split at h <;> first | exact h.elim | (simp_all))
/-- .. the place of a term -/
theorem mR_refrom {v : V} {vn lo hi f : Nat} (h : mR TN st v bs vn lo hi none) (h34 : st'.2 34 vn = iI (f : Int)) (hs : ∀ k j, 30 ≤ k → k ≤ 38 → lo ≤ j → j < hi → (k ≠ 34 ∨ j ≠ vn) → st'.2 k j = st.2 k j) : mR TN st' (refrom f v) bs vn lo hi none := by
  have hlt := mR_lt h
  have hn : ∀ k, 30 ≤ k → k ≤ 38 → k ≠ 34 → st'.2 k vn = st.2 k vn := fun k z1 z2 z3 => hs k vn z1 z2 hlt.1 hlt.2 (Or.inl z3)
  have nm : ∀ {o : Option Nat} {l1 l3 : Nat}, nmO TN st vn o lo hi l1 l3 → nmO TN st' vn o lo hi l1 l3 := fun w => by
    rcases w with ⟨w1, w2⟩ | ⟨x, p, w1, w2, w3, w4, w5, w6, w7, w8⟩
    · exact Or.inl ⟨w1, (hn 31 (by omega) (by omega) (by omega)).trans w2⟩
    · exact Or.inr ⟨x, p, w1, w2, w3, w4, w5, (hn 31 (by omega) (by omega) (by omega)).trans w6, (hs 31 x (by omega) (by omega) w2 w3 (by omega)).trans w7, (hs 32 x (by omega) (by omega) w2 w3 (by omega)).trans w8⟩
  have sub : ∀ {d : V} {bs' : List (Option Nat)} {u l1 l2 : Nat}, lo ≤ l1 → l2 ≤ hi → (vn < l1 ∨ l2 ≤ vn) → mR TN st d bs' u l1 l2 none → mR TN st' d bs' u l1 l2 none := fun w1 w2 w3 w4 => mR_mv _ _ _ _ _ _ w4 (fun k j z1 z2 z3 z4 => hs k j z1 z2 (by omega) (by omega) (by omega)) (fun _ _ w => by cases w)
  unfold mR at h
  split at h
  · obtain ⟨a1, a2, a3, a4, p, a5, a6, a7, a8⟩ := h
    exact ⟨a1, a2, (hn 30 (by omega) (by omega) (by omega)).trans a3, h34, p, a5, (hn 31 (by omega) (by omega) (by omega)).trans a6, (hn 32 (by omega) (by omega) (by omega)).trans a7, a8⟩
  · obtain ⟨a1, a2, a3, a4, a5, a6, a7, a8⟩ := h
    exact ⟨a1, a2, (hn 30 (by omega) (by omega) (by omega)).trans a3, h34, a5, (hn 31 (by omega) (by omega) (by omega)).trans a6, (hn 32 (by omega) (by omega) (by omega)).trans a7, a8⟩
  · obtain ⟨a1, a2, a3, a4, a5, a6, u, v, l1, l2, l3, o, ⟨b1, b2, b3, b4, b5⟩, a7, a8, a9, a10, a11, a12⟩ := h
    exact ⟨a1, a2, (hn 30 (by omega) (by omega) (by omega)).trans a3, h34, (hn 35 (by omega) (by omega) (by omega)).trans a5, (hn 38 (by omega) (by omega) (by omega)).trans a6, u, v, l1, l2, l3, o, ⟨b1, b2, b3, b4, b5⟩, a7, nm a8, (hn 32 (by omega) (by omega) (by omega)).trans a9, (hn 33 (by omega) (by omega) (by omega)).trans a10, sub b1 (by omega) (by omega) a11, sub (by omega) b4 (by omega) a12⟩
  · obtain ⟨a1, a2, a3, a4, a5, a6, u, v, l1, l2, l3, o, ⟨b1, b2, b3, b4, b5⟩, a8, a9, a10, a11, a12⟩ := h
    exact ⟨a1, a2, (hn 30 (by omega) (by omega) (by omega)).trans a3, h34, (hn 35 (by omega) (by omega) (by omega)).trans a5, (hn 38 (by omega) (by omega) (by omega)).trans a6, u, v, l1, l2, l3, o, ⟨b1, b2, b3, b4, b5⟩, nm a8, (hn 32 (by omega) (by omega) (by omega)).trans a9, (hn 33 (by omega) (by omega) (by omega)).trans a10, sub b1 (by omega) (by omega) a11, sub (by omega) b4 (by omega) a12⟩
  · obtain ⟨a1, a2, a3, a4, a6, u, v, l1, l2, l3, o, ⟨b1, b2, b3, b4, b5⟩, a7, a8, a9, a10, a11, a12⟩ := h
    exact ⟨a1, a2, (hn 30 (by omega) (by omega) (by omega)).trans a3, h34, (hn 38 (by omega) (by omega) (by omega)).trans a6, u, v, l1, l2, l3, o, ⟨b1, b2, b3, b4, b5⟩, a7, nm a8, (hn 32 (by omega) (by omega) (by omega)).trans a9, (hn 33 (by omega) (by omega) (by omega)).trans a10, sub b1 (by omega) (by omega) a11, sub (by omega) b4 (by omega) a12⟩
  · obtain ⟨a1, a2, a3, a4, a7, m, l1, b1, b2, b3, b4, a5, a6⟩ := h
    have hge := mR_ge _ _ _ _ _ _ _ a6 a7
    exact ⟨h34, a2, a3, (hn 30 (by omega) (by omega) (by omega)).trans a4, a7, m, l1, b1, b2, b3, b4, sub (Nat.le_refl _) b2 (by omega) a5, mR_l34 _ _ _ _ _ _ _ a6 (fun k j z1 z2 z3 z4 z5 => hs k j z1 z2 (by omega) z4 z5) (fun _ => hs 34 m (by omega) (by omega) b4 (by omega) (by omega))⟩
  · rename_i e; cases e
  · rename_i e; cases e
  · exact h.elim
theorem m_atom (ih : MRt P s0 l XX t b lev n) (hW : IW P s0 l XX) (hl : 8 ≤ lev) : MRa P s0 l XX t b (lev + 1) n := by
  intro bs k st nd x1 Q hx1 h h15 hb ok er
  have hx2 := h.1.2.1
  have bf : ∀ {e p : Nat}, rBad (rAtom t (rTerm t n) bs k) e p → b = false := fun hbd => by
    cases hbb : b with
    | false => rfl
    | true => exact absurd hbd ((hb hbb).2.2 _ _)
  refine tX5_readAtom (m_isSign (s := 40) (by omega) h (by omega) ?_)
  cases hS : isSg k 40 with
  | false =>
    have eA : rAtom t (rTerm t n) bs k = rBind (rName t k) fun p k1 => .ok (rVar t bs p, k1) := by unfold rAtom; rw [hS]; rfl
    have b3 : ∀ p k1, k1.ki = 3 → rBad (.ok (rVar t bs p, k1) : RR V) 2 k1.pl := fun p k1 h3 => Or.inr ⟨_, _, rfl, h3, rfl, rfl⟩
    refine ⟨fun _ => m_nameG (b := b) (nd := nd) hW (by omega) h h15 (fun hbb => ⟨(hb hbb).1, ?_, fun e p hbd => (hb hbb).2.2 e p (by rw [eA]; exact hbd.bind b3)⟩) (fun sc vx ec kc gc pc Fc nc => ?_) (fun sc e p r8 b0 hbd' gc Fc => er sc e p r8 b0 (by rw [eA]; exact hbd'.bind b3) gc Fc), fun w => absurd rfl w⟩
    · have h2 := (hb hbb).2.1
      by_cases hk0 : k.ki = 0
      · have := (h.2.2.1.2 (by omega)); omega
      · exfalso
        refine (hb hbb).2.2 1 k.pl ?_
        rw [eA]
        refine rBad.er ?_
        unfold rName rWrong
        rw [if_neg hk0, if_neg h.2.2.2.2]
    · refine ok sc (rVar t bs k.pl) (sGo t k.nx) vx (nd + 1) (by rw [eA, ec]; rfl) gc pc Fc (Nat.le_succ _) (fun hbb => ?_)
      obtain ⟨c1, c2, c3, c4, c5, c6⟩ := nc hbb
      subst c1
      have hpl := h.2.2.1.2 (by omega)
      exact ⟨c2, mR_var (by omega) c3 c4 c5 c6, c6, by have := gc.2.2.1.1; omega⟩
  | true =>
    have k2 : k.ki = 2 := by
      unfold isSg at hS
      simp only [Bool.and_eq_true, beq_iff_eq] at hS
      exact hS.1
    have eA : rAtom t (rTerm t n) bs k = rBind (rTerm t n bs (sGo t k.nx)) fun v k1 => rBind (rNeed t 41 k1) fun _ k2 => .ok (refrom k.pl v, k2) := by unfold rAtom; rw [if_pos hS]
    obtain ⟨w1, w2, w3⟩ := h.at (by omega)
    have b2 : ∀ v k1, k1.ki = 3 → rBad (rBind (rNeed t 41 k1) fun _ k2 => (.ok (refrom k.pl v, k2) : RR V)) 2 k1.pl := fun v k1 h3 => rBad.er (rNeed_3 h3)
    have b3 : ∀ v (_ : Nat) k1, k1.ki = 3 → rBad (.ok (refrom k.pl v, k1) : RR V) 2 k1.pl := fun v _ k1 h3 => Or.inr ⟨_, _, rfl, h3, rfl, rfl⟩
    have fin : ∀ (s : MSt) (e p : Nat) (r6 : Int32), rBad (rAtom t (rTerm t n) bs k) e p → RB t s e p → rfr b nd st s → CQ (wM P s0 l XX) mX5_need lev (.ref P.mo :: [.int (iI 41)]) s (onV (fun t7 => (((fI t7 15) = 0 → Q (.returned (some (.int r6))) t7) ∧ (¬ (fI t7 15) = 0 → (inr r6 140000 ∧ Q (.returned (some (.int r6))) (mst 34 r6 (fI st 9) t7))))) (fun x t => Q (.threw x) t)) := fun s e p r6 hbd hB hF => by
      have b0 := bf hbd
      refine m_needB hW (by omega) hB (fun s' g1 g2 => ⟨fun _ => er s' e p r6 b0 hbd g1 (hF.tr g2.r (Nat.le_refl _)), fun w => absurd (((hF.tr g2.r (Nat.le_refl _)).1 15 (by omega)).trans h15) ?_⟩)
      rw [b0]
      exact fun q => w q
    refine ⟨fun w => absurd w (by decide), fun _ => m_nextG hW (by omega) h.1 h.2.2.2.1 w1 w2 (fun sb gb pb Fb => ?_) (fun sb gb1 gb2 Fb => ?_)⟩
    · rw [hx1]
      refine ih bs (sGo t k.nx) sb nd _ gb ((Fb.1 15 (by omega)).trans h15) (fun hbb => ⟨(Fb.1 39 (by omega)).trans (hb hbb).1, by have := (hb hbb).2.1; omega, fun e p hbd => (hb hbb).2.2 e p (by rw [eA]; exact hbd.bind b2)⟩) (fun sc v k3 vn nd' ec gc pc Fc hnc nc => ?_) (fun sc e p r b0 hbd' gc Fc => fin sc e p r (by rw [eA]; exact hbd'.bind b2) gc ((Fb.r (b := b) (nd := nd)).tr Fc (Nat.le_refl _)))
      have F2 : rfr b nd st sc := (Fb.r (b := b) (nd := nd)).tr Fc (Nat.le_refl _)
      refine m_need (s := 41) hW (by omega) gc (by omega) (fun sd ed gd pd Fd => ?_) (fun sd e p hbd' gd Fd => ?_)
      · have F3 : rfr b nd st sd := F2.tr Fd.r (Nat.le_refl _)
        have h15d : fI sd 15 = iI (if b then 1 else 0) := (F3.1 15 (by omega)).trans h15
        have eR : rAtom t (rTerm t n) bs k = .ok (refrom k.pl v, sGo t k3.nx) := by rw [eA, ec]; show rBind (rNeed t 41 k3) _ = _; rw [ed]; rfl
        cases b with
        | false => exact ⟨fun _ => ok sd _ _ vn nd' eR gd (by omega) F3 hnc (fun w => by cases w), fun w => absurd h15d w⟩
        | true =>
          obtain ⟨c1, c2, c3⟩ := nc rfl
          obtain ⟨i1, i2, -⟩ := hb rfl
          have hvn := mR_lt c2
          have hin : inr (iI (vn : Int)) 140000 := iI_in (by omega) (by omega)
          refine ⟨fun w => absurd (h15d.symm.trans w) (by decide), fun _ => ⟨hin, ?_⟩⟩
          rw [h.2.1.1]
          have ar : ∀ k' j, (mst 34 (iI (vn : Int)) (iI (k.pl : Int)) sd).2 k' j = if k' = 34 ∧ j = vn then iI (k.pl : Int) else sd.2 k' j := fun k' j => mst_a (by omega)
          have fr : ∀ j, fI (mst 34 (iI (vn : Int)) (iI (k.pl : Int)) sd) j = fI sd j := fun j => rfl
          generalize mst 34 (iI (vn : Int)) (iI (k.pl : Int)) sd = se at ar fr
          have F4 : rfr true nd sd se := ⟨fun j _ => fr j, (fun w => by cases w), fun k' j w => by
            rw [ar, if_neg (fun q => by have := w (by omega) rfl; omega)]⟩
          have G4 : RG t se (sGo t k3.nx) := by
            obtain ⟨hx, ⟨h9, hp, a0, h60, ha0, hcs⟩, h3, h4, h5⟩ := gd
            refine ⟨hx.rv F4, ⟨(fr 9).trans h9, hp, a0, (fr 6).trans h60, ha0, ?_⟩, h3, (fr 72).trans h4, h5⟩
            rw [fr 7, fr 8, fr 10, fr 11]
            exact hcs
          refine ok se _ _ vn nd' eR G4 (by omega) (F3.tr F4 (Nat.le_refl _)) hnc (fun _ => ⟨(fr 39).trans ((Fd.1 39 (by omega)).trans c1), mR_refrom c2 (by rw [ar, if_pos ⟨rfl, rfl⟩]) (fun k' j z1 z2 z3 z4 z5 => by rw [ar, if_neg (by omega), Fd.2]), by rw [ar, if_pos ⟨rfl, rfl⟩], by have := gd.2.2.1.1; omega⟩)
      · have hbd : rBad (rAtom t (rTerm t n) bs k) e p := by rw [eA, ec]; exact hbd'.bind (b3 v)
        have b0 := bf hbd
        refine ⟨fun _ => er sd e p _ b0 hbd gd (F2.tr Fd.r (Nat.le_refl _)), fun w => absurd (((F2.tr Fd.r (Nat.le_refl _) : rfr b nd st sd).1 15 (by omega)).trans h15) ?_⟩
        rw [b0]
        exact fun q => w q
    · have hbd : rBad (rAtom t (rTerm t n) bs k) 2 (sGo t k.nx).pl := by rw [eA]; exact rBad.er (rTerm_3 gb1)
      exact m_termB (by omega) gb2 (fin sb 2 _ _ hbd gb2 Fb.r)
theorem m_begins (hl : 2 ≤ lev) (h : RG t st k) (ok : Q (.returned (some (.int (bI (decide (k.ki = 0) || isSg k 40))))) st) : CQ (wM P s0 l XX) mX5_beginsAtom lev (.ref P.mo :: []) st Q := by
  obtain ⟨l', rfl⟩ : ∃ l', lev = l' + 1 := ⟨lev - 1, by omega⟩
  refine tX5_beginsAtom (m_isName (by omega) h ?_)
  cases hk : decide (k.ki = 0) with
  | true => rw [hk] at ok; exact ⟨fun w => absurd w (by decide), fun _ => tX5_beginsAtom_16 ok⟩
  | false =>
    rw [hk] at ok
    refine ⟨fun _ => m_isSign (s := 40) (by omega) h (by omega) ?_, fun w => absurd rfl w⟩
    cases hS : isSg k 40 with
    | true => rw [hS] at ok; exact ⟨fun w => absurd w (by decide), fun _ => tX5_beginsAtom_16 ok⟩
    | false => rw [hS] at ok; exact ⟨fun _ => ok, fun w => absurd rfl w⟩
end MRU
