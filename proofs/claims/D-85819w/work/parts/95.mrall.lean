/-! M OVER S (35): reading: uses, terms, all of it -/
/-- a use, or what has no parts -/
def rFin (p : Nat) (f ps : V) (k2 : TK) : RR V := match ps with
  | .append _ _ => .ok (.tag p (.tag p (.group (.group (.append f ps) .fill) .fill)), k2)
  | _ => .ok (f, k2)
theorem rUse_fin {t : TX} {tm : List (Option Nat) → TK → RR V} {bs : List (Option Nat)} {k : TK} : rUse t tm bs k = rBind (rAtom t tm bs k) fun f k1 => rBind (rParts t tm bs t.2 k1) fun ps k2 => rFin k.pl f ps k2 := by
  unfold rUse rFin
  rfl
section MRX
variable {P : MPl} {s0 : State} {l : Launch} {XX : Prop} {lev n nd : Nat} {Q : Outcome → MSt → Prop} {st st' st'' st0 : MSt} {t : TX} {k : TK} {b : Bool} {bs : List (Option Nat)} {TN : Nat → List Nat}
theorem rParts_3 {tm : List (Option Nat) → TK → RR V} {m : Nat} (h : k.ki = 3) : rParts t tm bs m k = .ok (.nil, k) := by
  cases m with
  | zero => rfl
  | succ m =>
    unfold rParts
    rw [if_neg]
    rintro (q | q)
    · omega
    · unfold isSg at q; rw [h] at q; cases q
/-- the parts of a use -/
theorem m_ploop {x1 : Int32} {pp : Nat} (iha : MRa P s0 l XX t b lev n) (hl : 9 ≤ lev) (hx1 : x1 + iI 1 = iI (40 - (n : Int))) : ∀ (m : Nat) (k : TK) (st : MSt) (nd f : Nat), t.2 - k.pl ≤ m → RG t st k → fI st 15 = iI (if b then 1 else 0) → (b = true → fI st 39 = iI (nd : Int) ∧ nd + 2 * (t.2 - k.pl) ≤ 140000 ∧ (∀ e p, ¬ rBad (rParts t (rTerm t n) bs m k) e p) ∧ st.2 34 f = iI (pp : Int) ∧ f < nd) →
    (∀ st' ps k' fn nd', rParts t (rTerm t n) bs m k = .ok (ps, k') → RG t st' k' → k.pl ≤ k'.pl → rfr b nd st st' → nd ≤ nd' → (b = true → fI st' 39 = iI ((nd' : Nat) : Int) ∧ mR (tname t) st' ps bs fn nd nd' (some (f, pp)) ∧ ((fn = f ∧ nd' = nd ∧ ps = .nil) ∨ (1 ≤ vlen ps ∧ nd ≤ fn ∧ fn < nd' ∧ st'.2 30 fn = iI 7 ∧ st'.2 34 fn = iI (pp : Int))) ∧ nd' + 2 * (t.2 - k'.pl) ≤ nd + 2 * (t.2 - k.pl)) → jX5_readUse_42 P s0 l XX lev st0 Q x1 (iI (pp : Int)) (iI ((fn : Nat) : Int)) st') →
    (∀ st' e p x3, b = false → rBad (rParts t (rTerm t n) bs m k) e p → RB t st' e p → rfr b nd st st' → jX5_readUse_42 P s0 l XX lev st0 Q x1 (iI (pp : Int)) x3 st') → jX5_readUse_6 P s0 l XX lev st0 Q x1 (iI (pp : Int)) (iI (f : Int)) st := by
  intro m
  induction m with
  | zero =>
    intro k st nd f hm h h15 hb ok er
    have hpl := h.2.2.1
    have hk : ¬ k.ki ≤ 2 := fun w => by have := hpl.2 w; omega
    have e1 : (decide (k.ki = 0) || isSg k 40) = false := by
      rw [decide_eq_false (by omega)]
      unfold isSg
      rw [beq_false_of_ne (by omega)]
      rfl
    refine tX5_readUse_6 ⟨fun _ => m_begins (by omega) h ?_, fun w => absurd h.2.2.2.1 w⟩
    rw [e1]
    exact ⟨fun _ => ok st .nil k f nd rfl h (Nat.le_refl _) rfr.rf (Nat.le_refl _) (fun hbb => ⟨(hb hbb).1, rfl, Or.inl ⟨rfl, rfl, rfl⟩, Nat.le_refl _⟩), fun w => absurd rfl w⟩
  | succ m ihm =>
    intro k st nd f hm h h15 hb ok er
    refine tX5_readUse_6 ⟨fun _ => m_begins (by omega) h ?_, fun w => absurd h.2.2.2.1 w⟩
    by_cases hc : k.ki = 0 ∨ isSg k 40 = true
    · have e1 : (decide (k.ki = 0) || isSg k 40) = true := by
        rcases hc with q | q
        · rw [decide_eq_true q]; rfl
        · rw [q, Bool.or_true]
      rw [e1]
      have eP : rParts t (rTerm t n) bs (m + 1) k = rBind (rAtom t (rTerm t n) bs k) fun p k1 => rBind (rParts t (rTerm t n) bs m k1) fun ps k2 => .ok (.append p ps, k2) := by rw [rParts, if_pos hc]
      have b3 : ∀ p k1, k1.ki = 3 → rBad (rBind (rParts t (rTerm t n) bs m k1) fun ps k2 => (.ok (.append p ps, k2) : RR V)) 2 k1.pl := fun p k1 h3 => by rw [rParts_3 h3]; exact Or.inr ⟨_, _, rfl, h3, rfl, rfl⟩
      have b4 : ∀ (p ps : V) k2, k2.ki = 3 → rBad (.ok (.append p ps, k2) : RR V) 2 k2.pl := fun p ps k2 h3 => Or.inr ⟨_, _, rfl, h3, rfl, rfl⟩
      have bf : ∀ {e p : Nat}, rBad (rParts t (rTerm t n) bs (m + 1) k) e p → b = false := fun hbd => by
        cases hbb : b with
        | false => rfl
        | true => exact absurd hbd ((hb hbb).2.2.1 _ _)
      refine ⟨fun w => absurd w (by decide), fun _ => ?_⟩
      refine iha bs k st nd x1 _ hx1 h h15 (fun hbb => ⟨(hb hbb).1, (hb hbb).2.1, fun e p hbd => (hb hbb).2.2.1 e p (by rw [eP]; exact hbd.bind b3)⟩) (fun sa v k1 a nda ea ga pa Fa hna na => ?_) (fun sa e p r b0 hbd' ga Fa => ?_)
      · obtain ⟨l', rfl⟩ : ∃ l', lev = l' + 1 := ⟨lev - 1, by omega⟩
        have hkp := h.2.2.1
        refine m_nodeG (b := b) (nd := nda) (by omega) ga ((Fa.1 15 (by omega)).trans h15) (fun hbb => ⟨(na hbb).1, by have := (na hbb).2.2.2; have := (hb hbb).2.1; omega⟩) (fun sb r gb Fb ob nb => ?_)
        have F2 : rfr b nd st sb := Fa.tr Fb hna
        refine ihm k1 sb (nda + 1) r (by omega) gb ((F2.1 15 (by omega)).trans h15) (fun hbb => ?_) (fun sc ps k2 fn ndc ec gc pc Fc hnc nc => ?_) (fun sc e p x3 b0 hbd' gc Fc => ?_)
        · obtain ⟨y1, y2, y3, y4, y5, y6, y7, y8, y9⟩ := nb hbb
          have := (na hbb).2.2.2
          have := (hb hbb).2.1
          exact ⟨y2, by omega, fun e p hbd => (hb hbb).2.2.1 e p (by rw [eP, ea]; exact hbd.bind (b4 v)), by rw [y1]; exact y7, by omega⟩
        · refine ok sc (.append v ps) k2 fn ndc (by rw [eP, ea]; show rBind (rParts t (rTerm t n) bs m k1) _ = _; rw [ec]; rfl) gc (by omega) (F2.tr Fc (by omega)) (by omega) (fun hbb => ?_)
          obtain ⟨y1, y2, y3, y4, y5, y6, y7, y8, y9⟩ := nb hbb
          obtain ⟨c1, c2, c3, c4⟩ := nc hbb
          obtain ⟨z1, z2, z3, z4⟩ := na hbb
          obtain ⟨i1, i2, i3, i4, i5⟩ := hb hbb
          subst y1
          have old : ∀ k' j, 30 ≤ k' → k' ≤ 38 → j < r + 1 → sc.2 k' j = sb.2 k' j := fun k' j w1 w2 w3 => Fc.2.2 k' j (fun _ _ => w3)
          have old2 : ∀ k' j, 30 ≤ k' → k' ≤ 38 → j < r → sb.2 k' j = sa.2 k' j := fun k' j w1 w2 w3 => Fb.2.2 k' j (fun _ _ => w3)
          refine ⟨c1, ⟨?_, r, a, r, hna, Nat.le_refl _, by omega, by rw [old 30 r (by omega) (by omega) (by omega)]; exact y3, by rw [old 32 r (by omega) (by omega) (by omega)]; exact y5, by rw [old 33 r (by omega) (by omega) (by omega)]; exact y6, ?_, c2⟩, Or.inr ⟨by show 1 ≤ vlen ps + 1; omega, ?_⟩, by omega⟩
          · rw [old 34 f (by omega) (by omega) (by omega), old2 34 f (by omega) (by omega) (by omega), Fa.2.2 34 f (fun _ _ => i5)]; exact i4
          · exact mR_mv _ _ _ _ _ _ z2 (fun k' j w1 w2 w3 w4 => by rw [old k' j w1 w2 (by omega), old2 k' j w1 w2 w4]) (fun _ _ w => by cases w)
          · rcases c3 with ⟨rfl, -, -⟩ | ⟨q1, q2, q3, q4, q5⟩
            · exact ⟨hna, by omega, by rw [old 30 fn (by omega) (by omega) (by omega)]; exact y3, by rw [old 34 fn (by omega) (by omega) (by omega)]; exact y7⟩
            · exact ⟨by omega, q3, q4, q5⟩
        · exact er sc e p x3 b0 (by rw [eP, ea]; exact hbd'.bind (b4 v)) gc (F2.tr Fc (by omega))
      · have hbd : rBad (rParts t (rTerm t n) bs (m + 1) k) e p := by rw [eP]; exact hbd'.bind b3
        obtain ⟨l', rfl⟩ : ∃ l', lev = l' + 1 := ⟨lev - 1, by omega⟩
        subst b0
        exact tX5_node ⟨fun _ => tX5_readUse_6 ⟨fun w => absurd w ga.ne, fun _ => er sa e p _ rfl hbd ga Fa⟩, fun w => absurd ((Fa.1 15 (by omega)).trans h15) w⟩
    · have e1 : (decide (k.ki = 0) || isSg k 40) = false := by
        apply Bool.eq_false_iff.mpr
        intro q
        rw [Bool.or_eq_true] at q
        exact hc (q.imp (fun w => of_decide_eq_true w) id)
      rw [e1]
      exact ⟨fun _ => ok st .nil k f nd (by rw [rParts, if_neg hc]) h (Nat.le_refl _) rfr.rf (Nat.le_refl _) (fun hbb => ⟨(hb hbb).1, rfl, Or.inl ⟨rfl, rfl, rfl⟩, Nat.le_refl _⟩), fun w => absurd rfl w⟩
/-- a use, an arrow -/
theorem m_useG {x1 : Int32} (iht : MRt P s0 l XX t b lev n) (iha : MRa P s0 l XX t b lev n) (hW : IW P s0 l XX) (hl : 9 ≤ lev) (hx1 : x1 + iI 1 = iI (40 - (n : Int))) (h : RG t st k) (h15 : fI st 15 = iI (if b then 1 else 0))
    (hb : b = true → fI st 39 = iI (nd : Int) ∧ nd + 2 * (t.2 - k.pl) ≤ 140000 ∧ ∀ e p, ¬ rBad (rBind (rUse t (rTerm t n) bs k) fun v k1 => if isSg k1 256 then rBind (rTerm t n (none :: bs) (sGo t k1.nx)) fun b k2 => .ok (.tag k.pl (.tag k1.pl (.group (.append v b) .fill)), k2) else .ok (v, k1)) e p)
    (ok : ∀ st' v k' vn nd', (rBind (rUse t (rTerm t n) bs k) fun v k1 => if isSg k1 256 then rBind (rTerm t n (none :: bs) (sGo t k1.nx)) fun b k2 => (.ok (.tag k.pl (.tag k1.pl (.group (.append v b) .fill)), k2) : RR V) else .ok (v, k1)) = .ok (v, k') → RG t st' k' → k.pl < k'.pl → rfr b nd st st' → nd ≤ nd' → (b = true → fI st' 39 = iI ((nd' : Nat) : Int) ∧ mR (tname t) st' v bs vn nd nd' none ∧ nd' + 2 * (t.2 - k'.pl) + 1 ≤ nd + 2 * (t.2 - k.pl)) → Q (.returned (some (.int (iI ((vn : Nat) : Int))))) st')
    (er : ∀ st' e p r, b = false → rBad (rBind (rUse t (rTerm t n) bs k) fun v k1 => if isSg k1 256 then rBind (rTerm t n (none :: bs) (sGo t k1.nx)) fun b k2 => (.ok (.tag k.pl (.tag k1.pl (.group (.append v b) .fill)), k2) : RR V) else .ok (v, k1)) e p → RB t st' e p → rfr b nd st st' → Q (.returned (some (.int r))) st') :
    CQ (wM P s0 l XX) mX5_readUse (lev + 1) (.ref P.mo :: [.int x1, .int (iI (k.pl : Int))]) st Q := by
  obtain ⟨l', rfl⟩ : ∃ l', lev = l' + 1 := ⟨lev - 1, by omega⟩
  have hx2 := h.1.2.1
  generalize hR : (rBind (rUse t (rTerm t n) bs k) fun v k1 => if isSg k1 256 then rBind (rTerm t n (none :: bs) (sGo t k1.nx)) fun b k2 => (.ok (.tag k.pl (.tag k1.pl (.group (.append v b) .fill)), k2) : RR V) else .ok (v, k1)) = RES at hb ok er
  have bf : ∀ {e p : Nat}, rBad RES e p → b = false := fun hbd => by
    cases hbb : b with
    | false => rfl
    | true => exact absurd hbd ((hb hbb).2.2 _ _)
  have bA : ∀ v k1, k1.ki = 3 → rBad (if isSg k1 256 then rBind (rTerm t n (none :: bs) (sGo t k1.nx)) fun b k2 => (.ok (.tag k.pl (.tag k1.pl (.group (.append v b) .fill)), k2) : RR V) else .ok (v, k1)) 2 k1.pl := fun v k1 h3 => by
    have e : isSg k1 256 = false := by unfold isSg; rw [h3]; rfl
    rw [e]
    exact Or.inr ⟨_, _, rfl, h3, rfl, rfl⟩
  have bP : ∀ (f ps : V) k2, k2.ki = 3 → rBad (rFin k.pl f ps k2) 2 k2.pl := fun f ps k2 h3 => by
    unfold rFin
    split
    · exact Or.inr ⟨_, _, rfl, h3, rfl, rfl⟩
    · exact Or.inr ⟨_, _, rfl, h3, rfl, rfl⟩
  have bQ : ∀ (f : V) k1, k1.ki = 3 → rBad (rBind (rParts t (rTerm t n) bs t.2 k1) fun ps k2 => rFin k.pl f ps k2) 2 k1.pl := fun f k1 h3 => by
    rw [rParts_3 h3]
    exact Or.inr ⟨_, _, rfl, h3, rfl, rfl⟩
  rw [rUse_fin] at hR
  have z42 : ∀ (s : MSt) (e p : Nat) (x3 : Int32), b = false → rBad RES e p → RB t s e p → rfr b nd st s → jX5_readUse_42 P s0 l XX (l' + 1) st Q x1 (iI (k.pl : Int)) x3 s := fun s e p x3 b0 hbd hB hF => tX5_readUse_42 ⟨fun w => absurd w hB.ne, fun _ => er s e p x3 b0 hbd hB hF⟩
  refine tX5_readUse (iha bs k st nd x1 _ hx1 h h15 (fun hbb => ⟨(hb hbb).1, (hb hbb).2.1, fun e p hbd => (hb hbb).2.2 e p (by rw [← hR]; exact (hbd.bind bQ).bind bA)⟩) (fun sa f k1 a nda ea ga pa Fa hna na => ?_) (fun sa e p r b0 hbd' ga Fa => tX5_readUse_6 ⟨fun w => absurd w ga.ne, fun _ => z42 sa e p r b0 (by rw [← hR]; exact (hbd'.bind bQ).bind bA) ga Fa⟩))
  have hR1 : (rBind (rBind (rParts t (rTerm t n) bs t.2 k1) fun ps k2 => rFin k.pl f ps k2) fun v k1 => if isSg k1 256 then rBind (rTerm t n (none :: bs) (sGo t k1.nx)) fun b k2 => (.ok (.tag k.pl (.tag k1.pl (.group (.append v b) .fill)), k2) : RR V) else .ok (v, k1)) = RES := by rw [← hR, ea]; rfl
  refine m_ploop (b := b) (n := n) (bs := bs) (pp := k.pl) iha hl hx1 t.2 k1 sa nda a (by omega) ga ((Fa.1 15 (by omega)).trans h15) (fun hbb => ?_) (fun sb ps k2 fn ndb eb gb pb Fb hnb nb => ?_) (fun sb e p x3 b0 hbd' gb Fb => z42 sb e p x3 b0 (by rw [← hR1]; exact (hbd'.bind (bP f)).bind bA) gb (Fa.tr Fb hna))
  · obtain ⟨z1, z2, z3, z4⟩ := na hbb
    have := (hb hbb).2.1
    exact ⟨z1, by omega, fun e p hbd => (hb hbb).2.2 e p (by rw [← hR1]; exact (hbd.bind (bP f)).bind bA), z3, by have := mR_lt z2; omega⟩
  -- the use is read
  have F2 : rfr b nd st sb := Fa.tr Fb hna
  have hR2 : (rBind (rFin k.pl f ps k2) fun v k1 => if isSg k1 256 then rBind (rTerm t n (none :: bs) (sGo t k1.nx)) fun b k2 => (.ok (.tag k.pl (.tag k1.pl (.group (.append v b) .fill)), k2) : RR V) else .ok (v, k1)) = RES := by rw [← hR1, eb]; rfl
  obtain ⟨v, hv, hvm⟩ : ∃ v, rFin k.pl f ps k2 = .ok (v, k2) ∧ (b = true → mR (tname t) sb v bs fn nd ndb none) := by
    by_cases hps : ∃ p q, ps = Std.Format.append p q
    · obtain ⟨p', q', rfl⟩ := hps
      refine ⟨.tag k.pl (.tag k.pl (.group (.group (.append f (.append p' q')) .fill) .fill)), rfl, fun hbb => ?_⟩
      obtain ⟨z1, z2, z3, z4⟩ := na hbb
      obtain ⟨y1, y2, y3, y4⟩ := nb hbb
      have hal := mR_lt z2
      rcases y3 with ⟨-, -, w⟩ | ⟨q1, q2, q3, q4, q5⟩
      · cases w
      · exact ⟨q5, by omega, q3, q4, q1, a, nda, hna, hnb, hal.2, hal.1, mR_mv _ _ _ _ _ _ z2 (fun k' j w1 w2 w3 w4 => Fb.2.2 k' j (fun _ _ => w4)) (fun _ _ w => by cases w), y2⟩
    · have e0 : rFin k.pl f ps k2 = .ok (f, k2) := by
        unfold rFin
        split
        · exact absurd ⟨_, _, rfl⟩ hps
        · rfl
      refine ⟨f, e0, fun hbb => ?_⟩
      obtain ⟨z1, z2, z3, z4⟩ := na hbb
      obtain ⟨y1, y2, y3, y4⟩ := nb hbb
      rcases y3 with ⟨rfl, rfl, -⟩ | ⟨q1, -⟩
      · exact mR_mv _ _ _ _ _ _ z2 (fun k' j w1 w2 w3 w4 => Fb.2.2 k' j (fun _ _ => w4)) (fun _ _ w => by cases w)
      · cases ps with
        | append p q => exact absurd ⟨_, _, rfl⟩ hps
        | _ => exact absurd q1 (by show ¬ 1 ≤ 0; omega)
  have hR3 : (if isSg k2 256 then rBind (rTerm t n (none :: bs) (sGo t k2.nx)) fun b k3 => (.ok (.tag k.pl (.tag k2.pl (.group (.append v b) .fill)), k3) : RR V) else .ok (v, k2)) = RES := by rw [← hR2, hv]; rfl
  refine tX5_readUse_42 ⟨fun _ => m_isSign (s := 256) (by omega) gb (by omega) ?_, fun w => absurd gb.2.2.2.1 w⟩
  cases hS : isSg k2 256 with
  | false =>
    rw [hS] at hR3
    refine ⟨fun _ => ok sb v k2 fn ndb hR3.symm gb (by omega) F2 (by omega) (fun hbb => ?_), fun w => absurd rfl w⟩
    obtain ⟨z1, z2, z3, z4⟩ := na hbb
    obtain ⟨y1, y2, y3, y4⟩ := nb hbb
    exact ⟨y1, hvm hbb, by omega⟩
  | true =>
    rw [hS, if_pos rfl] at hR3
    have k22 : k2.ki = 2 := by
      unfold isSg at hS
      simp only [Bool.and_eq_true, beq_iff_eq] at hS
      exact hS.1
    obtain ⟨w1, w2, w3⟩ := gb.at (by omega)
    have b5 : ∀ bb k3, k3.ki = 3 → rBad (.ok (.tag k.pl (.tag k2.pl (.group (.append v bb) .fill)), k3) : RR V) 2 k3.pl := fun bb k3 h3 => Or.inr ⟨_, _, rfl, h3, rfl, rfl⟩
    refine ⟨fun w => absurd w (by decide), fun _ => m_nextG hW (by omega) gb.1 gb.2.2.2.1 w1 w2 (fun sc gc pc Fc => ?_) (fun sc gc1 gc2 Fc => ?_)⟩
    · rw [hx1]
      have F3 : rfr b nd st sc := F2.tr Fc.r (Nat.le_refl _)
      refine iht (none :: bs) (sGo t k2.nx) sc ndb _ gc ((F3.1 15 (by omega)).trans h15) (fun hbb => ⟨(Fc.1 39 (by omega)).trans (nb hbb).1, by have := (nb hbb).2.2.2; have := (na hbb).2.2.2; have := (hb hbb).2.1; omega, fun e p hbd => (hb hbb).2.2 e p (by rw [← hR3]; exact hbd.bind b5)⟩) (fun sd bb k3 vb ndd ed gd pd Fd hnd nd' => ?_) (fun sd e p r b0 hbd' gd Fd => ?_)
      · have F4 : rfr b nd st sd := F3.tr Fd (by omega)
        have eR : RES = .ok (.tag k.pl (.tag k2.pl (.group (.append v bb) .fill)), k3) := by rw [← hR3, ed]; rfl
        refine m_nodeG (b := b) (nd := ndd) (by omega) gd ((F4.1 15 (by omega)).trans h15) (fun hbb => ⟨(nd' hbb).1, by have := (nd' hbb).2.2; have := (nb hbb).2.2.2; have := (na hbb).2.2.2; have := (hb hbb).2.1; omega⟩) (fun se r ge Fe oe ne => ?_)
        have F5 : rfr b nd st se := F4.tr Fe (by omega)
        have h15e : fI se 15 = iI (if b then 1 else 0) := (F5.1 15 (by omega)).trans h15
        cases b with
        | false => exact ⟨fun _ => ok se _ k3 r ndd eR ge (by omega) F5 (by omega) (fun w => by cases w), fun w => absurd h15e w⟩
        | true =>
          obtain ⟨y1, y2, y3, y4, y5, y6, y7, y8, y9⟩ := ne rfl
          subst y1
          obtain ⟨i1, i2, -⟩ := hb rfl
          obtain ⟨z1, z2, z3, z4⟩ := na rfl
          obtain ⟨c1, c2, c3, c4⟩ := nb rfl
          obtain ⟨d1, d2, d3⟩ := nd' rfl
          have hin : inr (iI (r : Int)) 140000 := iI_in (by omega) (by omega)
          refine ⟨fun w => absurd (h15e.symm.trans w) (by decide), fun _ => ⟨hin, ?_⟩⟩
          rw [gb.2.1.1]
          have ar : ∀ k' j, (mst 35 (iI (r : Int)) (iI (k2.pl : Int)) se).2 k' j = if k' = 35 ∧ j = r then iI (k2.pl : Int) else se.2 k' j := fun k' j => mst_a (by omega)
          have fr : ∀ j, fI (mst 35 (iI (r : Int)) (iI (k2.pl : Int)) se) j = fI se j := fun j => rfl
          generalize mst 35 (iI (r : Int)) (iI (k2.pl : Int)) se = sf at ar fr
          have F6 : rfr true nd se sf := ⟨fun j _ => fr j, (fun w => by cases w), fun k' j w => by
            rw [ar, if_neg (fun q => by have := w (by omega) rfl; omega)]⟩
          have G6 : RG t sf k3 := by
            obtain ⟨hx, ⟨h9, hp, a0, h60, ha0, hcs⟩, h3, h4, h5⟩ := ge
            refine ⟨hx.rv F6, ⟨(fr 9).trans h9, hp, a0, (fr 6).trans h60, ha0, ?_⟩, h3, (fr 72).trans h4, h5⟩
            rw [fr 7, fr 8, fr 10, fr 11]
            exact hcs
          have nr : ∀ k', 30 ≤ k' → k' ≤ 38 → k' ≠ 35 → sf.2 k' r = se.2 k' r := fun k' w1 w2 w3 => by rw [ar, if_neg (by omega)]
          have old : ∀ k' j, 30 ≤ k' → k' ≤ 38 → j < r → sf.2 k' j = sd.2 k' j := fun k' j w1 w2 w3 => by rw [ar, if_neg (by omega), Fe.2.2 k' j (fun _ _ => w3)]
          have hvl := hvm rfl
          refine ok sf _ k3 r (r + 1) eR G6 (by omega) (F5.tr F6 (Nat.le_refl _)) (by omega) (fun _ => ⟨(fr 39).trans y2, ?_, by have := gd.2.2.1.1; omega⟩)
          refine ⟨by omega, Nat.lt_succ_self _, by rw [nr 30 (by omega) (by omega) (by omega)]; exact y3, by rw [nr 34 (by omega) (by omega) (by omega)]; exact y7, by rw [ar, if_pos ⟨rfl, rfl⟩], by rw [nr 38 (by omega) (by omega) (by omega)]; exact y9, fn, vb, nd, ndb, r, none, ⟨Nat.le_refl _, by omega, by omega, by omega, by omega⟩, Or.inl ⟨rfl, by rw [nr 31 (by omega) (by omega) (by omega)]; exact y4⟩, by rw [nr 32 (by omega) (by omega) (by omega)]; exact y5, by rw [nr 33 (by omega) (by omega) (by omega)]; exact y6, ?_, ?_⟩
          · exact mR_mv _ _ _ _ _ _ hvl (fun k' j w1 w2 w3 w4 => by rw [old k' j w1 w2 (by omega), Fd.2.2 k' j (fun _ _ => w4), Fc.2]) (fun _ _ w => by cases w)
          · exact mR_mv _ _ _ _ _ _ d2 (fun k' j w1 w2 w3 w4 => old k' j w1 w2 w4) (fun _ _ w => by cases w)
      · have hbd : rBad RES e p := by rw [← hR3]; exact hbd'.bind b5
        subst b0
        have F4 : rfr false nd st sd := F3.tr Fd (by omega)
        have h15d : fI sd 15 = 0 := (F4.1 15 (by omega)).trans h15
        exact tX5_node ⟨fun _ => ⟨fun _ => er sd e p _ rfl hbd gd F4, fun w => absurd h15d w⟩, fun w => absurd h15d w⟩
    · have hbd : rBad RES 2 (sGo t k2.nx).pl := by rw [← hR3]; exact rBad.er (rTerm_3 gc1)
      have b0 := bf hbd
      subst b0
      have F3 : rfr false nd st sc := F2.tr Fc.r (Nat.le_refl _)
      have h15d : fI sc 15 = 0 := (F3.1 15 (by omega)).trans h15
      exact m_termB (by omega) gc2 (tX5_node ⟨fun _ => ⟨fun _ => er sc 2 _ _ rfl hbd gc2 F3, fun w => absurd h15d w⟩, fun w => absurd h15d w⟩)
end MRX
