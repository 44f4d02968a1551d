/-! P OVER S (49): reading: a statement -/
theorem isWd_1 {t : TX} {k : TK} {x : Nat} {u : List Nat} (h : k.ki = 1) (hu : tname t k.pl = u) : isWd t k x = (kept[x]? == some u) := by
  unfold isWd
  rw [h, hu]
  rfl
theorem rStat_x {t : TX} {k : TK} {x : Nat} (h1 : k.ki = 1) (hu : tname t k.pl = kept.getD x []) (hx : x < 7) : rStat t k = match x with
    | 0 => rBind (rName t (sGo t k.nx)) fun x k1 => .ok ((0, k.pl, [x], none, none), k1)
    | 1 => rBind (rName t (sGo t k.nx)) fun x k1 => rBind (rNeed t 58 k1) fun _ k2 => rBind (rName t k2) fun y k3 => .ok ((1, k.pl, [x, y], none, none), k3)
    | 2 => rBind (rName t (sGo t k.nx)) fun x k1 => rBind (rName t k1) fun y k2 => rBind (rName t k2) fun z k3 => .ok ((2, k.pl, [x, y, z], none, none), k3)
    | 3 => rBind (rTerm t 40 [] (sGo t k.nx)) fun v k1 => if isSg k1 58 then rBind (rTerm t 40 [] (sGo t k1.nx)) fun ty k2 => .ok ((4, k.pl, [], some ty, some v), k2) else .ok ((4, k.pl, [], none, some v), k1)
    | 4 => rBind (rTerm t 40 [] (sGo t k.nx)) fun v k1 => .ok ((5, k.pl, [], none, some v), k1)
    | 5 => rBind (rTerm t 40 [] (sGo t k.nx)) fun v k1 => rBind (rNeed t 61 k1) fun _ k2 => rBind (rTerm t 40 [] k2) fun ty k3 => .ok ((7, k.pl, [], some ty, some v), k3)
    | _ => rBind (rTerm t 40 [] (sGo t k.nx)) fun v k1 => .ok ((6, k.pl, [], none, some v), k1) := by
  have hi : ∀ i, isWd t k i = (kept[i]? == some (kept.getD x [])) := fun i => isWd_1 h1 hu
  unfold rStat
  rw [if_neg (by omega), hi 0, hi 1, hi 2, hi 3, hi 4, hi 5, hi 6]
  rcases x with _ | _ | _ | _ | _ | _ | _ | x
  · rfl
  · rfl
  · rfl
  · rfl
  · rfl
  · rfl
  · rfl
  · omega
theorem rStat_no {t : TX} {k : TK} (h1 : k.ki ≠ 0) (h2 : ∀ x, x < 7 → isWd t k x = false) : rStat t k = rWrong k := by
  unfold rStat
  rw [if_neg h1, h2 0 (by omega), h2 1 (by omega), h2 2 (by omega), h2 3 (by omega), h2 4 (by omega), h2 5 (by omega), h2 6 (by omega)]
  rfl
section PRV2
variable {G : GPl} {s0 : State} {l : Launch} {KK : Nat → Option Nat} {T : Nat → Nat} {lev d : Nat} {Q : Outcome → GSt → Prop} {R : Nat → Nat} {σ τ υ st0 σ0 : GSt} {X : SX} {K : KS} {w n s n' s' o a tp bl sl y kd pl lo : Nat} {W I I1 I2 : Nat → Prop} {t : TX} {bs : List (Option Nat)} {m m' : Int} {k k' : TK} {ns : List Nat} {ty tm : Option V}
theorem c_stat (hl : 205 ≤ lev) (hK : KI KK) (h : RS G KK T R X K w t a tp bl sl [] 0 k (n + 3) (s + 12) σ)
    (ok : ∀ τ y st k' I1 I2, rStat t k = .ok (st, k') → SP G KK T R X K w t a tp bl sl σ τ k' n s y st.1 st.2.1 st.2.2.1 st.2.2.2.1 st.2.2.2.2 I1 I2 → k.pl < k'.pl → Q (.returned (some (va_rf (some y)))) τ)
    (er : ∀ x τ (e : Nat) p, rStat t k = .error (e, p) → flt τ x (e : Int) p → rF a bl σ τ → MB G R τ X K w n s → Q (.threw x) τ) : CQ (wP G s0 l KK T) mX6_statement lev (.ref a :: []) σ Q := by
  obtain ⟨l', rfl⟩ : ∃ l', lev = l' + 1 := ⟨lev - 1, by omega⟩
  have hM := h.2.2.2.2.2.1
  have k3 := h.2.2.1.1
  have hgr : groom G 6 σ := ⟨by have := hM.2.2.2.1; omega, by have := hM.2.2.2.2; omega, h.z.at⟩
  refine tX6_statement ⟨h.1.1, fun q => ?_, fun q => ⟨fun q2 => ?_, fun q2 => ?_⟩⟩
  · rw [h.2.2.1.2.1] at q
    have k0 : k.ki = 0 := hK _ _ h.2.2.1.2.2.2.2.2.1 (by omega) q
    have eS : rStat t k = rTell t k := by unfold rStat; rw [if_pos k0]
    exact c_told (by omega) hK h (fun τ y st k' I1 I2 f1 f2 f3 => fun _ => ok τ y st k' I1 I2 (eS.trans f1) f2 f3) (fun x τ e p f1 f2 f3 f4 => fun _ => er x τ e p (eS.trans f1) f2 f3 f4)
  · rw [h.2.2.1.2.1] at q2
    have k1 : k.ki = 1 := hK _ _ h.2.2.1.2.2.2.2.2.1 (by omega) q2
    obtain ⟨v, v1, v2, v3⟩ := h.2.2.1.2.2.2.1 (by omega)
    obtain ⟨v4, v5⟩ := v3 k1
    rw [k3, v1]
    -- each of the words
    have P : ∀ x, x < 7 → tname t k.pl = kept.getD x [] → jX6_statement_215 G s0 l KK T l' σ Q a (iI (k.pl : Int)) (some v) (iI (((if x = 5 then 6 else if x = 6 then 5 else x) : Nat) : Int)) σ := fun x hx hu => by
      have eS := rStat_x k1 hu hx
      rcases x with _ | _ | _ | _ | _ | _ | _ | x
      · -- sort
        refine tX6_statement_215 ⟨fun _ => ⟨hgr, c_stR (kd := 0) (by omega) h (fun τ1 u1 => fun _ => ⟨u1.1.1.1, c_spgo (by omega) hK u1 (by omega) (fun τ2 u2 p2 => fun _ => ?_)⟩)⟩, fun q => absurd q (by decide), fun q => absurd q (by decide), fun q => absurd q (by decide), fun q => absurd q (by decide), fun q => absurd q (by decide), fun q => absurd q (by decide), fun q => absurd q (by unfold tout; decide)⟩
        exact c_name2 (ns := []) (by omega) hK u2 (by show 0 ≤ 2; omega) (fun τ3 e1 u3 p3 => fun _ => ok τ3 _ _ _ _ _ (by rw [eS]; show rBind (rName t (sGo t k.nx)) _ = _; rw [e1]; rfl) (u3.le (n' := n) (s' := s) (by omega) (by omega)) (by omega)) (fun x τ e p e1 e2 e3 e4 => fun _ => er x τ e p (by rw [eS]; show rBind (rName t (sGo t k.nx)) _ = _; rw [e1]; rfl) e2 e3 (e4.le (by omega) (by omega)))
      · -- axiom
        refine tX6_statement_215 ⟨fun q => absurd q (by decide), fun _ => ⟨hgr, c_stR (kd := 1) (by omega) h (fun τ1 u1 => fun _ => ⟨u1.1.1.1, c_spgo (by omega) hK u1 (by omega) (fun τ2 u2 p2 => fun _ => ?_)⟩)⟩, fun q => absurd q (by decide), fun q => absurd q (by decide), fun q => absurd q (by decide), fun q => absurd q (by decide), fun q => absurd q (by decide), fun q => absurd q (by unfold tout; decide)⟩
        refine c_name2 (ns := []) (by omega) hK u2 (by show 0 ≤ 2; omega) (fun τ3 e1 u3 p3 => fun _ => ?_) (fun x τ e p e1 e2 e3 e4 => fun _ => er x τ e p (by rw [eS]; show rBind (rName t (sGo t k.nx)) _ = _; rw [e1]; rfl) e2 e3 (e4.le (by omega) (by omega)))
        have eA : rStat t k = rBind (rNeed t 58 (sGo t (sGo t k.nx).nx)) fun _ k2 => rBind (rName t k2) fun y k3 => .ok ((1, k.pl, [(sGo t k.nx).pl, y], none, none), k3) := by rw [eS]; show rBind (rName t (sGo t k.nx)) _ = _; rw [e1]; rfl
        refine c_spneed (x := 58) (by omega) hK u3 (by omega) (fun τ4 f1 u4 p4 => fun _ => ?_) (fun x τ e p f1 f2 f3 f4 => fun _ => er x τ e p (by rw [eA, f1]; rfl) f2 f3 (f4.le (by omega) (by omega)))
        exact c_name2 (ns := [(sGo t k.nx).pl]) (by omega) hK u4 (by show 1 ≤ 2; omega) (fun τ5 g1 u5 p5 => fun _ => ok τ5 _ _ _ _ _ (by rw [eA, f1]; show rBind (rName t _) _ = _; rw [g1]; rfl) (u5.le (n' := n) (s' := s) (by omega) (by omega)) (by omega)) (fun x τ e p g1 g2 g3 g4 => fun _ => er x τ e p (by rw [eA, f1]; show rBind (rName t _) _ = _; rw [g1]; rfl) g2 g3 (g4.le (by omega) (by omega)))
      · -- rule
        refine tX6_statement_215 ⟨fun q => absurd q (by decide), fun q => absurd q (by decide), fun _ => ⟨hgr, c_stR (kd := 2) (by omega) h (fun τ1 u1 => fun _ => ⟨u1.1.1.1, c_spgo (by omega) hK u1 (by omega) (fun τ2 u2 p2 => fun _ => ?_)⟩)⟩, fun q => absurd q (by decide), fun q => absurd q (by decide), fun q => absurd q (by decide), fun q => absurd q (by decide), fun q => absurd q (by unfold tout; decide)⟩
        refine tX6_statement_340 ⟨fun q => absurd q (by decide), fun _ => ⟨u2.1.1.1, ?_⟩⟩
        refine c_name2 (ns := []) (by omega) hK u2 (by show 0 ≤ 2; omega) (fun τ3 e1 u3 p3 => fun _ => ?_) (fun x τ e p e1 e2 e3 e4 => fun _ => er x τ e p (by rw [eS]; show rBind (rName t (sGo t k.nx)) _ = _; rw [e1]; rfl) e2 e3 (e4.le (by omega) (by omega)))
        have eA : rStat t k = rBind (rName t (sGo t (sGo t k.nx).nx)) fun y k2 => rBind (rName t k2) fun z k3 => .ok ((2, k.pl, [(sGo t k.nx).pl, y, z], none, none), k3) := by rw [eS]; show rBind (rName t (sGo t k.nx)) _ = _; rw [e1]; rfl
        refine tX6_statement_340 ⟨fun q => absurd q (by decide), fun _ => ⟨u3.1.1.1, ?_⟩⟩
        refine c_name2 (ns := [(sGo t k.nx).pl]) (by omega) hK u3 (by show 1 ≤ 2; omega) (fun τ4 f1 u4 p4 => fun _ => ?_) (fun x τ e p f1 f2 f3 f4 => fun _ => er x τ e p (by rw [eA, f1]; rfl) f2 f3 (f4.le (by omega) (by omega)))
        refine tX6_statement_340 ⟨fun q => absurd q (by decide), fun _ => ⟨u4.1.1.1, ?_⟩⟩
        refine c_name2 (ns := [(sGo t k.nx).pl, (sGo t (sGo t k.nx).nx).pl]) (by omega) hK u4 (by show 2 ≤ 2; omega) (fun τ5 g1 u5 p5 => fun _ => ?_) (fun x τ e p g1 g2 g3 g4 => fun _ => er x τ e p (by rw [eA, f1]; show rBind (rName t _) _ = _; rw [g1]; rfl) g2 g3 (g4.le (by omega) (by omega)))
        exact tX6_statement_340 ⟨fun _ => ok τ5 _ _ _ _ _ (by rw [eA, f1]; show rBind (rName t _) _ = _; rw [g1]; rfl) (u5.le (n' := n) (s' := s) (by omega) (by omega)) (by omega), fun q => absurd (by decide) q⟩
      · -- check
        refine tX6_statement_215 ⟨fun q => absurd q (by decide), fun q => absurd q (by decide), fun q => absurd q (by decide), fun _ => ⟨h.1.1, c_asked (kd := 4) (by omega) hK h k1 (fun τ1 y v' k' I e1 u1 p1 => fun _ => ?_) (fun x τ e p e1 e2 e3 e4 => fun _ => er x τ e p (by rw [eS]; show rBind (rTerm t 40 [] (sGo t k.nx)) _ = _; rw [e1]; rfl) e2 e3 e4)⟩, fun q => absurd q (by decide), fun q => absurd q (by decide), fun q => absurd q (by decide), fun q => absurd q (by unfold tout; decide)⟩
        have eA : rStat t k = if isSg k' 58 then rBind (rTerm t 40 [] (sGo t k'.nx)) fun ty k2 => .ok ((4, k.pl, [], some ty, some v'), k2) else .ok ((4, k.pl, [], none, some v'), k') := by rw [eS]; show rBind (rTerm t 40 [] (sGo t k.nx)) _ = _; rw [e1]; rfl
        refine c_isSg (x := 58) (by omega) hK u1.1 (by omega) (fun _ => ?_)
        cases hs : isSg k' 58 with
        | false =>
          rw [hs, if_neg (by decide)] at eA
          exact ⟨fun _ => ok _ _ _ _ _ _ eA u1 p1, fun q => absurd rfl q⟩
        | true =>
          rw [hs, if_pos rfl] at eA
          have k12 : k'.ki = 2 := by
            unfold isSg at hs
            simp only [Bool.and_eq_true, beq_iff_eq] at hs
            exact hs.1
          refine ⟨fun q => absurd q (by decide), fun _ => c_spgo (by omega) hK u1 (by omega) (fun τ2 u2 p2 => fun _ => ?_)⟩
          refine c_spterm (by omega) hK u2 (fun τ3 x ty k2 I' f1 f2 f3 f4 f5 f6 => fun _ => ⟨y, rfl, f2.2.2.1.1, ?_⟩) (fun x τ e p f1 f2 f3 f4 => fun _ => er x τ e p (by rw [eA, f1]; rfl) f2 f3 (f4.le (by omega) (by omega)))
          exact ok _ _ _ _ _ _ (by rw [eA, f1]; rfl) ((f2.set4 f3 f4 f5).le (n' := n) (s' := s) (by omega) (by omega)) (by omega)
      · -- norm
        exact tX6_statement_215 ⟨fun q => absurd q (by decide), fun q => absurd q (by decide), fun q => absurd q (by decide), fun q => absurd q (by decide), fun _ => ⟨h.1.1, c_asked (kd := 5) (by omega) hK h k1 (fun τ1 y v' k' I e1 u1 p1 => fun _ => ok _ _ _ _ _ _ (by rw [eS]; show rBind (rTerm t 40 [] (sGo t k.nx)) _ = _; rw [e1]; rfl) u1 p1) (fun x τ e p e1 e2 e3 e4 => fun _ => er x τ e p (by rw [eS]; show rBind (rTerm t 40 [] (sGo t k.nx)) _ = _; rw [e1]; rfl) e2 e3 e4)⟩, fun q => absurd q (by decide), fun q => absurd q (by decide), fun q => absurd q (by unfold tout; decide)⟩
      · -- same
        refine tX6_statement_215 ⟨fun q => absurd q (by decide), fun q => absurd q (by decide), fun q => absurd q (by decide), fun q => absurd q (by decide), fun q => absurd q (by decide), fun q => absurd q (by decide), fun _ => ⟨h.1.1, c_asked (kd := 7) (by omega) hK h k1 (fun τ1 y v' k' I e1 u1 p1 => fun _ => ?_) (fun x τ e p e1 e2 e3 e4 => fun _ => er x τ e p (by rw [eS]; show rBind (rTerm t 40 [] (sGo t k.nx)) _ = _; rw [e1]; rfl) e2 e3 e4)⟩, fun q => absurd q (by unfold tout; decide)⟩
        have eA : rStat t k = rBind (rNeed t 61 k') fun _ k2 => rBind (rTerm t 40 [] k2) fun ty k3 => .ok ((7, k.pl, [], some ty, some v'), k3) := by rw [eS]; show rBind (rTerm t 40 [] (sGo t k.nx)) _ = _; rw [e1]; rfl
        refine c_spneed (x := 61) (by omega) hK u1 (by omega) (fun τ2 f1 u2 p2 => fun _ => ?_) (fun x τ e p f1 f2 f3 f4 => fun _ => er x τ e p (by rw [eA, f1]; rfl) f2 f3 f4)
        refine c_spterm (by omega) hK u2 (fun τ3 x ty k2 I' g1 g2 g3 g4 g5 g6 => fun _ => ⟨y, rfl, g2.2.2.1.1, ?_⟩) (fun x τ e p g1 g2 g3 g4 => fun _ => er x τ e p (by rw [eA, f1]; show rBind (rTerm t 40 [] _) _ = _; rw [g1]; rfl) g2 g3 (g4.le (by omega) (by omega)))
        exact ok _ _ _ _ _ _ (by rw [eA, f1]; show rBind (rTerm t 40 [] _) _ = _; rw [g1]; rfl) ((g2.set4 g3 g4 g5).le (n' := n) (s' := s) (by omega) (by omega)) (by omega)
      · -- head
        exact tX6_statement_215 ⟨fun q => absurd q (by decide), fun q => absurd q (by decide), fun q => absurd q (by decide), fun q => absurd q (by decide), fun q => absurd q (by decide), fun _ => ⟨h.1.1, c_asked (kd := 6) (by omega) hK h k1 (fun τ1 y v' k' I e1 u1 p1 => fun _ => ok _ _ _ _ _ _ (by rw [eS]; show rBind (rTerm t 40 [] (sGo t k.nx)) _ = _; rw [e1]; rfl) u1 p1) (fun x τ e p e1 e2 e3 e4 => fun _ => er x τ e p (by rw [eS]; show rBind (rTerm t 40 [] (sGo t k.nx)) _ = _; rw [e1]; rfl) e2 e3 e4)⟩, fun q => absurd q (by decide), fun q => absurd q (by unfold tout; decide)⟩
      · omega
    have N : (∀ x, x < 7 → tname t k.pl ≠ kept.getD x []) → jX6_statement_215 G s0 l KK T l' σ Q a (iI (k.pl : Int)) (some v) (iI (-1)) σ := fun hn => by
      have eS : rStat t k = rWrong k := rStat_no (by omega) (fun x hx => by
        rw [isWd_1 k1 rfl]
        have hk9 : kept[x]? = some (kept.getD x []) := by
          rw [List.getD_eq_getElem?_getD, List.getElem?_eq_getElem (show x < kept.length by show x < 9; omega)]
          rfl
        rw [hk9]
        exact beq_false_of_ne (fun z => hn x hx (Option.some.inj z).symm))
      exact tX6_statement_215 ⟨fun q => absurd q (by decide), fun q => absurd q (by decide), fun q => absurd q (by decide), fun q => absurd q (by decide), fun q => absurd q (by decide), fun q => absurd q (by decide), fun q => absurd q (by decide), fun _ => ⟨h.1.1, c_wrong (by omega) hK h (fun x τ f1 f2 f3 => fun _ => ⟨x, rfl, er x τ _ _ eS f1 f2 (f3.le (by omega) (by omega))⟩)⟩⟩
    have hit : ∀ x, x < 7 → jh 0 (tname t k.pl) = jhs.getD x 0 → CQ (wP G s0 l KK T) mJ3_equals l' (.ref v :: [va_rf (some (T (4 + x)))]) σ (onI (fun r t5 => gle σ t5 → ((r = 0 → jX6_statement_215 G s0 l KK T l' σ Q a (iI (k.pl : Int)) (some v) (iI (-1)) t5) ∧ (¬ r = 0 → jX6_statement_215 G s0 l KK T l' σ Q a (iI (k.pl : Int)) (some v) (iI (((if x = 5 then 6 else if x = 6 then 5 else x) : Nat) : Int)) t5))) (fun x t => gle σ t → Q (.threw x) t)) := fun x hx hh => by
      refine c_eq (by omega) v2 (h.2.1.1 x (by omega)) (fun _ => ?_)
      by_cases e : tname t k.pl = kept.getD x []
      · rw [decide_eq_true e]
        exact ⟨fun q => absurd q (by decide), fun _ => P x hx e⟩
      · rw [decide_eq_false e]
        refine ⟨fun _ => N (fun x' hx' e' => ?_), fun q => absurd rfl q⟩
        have h1 := jh_kept x' (by omega)
        rw [← e', hh] at h1
        have := jhs_inj x (by omega) x' (by omega) h1
        subst this
        exact e e'
    refine ⟨v, rfl, v2.1, ?_⟩
    obtain ⟨l2, rfl⟩ : ∃ l2, l' = l2 + 1 := ⟨l' - 1, by omega⟩
    refine tJ3_hashCode ⟨v2.1, fun q => absurd q (by rw [v4]; exact v5), fun _ => fun _ => ?_⟩
    rw [v4]
    refine ⟨fun q => hit 6 (by omega) q, fun q => hit 4 (by omega) q, fun q => hit 2 (by omega) q, fun q => hit 5 (by omega) q, fun q => hit 0 (by omega) q, fun q => hit 1 (by omega) q, fun q => hit 3 (by omega) q, fun n1 n2 n3 n4 n5 n6 n7 => N (fun x hx e => ?_)⟩
    have h1 := jh_kept x (by omega)
    rw [← e] at h1
    rcases x with _ | _ | _ | _ | _ | _ | _ | x
    · exact n5 h1
    · exact n6 h1
    · exact n3 h1
    · exact n7 h1
    · exact n2 h1
    · exact n4 h1
    · exact n1 h1
    · omega
  · have k1 : k.ki ≠ 1 := fun z => q2 (by rw [h.2.2.1.2.1, z])
    have k0 : k.ki ≠ 0 := fun z => q (by rw [h.2.2.1.2.1, z])
    have eS : rStat t k = rWrong k := rStat_no k0 (fun x _ => by unfold isWd; rw [beq_false_of_ne k1, Bool.false_and])
    exact c_wrong (by omega) hK h (fun x τ f1 f2 f3 => fun _ => ⟨x, rfl, er x τ _ _ eS f1 f2 (f3.le (by omega) (by omega))⟩)
end PRV2
