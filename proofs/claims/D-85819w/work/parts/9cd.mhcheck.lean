/-! THE HOUSE OVER S, M (4): check -/
section MHD
variable {P : MPl} {s0 : State} {l : Launch} {XX : Prop} {lev : Nat} {Q : Outcome → MSt → Prop} {st st' st'' st0 : MSt} {X : SX} {J : JX} {K K' : KS} {nd nd' ce ce' wa x y lo hi ns ch z o nn nd0 a1 a2 b1 b2 n1 n2 : Nat} {c c' : MC} {M M' : Nat → Int → Prop} {E E' : Nat → Prop} {TN : Nat → List Nat} {v u vt : V} {x1 x2 : Int32} {ty : Option V}
theorem nilMsc : ∀ j k, ¬ Msc [] [] j k := fun j k q => Nat.not_lt_zero _ q.1
/-- a type without its wrappers, at the top -/
theorem JM.T0 {tn : Nat} {so : Int} {q : Nat} {ty : V} (h : JM lo hi E c ce st X J TN [] [] q ns) (hc : 0 < ce) (ht : ∀ st'', ag E c.nd ce st st'' → mT c st'' ty [] tn none) (hg : gT ty true []) (hs : -1 ≤ so ∧ so < 8 ∧ sw ty ≤ z) : mC c ce (Msc [] []) st (vClo (sUnw ty .nil).1 (sUnw ty .nil).2) tn 0 ∧ gKv (vClo (sUnw ty .nil).1 (sUnw ty .nil).2) := by
  have tg : tyG c.ns z .nil ty .nil so := ⟨⟨0, rfl⟩, hg, trivial, hs⟩
  obtain ⟨g1, g2⟩ := tg.unw
  exact ⟨(h.T hc ⟨0, rfl, ht⟩).1, ⟨_, _, rfl, g1, g2⟩⟩
theorem m_ask4n (hl : 535 ≤ lev) (hr : mR TN st v [] n2 b1 b2 none) (h78 : fI st 78 = iI (n2 : Int)) (h79 : fI st 79 = iI (-1)) (hg : rG v 0 0 100) (hD : rD v ≤ 40) (hb : nd0 ≤ b1 ∧ nd0 ≤ c.nd) (hI : ∀ j, b1 ≤ j → j < b2 → E j) (hE : ∀ j, E j → 8 ≤ j ∧ j < c.nd) (h : JM 0 0 E c ce st X J TN [] [] 0 0) (hz : ∀ k, k < c.nc → sw (J.ct k) ≤ z) (hJ : MJ st X K c.nd ce 0) (hK : MK X K c.nd ce 0 x) (hx : 202 ≤ x) (hx2 : x + rN v ≤ 29000) (hy : 203 ≤ y) (hy2 : c.nd + 2 * (60000 - K.life) + (y + rN v) ≤ 140000) (h59 : fI st 59 = iI ((0 : Nat) : Int)) (hN : rN v ≤ 4000) (hO : OB K (o + 10)) (h76 : fI st 76 = iI 3)
    (ok : ∀ st' K', hAsk X J 4 none (some v) K = (K', .ok ()) → K.life ≤ K'.life → dfr nd0 st st' → MJ0 st' X K' → KB X K' → fI st' 72 = 0 → OB K' o → Q (.returned none) st')
    (er : ∀ st' K' e p, hAsk X J 4 none (some v) K = (K', .error (e, p)) → K.life ≤ K'.life → dfr nd0 st st' → MZj st' X K' e p → OB K' o → Q (.returned none) st') : jX5_doStatement_20 P s0 l XX lev st0 Q st := by
  have ea : ∀ K6 r, sJudge X J 100 v [] K = (K6, r) → hAsk X J 4 none (some v) K = jBind (K6, r) fun a K => jBind (jOf (sTell X 100 (hClo a) 0 false false K)) fun _ K => (sPut 10 K, .ok ()) := fun K6 r e => by
    unfold hAsk
    rw [← e]
    rfl
  refine tX5_doStatement_20 ⟨fun _ => ⟨fun _ => ?_, fun q => absurd (by rw [h79]; decide) q⟩, fun q => ?_, fun q => ?_, fun q => ?_, fun q => ?_⟩
  · rw [h78]
    refine m_jtop (o := o + 10) (by omega) hr hg hD hI hE h.lh hz hJ hK hx hx2 hy hy2 h59 hN hO (fun t1 K1 nd1 ce1 u ty' so tn e1 e2 e3 e4 e5 e6 e7 e8 e9 e10 e11 e12 e13 e14 e15 e16 e17 e18 => ?_) (fun t1 K1 e p e1 e2 e3 e4 e5 => ?_)
    · refine onV_ret ?_
      rw [e13]
      have d1 : dfr nd0 st t1 := e3.d hb.1 hb.2
      obtain ⟨hC, hGk⟩ := e10.T0 (c := (nd1, c.2)) e6.2.2.2.2.2 e15 e16 e17
      refine m_tline (c := (nd1, c.2)) (o := o) (by omega) nilMsc hC hGk e10.at.1 e10.1.2.1 e18 e6 e7 (by omega) (fun t3 K3 ce3 g1 g2 g3 g4 g5 g6 g7 g8 => ok t3 _ (by rw [ea _ _ e1]; show jBind (jOf (sTell X 100 (vClo _ _) _ _ _ K1)) _ = _; rw [g1]; rfl) (by show K.life ≤ K3.life; omega) (d1.tr (g3.d (by show nd0 ≤ nd1; omega))) g5 g6 g7 g8) (fun t3 K3 e g1 g2 g3 g4 g5 => er t3 K3 e (-1) (by rw [ea _ _ e1]; show jBind (jOf (sTell X 100 (vClo _ _) _ _ _ K1)) _ = _; rw [g1]; rfl) (by omega) (d1.tr (g3.d (by show nd0 ≤ nd1; omega))) g4 g5)
    · refine m_tlbad (by omega) e4.ne (er t1 K1 e p (by rw [ea _ _ e1]; rfl) e2 (e3.d hb.1 hb.2) e4 (e5.le (by omega)))
  · rw [h76] at q; exact absurd q (by decide)
  · rw [h76] at q; exact absurd q (by decide)
  · rw [h76] at q; exact absurd q (by decide)
  · rw [h76] at q; exact absurd q (by unfold tout; decide)
/-- a type becomes its normal form: two calls; then what comes -/
theorem m_ask4 (hl : 545 ≤ lev) (hr : mR TN st v [] n2 b1 b2 none) (hrt : mR TN st vt [] n1 a1 a2 none) (h78 : fI st 78 = iI (n2 : Int)) (h79 : fI st 79 = iI (n1 : Int)) (hg : rG v 0 0 100) (hD : rD v ≤ 40) (hgt : rG vt 0 0 100) (hDt : rD vt ≤ 40) (hb : nd0 ≤ b1 ∧ nd0 ≤ a1 ∧ nd0 ≤ c.nd ∧ b2 ≤ c.nd ∧ a2 ≤ c.nd ∧ a1 ≤ a2 ∧ b1 ≤ b2) (hab : a2 ≤ b1 ∨ b2 ≤ a1) (h8 : 8 ≤ nd0) (h : JM 0 0 (rwE a1 a2 b1 b2) c ce st X J TN [] [] 0 0) (hz : ∀ k, k < c.nc → sw (J.ct k) ≤ z) (hJ : MJ st X K c.nd ce 0) (hK : MK X K c.nd ce 0 x) (hx : 202 ≤ x) (hx2 : x + (rN vt + rN v) ≤ 29000) (hy : 203 ≤ y) (hy2 : c.nd + 2 * (60000 - K.life) + (y + (rN vt + rN v)) ≤ 140000) (h59 : fI st 59 = iI ((0 : Nat) : Int)) (hN : rN v ≤ 4000 ∧ rN vt ≤ 4000) (hO : OB K (o + 10)) (h76 : fI st 76 = iI 3)
    (ok : ∀ st' K', hAsk X J 4 (some vt) (some v) K = (K', .ok ()) → K.life ≤ K'.life → dfr nd0 st st' → MJ0 st' X K' → KB X K' → fI st' 72 = 0 → OB K' o → Q (.returned none) st')
    (er : ∀ st' K' e p, hAsk X J 4 (some vt) (some v) K = (K', .error (e, p)) → K.life ≤ K'.life → dfr nd0 st st' → MZj st' X K' e p → OB K' o → Q (.returned none) st') : jX5_doStatement_20 P s0 l XX lev st0 Q st := by
  obtain ⟨l', rfl⟩ : ∃ l', lev = l' + 1 := ⟨lev - 1, by omega⟩
  have ea : hAsk X J 4 (some vt) (some v) K = jBind (hNorm X J vt K) fun n K => jBind (hFits X J v n.1 K) fun _ K => (hYes true K, .ok ()) := rfl
  have hE : ∀ j, rwE a1 a2 b1 b2 j → 8 ≤ j ∧ j < c.nd := fun j q => by rcases q with q | q <;> omega
  have h14 : c.nd ≤ 140000 := hK.2.1
  have n1b : n1 < c.nd := by have := mR_lt hrt; omega
  have n2b : b1 ≤ n2 ∧ n2 < b2 := mR_lt hr
  refine tX5_doStatement_20 ⟨fun _ => ⟨fun q => ?_, fun _ => ?_⟩, fun q => ?_, fun q => ?_, fun q => ?_, fun q => ?_⟩
  · rw [h79, iI_z, iI_lt (by omega) (by omega) (by omega) (by omega)] at q; omega
  · rw [h79]
    refine m_jsort (P := P) (s0 := s0) (l := l) (XX := XX) (X := X) (J := J) (TN := TN) (n := 100) (bl := []) (sc := []) (q := 0) (lo := a1) (hi := a2) (E := rwE a1 a2 b1 b2) (y := y + rN v) (z := z) (ns := 0) (ch := 0) (x := x) (c := c) (m_judge 100 l' (by omega)) (by omega) hrt hgt (fun j q1 q2 => Or.inl ⟨q1, q2⟩) hE h.lh trivial hz (by show 0 + 100 ≤ 300; omega) hJ hK hx (by omega) (by omega) (by omega) h59 (by omega) (by omega) (fun t1 K1 nd1 ce1 u so e1 e2 e3 e4 e5 e6 e7 e8 e9 e10 e11 e12 e13 => ⟨fun _ => ?_, fun q => absurd e7.2.2.2.1 q⟩) (fun t1 K1 e p e1 e2 e3 e4 => ⟨fun q => absurd q e4.ne, fun _ => ?_⟩)
    · have f79 : fI t1 79 = iI (n1 : Int) := (e4.1 79 (by omega)).trans h79
      have f78 : fI t1 78 = iI (n2 : Int) := (e4.1 78 (by omega)).trans h78
      have d1 : dfr nd0 st t1 := e4.d hb.2.1 hb.2.2.1
      have o1 : OB K1 (o + 10) := (kO_ts (kO_judge _ _ _ _ rfl)).ob e1 e3 hO
      have hJ1 : JM a1 a2 (cutE (rwE a1 a2 b1 b2) a1 a2) (nd1, c.2) ce1 t1 X J TN [] [] 0 0 := (h.lh (lo' := a1) (hi' := a2)).mv (c' := (nd1, c.2)) e4 e10 (Nat.le_refl _) (Nat.le_refl _) (fun j q1 q2 => Or.inl ⟨q1, q2⟩) (fun j q => q.1) e5 rfl e6 (Nat.le_refl _) (Nat.le_refl _) e8.2.1 e7.2.2.2.2.1
      have hC1 : mC (nd1, c.2) ce1 (Msc [] []) t1 (vClo u .nil) n1 0 := hJ1.C (e12 t1 ag.rf)
      rw [f79]
      refine m_jnorm (c := (nd1, c.2)) (x := x + rN vt) (y := y + rN v) (by omega) hJ1 hC1 ⟨u, .nil, rfl, gT_up _ _ _ e13, trivial⟩ (by show 0 ≤ 300; omega) e7 e8 (by omega) (by omega) (by omega) (by show nd1 + _ + _ ≤ _; omega) (fun t2 K2 nd2 ce2 nt n g1 g2 g3 g4 g5 g6 g7 g8 g9 g10 => ?_) (fun t2 K2 e r g1 g2 g3 g4 => ?_)
      · have g4' : nd1 ≤ nd2 := g4
        have d2 : dfr nd0 t1 t2 := g3.d (by show nd0 ≤ nd1; omega)
        have o2 : OB K2 (o + 10) := ((kO_norm _ _ _ _ rfl).j).ob g1 g2 o1
        have hJ2 : JM 0 0 (cutE (rwE a1 a2 b1 b2) a1 a2) (nd2, c.2) ce2 t2 X J TN [] [] 0 0 := (hJ1.mf (c := (nd1, c.2)) g3 g4 g5 g7.2.1 g6.2.2.2.2.1 hb.2.2.2.2.2.1).lh
        have i78 : fI t2 78 = iI (n2 : Int) := (g3.1 78 (by omega)).trans f78
        have h59' : fI t2 59 = iI ((0 : Nat) : Int) := (g3.1 59 (by omega)).trans (e11.trans h59)
        have hr1 : mR TN t1 v [] n2 b1 b2 none := e4.R hr (by omega) (by omega)
        have hr2 : mR TN t2 v [] n2 b1 b2 none := mR_mv _ _ _ _ _ _ hr1 (fun k j q1 q2 q3 q4 => g3.2 k j (fun _ => by show j < nd1; omega) (fun q => by omega) (fun q => by omega) (by omega)) (fun m' pp q => by cases q)
        refine onI_ret ?_
        rw [i78]
        refine m_jtop (c := (nd2, c.2)) (o := o + 10) (x := x + rN vt) (y := y) (E := cutE (rwE a1 a2 b1 b2) a1 a2) (by omega) hr2 hg hD (fun j q1 q2 => ⟨Or.inr ⟨q1, q2⟩, by omega⟩) (fun j q => by have := hE j q.1; exact ⟨this.1, by show j < nd2; omega⟩) hJ2.lh hz g6 g7 (by omega) (by omega) hy (by show nd2 + _ + _ ≤ _; omega) h59' hN.1 o2 (fun t3 K3 nd3 ce3 u3 ty3 so3 tn3 i1 i2 i3 i4 i5 i6 i7 i8 i9 i10 i11 i12 i13 i14 i15 i16 i17 i18 => ⟨fun _ => ?_, fun q => absurd i6.2.2.2.1 q⟩) (fun t3 K3 e p i1 i2 i3 i4 i5 => ⟨fun q => absurd q i4.ne, fun _ => tX5_doStatement_141 ⟨fun q => absurd q i4.ne, fun _ => tX5_doStatement_153 ?_⟩⟩)
        · have i4' : nd2 ≤ nd3 := i4
          have d3 : dfr nd0 t2 t3 := i3.d hb.1 (by show nd0 ≤ nd2; omega)
          have c0 : 0 < ce3 := i6.2.2.2.2.2
          obtain ⟨hC3, hG3⟩ := i10.T0 (c := (nd3, c.2)) c0 i15 i16 i17
          have hnt : mT (nd3, c.2) t3 nt [] n none := mT_up (c := (nd2, c.2)) (c' := (nd3, c.2)) i4 rfl (g9 (fun j => b1 ≤ j ∧ j < b2) (fun j q => ⟨by omega, by show j < nd1; omega⟩) t3 (i3.ag (fun j q1 q2 => ⟨q1, q2⟩)))
          have hCn : mC (nd3, c.2) ce3 (Msc [] []) t3 (vClo nt .nil) n 0 := ⟨nt, .nil, [], rfl, c0, (fun _ q => by cases q), hnt, trivial⟩
          rw [i13]
          have eF : ∀ K4 r, sSame X 100 (vClo nt .nil) (vClo (sUnw ty3 .nil).1 (sUnw ty3 .nil).2) K3 = (K4, r) → hFits X J v nt K2 = jBind (jOf (K4, r)) fun b K => if b = true then (K, .ok u3) else (K, .error (11, jFrom v)) := fun K4 r q => by
            unfold hFits hClo
            rw [i1, ← q]
            rfl
          have eN : hNorm X J vt K = (K2, .ok (nt, so)) := by
            unfold hNorm
            rw [e1]
            show jBind (jNormal X u [] K1) _ = _
            unfold jNormal
            rw [show jOf (sNorm X 100 (List.length ([] : SC)) (vClo u (scEnv [])) K1) = (K2, .ok nt) from g1]
            rfl
          refine m_compare (c := (nd3, c.2)) 100 0 (l' + 1) (by omega) (by omega) (Msc [] []) (vClo nt .nil) (vClo (sUnw ty3 .nil).1 (sUnw ty3 .nil).2) n 0 tn3 0 K3 t3 ce3 0 (x + rN vt + rN v) _ ⟨fun j k q => absurd q (nilMsc j k), fun j k _ q => absurd q (nilMsc j k), fun i j k q => absurd q (nilMsc i k)⟩ hCn hC3 ⟨nt, .nil, rfl, gT_up _ _ _ g10, trivial⟩ hG3 i10.at.1 i6 i7 (by omega) (fun t4 K4 ce4 r j1 j2 j3 j4 j5 j6 j7 => ?_) (fun t4 K4 e ce4 j1 j2 j3 j4 j5 j6 => ?_)
          · have d4 : dfr nd0 t3 t4 := j4.d (by show nd0 ≤ nd3; omega)
            have o4 : OB K4 (o + 10) := (kO_same _ _ _ _ rfl).ob j1 j2 i18
            have dd : dfr nd0 st t4 := ((d1.tr d2).tr d3).tr d4
            cases r with
            | false =>
              have k78 : fI t4 78 = iI (n2 : Int) := (j4.1 78 (by omega)).trans ((i3.1 78 (by omega)).trans i78)
              refine ⟨fun _ => ?_, fun q => absurd rfl q⟩
              rw [k78]
              obtain ⟨w1, w2⟩ := mR_from hr2
              have e34 : aI t4 34 (iI (n2 : Int)) = iI (jFrom v) := by
                rw [aI_n (by omega), j4.2 34 n2 (fun _ => by show n2 < nd3; omega) (fun q => by omega) (fun q => by omega) (by omega), i3.2 34 n2 (fun _ => ⟨by show n2 < nd2; omega, fun _ => by omega⟩) (fun q => by omega) (fun q => by omega) (fun q => by omega) (by omega) (fun q => by omega) (by omega)]; exact w1
              refine ⟨iI_in (by omega) (by omega), ?_⟩
              rw [e34]
              refine m_wrong (e := 11) (by omega) j6 (by omega) w2 (fun t5 z1 z2 => tX5_doStatement_141 ⟨fun q => absurd q z1.ne, fun _ => tX5_doStatement_153 (er t5 K4 11 (jFrom v) ?_ (by omega) (dd.tr ((z2 (lo := nd0) (hi := nd0) (nd := nd0) (ce := 0) (ns := 0) (ch := 0)).d (Nat.le_refl _) (Nat.le_refl _))) z1 (o4.le (by omega)))⟩)
              rw [ea, eN]; show jBind (hFits X J v nt K2) _ = _; rw [eF _ _ j1]; rfl
            | true =>
              refine ⟨fun q => absurd q (by decide), fun _ => tX5_doStatement_141 ⟨fun _ => m_yes (b := true) (by omega) j6.1 o4 (fun t5 z1 z2 z3 => tX5_doStatement_153 (ok t5 _ ?_ ?_ (dd.tr z1.d) z2 ?_ ((z1.1 72 (by omega)).trans j6.2.2.2.1) z3)), fun q => absurd j6.2.2.2.1 q⟩⟩
              · rw [ea, eN]; show jBind (hFits X J v nt K2) _ = _; rw [eF _ _ j1]; rfl
              · rw [hYes_k.1]; omega
              · obtain ⟨kb1, kb2, kb3⟩ := j7.1
                exact ⟨by rw [hYes_k.2]; exact kb1, kb2, by rw [hYes_k.1]; exact kb3⟩
          · refine ⟨fun _ => ?_, fun q => absurd rfl q⟩
            have k78 : fI t4 78 = iI (n2 : Int) := (j3.1 78 (by omega)).trans ((i3.1 78 (by omega)).trans i78)
            have d4 : dfr nd0 t3 t4 := j3.d (by show nd0 ≤ nd3; omega)
            rw [k78]
            refine ⟨iI_in (by omega) (by omega), tX5_wrong ⟨fun q => absurd q j6.j.ne, fun _ => tX5_doStatement_141 ⟨fun q => absurd q j6.j.ne, fun _ => tX5_doStatement_153 (er t4 K4 e (-1) ?_ (by omega) (((d1.tr d2).tr d3).tr d4) j6.j (((kO_same _ _ _ _ rfl).ob j1 j2 i18).le (by omega)))⟩⟩⟩
            rw [ea, eN]; show jBind (hFits X J v nt K2) _ = _; rw [eF _ _ j1]; rfl
        · refine er t3 K3 e p ?_ (by omega) ((d1.tr d2).tr (i3.d hb.1 (by show nd0 ≤ nd2; omega))) i4 (i5.le (by omega))
          rw [ea]
          have eN : hNorm X J vt K = (K2, .ok (nt, so)) := by
            unfold hNorm
            rw [e1]
            show jBind (jNormal X u [] K1) _ = _
            unfold jNormal
            rw [show jOf (sNorm X 100 (List.length ([] : SC)) (vClo u (scEnv [])) K1) = (K2, .ok nt) from g1]
            rfl
          rw [eN]; show jBind (hFits X J v nt K2) _ = _; unfold hFits; rw [i1]; rfl
      · have i78 : fI t2 78 = iI (n2 : Int) := (g3.1 78 (by omega)).trans f78
        refine onI_ret (m_jbad (by omega) g4.ne ⟨fun q => absurd q g4.ne, fun _ => tX5_doStatement_141 ⟨fun q => absurd q g4.ne, fun _ => tX5_doStatement_153 (er t2 K2 e (-1) ?_ (by omega) (d1.tr (g3.d (by show nd0 ≤ nd1; omega))) g4 ((((kO_norm _ _ _ _ rfl).j).ob g1 g2 o1).le (by omega)))⟩⟩)
        rw [ea]
        unfold hNorm
        rw [e1]
        show jBind (jBind (jNormal X u [] K1) _) _ = _
        unfold jNormal
        rw [show jOf (sNorm X 100 (List.length ([] : SC)) (vClo u (scEnv [])) K1) = (K2, .error (e, -1)) from g1]
        rfl
    · refine m_jbad (by omega) e4.ne ⟨fun q => absurd q e4.ne, fun _ => tX5_doStatement_141 ⟨fun q => absurd q e4.ne, fun _ => tX5_doStatement_153 (er t1 K1 e p ?_ e2 (e3.d hb.2.1 hb.2.2.1) e4 ((((kO_ts (kO_judge _ _ _ _ rfl))).ob e1 e2 hO).le (by omega)))⟩⟩
      rw [ea]
      unfold hNorm
      rw [e1]
      rfl
  · rw [h76] at q; exact absurd q (by decide)
  · rw [h76] at q; exact absurd q (by decide)
  · rw [h76] at q; exact absurd q (by decide)
  · rw [h76] at q; exact absurd q (by unfold tout; decide)
end MHD
