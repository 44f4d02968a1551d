/-! THE HOUSE OVER S, M (2): what is asked -/
/-- what a statement leaves: all fields but its own; the nodes of before -/
def dfr (nd0 : Nat) (st st' : MSt) : Prop := (∀ k, k < 39 ∨ (39 < k ∧ k < 43) ∨ (61 < k ∧ k < 64) ∨ 75 < k → st'.1 k = st.1 k) ∧ ∀ k j, (30 ≤ k ∧ k ≤ 38 → j < nd0) → k < 39 ∨ 74 < k → st'.2 k j = st.2 k j
section MHB
variable {P : MPl} {s0 : State} {l : Launch} {XX : Prop} {lev : Nat} {Q : Outcome → MSt → Prop} {st st' st'' st0 : MSt} {X : SX} {J : JX} {K K' : KS} {nd nd' ce ce' wa x y lo hi ns ch z o nn nd0 a1 a2 b1 b2 n1 n2 : Nat} {c c' : MC} {M M' : Nat → Int → Prop} {E E' : Nat → Prop} {TN : Nat → List Nat} {v u vt : V} {x1 x2 : Int32} {ty : Option V}
theorem dfr.rf : dfr nd0 st st := ⟨fun _ _ => rfl, fun _ _ _ _ => rfl⟩
theorem dfr.tr (h : dfr nd0 st st') (k : dfr nd0 st' st'') : dfr nd0 st st'' := ⟨fun j hj => (k.1 j hj).trans (h.1 j hj), fun j i a b => (k.2 j i a b).trans (h.2 j i a b)⟩
theorem mjf.d (h : mjf lo hi nd ce ns ch st st') (h1 : nd0 ≤ lo) (h2 : nd0 ≤ nd) : dfr nd0 st st' := ⟨fun k hk => h.1 k (by omega), fun k j a b => h.2 k j (fun q => ⟨by have := a q; omega, fun w => by have := a q; omega⟩) (fun q => by omega) (fun q => by omega) (fun q => by omega) (by omega) (fun q => by omega) (by omega)⟩
theorem mfr.d (h : mfr nd ce wa st st') (h2 : nd0 ≤ nd) : dfr nd0 st st' := ⟨fun k hk => h.1 k (by omega), fun k j a b => h.2 k j (fun q => by have := a q; omega) (fun q => by omega) (fun q => by omega) (by omega)⟩
theorem mOnly.d (h : mOnly st st') : dfr nd0 st st' := ⟨fun k hk => h.1 k (by omega), fun k j a b => h.2 k j (by omega)⟩
theorem dfr.put {k : Nat} {w : Int32} (hk : 43 ≤ k ∧ k ≤ 61 ∨ 64 ≤ k ∧ k ≤ 75 ∨ k = 39) : dfr nd0 st (mput k w st) := ⟨fun j hj => by rw [mput_f, if_neg (by omega)], fun _ _ _ _ => rfl⟩
/-- the raw nodes of a statement -/
abbrev rwE (a1 a2 b1 b2 : Nat) : Nat → Prop := fun j => (a1 ≤ j ∧ j < a2) ∨ (b1 ≤ j ∧ j < b2)
theorem hYes_k {b : Bool} : (hYes b K).life = K.life ∧ (hYes b K).work = K.work := by
  cases b <;> exact ⟨rfl, rfl⟩
/-- norm -/
theorem m_ask5 (hl : 535 ≤ lev) (hr : mR TN st v [] n2 b1 b2 none) (h78 : fI st 78 = iI (n2 : Int)) (hg : rG v 0 0 100) (hD : rD v ≤ 40) (hb : nd0 ≤ b1 ∧ nd0 ≤ c.nd) (hI : ∀ j, b1 ≤ j → j < b2 → E j) (hE : ∀ j, E j → 8 ≤ j ∧ j < c.nd) (h : JM 0 0 E c ce st X J TN [] [] 0 0) (hz : ∀ k, k < c.nc → sw (J.ct k) ≤ z) (hJ : MJ st X K c.nd ce 0) (hK : MK X K c.nd ce 0 x) (hx : 202 ≤ x) (hx2 : x + rN v ≤ 29000) (hy : 203 ≤ y) (hy2 : c.nd + 2 * (60000 - K.life) + (y + rN v) ≤ 140000) (h59 : fI st 59 = iI ((0 : Nat) : Int)) (hN : rN v ≤ 4000) (hO : OB K (o + 10)) (h76 : fI st 76 = iI 4)
    (ok : ∀ st' K', hAsk X J 5 ty (some v) K = (K', .ok ()) → K.life ≤ K'.life → dfr nd0 st st' → MJ0 st' X K' → KB X K' → fI st' 72 = 0 → OB K' o → Q (.returned none) st')
    (er : ∀ st' K' e p, hAsk X J 5 ty (some v) K = (K', .error (e, p)) → K.life ≤ K'.life → dfr nd0 st st' → MZj st' X K' e p → OB K' o → Q (.returned none) st') : jX5_doStatement_20 P s0 l XX lev st0 Q st := by
  have ea : ∀ K6 r, sJudge X J 100 v [] K = (K6, r) → hAsk X J 5 ty (some v) K = jBind (K6, r) fun a K => jBind (jOf (sTell X 100 (vClo a.1 .nil) 0 false false K)) fun _ K => (sPut 10 K, .ok ()) := fun K6 r e => by
    unfold hAsk
    rw [← e]
    rfl
  refine tX5_doStatement_20 ⟨fun q => ?_, fun _ => ?_, fun q => ?_, fun q => ?_, fun q => ?_⟩
  · rw [h76] at q; exact absurd q (by decide)
  · rw [h78]
    refine m_jtop (o := o + 10) (by omega) hr hg hD hI hE h.lh hz hJ hK hx hx2 hy hy2 h59 hN hO (fun t1 K1 nd1 ce1 u ty' so tn e1 e2 e3 e4 e5 e6 e7 e8 e9 e10 e11 e12 e13 e14 e15 e16 e17 e18 => ?_) (fun t1 K1 e p e1 e2 e3 e4 e5 => ?_)
    · have f78 : fI t1 78 = iI (n2 : Int) := (e3.1 78 (by omega)).trans h78
      refine onV_ret ?_
      rw [f78]
      have d1 : dfr nd0 st t1 := e3.d hb.1 hb.2
      have hC : mC (nd1, c.2) ce1 nilM t1 (vClo u .nil) n2 0 := mC_top e6.2.2.2.2.2 (e11 t1 ag.rf)
      refine m_tline (c := (nd1, c.2)) (o := o) (by omega) (fun _ _ q => q) hC ⟨u, .nil, rfl, gT_up _ _ _ e12, trivial⟩ e10.at.1 e10.1.2.1 e18 e6 e7 (by omega) (fun t3 K3 ce3 g1 g2 g3 g4 g5 g6 g7 g8 => ok t3 _ (by rw [ea _ _ e1]; show jBind (jOf (sTell X 100 _ _ _ _ K1)) _ = _; rw [g1]; rfl) (by show K.life ≤ K3.life; omega) (d1.tr (g3.d (by show nd0 ≤ nd1; omega))) g5 g6 g7 g8) (fun t3 K3 e g1 g2 g3 g4 g5 => er t3 K3 e (-1) (by rw [ea _ _ e1]; show jBind (jOf (sTell X 100 _ _ _ _ K1)) _ = _; rw [g1]; rfl) (by omega) (d1.tr (g3.d (by show nd0 ≤ nd1; omega))) g4 g5)
    · refine m_tlbad (by omega) e4.ne (er t1 K1 e p (by rw [ea _ _ e1]; rfl) e2 (e3.d hb.1 hb.2) e4 (e5.le (by omega)))
  · rw [h76] at q; exact absurd q (by decide)
  · rw [h76] at q; exact absurd q (by decide)
  · rw [h76] at q; exact absurd q (by unfold tout; decide)
/-- same -/
theorem m_ask7 (hl : 540 ≤ lev) (hr : mR TN st v [] n2 b1 b2 none) (hrt : mR TN st vt [] n1 a1 a2 none) (h78 : fI st 78 = iI (n2 : Int)) (h79 : fI st 79 = iI (n1 : Int)) (hg : rG v 0 0 100) (hD : rD v ≤ 40) (hgt : rG vt 0 0 100) (hDt : rD vt ≤ 40) (hb : nd0 ≤ b1 ∧ nd0 ≤ a1 ∧ nd0 ≤ c.nd ∧ b2 ≤ c.nd ∧ a2 ≤ c.nd ∧ a1 ≤ a2 ∧ b1 ≤ b2) (hab : a2 ≤ b1 ∨ b2 ≤ a1) (h8 : 8 ≤ nd0) (h : JM 0 0 (rwE a1 a2 b1 b2) c ce st X J TN [] [] 0 0) (hz : ∀ k, k < c.nc → sw (J.ct k) ≤ z) (hJ : MJ st X K c.nd ce 0) (hK : MK X K c.nd ce 0 x) (hx : 202 ≤ x) (hx2 : x + (rN vt + rN v) ≤ 29000) (hy : 203 ≤ y) (hy2 : c.nd + 2 * (60000 - K.life) + (y + (rN vt + rN v)) ≤ 140000) (h59 : fI st 59 = iI ((0 : Nat) : Int)) (hN : rN v ≤ 4000 ∧ rN vt ≤ 4000) (hO : OB K (o + 10)) (h76 : fI st 76 = iI 5)
    (ok : ∀ st' K', hAsk X J 7 (some vt) (some v) K = (K', .ok ()) → K.life ≤ K'.life → dfr nd0 st st' → MJ0 st' X K' → KB X K' → fI st' 72 = 0 → OB K' o → Q (.returned none) st')
    (er : ∀ st' K' e p, hAsk X J 7 (some vt) (some v) K = (K', .error (e, p)) → K.life ≤ K'.life → dfr nd0 st st' → MZj st' X K' e p → OB K' o → Q (.returned none) st') : jX5_doStatement_20 P s0 l XX lev st0 Q st := by
  have ea : hAsk X J 7 (some vt) (some v) K = jBind (sJudge X J 100 v [] K) fun a K => jBind (sJudge X J 100 vt [] K) fun b K => jBind (jOf (sSame X 100 (vClo a.1 .nil) (vClo b.1 .nil) K)) fun r K => (hYes r K, .ok ()) := rfl
  have hE : ∀ j, rwE a1 a2 b1 b2 j → 8 ≤ j ∧ j < c.nd := fun j q => by rcases q with q | q <;> omega
  refine tX5_doStatement_20 ⟨fun q => ?_, fun q => ?_, fun _ => ?_, fun q => ?_, fun q => ?_⟩
  · rw [h76] at q; exact absurd q (by decide)
  · rw [h76] at q; exact absurd q (by decide)
  · rw [h78]
    refine m_jtop (o := o + 10) (y := y + rN vt) (by omega) hr hg hD (fun j q1 q2 => Or.inr ⟨q1, q2⟩) hE h.lh hz hJ hK hx (by omega) (by omega) (by omega) h59 hN.1 hO (fun t1 K1 nd1 ce1 u ty' so tn e1 e2 e3 e4 e5 e6 e7 e8 e9 e10 e11 e12 e13 e14 e15 e16 e17 e18 => ?_) (fun t1 K1 e p e1 e2 e3 e4 e5 => ?_)
    · have f79 : fI t1 79 = iI (n1 : Int) := (e3.1 79 (by omega)).trans h79
      have f78 : fI t1 78 = iI (n2 : Int) := (e3.1 78 (by omega)).trans h78
      refine onV_ret ?_
      rw [f79]
      have d1 : dfr nd0 st t1 := e3.d hb.1 hb.2.2.1
      have hr1 : mR TN t1 vt [] n1 a1 a2 none := e3.R hrt (by omega) hab
      refine m_jtop (c := (nd1, c.2)) (o := o + 10) (x := x + rN v) (E := cutE (rwE a1 a2 b1 b2) b1 b2) (by omega) hr1 hgt hDt (fun j q1 q2 => ⟨Or.inl ⟨q1, q2⟩, by omega⟩) (fun j q => by have := hE j q.1; exact ⟨this.1, by show j < nd1; omega⟩) e10.lh hz e6 e7 (by omega) (by omega) hy (by show nd1 + _ + _ ≤ _; omega) e9 hN.2 e18 (fun t2 K2 nd2 ce2 u2 ty2 so2 tn2 g1 g2 g3 g4 g5 g6 g7 g8 g9 g10 g11 g12 g13 g14 g15 g16 g17 g18 => ?_) (fun t2 K2 e p g1 g2 g3 g4 g5 => ?_)
      · have g4' : nd1 ≤ nd2 := g4
        have d2 : dfr nd0 t1 t2 := g3.d hb.2.1 (by show nd0 ≤ nd1; omega)
        refine ⟨fun _ => ?_, fun q => absurd g6.2.2.2.1 q⟩
        have i78 : fI t2 78 = iI (n2 : Int) := (g3.1 78 (by omega)).trans f78
        have i79 : fI t2 79 = iI (n1 : Int) := (g3.1 79 (by omega)).trans f79
        rw [i78, i79]
        have c0 : 0 < ce2 := g6.2.2.2.2.2
        have hu : mT (nd2, c.2) t2 u [] n2 none := mT_up (c' := (nd2, c.2)) (c := (nd1, c.2)) g4 rfl (e11 t2 (g3.ag (fun j q1 q2 => ⟨Or.inl ⟨q1, q2⟩, by omega⟩)))
        have hu2 : mT (nd2, c.2) t2 u2 [] n1 none := g11 t2 ag.rf
        refine m_compare (c := (nd2, c.2)) 100 0 lev (by omega) (by omega) nilM (vClo u .nil) (vClo u2 .nil) n2 0 n1 0 K2 t2 ce2 0 (x + rN v + rN vt) _ ⟨fun _ _ q => q.elim, fun _ _ _ q => q.elim, fun _ _ _ q => q.elim⟩ (mC_top c0 hu) (mC_top c0 hu2) ⟨u, .nil, rfl, gT_up _ _ _ e12, trivial⟩ ⟨u2, .nil, rfl, gT_up _ _ _ g12, trivial⟩ g10.at.1 g6 g7 (by omega) (fun t3 K3 ce3 r i1 i2 i3 i4 i5 i6 i7 => ⟨fun _ => ?_, fun q => absurd i6.2.2.2.1 q⟩) (fun t3 K3 e ce3 i1 i2 i3 i4 i5 i6 => ⟨fun q => absurd q i6.j.ne, fun _ => tX5_doStatement_265 ?_⟩)
        · have o3 : OB K3 (o + 10) := (kO_same _ _ _ _ rfl).ob i1 i2 g18
          refine m_yes (by omega) i6.1 o3 (fun t4 j1 j2 j3 => tX5_doStatement_265 (ok t4 _ ?_ ?_ (((d1.tr d2).tr (i4.d (by show nd0 ≤ nd2; omega))).tr j1.d) j2 ?_ ((j1.1 72 (by omega)).trans i6.2.2.2.1) j3))
          · rw [ea, e1]; show jBind (sJudge X J 100 vt [] K1) _ = _; rw [g1]; show jBind (jOf (sSame X 100 (vClo u .nil) (vClo u2 .nil) K2)) _ = _; rw [i1]; rfl
          · have hlf : (hYes r K3).life = K3.life := by unfold hYes; exact (sPuts_o _ _).2
            rw [hlf]; omega
          · have hlf : (hYes r K3).life = K3.life ∧ (hYes r K3).work = K3.work := hYes_k
            obtain ⟨kb1, kb2, kb3⟩ := i7.1
            exact ⟨by rw [hlf.2]; exact kb1, kb2, by rw [hlf.1]; exact kb3⟩
        · exact er t3 K3 e (-1) (by rw [ea, e1]; show jBind (sJudge X J 100 vt [] K1) _ = _; rw [g1]; show jBind (jOf (sSame X 100 (vClo u .nil) (vClo u2 .nil) K2)) _ = _; rw [i1]; rfl) (by omega) ((d1.tr d2).tr (i3.d (by show nd0 ≤ nd2; omega))) i6.j (((kO_same _ _ _ _ rfl).ob i1 i2 g18).le (by omega))
      · refine ⟨fun q => absurd q g4.ne, fun _ => er t2 K2 e p (by rw [ea, e1]; show jBind (sJudge X J 100 vt [] K1) _ = _; rw [g1]; rfl) (by omega) (d1.tr (g3.d hb.2.1 (by show nd0 ≤ nd1; omega))) g4 (g5.le (by omega))⟩
    · refine m_jbad (by omega) e4.ne ⟨fun q => absurd q e4.ne, fun _ => er t1 K1 e p (by rw [ea, e1]; rfl) e2 (e3.d hb.1 hb.2.2.1) e4 (e5.le (by omega))⟩
  · rw [h76] at q; exact absurd q (by decide)
  · rw [h76] at q; exact absurd q (by unfold tout; decide)
end MHB
