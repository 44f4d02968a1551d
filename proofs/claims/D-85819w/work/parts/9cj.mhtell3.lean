/-! THE HOUSE OVER S, M (10): what is told with a type (2) -/
section MHJ
variable {P : MPl} {s0 : State} {l : Launch} {XX : Prop} {lev : Nat} {Q : Outcome → MSt → Prop} {st st' st'' st0 : MSt} {X : SX} {J : JX} {K K' : KS} {nd nd' ce ce' wa x y lo hi ns ch z o nn nd0 p nk a1 a2 b1 b2 n1 n2 : Nat} {c c' : MC} {t : TX} {tb : HT} {cx : List CN} {x1 x2 : Int32} {bs : List Nat} {kn kn' : Nat → Nat} {cn : CN} {E : Nat → Prop} {TN : Nat → List Nat} {v vt u : V}
/-- a type alone -/
theorem m_tell1 (hl : 545 ≤ lev) (hrt : mR TN st vt [] n1 a1 a2 none) (h78 : fI st 78 = iI (-1)) (h79 : fI st 79 = iI (n1 : Int)) (hgt : rG vt 0 0 100) (hDt : rD vt ≤ 40) (hb : nd0 ≤ a1 ∧ nd0 ≤ c.nd ∧ a2 ≤ c.nd ∧ a1 ≤ a2) (hI : ∀ j, a1 ≤ j → j < a2 → E j) (hE : ∀ j, E j → 8 ≤ j ∧ j < c.nd) (h : JM 0 0 E c ce st X J TN [] [] 0 0) (hz : ∀ k, k < c.nc → sw (J.ct k) ≤ z) (hJ : MJ st X K c.nd ce 0) (hK : MK X K c.nd ce 0 x) (hx : 202 ≤ x) (hx2 : x + rN vt ≤ 29000) (hy : 203 ≤ y) (hy2 : c.nd + 2 * (60000 - K.life) + (y + rN vt) ≤ 140000) (h59 : fI st 59 = iI ((0 : Nat) : Int)) (hN : rN vt ≤ 4000) (hO : OB K o)
    (hn : nn < c.nd ∧ (nn < a1 ∨ a2 ≤ nn)) (hp : p < 4000) (h80 : fI st 80 = iI (nn : Int)) (e31 : st.2 31 nn = iI (p : Int)) (e32 : st.2 32 nn = iI ((TN p).length : Int)) (hnk : c.nc < 100)
    (ok : ∀ st' K' nd' cn, hTell X J (TN p) (some vt) none K = (K', .ok cn) → K.life ≤ K'.life → tofr nd0 c.nc st st' → nd0 ≤ nd' → fI st' 27 = iI ((c.nc + 1 : Nat) : Int) → fI st' 62 = iI (nd' : Int) → mEn st' c.ns c.nc cn nd' → MJ0 st' X K' → KB X K' → fI st' 72 = 0 → nd' + 2 * (60000 - K'.life) + y ≤ 140000 → OB K' o → Q (.returned none) st')
    (er : ∀ st' K' e p', hTell X J (TN p) (some vt) none K = (K', .error (e, p')) → K.life ≤ K'.life → dfr nd0 st st' → MZj st' X K' e p' → OB K' o → Q (.returned none) st') : jX5_told_62 P s0 l XX lev st0 Q st := by
  have ea : hTell X J (TN p) (some vt) none K = jBind (hNorm X J vt K) fun n K => (K, .ok (TN p, n.1, (n.2 : Int), none)) := rfl
  have n1b : a1 ≤ n1 ∧ n1 < a2 := mR_lt hrt
  have h14 : c.nd ≤ 140000 := hK.2.1
  have hns : c.ns ≤ 8 := h.at.1.2.2.1
  refine m_t62 (nd0 := nd0) hl hrt h79 hgt hDt hb hI hE h hz hJ hK hx hx2 hy hy2 h59 hN hO (fun t1 K1 nd1 ce1 nt so n e1 e2 e3 e4 e5 e6 e7 e8 e9 e10 e11 e12 e13 => ?_) (fun t1 K1 e p' e1 e2 e3 e4 e5 => er t1 K1 e p' (by rw [ea, e1]; rfl) e2 e3 e4 e5)
  have f78 : fI t1 78 = iI (-1) := (e3.1 78 (by omega)).trans h78
  refine tX5_told_108 ⟨fun _ => ⟨fun _ => ?_, fun q => absurd (by rw [f78]; decide) q⟩, fun q => absurd e5.2.2.2.1 q⟩
  refine m_keep2 (c := (nd1, c.2)) (ty := nt) (so := so) (va := none) (tn := n) (nd0 := nd0) (by omega) ((e3.1 79 (by omega)).trans h79) (by omega) (by omega) hp ((e3.1 80 (by omega)).trans h80) ((e3.at (by omega) hn.1 hn.2).trans e31) ((e3.at (by omega) hn.1 hn.2).trans e32) e9.1 hnk e5 ⟨by show 8 ≤ nd1; have := (hE n1 (hI n1 n1b.1 n1b.2)); omega, e6.2.1⟩ (e10 (fun _ => False) (fun _ q => q.elim) t1 ag.rf) ⟨by omega, gT_up _ _ _ e11⟩ (fun _ => f78) (fun v' q => by cases q) (e3.d hb.1 hb.2.1) (fun t2 i1 i2 i3 i4 i5 => ok t2 K1 nd1 _ (by rw [ea, e1]; rfl) e2 i1 (by omega) i2 i3 i4 i5.1 e6.1 i5.2.2.2.1 e7 e13)
/-- a type and a value -/
theorem m_tell2 (hl : 545 ≤ lev) (hr : mR TN st v [] n2 b1 b2 none) (hrt : mR TN st vt [] n1 a1 a2 none) (h78 : fI st 78 = iI (n2 : Int)) (h79 : fI st 79 = iI (n1 : Int)) (hg : rG v 0 0 100) (hD : rD v ≤ 40) (hgt : rG vt 0 0 100) (hDt : rD vt ≤ 40) (hb : nd0 ≤ b1 ∧ nd0 ≤ a1 ∧ nd0 ≤ c.nd ∧ b2 ≤ c.nd ∧ a2 ≤ c.nd ∧ a1 ≤ a2 ∧ b1 ≤ b2) (hab : a2 ≤ b1 ∨ b2 ≤ a1) (h8 : 8 ≤ nd0) (h : JM 0 0 (rwE a1 a2 b1 b2) c ce st X J TN [] [] 0 0) (hz : ∀ k, k < c.nc → sw (J.ct k) ≤ z) (hJ : MJ st X K c.nd ce 0) (hK : MK X K c.nd ce 0 x) (hx : 202 ≤ x) (hx2 : x + (rN vt + rN v) ≤ 29000) (hy : 203 ≤ y) (hy2 : c.nd + 2 * (60000 - K.life) + (y + (rN vt + rN v)) ≤ 140000) (h59 : fI st 59 = iI ((0 : Nat) : Int)) (hN : rN v ≤ 4000 ∧ rN vt ≤ 4000) (hO : OB K o)
    (hn : nn < c.nd ∧ (nn < a1 ∨ a2 ≤ nn) ∧ (nn < b1 ∨ b2 ≤ nn)) (hp : p < 4000) (h80 : fI st 80 = iI (nn : Int)) (e31 : st.2 31 nn = iI (p : Int)) (e32 : st.2 32 nn = iI ((TN p).length : Int)) (hnk : c.nc < 100)
    (ok : ∀ st' K' nd' cn, hTell X J (TN p) (some vt) (some v) K = (K', .ok cn) → K.life ≤ K'.life → tofr nd0 c.nc st st' → nd0 ≤ nd' → fI st' 27 = iI ((c.nc + 1 : Nat) : Int) → fI st' 62 = iI (nd' : Int) → mEn st' c.ns c.nc cn nd' → MJ0 st' X K' → KB X K' → fI st' 72 = 0 → nd' + 2 * (60000 - K'.life) + y ≤ 140000 → OB K' o → Q (.returned none) st')
    (er : ∀ st' K' e p', hTell X J (TN p) (some vt) (some v) K = (K', .error (e, p')) → K.life ≤ K'.life → dfr nd0 st st' → MZj st' X K' e p' → OB K' o → Q (.returned none) st') : jX5_told_62 P s0 l XX lev st0 Q st := by
  have ea : hTell X J (TN p) (some vt) (some v) K = jBind (hNorm X J vt K) fun n K => jBind (hFits X J v n.1 K) fun v K => (K, .ok (TN p, n.1, (n.2 : Int), some v)) := rfl
  have n1b : a1 ≤ n1 ∧ n1 < a2 := mR_lt hrt
  have n2b : b1 ≤ n2 ∧ n2 < b2 := mR_lt hr
  have h14 : c.nd ≤ 140000 := hK.2.1
  have hns : c.ns ≤ 8 := h.at.1.2.2.1
  have hE : ∀ j, rwE a1 a2 b1 b2 j → 8 ≤ j ∧ j < c.nd := fun j q => by rcases q with q | q <;> omega
  refine m_t62 (nd0 := nd0) (E := rwE a1 a2 b1 b2) (y := y + rN v) hl hrt h79 hgt hDt ⟨hb.2.1, hb.2.2.1, hb.2.2.2.2.1, hb.2.2.2.2.2.1⟩ (fun j q1 q2 => Or.inl ⟨q1, q2⟩) hE h hz hJ hK hx (by omega) (by omega) (by omega) h59 hN.2 hO (fun t2 K2 nd2 ce2 nt so n e1 e2 e3 e4 e5 e6 e7 e8 e9 e10 e11 e12 e13 => ?_) (fun t1 K1 e p' e1 e2 e3 e4 e5 => er t1 K1 e p' (by rw [ea, e1]; rfl) e2 e3 e4 e5)
  have f78 : fI t2 78 = iI (n2 : Int) := (e3.1 78 (by omega)).trans h78
  have f79 : fI t2 79 = iI (n1 : Int) := (e3.1 79 (by omega)).trans h79
  have f80 : fI t2 80 = iI (nn : Int) := (e3.1 80 (by omega)).trans h80
  have d2 : dfr nd0 st t2 := e3.d hb.2.1 hb.2.2.1
  have hr2 : mR TN t2 v [] n2 b1 b2 none := e3.R hr (by omega) (by omega)
  refine tX5_told_108 ⟨fun _ => ⟨fun q => ?_, fun _ => ?_⟩, fun q => absurd e5.2.2.2.1 q⟩
  · rw [f78, iI_z, iI_lt (by omega) (by omega) (by omega) (by omega)] at q; omega
  · rw [f78]
    refine m_jtop (c := (nd2, c.2)) (o := o) (x := x + rN vt) (y := y) (E := cutE (rwE a1 a2 b1 b2) a1 a2) (by omega) hr2 hg hD (fun j q1 q2 => ⟨Or.inr ⟨q1, q2⟩, by omega⟩) (fun j q => by have := hE j q.1; exact ⟨this.1, by show j < nd2; omega⟩) e9.lh hz e5 e6 (by omega) (by omega) hy (by show nd2 + _ + _ ≤ _; omega) e8 hN.1 e13 (fun t3 K3 nd3 ce3 u3 ty3 so3 tn3 i1 i2 i3 i4 i5 i6 i7 i8 i9 i10 i11 i12 i13 i14 i15 i16 i17 i18 => onV_ret ⟨fun _ => ⟨fun q => ?_, fun _ => ?_⟩, fun q => absurd i6.2.2.2.1 q⟩) (fun t3 K3 e p' i1 i2 i3 i4 i5 => onV_ret ⟨fun q => absurd q i4.ne, fun _ => tX5_told_175 ⟨fun q => absurd q i4.ne, fun _ => ?_⟩⟩)
    · have g79 : fI t3 79 = iI (n1 : Int) := (i3.1 79 (by omega)).trans f79
      rw [g79, iI_z, iI_lt (by omega) (by omega) (by omega) (by omega)] at q; omega
    · have i4' : nd2 ≤ nd3 := i4
      have d3 : dfr nd0 t2 t3 := i3.d hb.1 (by show nd0 ≤ nd2; omega)
      have c0 : 0 < ce3 := i6.2.2.2.2.2
      obtain ⟨hC3, hG3⟩ := i10.T0 (c := (nd3, c.2)) c0 i15 i16 i17
      have hnt : mT (nd3, c.2) t3 nt [] n none := mT_up (c := (nd2, c.2)) (c' := (nd3, c.2)) i4 rfl (e10 (fun j => b1 ≤ j ∧ j < b2) (fun j q => ⟨by omega, by omega⟩) t3 (i3.ag (fun j q1 q2 => ⟨q1, q2⟩)))
      have hCn : mC (nd3, c.2) ce3 (Msc [] []) t3 (vClo nt .nil) n 0 := ⟨nt, .nil, [], rfl, c0, (fun _ q => by cases q), hnt, trivial⟩
      rw [i13]
      have eF : ∀ K4 r, sSame X 100 (vClo nt .nil) (vClo (sUnw ty3 .nil).1 (sUnw ty3 .nil).2) K3 = (K4, r) → hFits X J v nt K2 = jBind (jOf (K4, r)) fun b K => if b = true then (K, .ok u3) else (K, .error (11, jFrom v)) := fun K4 r q => by
        unfold hFits hClo
        rw [i1, ← q]
        rfl
      refine m_compare (c := (nd3, c.2)) 100 0 lev (by omega) (by omega) (Msc [] []) (vClo nt .nil) (vClo (sUnw ty3 .nil).1 (sUnw ty3 .nil).2) n 0 tn3 0 K3 t3 ce3 0 (x + rN vt + rN v) _ ⟨fun j k q => absurd q (nilMsc j k), fun j k _ q => absurd q (nilMsc j k), fun i j k q => absurd q (nilMsc i k)⟩ hCn hC3 ⟨nt, .nil, rfl, gT_up _ _ _ e11, trivial⟩ hG3 i10.at.1 i6 i7 (by omega) (fun t4 K4 ce4 r j1 j2 j3 j4 j5 j6 j7 => ?_) (fun t4 K4 e ce4 j1 j2 j3 j4 j5 j6 => ?_)
      · have d4 : dfr nd0 t3 t4 := j4.d (by show nd0 ≤ nd3; omega)
        have o4 : OB K4 o := (kO_same _ _ _ _ rfl).ob j1 j2 i18
        have dd : dfr nd0 st t4 := (d2.tr d3).tr d4
        have k78 : fI t4 78 = iI (n2 : Int) := (j4.1 78 (by omega)).trans ((i3.1 78 (by omega)).trans f78)
        cases r with
        | false =>
          refine ⟨fun _ => ?_, fun q => absurd rfl q⟩
          rw [k78]
          obtain ⟨w1, w2⟩ := mR_from hr2
          have e34 : aI t4 34 (iI (n2 : Int)) = iI (jFrom v) := by
            rw [aI_n (by omega), j4.2 34 n2 (fun _ => by show n2 < nd3; omega) (fun q => by omega) (fun q => by omega) (by omega), i3.2 34 n2 (fun _ => ⟨by show n2 < nd2; omega, fun _ => by omega⟩) (fun q => by omega) (fun q => by omega) (fun q => by omega) (by omega) (fun q => by omega) (by omega)]; exact w1
          refine ⟨iI_in (by omega) (by omega), ?_⟩
          rw [e34]
          refine m_wrong (e := 11) (by omega) j6 (by omega) w2 (fun t5 z1 z2 => onV_ret (tX5_told_175 ⟨fun q => absurd q z1.ne, fun _ => er t5 K4 11 (jFrom v) ?_ (by omega) (dd.tr ((z2 (lo := nd0) (hi := nd0) (nd := nd0) (ce := 0) (ns := 0) (ch := 0)).d (Nat.le_refl _) (Nat.le_refl _))) z1 o4⟩))
          rw [ea, e1]; show jBind (hFits X J v nt K2) _ = _; rw [eF _ _ j1]; rfl
        | true =>
          refine ⟨fun q => absurd q (by decide), fun _ => ?_⟩
          have k79 : fI t4 79 = iI (n1 : Int) := (j4.1 79 (by omega)).trans ((i3.1 79 (by omega)).trans f79)
          have k80 : fI t4 80 = iI (nn : Int) := (j4.1 80 (by omega)).trans ((i3.1 80 (by omega)).trans f80)
          have kx : ∀ k, 30 ≤ k ∧ k ≤ 38 → t4.2 k nn = st.2 k nn := fun k hk => (j4.at hk (by show nn < nd3; omega)).trans ((i3.at hk (by show nn < nd2; omega) hn.2.2).trans (e3.at hk hn.1 hn.2.1))
          have j4J : JM 0 0 (cutE (cutE (rwE a1 a2 b1 b2) a1 a2) b1 b2) (nd3, c.2) ce4 t4 X J TN [] [] 0 0 := i10.mf (c := (nd3, c.2)) j4 (Nat.le_refl _) j5 i7.2.1 j6.2.2.2.2.1 (Nat.le_refl _)
          have ag4 : ∀ {E'}, ag E' nd3 ce3 t3 t4 := fun {E'} => (j4.toJ (lo := 0) (hi := 0) (ns := 0) (ch := 0)).ag (fun j _ q => by omega)
          have hnt4 : mT (nd3, c.2) t4 nt [] n none := mT_up (c := (nd2, c.2)) (c' := (nd3, c.2)) i4 rfl (e10 (fun j => b1 ≤ j ∧ j < b2) (fun j q => ⟨by omega, by omega⟩) t4 ((i3.ag (fun j q1 q2 => ⟨q1, q2⟩)).tr (E' := fun j => b1 ≤ j ∧ j < b2) ag4 (fun _ q => q) i4' i5))
          refine m_keep2 (c := (nd3, c.2)) (ty := nt) (so := so) (va := some u3) (tn := n) (nd0 := nd0) (by omega) k79 (by omega) (by omega) hp k80 ((kx 31 (by omega)).trans e31) ((kx 32 (by omega)).trans e32) j4J.1 hnk j6 ⟨by show 8 ≤ nd3; omega, i7.2.1⟩ hnt4 ⟨by omega, gT_up _ _ _ e11⟩ (fun q => by cases q) (fun v' q => by cases q; exact ⟨i12, n2, k78, i11 t4 ag4⟩) dd (fun t5 z1 z2 z3 z4 z5 => ok t5 K4 nd3 _ ?_ (by omega) z1 (by omega) z2 z3 z4 z5.1 j7.1 z5.2.2.2.1 (by omega) o4)
          rw [ea, e1]; show jBind (hFits X J v nt K2) _ = _; rw [eF _ _ j1]; rfl
      · refine ⟨fun _ => ?_, fun q => absurd rfl q⟩
        have k78 : fI t4 78 = iI (n2 : Int) := (j3.1 78 (by omega)).trans ((i3.1 78 (by omega)).trans f78)
        have d4 : dfr nd0 t3 t4 := j3.d (by show nd0 ≤ nd3; omega)
        rw [k78]
        obtain ⟨l2, rfl⟩ : ∃ l2, lev = l2 + 1 := ⟨lev - 1, by omega⟩
        refine ⟨iI_in (by omega) (by omega), tX5_wrong ⟨fun q => absurd q j6.j.ne, fun _ => onV_ret (tX5_told_175 ⟨fun q => absurd q j6.j.ne, fun _ => er t4 K4 e (-1) ?_ (by omega) ((d2.tr d3).tr d4) j6.j ((kO_same _ _ _ _ rfl).ob j1 j2 i18)⟩)⟩⟩
        rw [ea, e1]; show jBind (hFits X J v nt K2) _ = _; rw [eF _ _ j1]; rfl
    · refine er t3 K3 e p' ?_ (by omega) (d2.tr (i3.d hb.1 (by show nd0 ≤ nd2; omega))) i4 i5
      rw [ea, e1]; show jBind (hFits X J v nt K2) _ = _; unfold hFits; rw [i1]; rfl
end MHJ
