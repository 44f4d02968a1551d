/-! THE HOUSE OVER S, M (8): what is told -/
def tofr (nd0 nk : Nat) (st st' : MSt) : Prop := (∀ k, (k < 39 ∧ k ≠ 27) ∨ (39 < k ∧ k < 43) ∨ k = 63 ∨ 75 < k → st'.1 k = st.1 k) ∧ ∀ k j, (30 ≤ k ∧ k ≤ 38 → j < nd0) → (k = 21 → j < 12 * nk) → (22 ≤ k ∧ k ≤ 26 → j < nk) → k < 39 ∨ 74 < k → st'.2 k j = st.2 k j
section MHH
variable {P : MPl} {s0 : State} {l : Launch} {XX : Prop} {lev : Nat} {Q : Outcome → MSt → Prop} {st st' st'' st0 : MSt} {X : SX} {J : JX} {K K' : KS} {nd nd' ce ce' wa x y lo hi ns ch z o nn nd0 p nk a1 a2 b1 b2 n1 n2 : Nat} {c c' : MC} {t : TX} {tb : HT} {cx : List CN} {x1 x2 : Int32} {bs : List Nat} {kn kn' : Nat → Nat} {cn : CN} {E : Nat → Prop} {TN : Nat → List Nat} {v vt u : V}
theorem dfr.k (h : dfr nd0 st st') (k : kfr nk st' st'') : tofr nd0 nk st st'' := ⟨fun j hj => (k.1 j (by omega) (by omega)).trans (h.1 j (by omega)), fun j i a b d e => (k.2 j i b d).trans (h.2 j i a e)⟩
theorem mjf.at {j k : Nat} (h : mjf lo hi nd ce ns ch st st') (hk : 30 ≤ k ∧ k ≤ 38) (hj : j < nd) (hj2 : j < lo ∨ hi ≤ j) : st'.2 k j = st.2 k j := h.2 k j (fun _ => ⟨hj, fun q => by omega⟩) (fun q => by omega) (fun q => by omega) (fun q => by omega) (by omega) (fun q => by omega) (by omega)
theorem mfr.at {j k : Nat} (h : mfr nd ce wa st st') (hk : 30 ≤ k ∧ k ≤ 38) (hj : j < nd) : st'.2 k j = st.2 k j := h.2 k j (fun _ => hj) (fun q => by omega) (fun q => by omega) (by omega)
/-- a value without a type -/
theorem m_tell0 (hl : 540 ≤ lev) (hr : mR TN st v [] n2 b1 b2 none) (h78 : fI st 78 = iI (n2 : Int)) (h79 : fI st 79 = iI (-1)) (hg : rG v 0 0 100) (hD : rD v ≤ 40) (hb : nd0 ≤ b1 ∧ nd0 ≤ c.nd ∧ b2 ≤ c.nd) (hI : ∀ j, b1 ≤ j → j < b2 → E j) (hE : ∀ j, E j → 8 ≤ j ∧ j < c.nd) (h : JM 0 0 E c ce st X J TN [] [] 0 0) (hz : ∀ k, k < c.nc → sw (J.ct k) ≤ z) (hJ : MJ st X K c.nd ce 0) (hK : MK X K c.nd ce 0 x) (hx : 202 ≤ x) (hx2 : x + rN v ≤ 29000) (hy : 203 ≤ y) (hy2 : c.nd + 2 * (60000 - K.life) + (y + rN v) ≤ 140000) (h59 : fI st 59 = iI ((0 : Nat) : Int)) (hN : rN v ≤ 4000) (hO : OB K o)
    (hn : nn < c.nd ∧ (nn < b1 ∨ b2 ≤ nn)) (hp : p < 4000) (h80 : fI st 80 = iI (nn : Int)) (e31 : st.2 31 nn = iI (p : Int)) (e32 : st.2 32 nn = iI ((TN p).length : Int)) (hnk : c.nc < 100)
    (ok : ∀ st' K' nd' cn, hTell X J (TN p) none (some v) K = (K', .ok cn) → K.life ≤ K'.life → tofr nd0 c.nc st st' → nd0 ≤ nd' → fI st' 27 = iI ((c.nc + 1 : Nat) : Int) → fI st' 62 = iI (nd' : Int) → mEn st' c.ns c.nc cn nd' → MJ0 st' X K' → KB X K' → fI st' 72 = 0 → nd' + 2 * (60000 - K'.life) + y ≤ 140000 → OB K' o → Q (.returned none) st')
    (er : ∀ st' K' e p', hTell X J (TN p) none (some v) K = (K', .error (e, p')) → K.life ≤ K'.life → dfr nd0 st st' → MZj st' X K' e p' → OB K' o → Q (.returned none) st') : jX5_told_62 P s0 l XX lev st0 Q st := by
  have ea : hTell X J (TN p) none (some v) K = jBind (sJudge X J 100 v [] K) fun a K => (K, .ok (TN p, a.2.1, a.2.2.2, some a.1)) := rfl
  have n2b : b1 ≤ n2 ∧ n2 < b2 := mR_lt hr
  have h14 : c.nd ≤ 140000 := hK.2.1
  refine tX5_told_62 ⟨fun _ => ⟨fun _ => ?_, fun q => absurd (by rw [h79]; decide) q⟩, fun q => absurd hJ.2.2.2.1 q⟩
  refine tX5_told_108 ⟨fun _ => ⟨fun q => ?_, fun _ => ?_⟩, fun q => absurd hJ.2.2.2.1 q⟩
  · rw [h78, iI_z, iI_lt (by omega) (by omega) (by omega) (by omega)] at q; omega
  · rw [h78]
    refine m_jtop (o := o) (by omega) hr hg hD hI hE h.lh hz hJ hK hx hx2 hy hy2 h59 hN hO (fun t1 K1 nd1 ce1 u ty' so tn e1 e2 e3 e4 e5 e6 e7 e8 e9 e10 e11 e12 e13 e14 e15 e16 e17 e18 => ?_) (fun t1 K1 e p' e1 e2 e3 e4 e5 => ?_)
    · have f79 : fI t1 79 = iI (-1) := (e3.1 79 (by omega)).trans h79
      have f78 : fI t1 78 = iI (n2 : Int) := (e3.1 78 (by omega)).trans h78
      have f80 : fI t1 80 = iI (nn : Int) := (e3.1 80 (by omega)).trans h80
      have d1 : dfr nd0 st t1 := e3.d hb.1 hb.2.1
      refine onV_ret ⟨fun _ => ⟨fun _ => ?_, fun q => absurd (by rw [f79]; decide) q⟩, fun q => absurd e6.2.2.2.1 q⟩
      refine tX5_told_175 ⟨fun _ => ⟨fun _ => ?_, fun q => absurd (by rw [f79]; decide) q⟩, fun q => absurd e6.2.2.2.1 q⟩
      refine m_keep (c := (nd1, c.2)) (ty := ty') (so := so) (va := some u) (tn := tn) (by omega) hp f80 ((e3.at (by omega) hn.1 hn.2).trans e31) ((e3.at (by omega) hn.1 hn.2).trans e32) e10.1 hnk e6 ⟨by show 8 ≤ nd1; have := (hE n2 (hI n2 n2b.1 n2b.2)); omega, e7.2.1⟩ e13 e14 (e15 t1 ag.rf) ⟨e17.1, e17.2.1, e16⟩ (fun q => by cases q) (fun v' q => by cases q; exact ⟨e12, n2, f78, e11 t1 ag.rf⟩) (fun t2 i1 i2 i3 i4 i5 => ok t2 K1 nd1 _ (by rw [ea, e1]; rfl) e2 (d1.k i1) (by omega) i2 i3 i4 i5.1 e7.1 i5.2.2.2.1 e8 e18)
    · refine onV_ret ⟨fun q => absurd q e4.ne, fun _ => tX5_told_175 ⟨fun q => absurd q e4.ne, fun _ => er t1 K1 e p' (by rw [ea, e1]; rfl) e2 (e3.d hb.1 hb.2.1) e4 e5⟩⟩
end MHH
