/-! THE HOUSE OVER S, P (21): a text (2) -/
section PHY
variable {G : GPl} {s0 : State} {l : Launch} {KK : Nat → Option Nat} {T : Nat → Nat} {lev : Nat} {Q : Outcome → GSt → Prop} {R : Nat → Nat} {σ τ υ st0 ρ σ0 : GSt} {K K' : KS} {n s m u n' s' u' : Nat} {x1 : Int32} {H H' : HO}
theorem c_text (hl : 700 ≤ lev) (hKI : KI KK) (hKJ : KJ KK) (h : PH G KK T R σ H (n + 13 + 12 * H.tp.2) (s + 130 + 128 * H.tp.2) (u + 2 * H.tp.2))
    (bad : ¬ (0 ≤ x1.toInt ∧ x1.toInt ≤ H.tp.2) → ∀ y τ, gk τ y = 25 → PH G KK T R τ H (n + 12 * H.tp.2) (s + 128 * H.tp.2) (u + 2 * H.tp.2) → Q (.threw y) τ)
    (ok : ∀ (m : Nat) τ, x1 = iI (m : Int) → m ≤ H.tp.2 → PH G KK T R τ (oText m H) n s u → (cxB H.cx → cxB (oText m H).cx) → Q (.returned (some (.int (iI ((oText m H).ft.1 : Int))))) τ) : CQ (wP G s0 l KK T) mX1_text lev (.ref (R 0) :: [.int x1]) σ Q := by
  obtain ⟨l', rfl⟩ : ∃ l', lev = l' + 1 := ⟨lev - 1, by omega⟩
  have h0 := h
  obtain ⟨a1, ⟨-, ⟨f3, -⟩, ⟨g1, g2, g3, g4, g5⟩, -⟩, -⟩ := h0
  have ex := iI_of x1
  have b32 := Int32.le_toInt x1
  have c32 := Int32.toInt_lt x1
  have t16 : ¬ (0 ≤ x1.toInt ∧ x1.toInt ≤ H.tp.2) → jX1_text_16 G s0 l KK T l' σ Q (R 0) x1 σ := fun hb => by
    refine tX1_text_16 (c_right (b := false) (n := n + 12 * H.tp.2) (s := s + 128 * H.tp.2) (u := u + 2 * H.tp.2) (by omega) (h.le (by omega) (by omega) (Nat.le_refl _)) (fun q => by cases q) (fun _ y τ k1 k2 => fun _ => bad hb y τ k1 k2))
  refine tX1_text ⟨fun q => t16 (fun w => ?_), fun q1 => ⟨a1.1, fun q => t16 (fun w => ?_), fun q2 => c_right (b := true) (n := n + 12 + 12 * H.tp.2) (s := s + 124 + 128 * H.tp.2) (u := u + 2 * H.tp.2) (by omega) (h.le (by omega) (by omega) (Nat.le_refl _)) (fun _ => fun _ => ?_) (fun q => by cases q)⟩⟩
  · rw [ex, iI_z, iI_lt (by omega) (by omega) (by omega) (by omega)] at q; omega
  · rw [f3, ex, iI_lt (by omega) (by omega) (by omega) (by omega)] at q; omega
  have hx0 : 0 ≤ x1.toInt := by
    rw [ex, iI_z, iI_lt (by omega) (by omega) (by omega) (by omega)] at q1; omega
  have hx1 : x1.toInt ≤ H.tp.2 := by
    rw [f3, ex, iI_lt (by omega) (by omega) (by omega) (by omega)] at q2; omega
  obtain ⟨m, hm⟩ : ∃ m : Nat, x1.toInt = (m : Int) := ⟨x1.toInt.toNat, by omega⟩
  rw [hm] at ex hx1
  subst ex
  have hmt : m ≤ H.tp.2 := by omega
  obtain ⟨N, z, w, c1, t1, j1, x1', w1, b1, p1, i1, zu⟩ := c_tx0 (h.le (n' := n + 12 + 12 * m) (s' := s + 116 + 128 * m) (u' := u + 2 * m) (by omega) (by omega) (by omega))
  refine ⟨R 2, a1.2.2.1, b1.2.1.1.1, ?_⟩
  have e0 : gr (gpi (R 0) 4 (iI 0) (gpi (R 0) 3 (iI (-1)) (gpi (R 0) 2 (iI 0) (gpi (R 2) 10 (iI 0) (gpi (R 0) 1 (iI 0) σ))))) (R 0) 0 = some (R 10) := p1.1.1
  generalize gpi (R 0) 4 (iI 0) (gpi (R 0) 3 (iI (-1)) (gpi (R 0) 2 (iI 0) (gpi (R 2) 10 (iI 0) (gpi (R 0) 1 (iI 0) σ)))) = σ1 at c1 t1 j1 x1' b1 p1 i1 e0 ⊢
  have hz1 := b1.1
  have k9 : gk σ1 (R 9) = 22 := j1.1.2.2.2.2.2.1.1
  have hx : pTx (H.tp.1, m) σ1 (R 10) := ⟨p1.2.2.1.1, by rw [p1.2.2.1.2.1]; show m ≤ 4000; omega, by show m ≤ 4000; omega, fun j hj => by rw [i1]; exact g5 j (by have : j < m := hj; omega)⟩
  have hb : ∀ j, j < ((H.tp.1, m) : TX).2 → ((H.tp.1, m) : TX).1 j < 256 := fun j hj => (g5 j (by have : j < m := hj; omega)).2
  refine ⟨(b1.2.2.2.le (n' := 0 + 1) (s' := 0 + 10) (by omega) (by omega)).gr hz1, ?_⟩
  have e0' : gr (gmk 5 10 σ1) (R 0) 0 = some (R 10) := by rw [gr_mk (hz1.ne (by rw [c1.1]; omega))]; exact e0
  rw [e0']
  refine c_rinit (t := (H.tp.1, m)) (R := R) (X := hX H.lim H.tb H.cx) (K := kOut0 H.K) (w := w) (n := n + fC (u + 2 * m) z + 9 + 12 * m) (s := s + fS (u + 2 * m) z + 100 + 128 * m) (by omega) hx (b1.le (by omega) (by omega)) (fun t8 r0 k8 l8 b8 n8 => fun _ => ?_)
  have TT8 : TT R t8 T := ⟨fun w hw => (t1.1.1 w hw).kpW k8 (fun q z => z.elim), t1.1.2.1.kpW k8 (fun q z => z.elim), t1.1.2.2.kpW k8 (fun q z => z.elim)⟩
  obtain ⟨z0, v1, v2, v3⟩ := t1.2.2
  obtain ⟨y1, y2, y3, y4⟩ := k8 z0 (by omega) id
  -- when nothing could be read
  refine c_read (z0 := z0) (σ0 := σ1) (n := n + fC (u + 2 * m) z) (s := s + fS (u + 2 * m) z) (by omega) hKI r0 TT8 ⟨v1, y1.trans v2, by rw [y4]; exact v3⟩ b8 k8 l8 hz1.at (hz1 _ (by omega)) (hz1 _ (by omega)) (fun t10 ss zr cap Y I1 I2 er P b10 => onR_ret (fun _ => ?_)) (fun xf τ e p er fl kf lf bf => fun _ => ⟨fl.1, ?_⟩)
  · obtain ⟨sg, sz⟩ := sRead_L (t := (H.tp.1, m)) hb er
    have sz' : ssZ ss ≤ 2 * m := sz
    have sl6 := ssZ_len ss
    obtain ⟨⟨n1, n2, n3⟩, lo1, ⟨d1, d2, d3, d4, d5, d6, d7, d8⟩, e4, ⟨S1, S2, S3⟩, e6, e7, e8, ⟨e9, e10, e11, e12, e13, e14, e15⟩⟩ := P
    have lo0 : gn σ1 ≤ gn t8 := l8.1.1
    have I0 : ∀ i, i < ss.length → ∀ q, I1 i q ∨ I2 i q → gk σ1 q = 0 := fun i hi q hq => hz1 q (by have := (S2 i hi q hq).1; omega)
    have hlt : ∀ q, gk σ1 q ≠ 0 → q < gn t8 := fun q hq => Nat.lt_of_lt_of_le (hz1.lt hq) lo0
    have hTS : TS R ss I1 I2 (gn σ1 + 2) zr (gn t8) σ1 := by
      refine ⟨fun i hi q hq => ⟨I0 i hi q hq, ?_, ?_⟩, S3, e15, fun hl => (e4 (by omega)).2, k9, c1.1, by omega, fun q hq => hlt q ?_, sg⟩
      · have := (S2 i hi q hq).1; omega
      · intro w; subst w; exact e7 i hi hq
      · obtain ⟨-, -, ⟨w1, w2, w3, w4, w5, w6⟩, -⟩ := j1.1
        have w8 := j1.2.1.2.2.2.1
        have w9 := b1.2.1.1.2.1
        rcases hq with rfl | rfl | rfl | rfl <;> omega
    have k10 : keep nil0 σ1 t10 := n1
    have h10 : JB R (inE ss.length I1 I2 0, N, H.cx.length, H.tb.1.length) nilL t10 (hX H.lim H.tb H.cx) (hJ (H.tp.1, m) H.tb H.cx) [] none := (JB_up j1 b1.2.1 k10 n2 (fun q hq => by
      obtain ⟨i, _, hi, hq⟩ := hq
      exact ⟨I0 i hi q hq, (S2 i hi q hq).2.2⟩)).tx
    obtain ⟨r1, r2, r3, r4⟩ := k10 (R 0) (by rw [c1.1]; omega) id
    obtain ⟨q1, q2, q3, q4⟩ := k10 (R 9) (by omega) id
    have hTR : TR KK R (H.tp.1, m) ss Y I1 I2 (gn σ1 + 2) zr (gn t8) 0 t10 := ⟨fun i st _ hs => S1 i st hs, d1, d2, d3, d5, by rw [d4]; exact d6, e6⟩
    have hrow : 0 < ss.length → gr t10 (R 9) 1 ≠ some zr := fun hl q => by
      rw [q3] at q
      obtain ⟨zc, u1, u2, -⟩ := x1'
      rw [u1] at q
      cases q
      have := (e4 (by omega)).2
      omega
    have O10 : OB (kOut0 H.K) (0 + 60 * (ss.length - 0)) := by
      unfold OB
      show 0 + 100 * (60000 - H.K.life) + _ ≤ _
      omega
    have M10 : MB G R t10 (hX H.lim H.tb H.cx) (kOut0 H.K) w (n + fC (ssZ (ss.drop 0) + u) z) (s + fS (ssZ (ss.drop 0) + u) z) := b10.le (Nat.add_le_add_left (fR_mono (by show ssZ ss + u ≤ _; omega)) n) (Nat.add_le_add_left (fR_mono (by show ssZ ss + u ≤ _; omega)) s)
    have TL0 : TL G KK T R (H.tp.1, m) ss Y I1 I2 (gn σ1 + 2) zr (gn t8) σ1 H.lim 0 H.tb H.cx N (kOut0 H.K) w z n s 0 u t10 :=
      ⟨⟨c1.kp k10 id, by rw [r2]; exact p1.2.1.2.2.2.1, by rw [r2]; exact p1.2.1.2.1, by rw [r2]; exact p1.2.1.2.2.1⟩, ⟨t1.2.1.1.kpW k10 (fun q z => z.elim), t1.2.1.2.1.kpW k10 (fun q z => z.elim)⟩, h10, x1'.nw (by omega) k10, hTR, hrow, hfr.nw k10 n2 (by rw [c1.1]; omega) (by omega), w1, O10, M10, by show 15 * z + (ssZ ss + u) ≤ 2600; omega⟩
    refine c_tl0 (u0 := u) (n := n) (s := s) (by omega) hKJ hTS ss.length 0 H.tb H.cx N (kOut0 H.K) w z t10 _ (Nat.zero_add _) TL0 (fun τ hE hB => ?_)
    have eo : oText m H = ((H.tp.1, 0), (match (sRuns H.lim (H.tp.1, m) ss H.tb H.cx (kOut0 H.K) 0).2.2.2.2 with | none => (0, -1, (sRuns H.lim (H.tp.1, m) ss H.tb H.cx (kOut0 H.K) 0).2.2.2.1) | some e => (e.1, e.2, (sRuns H.lim (H.tp.1, m) ss H.tb H.cx (kOut0 H.K) 0).2.2.2.1)), H.lim, (sRuns H.lim (H.tp.1, m) ss H.tb H.cx (kOut0 H.K) 0).1, (sRuns H.lim (H.tp.1, m) ss H.tb H.cx (kOut0 H.K) 0).2.1, (sRuns H.lim (H.tp.1, m) ss H.tb H.cx (kOut0 H.K) 0).2.2.1, H.mk) := by
      unfold oText
      rw [er]
      try rfl
    rw [List.drop_zero] at hE hB
    generalize sRuns H.lim (H.tp.1, m) ss H.tb H.cx (kOut0 H.K) 0 = r at hE hB eo
    obtain ⟨N', z', w', ⟨E1, E2, E3, E4⟩, E5, E6, E7, E8, E9, E10⟩ := hE
    have g2' : gi τ (R 0) 2 = iI ((oText m H).ft.1 : Int) := by
      rw [E3, eo]
      cases r.2.2.2.2 <;> rfl
    have g3' : gi τ (R 0) 3 = iI (oText m H).ft.2.1 := by
      rw [E4, eo]
      cases r.2.2.2.2 <;> rfl
    have g4' : gi τ (R 0) 4 = iI ((oText m H).ft.2.2 : Int) := by
      rw [E2, eo]
      cases r.2.2.2.2 <;> rfl
    rw [g2']
    refine ok m τ rfl hmt ?_ (by rw [eo]; exact hB)
    obtain ⟨F1, F2⟩ := E7.rest (H' := oText m H) c1 j1 b1.2.1 p1 t1 (by rw [eo]) (by rw [eo]) p1.2.1.1 g2' g3' g4'
    refine ⟨E1, F1, F2, N', z', w', ?_⟩
    rw [eo]
    exact ⟨E5.tx, E6, E8, E9, E10⟩
  · have ee := sRead_e er
    have he : e < 12 := ee.1
    have eo : oText m H = ((H.tp.1, 0), (e, p, 0), H.lim, H.tb, H.cx, kOut0 H.K, H.mk) := by
      unfold oText
      rw [er]
      try rfl
    have hf : hfr R σ1 τ := hfr.nw kf lf (by rw [c1.1]; omega) (by omega)
    obtain ⟨r1, r2, r3, r4⟩ := kf (R 0) (by rw [c1.1]; omega) id
    have cτ : hcl R τ := c1.kp kf id
    have jτ := j1.mv b1.2.1 (jfr.N kf lf j1.1 : jfr R nil0 σ1 τ) (fun _ z => z.elim) (fun _ z => z) (rfl : ((fun _ : Nat => False), N, H.cx.length, H.tb.1.length).2 = _)
    have nM : ¬ isM R (R 0) := fun q => hcl.no (I := nil0) (Or.inl cτ.1) bf.2.1 jτ.1.1.1 (fun _ z => z.elim) (Or.inl q)
    refine c_tflt (xp := -1) fl (by omega) cτ.1 (fun υ u1 u2 u3 u4 u5 u6 u7 u8 u9 u10 => ?_)
    rw [if_neg (by omega)] at u9
    have hfυ : hfr R σ1 υ := by
      refine ⟨hf.1.tr u1 (fun q _ hq => Or.inr (Or.inr (Or.inr (Or.inr (Or.inr (Or.inr (Or.inr (Or.inr hq)))))))), hf.2.1.tr u2, fun q hq => ?_, fun j => (u5 _ _).trans (hf.2.2.2.1 j), ?_, ?_⟩
      · rw [u5] at hq; exact hf.2.2.1 q hq
      · rw [u10 9 (by omega) (by omega)]; exact hf.2.2.2.2.1
      · rw [u10 1 (by omega) (by omega)]; exact hf.2.2.2.2.2
    have e4 : gi υ (R 0) 4 = iI (((oText m H).ft.2.2 : Nat) : Int) := by rw [u10 4 (by omega) (by omega), r2, eo]; exact p1.2.1.2.2.2.1
    have hz2 : gz υ := fun a ha => by rw [u6]; exact bf.1 a (by rw [← u3]; exact ha)
    obtain ⟨F1, F2⟩ := hfυ.rest (H' := oText m H) c1 j1 b1.2.1 p1 t1 (by rw [eo]) (by rw [eo]) p1.2.1.1 (by rw [u8, eo]) (by rw [u9, eo]) e4
    have hres : PH G KK T R υ (oText m H) n s u := by
      refine ⟨⟨(u6 _).trans cτ.1, by rw [u5]; exact cτ.2.1, by rw [u5]; exact cτ.2.2.1, by rw [u5]; exact cτ.2.2.2⟩, F1, F2, N, z, w, ?_⟩
      rw [eo]
      have b3 : MB G R υ (hX H.lim H.tb H.cx) (kOut0 H.K) w (n + fC (u + 2 * m) z) (s + fS (u + 2 * m) z) := ⟨hz2, bf.2.1.mv (fun a ha => ⟨u6 a, (u1 a (bf.2.1.tg ha) (fun q => nM (by rw [← q]; exact ha))).2.1, u7 a⟩) (fun j _ => u5 _ _), bf.2.2.1, ⟨by have := bf.2.2.2.1; rw [u3]; exact this, by have := bf.2.2.2.2; rw [u4]; exact this⟩⟩
      exact ⟨jτ.p0 cτ.1 u1 u2, (x1'.nw (by omega) kf).p0 cτ.1 jτ.1.2.2.2.2.2.1.1 u1, w1, b3.le (Nat.add_le_add_left (fR_mono (by omega)) n) (Nat.add_le_add_left (fR_mono (by omega)) s), by omega⟩
    have e1 : iI (e : Int) = iI ((oText m H).ft.1 : Int) := by rw [eo]
    rw [e1]
    exact ok m υ rfl hmt hres (by rw [eo]; exact id)
end PHY
