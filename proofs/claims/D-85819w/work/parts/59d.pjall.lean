/-! P OVER S (31): judging, all of it -/
theorem rG_shape {t : V} {m n : Nat} (h : rG t 0 m n) : ∃ n', n = n' + 1 ∧ ((∃ f k, t = .tag f (.tag k .line) ∧ k < m) ∨ (∃ f p, t = .tag f (.tag p .nil)) ∨ (∃ f p d b, t = .tag f (.tag p (.append d b)) ∧ rG d 0 m n' ∧ rG b 0 (m + 1) n') ∨ (∃ f p d b, t = .tag f (.tag p (.group (.append d b) .fill)) ∧ rG d 0 m n' ∧ rG b 0 (m + 1) n') ∨ (∃ f p d b, t = .tag f (.tag p (.group (.append d b) .allOrNone)) ∧ rG d 0 m n' ∧ rG b 0 (m + 1) n') ∨ (∃ f p g ps, t = .tag f (.tag p (.group (.group (.append g ps) .fill) .fill)) ∧ rG g 0 m n' ∧ rG ps 1 m n')) := by
  unfold rG at h
  split at h
  · exact ⟨_ - 1, (Nat.sub_add_cancel h.2).symm, Or.inl ⟨_, _, rfl, h.1⟩⟩
  · exact ⟨_ - 1, (Nat.sub_add_cancel h).symm, Or.inr (Or.inl ⟨_, _, rfl⟩)⟩
  · obtain ⟨n', e, h1, h2⟩ := h
    exact ⟨n', e, Or.inr (Or.inr (Or.inl ⟨_, _, _, _, rfl, h1, h2⟩))⟩
  · obtain ⟨n', e, h1, h2⟩ := h
    exact ⟨n', e, Or.inr (Or.inr (Or.inr (Or.inl ⟨_, _, _, _, rfl, h1, h2⟩)))⟩
  · obtain ⟨n', e, h1, h2⟩ := h
    exact ⟨n', e, Or.inr (Or.inr (Or.inr (Or.inr (Or.inl ⟨_, _, _, _, rfl, h1, h2⟩))))⟩
  · obtain ⟨n', e, h1, h2⟩ := h
    exact ⟨n', e, Or.inr (Or.inr (Or.inr (Or.inr (Or.inr ⟨_, _, _, _, rfl, h1, h2⟩))))⟩
  · omega
  · omega
  · exact h.elim
section PJA
variable {G : GPl} {s0 : State} {l : Launch} {KK : Nat → Option Nat} {T : Nat → Nat} {lev d : Nat} {Q : Outcome → GSt → Prop} {R : Nat → Nat} {σ τ υ st0 : GSt} {X : SX} {J : JX} {K K' : KS} {w n s o z m Z Yc Ys : Nat} {c c' : PC} {L L' : Nat → Nat → Prop} {W I I' I1 I2 : Nat → Prop} {sc : SC} {gg : List Bool} {TN : Nat → List Nat} {x : Option Nat}
theorem sJudge_use {f p : Nat} {g ps : V} : sJudge X J (n + 1) (.tag f (.tag p (.group (.group (.append g ps) .fill) .fill))) sc K = jBind (sJudge X J n g sc K) fun a K =>
      jBind (jParts X (p : Int) sc (fun p K => sJudge X J n p sc K) ps a K) fun z K => (K, .ok (.tag 2 (.append a.1 z.1), z.2.2)) := by
  rw [sJudge]
theorem c_juse {f p a : Nat} {g ps : V} (ih : ∀ lev, 3 * n + 330 ≤ lev → CJ G s0 l KK T R X J TN Z Yc Ys lev n) (hYc : 12 + 4 * Z ≤ Yc) (hYs : 64 + 12 * Z ≤ Ys) (hl : 3 * n + 332 ≤ lev) (hJN : JN c X J TN) (hr : rT R TN σ (.tag f (.tag p (.group (.group (.append g ps) .fill) .fill))) a 0 I) (hg1 : rG g 0 sc.length n) (hg2 : rG ps 1 sc.length n) (hI : ∀ q, I q → c.E q) (h : JB R c L σ X J sc x) (hs : gSc c.ns z sc) (hz : ∀ k, k < c.nc → sw (J.ct k) ≤ z) (hZ : z + (rB g + rB ps) ≤ Z) (hd : sc.length + (n + 1) ≤ 300) (hm : MB G R σ X K 0 (m + (rN g + rN ps + 1) * Yc) (s + (rN g + rN ps + 1) * Ys))
    (ok : ∀ τ K' u ty r so, sJudge X J (n + 1) (.tag f (.tag p (.group (.group (.append g ps) .fill) .fill))) sc K = (K', .ok (u, ty, r, so)) → K.life ≤ K'.life → jfr R I σ τ → MB G R τ X K' 0 m s → pT (cut c I) τ u a 0 → gT u false (List.replicate sc.length true) → JF (cut c I) L R τ ty r so → tyG c.ns (z + (rB g + rB ps)) (scEnv sc) ty r so → gi τ a 1 = iI (f : Int) → Q (.returned none) τ)
    (er : ∀ y τ K' e p' w', sJudge X J (n + 1) (.tag f (.tag p (.group (.group (.append g ps) .fill) .fill))) sc K = (K', .error (e, p')) → K.life ≤ K'.life → flt τ y e p' → jfr R I σ τ → MB G R τ X K' w' m s → Q (.threw y) τ) : CQ (wP G s0 l KK T) mX4_use lev (.ref (R 3) :: [va_rf (some a), va_rf x]) σ Q := by
  obtain ⟨l', rfl⟩ : ∃ l', lev = l' + 1 := ⟨lev - 1, by omega⟩
  obtain ⟨h1, h2, h3, h4, xg, al, zr, I1, I2, h5, h6, h7, h8, h9, h10, h11, h12, h13, h14, h15, hI1, hI2, r1, r2⟩ := hr
  have hM0 := hm.2.1
  have hj0 := h.1.1.1
  rw [mulY, mulY] at hm
  have hc0 : ∀ q, (cut c (fun q => q = a ∨ q = al ∨ q = zr)).E q → c.E q := fun q z => z.1
  have B0 : JB R (cut c (fun q => q = a ∨ q = al ∨ q = zr)) L σ X J sc x := h.mv hM0 (jfr.rf (I := nil0)) (fun _ z => z.elim) hc0 rfl
  have hE1 : ∀ q, I1 q → (cut c (fun q => q = a ∨ q = al ∨ q = zr)).E q := fun q z => ⟨hI q (hI1 q z).1, fun y => by have := hI1 q z; rcases y with y | y | y; exact this.2.1 y; exact this.2.2.1 y; exact this.2.2.2 y⟩
  have hE2 : ∀ q, I2 q → (cut (cut c (fun q => q = a ∨ q = al ∨ q = zr)) I1).E q := fun q z => ⟨⟨hI q (hI2 q z).1, fun y => by have := hI2 q z; rcases y with y | y | y; exact this.2.1 y; exact this.2.2.1 y; exact this.2.2.2.1 y⟩, (hI2 q z).2.2.2.2⟩
  have na : ∀ q, q = a ∨ q = al ∨ q = zr → ¬ (I1 q ∨ I2 q) := fun q hq z => by
    rcases z with z | z
    · have := hI1 q z; rcases hq with y | y | y; exact this.2.1 y; exact this.2.2.1 y; exact this.2.2.2 y
    · have := hI2 q z; rcases hq with y | y | y; exact this.2.1 y; exact this.2.2.1 y; exact this.2.2.2.1 y
  have hI12 : ∀ q, (I1 q ∨ I2 q) → I q := fun q z => z.elim (fun z => (hI1 q z).1) (fun z => (hI2 q z).1)
  have tma : tmt (gk σ a) = true := by rw [h1]; rfl
  have tmal : tmt (gk σ al) = true := by rw [h7]; rfl
  have tmz : tmt (gk σ zr) = true := by rw [h10]; rfl
  refine tX4_use ⟨a, rfl, h1, hj0, ?_⟩
  rw [h5]
  refine ih l' (by omega) (cut c (fun q => q = a ∨ q = al ∨ q = zr)) g xg I1 sc x K σ (m + rN ps * Yc) (s + rN ps * Ys) z L _ hJN r1 hg1 hE1 B0 hs hz (by omega) (by omega) (hm.le (by omega) (by omega)) (fun t4 K4 fu ty r so e4 le4 j4 b4 p4 g4 f4 y4 i4 l4 => ?_) (fun y τ K' e p' w' e1 e2 e3 e4 e5 l => er y τ K' e p' w' (by rw [sJudge_use, e1]; rfl) e2 e3 (e4.wk (fun q z => (hI1 q z).1)) (e5.le (by omega) (by omega)))
  have B4 : JB R (cut (cut c (fun q => q = a ∨ q = al ∨ q = zr)) I1) L t4 X J sc x := B0.mv hM0 j4 hE1 (fun q z => z.1) rfl
  have J4 : jfr R (fun q => I1 q ∨ I2 q) σ t4 := j4.wk (fun q z => Or.inl z)
  obtain ⟨a1, a2, a3, a4⟩ := J4.at tma hM0 hj0 (na a (Or.inl rfl))
  obtain ⟨b1, b2, b3, b4'⟩ := J4.at tmal hM0 hj0 (na al (Or.inr (Or.inl rfl)))
  obtain ⟨c1, c2, c3, c4⟩ := J4.at tmz hM0 hj0 (na zr (Or.inr (Or.inr rfl)))
  have r24 := B0.rT hM0 j4 hE1 r2 (fun q z => ⟨(hI2 q z).2.2.2.2, h.2.2.2.2.2 q (hI q (hI2 q z).1)⟩) (fun _ => ⟨tmz, fun z => na zr (Or.inr (Or.inr rfl)) (Or.inl z)⟩)
  refine c_jparts (a := a) (al := al) (zr := zr) (nn := vlen ps) (pl := p) (zz := z + rB g) ih hYc hYs (by omega) hd h13 (by omega) ps 0 (cut (cut c (fun q => q = a ∨ q = al ∨ q = zr)) I1) I2 fu ty r so K4 t4 hs hz hJN r24 hg2 hE2 B4 f4 y4 ⟨a1.trans h1, fun z => z.1.2 (Or.inl rfl), by rw [a2]; exact h4, by rw [a3]; exact h6⟩ ⟨b1.trans h7, fun z => z.1.2 (Or.inr (Or.inl rfl)), by rw [b3]; exact h9, by rw [b2]; exact h12⟩ ⟨c1.trans h10, fun z => z.1.2 (Or.inr (Or.inr rfl)), by rw [c4]; exact h15⟩ (by omega) (by omega) (b4.le (by omega) (by omega)) (fun τ K' ps' ty' r' so' e1 e2 e3 e5 e6 e7 e8 e9 e10 => ?_) (fun y τ K' e p' w' e1 e2 e3 e5 e6 => er y τ K' e p' w' (by rw [sJudge_use, e4]; show jBind (jParts X (p : Int) sc _ ps (fu, ty, r, so) K4) _ = _; rw [e1]; rfl) (by omega) e3 ((J4.tr e5 (fun _ z => z) (fun _ z => Or.inr z)).wk hI12) e6)
  have JF : jfr R (fun q => I1 q ∨ I2 q) σ τ := J4.tr e3 (fun _ z => z) (fun _ z => Or.inr z)
  obtain ⟨a1, a2, a3, a4⟩ := JF.at tma hM0 hj0 (na a (Or.inl rfl))
  obtain ⟨b1, b2, b3, b4'⟩ := JF.at tmal hM0 hj0 (na al (Or.inr (Or.inl rfl)))
  obtain ⟨c1, c2, c3, c4⟩ := JF.at tmz hM0 hj0 (na zr (Or.inr (Or.inr rfl)))
  have vE : mv (cut (cut (cut c (fun q => q = a ∨ q = al ∨ q = zr)) I1) I2) (cut c I) L L τ τ := mv_keepE (W := nil0) keep.rf (fun _ z => z.elim) (fun q _ hn hc => hn ⟨⟨⟨hc.1, fun z => hc.2 (by rcases z with rfl | rfl | rfl; exact h2; exact h8; exact h11)⟩, fun z => hc.2 (hI1 q z).1⟩, fun z => hc.2 (hI2 q z).1⟩) rfl
  have mvT : mv (cut (cut c (fun q => q = a ∨ q = al ∨ q = zr)) I1) (cut (cut (cut c (fun q => q = a ∨ q = al ∨ q = zr)) I1) I2) L L t4 τ := B4.mvc b4.2.1 e3 hE2 (fun _ z => z.1) rfl
  exact ok τ K' (.tag 2 (.append fu ps')) ty' r' so' (by rw [sJudge_use, e4]; show jBind (jParts X (p : Int) sc _ ps (fu, ty, r, so) K4) _ = _; rw [e1]; rfl) (by omega) (JF.wk hI12) e5 ⟨a1.trans h1, fun z => z.2 h2, xg, al, zr, by rw [a3]; exact h5, by rw [a3]; exact h6, b1.trans h7, fun z => z.2 h8, by rw [b3]; exact h9, c1.trans h10, fun z => z.2 h11, by rw [b2, e8]; exact h12, by omega, by rw [c4, e8]; exact h15, pT_mv vE _ _ _ (pT_mv mvT _ _ _ p4), pT_mv vE _ _ _ e6⟩ ⟨g4, e7, by omega⟩ (jf_mv e9 vE ⟨fun _ => rfl, rfl⟩) (e10.le (by omega)) (by rw [a2]; exact h3)
theorem c_judge (hYc : 12 + 4 * Z ≤ Yc) (hYs : 64 + 12 * Z ≤ Ys) : ∀ (n lev : Nat), 3 * n + 330 ≤ lev → CJ G s0 l KK T R X J TN Z Yc Ys lev n := by
  intro n
  induction n with
  | zero =>
    intro lev hl c t a I sc x K σ m s z L Q hJN hr hg
    obtain ⟨n', e, -⟩ := rG_shape hg
    omega
  | succ n ih =>
    intro lev hl c t a I sc x K σ m s z L Q hJN hr hg hI h hs hz hZ hd hm ok er
    obtain ⟨l', rfl⟩ : ∃ l', lev = l' + 1 := ⟨lev - 1, by omega⟩
    have hj := h.1.1.1
    obtain ⟨n', e, hsh⟩ := rG_shape hg
    cases e
    rcases hsh with ⟨f, k, rfl, hk⟩ | ⟨f, p, rfl⟩ | ⟨f, p, d, b, rfl, g1, g2⟩ | ⟨f, p, d, b, rfl, g1, g2⟩ | ⟨f, p, d, b, rfl, g1, g2⟩ | ⟨f, p, g, ps, rfl, g1, g2⟩
    · have ht : gk σ a = 11 := hr.1
      obtain ⟨e, he⟩ : ∃ e, sc[k]? = some e := ⟨sc[k], List.getElem?_eq_getElem hk⟩
      refine tX4_judge ⟨a, rfl, ⟨10, by decide, ht⟩, fun _ => ⟨hj, c_jbound (by omega) hr h hI he (hm.le (n' := m) (s' := s) (by omega) (by omega)) (fun τ u1 u2 u3 u4 u5 _ => ok τ K _ _ _ _ (sJudge_bnd he) (Nat.le_refl _) u1 u2 u3 ?_ u4 ((hs.get he).le (by omega)) u5)⟩, fun z => absurd ⟨a, rfl, ht⟩ z⟩
      show (List.replicate sc.length true)[k]? = some true
      rw [List.getElem?_replicate, if_pos hk]
    · have ht : gk σ a = 12 := hr.1
      have hn : ∀ k, k ≠ 12 → ¬ isA σ (some a) k := fun k hk q => by have := q.tag rfl; omega
      have hY1 : m + 1 ≤ m + rN (.tag f (.tag p .nil)) * Yc := by show m + 1 ≤ m + 1 * Yc; omega
      have hY2 : s + 8 ≤ s + rN (.tag f (.tag p .nil)) * Ys := by show s + 8 ≤ s + 1 * Ys; omega
      refine tX4_judge ⟨a, rfl, ⟨11, by decide, ht⟩, fun q => absurd q (hn _ (by omega)), fun _ => ⟨fun _ => ⟨hj, c_jfree (m := n) (z := z) (by omega) hJN hr h hI hz (hm.le hY1 hY2) (fun τ u ty r so e1 e2 e3 e4 e5 e6 e7 e8 _ => ok τ K u ty r so e1 (Nat.le_refl _) e2 e3 e4 e5 e6 (e7.le (by omega)) e8) (fun y τ e pl e1 e2 e3 e4 _ => er y τ K e pl 0 e1 (Nat.le_refl _) e2 e3 e4)⟩, fun z => absurd ⟨a, rfl, ht⟩ z⟩⟩
    · have ht : gk σ a = 8 := hr.1
      have hn : ∀ k, k ≠ 8 → ¬ isA σ (some a) k := fun k hk q => by have := q.tag rfl; omega
      exact tX4_judge ⟨a, rfl, ⟨7, by decide, ht⟩, fun q => absurd q (hn _ (by omega)), fun _ => ⟨fun q => absurd q (hn _ (by omega)), fun _ => ⟨fun _ => ⟨hj, c_jlam ih hYc hYs (by omega) hJN hr g1 g2 hI h hs hz hZ hd hm (fun τ K' u ty r so e1 e2 e3 e4 e5 e6 e7 e8 e9 _ => ok τ K' u ty r so e1 e2 e3 e4 e5 e6 e7 e8 e9) (fun y τ K' e p' w' e1 e2 e3 e4 e5 _ => er y τ K' e p' w' e1 e2 e3 e4 e5)⟩, fun z => absurd ⟨a, rfl, ht⟩ z⟩⟩⟩
    · have ht : gk σ a = 9 := hr.1
      have hn : ∀ k, k ≠ 9 → ¬ isA σ (some a) k := fun k hk q => by have := q.tag rfl; omega
      exact tX4_judge ⟨a, rfl, ⟨8, by decide, ht⟩, fun q => absurd q (hn _ (by omega)), fun _ => ⟨fun q => absurd q (hn _ (by omega)), fun _ => ⟨fun q => absurd q (hn _ (by omega)), fun _ => ⟨fun _ => ⟨hj, c_jprod ih hYc hYs (by omega) hJN hr g1 g2 hI h hs hz hZ hd hm (fun τ K' u ty r so e1 e2 e3 e4 e5 e6 e7 e8 e9 _ => ok τ K' u ty r so e1 e2 e3 e4 e5 e6 e7 e8 e9) (fun y τ K' e p' w' e1 e2 e3 e4 e5 _ => er y τ K' e p' w' e1 e2 e3 e4 e5)⟩, fun z => absurd ⟨a, rfl, ht⟩ z⟩⟩⟩⟩
    · have ht : gk σ a = 10 := hr.1
      have hn : ∀ k, k ≠ 10 → ¬ isA σ (some a) k := fun k hk q => by have := q.tag rfl; omega
      exact tX4_judge ⟨a, rfl, ⟨9, by decide, ht⟩, fun q => absurd q (hn _ (by omega)), fun _ => ⟨fun q => absurd q (hn _ (by omega)), fun _ => ⟨fun q => absurd q (hn _ (by omega)), fun _ => ⟨fun q => absurd q (hn _ (by omega)), fun _ => ⟨fun q => absurd q (hn _ (by omega)), fun _ => ⟨fun _ => ⟨hj, c_jlet ih hYc hYs (by omega) hJN hr g1 g2 hI h hs hz hZ hd hm (fun τ K' u ty r so e1 e2 e3 e4 e5 e6 e7 e8 e9 _ => ok τ K' u ty r so e1 e2 e3 e4 e5 e6 e7 e8 e9) (fun y τ K' e p' w' e1 e2 e3 e4 e5 _ => er y τ K' e p' w' e1 e2 e3 e4 e5)⟩, fun z => absurd ⟨a, rfl, ht⟩ z⟩⟩⟩⟩⟩⟩
    · have ht : gk σ a = 13 := hr.1
      have hn : ∀ k, k ≠ 13 → ¬ isA σ (some a) k := fun k hk q => by have := q.tag rfl; omega
      exact tX4_judge ⟨a, rfl, ⟨12, by decide, ht⟩, fun q => absurd q (hn _ (by omega)), fun _ => ⟨fun q => absurd q (hn _ (by omega)), fun _ => ⟨fun q => absurd q (hn _ (by omega)), fun _ => ⟨fun q => absurd q (hn _ (by omega)), fun _ => ⟨fun _ => ⟨hj, c_juse ih hYc hYs (by omega) hJN hr g1 g2 hI h hs hz hZ hd hm (fun τ K' u ty r so e1 e2 e3 e4 e5 e6 e7 e8 e9 _ => ok τ K' u ty r so e1 e2 e3 e4 e5 e6 e7 e8 e9) (fun y τ K' e p' w' e1 e2 e3 e4 e5 _ => er y τ K' e p' w' e1 e2 e3 e4 e5)⟩, fun z => absurd ⟨a, rfl, ht⟩ z⟩⟩⟩⟩⟩
end PJA
