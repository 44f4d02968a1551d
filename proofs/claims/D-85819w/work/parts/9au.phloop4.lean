/-! THE HOUSE OVER S, P (17): all statements of a text (4) -/
section PHR4
variable {G : GPl} {s0 : State} {l : Launch} {KK : Nat → Option Nat} {T : Nat → Nat} {lev : Nat} {Q : Outcome → GSt → Prop} {R : Nat → Nat} {σ τ υ st0 ρ σ0 : GSt} {X : SX} {J : JX} {K K' : KS} {n s o m a y tp lo kd pl lim sl zr u0 : Nat} {W I : Nat → Prop} {t : TX} {ns : List Nat} {ss : List ST} {Y : Nat → Nat} {I1 I2 : Nat → Nat → Prop} {x1 : Int32}
theorem c_tl0 (hl : 680 ≤ lev) (hKJ : KJ KK) (hT : TS R ss I1 I2 sl zr lo σ0) : ∀ (d k : Nat) (tb : HT) (cx : List CN) (N : Nat → Nat) (K : KS) (w z : Nat) (σ : GSt) (x2 : Int32), k + d = ss.length → TL G KK T R t ss Y I1 I2 sl zr lo σ0 lim k tb cx N K w z n s o u0 σ → (∀ τ, TE G KK T R t σ0 lim (sRuns lim t (ss.drop k) tb cx K k) n s u0 τ → (cxB cx → cxB (sRuns lim t (ss.drop k) tb cx K k).2.1) → Q (.returned (some (.int (gi τ (R 0) 2)))) τ) → jX1_text_69 G s0 l KK T lev st0 Q (R 0) x1 x2 (some sl) (iI (k : Int)) σ := by
  obtain ⟨l', rfl⟩ : ∃ l', lev = l' + 1 := ⟨lev - 1, by omega⟩
  intro d
  induction d with
  | zero =>
    intro k tb cx N K w z σ x2 e h fin
    obtain ⟨⟨a1, a2, a3, a4⟩, ⟨b1, b2⟩, h3, h4, h5, h6, h7, h8, h9, h10, h11⟩ := h
    obtain ⟨-, f1, f2, f3, f4, f5, f6⟩ := h5
    have hk : k = ss.length := by omega
    subst hk
    have hlen : ss.length ≤ 4000 := hT.2.2.2.2.2.2.1
    refine tX1_text_69 ⟨sl, rfl, f1, tJ2_size ⟨f1, fun _ => ⟨fun _ => ⟨a1.1, fin σ ?_ (by rw [List.drop_length]; exact id)⟩, fun q => absurd (by rw [f4, iI_le (by omega) (by omega) (by omega) (by omega)]; exact Int.le_refl _) q⟩⟩⟩
    rw [List.drop_length]
    have hZ : ssZ (ss.drop ss.length) + u0 = u0 := by rw [List.drop_length]; exact Nat.zero_add _
    rw [hZ] at h10 h11
    refine ⟨N, z, w, ⟨a1, a2, a3, a4⟩, h3.mv (I := nil0) h10.2.1 jfr.rf (fun _ z => z.elim) (fun q z => z.elim) rfl, h4, h7, h8, h10, h11⟩
  | succ d ih =>
    intro k tb cx N K w z σ x2 e h fin
    obtain ⟨⟨a1, a2, a3, a4⟩, ⟨b1, b2⟩, h3, h4, h5, h6, h7, h8, h9, h10, h11⟩ := h
    have hTR := h5
    obtain ⟨hst, f1, f2, f3, f4, f5, f6⟩ := h5
    have hT0 := hT
    obtain ⟨t1, t2, t3, t4, t5, t5', hlen, t7, t8⟩ := hT
    have hk : k < ss.length := by omega
    obtain ⟨st, hs⟩ : ∃ st, ss[k]? = some st := ⟨ss[k], List.getElem?_eq_getElem hk⟩
    obtain ⟨p1, p2, p3, p4⟩ := hst k st (Nat.le_refl _) hs
    have hg : stGd st := t8 st (List.mem_of_getElem? hs)
    have hIE : ∀ q, I1 k q ∨ I2 k q → inE ss.length I1 I2 k q := fun q hq => ⟨k, Nat.le_refl _, hk, hq⟩
    refine tX1_text_69 ⟨sl, rfl, f1, tJ2_size ⟨f1, fun _ => ⟨fun q => ?_, fun _ => ?_⟩⟩⟩
    · rw [f4, iI_le (by omega) (by omega) (by omega) (by omega)] at q; omega
    refine c_get (len := ss.length) (by omega) f1 f2 f3 f4 hk f5 (by omega) (onR_ret (fun _ => ?_))
    rw [f6 k hk]
    refine ⟨Or.inr ⟨Y k, rfl, by rw [p1.1]; exact List.mem_singleton.mpr rfl⟩, Y k, rfl, p1.1, a1.1, R 2, a1.2.2.1, h10.2.1.1.1, c_begins (by omega) h10 (fun t14 k14 b14 g14 => fun l14 => ?_)⟩
    have j14 : jfr R nil0 σ t14 := jfr.M k14 l14 h3.1 h10.2.1
    have h14 := h3.mv h10.2.1 j14 (fun _ z => z.elim) (fun _ z => z) (rfl : (inE ss.length I1 I2 k, N, cx.length, tb.1.length).2 = (inE ss.length I1 I2 k, N, cx.length, tb.1.length).2)
    have c14 : hcl R t14 := a1.M h10.2.1 h3.1.1.1 k14
    have n9 : ¬ isJ R nil0 (R 9) := r9J h3 h10.2.1 (fun _ z => z.elim)
    have n0 : ¬ isJ R nil0 (R 0) := hcl.no (Or.inl a1.1) h10.2.1 h3.1.1.1 (fun _ z => z.elim)
    have e9 : gr t14 (R 9) 1 = gr σ (R 9) 1 := (j14.1 (R 9) (by rw [h3.1.2.2.2.2.2.1.1]; omega) n9).2.2.1 1
    have s14 : sfr R nil0 σ t14 := j14.sf e9
    have TR14 : TR KK R t ss Y I1 I2 sl zr lo k t14 := hTR.sf s14 (Nat.le_refl _) h3 h10.2.1 (fun _ z => z.elim) (fun _ _ _ _ _ z => z) hT0 (by omega) (h6 (by omega)) h7.2.1
    have C14 : CxR KK R t14 cx.length := h4.mv h3 h10.2.1 j14 (fun _ z => z.elim)
    obtain ⟨p1', p2', p3', p4'⟩ := TR14.1 k st (Nat.le_refl _) hs
    have wS : ∀ q, isJ R nil0 q → gk σ q ≠ 23 ∧ (gk σ q = 102 → q = R 5) := h3.wS h10.2.1 (fun _ z => z.elim)
    have hT14 : pS t14 (R 5) (T 0) [121, 101, 115] := b1.kpW j14.1 wS
    have hT14' : pS t14 (R 5) (T 1) [110, 111] := b2.kpW j14.1 wS
    have n0' : ∀ {σ' : GSt} {I : Nat → Prop} {X' : SX} {J' : JX} {K1 : KS} {w1 : Nat} {c' : PC}, hcl R σ' → JB R c' nilL σ' X' J' [] none → MS G R σ' X' K1 w1 → (∀ q, I q → c'.E q) → ¬ (isJ R I (R 0) ∨ R 0 = R 9 ∨ (gr σ' (R 9) 1 = some (R 0) ∧ 0 < gl σ' (R 0)) ∨ R 0 = R 1 ∨ R 0 = R 6 ∨ R 0 = R 7 ∨ R 0 = R 8) := fun {σ' I X' J' K1 w1 c'} hc hj hm hI hw => by
      have := hc.1
      refine absurd (sfr_tg (lo := R 4 + R 6 + R 7 + R 8 + 1) hj hm hI (fun q _ hq => ?_) _ hw).1 (fun w => w hc.1)
      rcases hq with ⟨_, rfl⟩ | rfl | rfl | rfl <;> omega
    have F14 : hfr R σ0 t14 := h7.go s14 (fun _ z => z.elim) (by rw [a1.1]; omega) (n0' a1 h3 h10.2.1 (fun _ z => z.elim))
    have i14 : ∀ j, gi t14 (R 0) j = gi σ (R 0) j := (j14.1 (R 0) (by rw [a1.1]; omega) n0).2.1
    have uZ := ssZ_drop hs
    have stepC := fR_step (a := 12) (b := 4) (v := stN st + 6) (l := stB st) (u := ssZ (ss.drop (k + 1)) + u0) (z := z)
    have stepS := fR_step (a := 64) (b := 12) (v := stN st + 6) (l := stB st) (u := ssZ (ss.drop (k + 1)) + u0) (z := z)
    have eu : stN st + 6 + 15 * stB st + (ssZ (ss.drop (k + 1)) + u0) = ssZ (ss.drop k) + u0 := by omega
    rw [eu] at stepC stepS
    have stepC' := Nat.add_le_add_left stepC n
    have stepS' := Nat.add_le_add_left stepS s
    rw [Nat.add_comm ((stN st + 6) * _) _, ← Nat.add_assoc] at stepC' stepS'
    have eat : gi σ (Y k) 1 = iI (st.2.1 : Int) := p1.2.2.1
    rw [eat]
    have O14 : OB (kBeg K) (o + 60 * (ss.length - k)) := h9
    refine c_does (lim := lim) (z := z) (n := n + fC (ssZ (ss.drop (k + 1)) + u0) (z + stB st)) (s := s + fS (ssZ (ss.drop (k + 1)) + u0) (z + stB st)) (o := o + 60 * (ss.length - (k + 1))) (by omega) hKJ c14 hT14 hT14' p1' ⟨p1'.1, p2', p3', fun q hq => hIE q hq, p4'⟩ hg h14 C14 h8 (b14.le stepC' stepS') (O14.le (by omega)) (fun t16 K16 tb' cx' N' e0 e1 s16 h16 C16 b16 o16 w16 x16 => fun l16 => ?_) (fun xf τ K' ef pf w' e0 e1 e2 j2 b2' o2 => fun l2 => ⟨e2.1, ?_⟩)
    · -- done
      have c16 : hcl R t16 := c14.kp s16.1 (n0' c14 h14 b14.2.1 (fun q hq => hIE q hq))
      have F16 : hfr R σ0 t16 := F14.go s16 (fun q hq => (t1 k hk q hq).1) (by rw [c14.1]; omega) (n0' c14 h14 b14.2.1 (fun q hq => hIE q hq))
      have z14 : gr t14 (R 9) 1 ≠ some zr := by rw [e9]; exact h6 (by omega)
      have TR16 : TR KK R t ss Y I1 I2 sl zr lo (k + 1) t16 := TR14.sf s16 (Nat.le_succ _) h14 b14.2.1 (fun q hq => hIE q hq) (fun i hi hil q hq hw => t2 k i (by omega) hil q hq hw) hT0 (by omega) z14 F14.2.1
      have z16 : gr t16 (R 9) 1 ≠ some zr := fun q => by
        rcases s16.2.2 zr q with w | w
        · exact z14 w
        · have := TR14.2.2.2.1; omega
      have i16 : ∀ j, gi t16 (R 0) j = gi t14 (R 0) j := (s16.1 (R 0) (by rw [c14.1]; omega) (n0' c14 h14 b14.2.1 (fun q hq => hIE q hq))).2.1
      have tg := sfr_tg (lo := lo) h14 b14.2.1 (I := orI (I1 k) (I2 k)) (fun q hq => hIE q hq) (fun q _ hq => t7 q (by rcases hq with hq | hq; exact Or.inr (Or.inr (Or.inr hq.2)); rcases hq with hq | hq | hq; exact Or.inl hq; exact Or.inr (Or.inl hq); exact Or.inr (Or.inr (Or.inl hq))))
      have wS16 : ∀ q, (isJ R (orI (I1 k) (I2 k)) q ∨ q = R 9 ∨ (gr t14 (R 9) 1 = some q ∧ 0 < gl t14 q) ∨ q = R 1 ∨ q = R 6 ∨ q = R 7 ∨ q = R 8) → gk t14 q ≠ 23 ∧ (gk t14 q = 102 → q = R 5) := fun q hq => ⟨(tg q hq).2.2.2.2.1, (tg q hq).2.2.2.2.2.1⟩
      have k17 : keep (fun q => q = R 0) t16 (gpi (R 0) 4 (gi t16 (R 0) 4 + iI 1) t16) := (keep.rf (W := fun q => q = R 0)).pi (fun _ => rfl)
      have l17 : gle t16 (gpi (R 0) 4 (gi t16 (R 0) 4 + iI 1) t16) := ⟨⟨Nat.le_refl _, Nat.le_refl _⟩, fun _ _ => rfl⟩
      have nM : ¬ isM R (R 0) := fun q => hcl.no (I := nil0) (Or.inl c16.1) b16.2.1 h16.1.1.1 (fun _ z => z.elim) (Or.inl q)
      have h16' : JB R (inE ss.length I1 I2 (k + 1), N', cx'.length, tb'.1.length) nilL t16 (hX lim tb' cx') (hJ t tb' cx') [] none := h16.mv (I := nil0) b16.2.1 jfr.rf (fun _ z => z.elim) (fun q z => by
        obtain ⟨i, z1, z2, z3⟩ := z
        exact ⟨⟨i, by omega, z2, z3⟩, t2 k i (by omega) z2 q z3⟩) rfl
      have n9 : ∀ q, q = R 0 → gk t16 q = 1 := fun q hq => by rw [hq]; exact c16.1
      rw [iI_suc]
      refine ih (k + 1) tb' cx' N' K16 0 (z + stB st) _ (iI (st.2.1 : Int)) (by omega) ⟨⟨?_, ?_, ?_, ?_⟩, ⟨?_, ?_⟩, h16'.p0 c16.1 k17 l17, C16.p0 c16.1 h16.1.2.2.2.2.2.1.1 k17, ?_, fun _ => z16, F16.pi (by omega), w16, o16, b16.pi' nM, by omega⟩ (fun τ hE hB => fin τ ?_ ?_)
      · exact ⟨c16.1, c16.2.1, c16.2.2.1, c16.2.2.2⟩
      · rw [gi_pi, if_pos ⟨rfl, rfl⟩, i16, i14, a2, iI_suc]
      · rw [gi_pi, if_neg (by omega), i16, i14]; exact a3
      · rw [gi_pi, if_neg (by omega), i16, i14]; exact a4
      · exact (hT14.kpW s16.1 wS16).kpW k17 (fun q hq => ⟨by rw [n9 q hq]; omega, fun w => by rw [n9 q hq] at w; omega⟩)
      · exact (hT14'.kpW s16.1 wS16).kpW k17 (fun q hq => ⟨by rw [n9 q hq]; omega, fun w => by rw [n9 q hq] at w; omega⟩)
      · refine TR16.kp k17 (Nat.le_refl _) (fun q hq => ?_) (fun i hi hil q hq hw => ?_) (fun hw => ?_) (fun hw => ?_)
        · rw [n9 q hq]; exact ⟨by omega, fun w => by omega, fun w => by omega, by omega, fun w => by omega⟩
        · have := h16'.2.2.2.2.2 q ⟨i, hi, hil, hq⟩
          rw [n9 q hw] at this; cases this
        · have := TR16.2.1; rw [n9 _ hw] at this; omega
        · have := TR16.2.2.2.1; rw [n9 _ hw] at this; omega
      · rw [sRuns_ok hs e0]; exact hE
      · rw [sRuns_ok hs e0]; exact fun q => hB (x16 q)
    · -- a fault
      have eo := eR_do (lim := lim) (t := t) (tb := tb) (cx := cx) (K := kBeg K) hg
      rw [e0] at eo
      have eo' : eOK (ef, pf) := eo _ rfl
      have he : ef < 100 := by rcases eo' with q | q; exact q.1.2; have := q.1; show ef < 100; have : ef < 12 := q.1; omega
      have n0J : ¬ isJ R (orI (I1 k) (I2 k)) (R 0) := hcl.no (Or.inl c14.1) b14.2.1 h14.1.1.1 (fun q hq => h14.2.2.2.2.2 q (hIE q hq))
      have c16 : hcl R τ := c14.kp j2.1 n0J
      have e9' : gr τ (R 9) 1 = gr t14 (R 9) 1 := (j2.1 (R 9) (by rw [h14.1.2.2.2.2.2.1.1]; omega) (r9J h14 b14.2.1 (fun q hq => hIE q hq))).2.2.1 1
      have F16 : hfr R σ0 τ := F14.go (j2.sf e9') (fun q hq => (t1 k hk q hq).1) (by rw [c14.1]; omega) (n0' c14 h14 b14.2.1 (fun q hq => hIE q hq))
      have h16 : JB R ((fun _ => False), N, cx.length, tb.1.length) nilL τ (hX lim tb cx) (hJ t tb cx) [] none := h14.mv b14.2.1 j2 (fun q hq => hIE q hq) (fun q z => z.elim) rfl
      have C16 : CxR KK R τ cx.length := C14.mv h14 b14.2.1 j2 (fun q hq => hIE q hq)
      have i16 : ∀ j, gi τ (R 0) j = gi t14 (R 0) j := (j2.1 (R 0) (by rw [c14.1]; omega) n0J).2.1
      have nM : ¬ isM R (R 0) := fun q => hcl.no (I := nil0) (Or.inl c16.1) b2'.2.1 h16.1.1.1 (fun _ z => z.elim) (Or.inl q)
      refine c_tflt (xp := (st.2.1 : Int)) e2 he c16.1 (fun υ u1 u2 u3 u4 u5 u6 u7 u8 u9 u10 => ?_)
      have ee : iI (ef : Int) = gi υ (R 0) 2 := u8.symm
      rw [ee]
      refine fin υ ?_ (by rw [sRuns_er hs e0]; exact id)
      rw [sRuns_er hs e0]
      have hmono : ∀ a b, fR a b u0 (z + stB st) ≤ fR a b (ssZ (ss.drop (k + 1)) + u0) (z + stB st) := fun a b => fR_mono (by omega)
      refine ⟨N, z + stB st, w', ⟨⟨(u6 _).trans c16.1, by rw [u5]; exact c16.2.1, by rw [u5]; exact c16.2.2.1, by rw [u5]; exact c16.2.2.2⟩, ?_, u8, u9⟩, h16.p0 c16.1 u1 u2, C16.p0 c16.1 h16.1.2.2.2.2.2.1.1 u1, ⟨?_, F16.2.1.tr u2, fun q hq => ?_, fun j => (u5 _ _).trans (F16.2.2.2.1 j), ?_, ?_⟩, fun j hj => Nat.le_trans (h8 j hj) (by omega), ?_, by omega⟩
      · rw [u10 4 (by omega) (by omega), i16, i14]; exact a2
      · exact F16.1.tr u1 (fun q _ hq => Or.inr (Or.inr (Or.inr (Or.inr (Or.inr (Or.inr (Or.inr (Or.inr hq))))))))
      · rw [u5] at hq; exact F16.2.2.1 q hq
      · rw [u10 9 (by omega) (by omega)]; exact F16.2.2.2.2.1
      · rw [u10 1 (by omega) (by omega)]; exact F16.2.2.2.2.2
      · have m1 := hmono 12 4
        have m2 := hmono 64 12
        have hz2 : gz υ := fun a ha => by rw [u6]; exact b2'.1 a (by rw [← u3]; exact ha)
        have b3 : MB G R υ (hX lim tb cx) K' w' (n + fC (ssZ (ss.drop (k + 1)) + u0) (z + stB st)) (s + fS (ssZ (ss.drop (k + 1)) + u0) (z + stB st)) := ⟨hz2, b2'.2.1.mv (fun a ha => ⟨u6 a, (u1 a (b2'.2.1.tg ha) (fun q => nM (by rw [← q]; exact ha))).2.1, u7 a⟩) (fun j _ => u5 _ _), b2'.2.2.1, ⟨by have := b2'.2.2.2.1; rw [u3]; exact this, by have := b2'.2.2.2.2; rw [u4]; exact this⟩⟩
        exact b3.le (Nat.add_le_add_left m1 n) (Nat.add_le_add_left m2 s)
end PHR4
