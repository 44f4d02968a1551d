/-! THE HOUSE OVER S, P (11): tables (2) -/
section PHTC
variable {G : GPl} {s0 : State} {l : Launch} {KK : Nat → Option Nat} {T : Nat → Nat} {lev : Nat} {Q : Outcome → GSt → Prop} {R : Nat → Nat} {σ τ υ st0 ρ : GSt} {X : SX} {J : JX} {K K' : KS} {w n s o z m Z Yc Ys a y kd lim lo pl nn : Nat} {c c' : PC} {L L' : Nat → Nat → Prop} {W I I' I1 I2 D : Nat → Prop} {TN : Nat → List Nat} {sc : SC} {x : Option Nat} {t : TX} {ty tm : Option V} {v u : V} {tb tb' : HT} {cx : List CN} {ns : List Nat}
theorem hTab_late {s : ST} (h : cx.length ≠ 0) : hTab t tb cx s = .error (6, (s.2.1 : Int)) := by unfold hTab; rw [if_pos h]
/-- what all three have in common -/
theorem JB_bw {tb' : HT} (h : JB R c nilL σ (hX lim tb cx) (hJ t tb cx) [] none) (hc : c.nc = cx.length ∧ c.ns = tb.1.length) (h0 : cx.length = 0) (hk : keep (fun q => q = R 1 ∨ q = R 6 ∨ q = R 7 ∨ q = R 8) σ τ) (hl : gle σ τ)
    (g1 : ∀ j, gr τ (R 1) j = gr σ (R 1) j) (h1 : gi τ (R 1) 3 = iI (tb'.1.length : Int)) (h2 : gl τ (R 6) = gl σ (R 6) ∧ gl τ (R 7) = gl σ (R 7) ∧ gl τ (R 8) = gl σ (R 8))
    (hax : ∀ k, k < 8 → gi τ (R 6) k = iI (tb'.2.1 k) ∧ -1 ≤ tb'.2.1 k ∧ tb'.2.1 k < tb'.1.length) (hru : ∀ a b, a < 8 → b < 8 → gi τ (R 7) (8 * a + b) = iI (tb'.2.2 a b) ∧ -1 ≤ tb'.2.2 a b ∧ tb'.2.2 a b < tb'.1.length) (hnm : ∀ i, i < tb'.1.length → ∃ a, gr τ (R 8) i = some a ∧ pS σ (R 5) a (tb'.1.getD i [])) (h8 : tb'.1.length ≤ 8) : JB R (c.E, c.N, 0, tb'.1.length) nilL τ (hX lim tb' cx) (hJ t tb' cx) [] none := by
  have ec : cx = [] := List.length_eq_zero_iff.mp h0
  subst ec
  obtain ⟨⟨a1, a2, a3, a4⟩, ⟨b1, b2, b3⟩, ⟨d1, d2, d3, d4, d5, d6⟩, e1, e2, ⟨f1, f2, f3, z0, f4, f5, f6, f7, f8⟩, -⟩ := h.1
  obtain ⟨-, i2, i3, i4, i5, i6, i7⟩ := h.2.1
  have kp : ∀ q, gk σ q ≠ 0 → gk σ q ≠ 2 → gk σ q ≠ 101 → gk σ q ≠ 104 → gk τ q = gk σ q ∧ (∀ j, gi τ q j = gi σ q j) ∧ (∀ j, gr τ q j = gr σ q j) ∧ gl τ q = gl σ q := fun q w0 w1 w2 w3 => hk q w0 (fun w => by rcases w with rfl | rfl | rfl | rfl <;> omega)
  obtain ⟨r1, r2, r3, r4⟩ := kp (R 3) (by omega) (by omega) (by omega) (by omega)
  obtain ⟨t1, t2, t3, t4⟩ := kp (R 9) (by omega) (by omega) (by omega) (by omega)
  obtain ⟨u1, u2, u3, u4⟩ := kp z0 (by omega) (by omega) (by omega) (by omega)
  refine JB_tb ⟨d5, d6⟩ ⟨r1.trans a1, by rw [r3]; exact a2, by rw [r3]; exact a3, by rw [r3]; exact a4⟩ ⟨hl.tag i2 (by omega), by rw [g1]; exact i3, by rw [g1]; exact b1, by rw [g1]; exact b2, h1⟩ ⟨hl.tag d1 (by omega), by rw [h2.1]; exact d2, hl.tag d3 (by omega), by rw [h2.2.1]; exact d4, hl.tag i4 (by omega), by rw [h2.2.2]; exact i5⟩ hax hru (fun i hi => ?_) h8 ⟨t1.trans f1, f2, by rw [t2, f3, hc.1]; rfl, z0, by rw [t3]; exact f4, u1.trans f5, f6⟩ (fun q hq => ?_)
  · obtain ⟨a, q1, q2⟩ := hnm i hi
    exact ⟨a, q1, q2.kpW hk (fun q w => by rcases w with rfl | rfl | rfl | rfl <;> exact ⟨by omega, fun w => by omega⟩)⟩
  · have h3 := h.2.2.2.2.2 q hq
    rw [hl.2 q (tmt_ne h3).1]
    exact h3
theorem c_table {s1 : ST} (hl : 8 ≤ lev) (hKJ : KJ KK) (hh : hcl R σ) (h1 : pS1 KK R t lo σ y s1.1 s1.2.1 s1.2.2.1) (hg : stGd s1) (hk2 : s1.1 ≤ 2) (h : JB R c nilL σ (hX lim tb cx) (hJ t tb cx) [] none) (hc : c.nc = cx.length ∧ c.ns = tb.1.length) (hC : CxR KK R σ c.nc) (hm : MB G R σ X K 0 (n + 1) (s + 8))
    (ok : ∀ τ tb', hTab t tb cx s1 = .ok tb' → cx.length = 0 → bfr R σ τ → JB R (c.E, c.N, 0, tb'.1.length) nilL τ (hX lim tb' cx) (hJ t tb' cx) [] none → CxR KK R τ 0 → MB G R τ X K 0 n s → Q (.returned none) τ)
    (er : ∀ x τ (e : Nat) p, hTab t tb cx s1 = .error (e, p) → flt τ x (e : Int) p → keep nil0 σ τ → gle σ τ → MB G R τ X K 0 n s → Q (.threw x) τ) : CQ (wP G s0 l KK T) mX1_table lev (.ref (R 0) :: [va_rf (some y)]) σ Q := by
  obtain ⟨l', rfl⟩ : ∃ l', lev = l' + 2 := ⟨lev - 2, by omega⟩
  have h1' := h1
  obtain ⟨a1, a2, a3, a4, nm, ps, a5, a6, a7, a8, a9, a10, a11, a12, a13⟩ := h1
  obtain ⟨⟨j1, j2, j3, j4⟩, ⟨b1, b2, b3⟩, ⟨d1, d2, d3, d4, d5, d6⟩, e1, e2, ⟨f1, f2, f3, z0, f4, f5, f6, f7, f8⟩, -⟩ := h.1
  obtain ⟨-, i2, i3, i4, i5, i6, i7⟩ := h.2.1
  have hz := hm.1
  have hnc : c.nc ≤ 100 := h.2.2.1.2.2.2
  refine tX1_table ⟨hh.1, R 3, hh.2.2.2, j1, R 9, j4, f1, tJ2_size ⟨f1, fun _ => ⟨fun e => ?_, fun e => ?_⟩⟩⟩
  · rw [f3, iI_z, iI_le (by omega) (by omega) (by omega) (by omega)] at e
    have n0 : cx.length = 0 := by omega
    have c0 : c.nc = 0 := by omega
    rw [c0] at hC
    have hT : ¬ cx.length ≠ 0 := fun q => q n0
    have r78 : R 7 ≠ R 6 := fun q => by rw [q, d2] at d4; omega
    have r16 : R 1 ≠ R 6 := fun q => by rw [q] at i2; omega
    have r17 : R 1 ≠ R 7 := fun q => by rw [q] at i2; omega
    have CxK : ∀ {τ : GSt}, keep (fun q => q = R 1 ∨ q = R 6 ∨ q = R 7 ∨ q = R 8) σ τ → CxR KK R τ 0 := fun {τ} hk => by
      obtain ⟨z, w1, w2, w3, w4⟩ := hC
      obtain ⟨t1, t2, t3, t4⟩ := hk (R 9) (by omega) (fun w => by rcases w with w | w | w | w <;> (rw [w] at f1; omega))
      obtain ⟨u1, u2, u3, u4⟩ := hk z (by omega) (fun w => by rcases w with w | w | w | w <;> (rw [w] at w2; omega))
      exact ⟨z, by rw [t3]; exact w1, u1.trans w2, fun q => by rw [u3]; exact w3 q, by rw [u4]; exact w4⟩
    refine ⟨y, rfl, a1, fun k6 => ?_, fun k6 => ?_⟩
    · -- a sort
      have k0 : s1.1 = 0 := hKJ _ _ (by omega) (by omega) (a2.symm.trans k6)
      obtain ⟨⟨-, px, hns⟩ | hx, -, -⟩ := hg
      rotate_left
      · rcases hx with hx | hx | hx | hx | hx <;> (exfalso; have := hx.1; omega)
      rw [hns] at a13 h1'
      obtain ⟨a14, sa, a15, a16⟩ := a13 0 px rfl
      have in0 : inr (iI 0) (gl σ nm) := by rw [a7]; exact iI_in (a := 0) (by omega) (by omega)
      have ix0 : ix (iI 0) = 0 := rfl
      have eT : hTab t tb cx s1 = match hSo tb (tname t px) with
          | some _ => .error (4, (px : Int))
          | none => if tb.1.length = 8 then .error (5, (px : Int)) else .ok (tb.1 ++ [tname t px], tb.2) := by
        obtain ⟨s11, s12, s13, s14⟩ := s1
        cases k0; cases hns
        unfold hTab
        rw [if_neg hT]
        rfl
      have e : firstN (hX lim tb cx).sn (tname t px) c.ns 0 = hSo tb (tname t px) := by rw [hc.2]; rfl
      refine ⟨nm, a5, a6, in0, R 1, hh.2.1, i2, ?_⟩
      rw [ix0, a15]
      refine c_tfind (by omega) h.1 h.2.1 a16 (fun _ => ?_)
      rw [e]
      cases hq : hSo tb (tname t px) with
      | some k =>
        rw [hq] at eT e
        have hk := firstN_lt e
        refine ⟨fun q => ?_, fun _ => ?_⟩
        · rw [iI_eq (by omega) (by omega) (by omega) (by omega)] at q
          omega
        · exact c_pfl (lev := l' + 1) (i := 0) (e := 4) (by omega) h1' rfl (by omega) hm (fun x τ t1 t2 t3 t4 => er x τ 4 px eT t1 t2 t3 t4)
      | none =>
        rw [hq] at eT
        dsimp only at eT
        refine ⟨fun _ => ⟨R 1, hh.2.1, i2, fun q => ?_, fun q => ⟨nm, a5, a6, in0, ?_⟩⟩, fun q => absurd rfl q⟩
        · rw [b3, iI_eq (by omega) (by omega) (by omega) (by omega)] at q
          rw [if_pos (by omega)] at eT
          exact c_pfl (lev := l' + 1) (i := 0) (e := 5) (by omega) h1' rfl (by omega) hm (fun x τ t1 t2 t3 t4 => er x τ 5 px eT t1 t2 t3 t4)
        · have hlt : tb.1.length < 8 := by
            rcases Nat.lt_or_ge tb.1.length 8 with w | w
            · exact w
            · exfalso; apply q; rw [b3, show c.ns = 8 by omega]; rfl
          rw [if_neg (by omega)] at eT
          rw [a15]
          refine tX2_add ⟨i2, R 8, i3, i4, by rw [b3, i5]; exact iI_in (by omega) (by omega), st_str a16.1, fun _ => ?_⟩
          have g18 : ∀ j, gi (gpr (R 8) (ix (gi σ (R 1) 3)) (some sa) σ) (R 1) j = gi σ (R 1) j := fun j => rfl
          rw [g18, b3, iI_ix (by omega), iI_suc]
          have kk : keep (fun q => q = R 1 ∨ q = R 6 ∨ q = R 7 ∨ q = R 8) σ (gpi (R 1) 3 (iI ((c.ns + 1 : Nat) : Int)) (gpr (R 8) c.ns (some sa) σ)) := ((keep.rf (W := fun q => q = R 1 ∨ q = R 6 ∨ q = R 7 ∨ q = R 8)).pr (fun _ => Or.inr (Or.inr (Or.inr rfl)))).pi (fun _ => Or.inl rfl)
          have el : (tb.1 ++ [tname t px]).length = c.ns + 1 := by rw [List.length_append, hc.2]; rfl
          have h18 : R 1 ≠ R 8 := fun q => by rw [q] at i2; omega
          refine ok _ _ eT n0 ⟨kk, gle.rf⟩ (JB_bw (tb' := (tb.1 ++ [tname t px], tb.2)) h hc n0 kk gle.rf (fun j => ?_) ?_ ⟨rfl, rfl, rfl⟩ (fun k hk => ?_) (fun a b ha hb => ?_) (fun i hi => ?_) (by show (tb.1 ++ [tname t px]).length ≤ 8; omega)) (CxK kk) ((hm.bw h kk hz rfl rfl).le (by omega) (by omega))
          · rw [gr_pi, gr_pr, if_neg (fun q => h18 q.1)]
          · rw [gi_pi, if_pos ⟨rfl, rfl⟩, el]
          · rw [gi_pi, if_neg (fun q => r16 q.1.symm), gi_pr]
            obtain ⟨w1, w2, w3⟩ := e1 k hk
            exact ⟨w1, w2, by show _ < (((tb.1 ++ [tname t px]).length : Nat) : Int); rw [el]; exact Int.lt_trans w3 (by omega)⟩
          · rw [gi_pi, if_neg (fun q => r17 q.1.symm), gi_pr]
            obtain ⟨w1, w2, w3⟩ := e2 a b ha hb
            exact ⟨w1, w2, by show _ < (((tb.1 ++ [tname t px]).length : Nat) : Int); rw [el]; exact Int.lt_trans w3 (by omega)⟩
          · have hi' : i < c.ns + 1 := by rw [← el]; exact hi
            show ∃ a, gr (gpi _ _ _ (gpr (R 8) c.ns (some sa) σ)) (R 8) i = some a ∧ pS σ (R 5) a ((tb.1 ++ [tname t px]).getD i [])
            rw [gr_pi, gr_pr]
            by_cases hin : i = c.ns
            · subst hin
              refine ⟨sa, by rw [if_pos ⟨rfl, rfl⟩], ?_⟩
              rw [List.getD_eq_getElem?_getD, List.getElem?_append_right (by omega), show c.ns - tb.1.length = 0 by omega]
              exact a16
            · obtain ⟨a, w1, w2⟩ := i7 i (by omega)
              refine ⟨a, by rw [if_neg (fun q => hin q.2)]; exact w1, ?_⟩
              rw [List.getD_eq_getElem?_getD, List.getElem?_append_left (by omega), ← List.getD_eq_getElem?_getD]
              exact w2
    · have k0 : s1.1 ≠ 0 := fun q => k6 (by rw [a2, q])
      have hn2 : (s1.1 = 1 ∧ ∃ x y, s1.2.2.1 = [x, y]) ∨ (s1.1 = 2 ∧ ∃ x y z, s1.2.2.1 = [x, y, z]) := by
        rcases hg.1 with q | q | q | q | q | q
        · exact absurd q.1 k0
        · exact Or.inl q
        · exact Or.inr q
        · exfalso; have := q.1; omega
        · exfalso; have := q.1; omega
        · exfalso; have := q.1; omega
      obtain ⟨px, py, rest, hns, hr⟩ : ∃ px py rest, s1.2.2.1 = px :: py :: rest ∧ ((s1.1 = 1 ∧ rest = []) ∨ (s1.1 = 2 ∧ ∃ pz, rest = [pz])) := by
        rcases hn2 with ⟨q, x, y, e⟩ | ⟨q, x, y, z, e⟩
        · exact ⟨x, y, [], e, Or.inl ⟨q, rfl⟩⟩
        · exact ⟨x, y, [z], e, Or.inr ⟨q, z, rfl⟩⟩
      rw [hns] at a13 h1'
      have eT : hTab t tb cx s1 = match hSo tb (tname t px) with
          | none => .error (3, (px : Int))
          | some a => match hSo tb (tname t py) with
            | none => .error (3, (py : Int))
            | some b => (match rest with
              | [] => if tb.2.1 a = -1 then .ok (tb.1, (fun k => if k = a then (b : Int) else tb.2.1 k), tb.2.2) else .error (4, (px : Int))
              | pz :: _ => match hSo tb (tname t pz) with
                | none => .error (3, (pz : Int))
                | some c => if tb.2.2 a b = -1 then .ok (tb.1, tb.2.1, fun i j => if i = a ∧ j = b then (c : Int) else tb.2.2 i j) else .error (4, (px : Int))) := by
        obtain ⟨s11, s12, s13, s14⟩ := s1
        rcases hr with ⟨q, rfl⟩ | ⟨q, pz, rfl⟩ <;> (cases q; cases hns; unfold hTab; rw [if_neg hT]; rfl)
      refine c_sortAt (i := 0) (p := px) (by omega) hh h1' rfl (by omega) h hc.2 hm (fun ka q1 ha => fun _ => ?_) (fun x τ q1 t1 t2 t3 t4 => fun _ => er x τ 3 px (by rw [eT, q1]) t1 t2 t3 t4)
      refine c_sortAt (i := 1) (p := py) (by omega) hh h1' rfl (by omega) h hc.2 hm (fun kb q2 hb => fun _ => ?_) (fun x τ q2 t1 t2 t3 t4 => fun _ => er x τ 3 py (by rw [eT, q1]; dsimp only; rw [q2]) t1 t2 t3 t4)
      have ka8 : ka < 8 := by omega
      have kb8 : kb < 8 := by omega
      rw [q1] at eT
      dsimp only at eT
      rw [q2] at eT
      dsimp only at eT
      refine ⟨fun k7 => ?_, fun k7 => ?_⟩
      · have k1 : s1.1 = 1 := hKJ _ _ (by omega) (by omega) (a2.symm.trans k7)
        obtain ⟨-, rfl⟩ : s1.1 = 1 ∧ rest = [] := by rcases hr with q | q; exact q; exfalso; have := q.1; omega
        dsimp only at eT
        obtain ⟨w1, w2, w3⟩ := e1 ka ka8
        refine ⟨R 1, hh.2.1, i2, R 6, b1, d1, by rw [d2]; exact iI_in ka8 (by omega), fun q => ⟨by rw [d2]; exact iI_in ka8 (by omega), ?_⟩, fun q => ?_⟩
        · rw [iI_ix (by omega), w1, iI_eq (by omega) (by omega) (by omega) (by omega)] at q
          have q' : tb.2.1 ka = -1 := q
          rw [if_pos q'] at eT
          rw [iI_ix (by omega)]
          have kk : keep (fun q => q = R 1 ∨ q = R 6 ∨ q = R 7 ∨ q = R 8) σ (gpi (R 6) ka (iI (kb : Int)) σ) := (keep.rf (W := fun q => q = R 1 ∨ q = R 6 ∨ q = R 7 ∨ q = R 8)).pi (fun _ => Or.inr (Or.inl rfl))
          refine ok _ _ eT n0 ⟨kk, gle.rf⟩ (JB_bw (tb' := (tb.1, (fun k => if k = ka then (kb : Int) else tb.2.1 k), tb.2.2)) h hc n0 kk gle.rf (fun j => rfl) ?_ ⟨rfl, rfl, rfl⟩ (fun k hk => ?_) (fun a b ha hb => ?_) (fun i hi => ?_) (by show tb.1.length ≤ 8; omega)) (CxK kk) ((hm.bw h kk hz rfl rfl).le (by omega) (by omega))
          · show gi _ (R 1) 3 = iI (tb.1.length : Int)
            rw [gi_pi, if_neg (fun q => r16 q.1), b3, hc.2]
          · show gi _ (R 6) k = iI (if k = ka then (kb : Int) else tb.2.1 k) ∧ -1 ≤ (if k = ka then (kb : Int) else tb.2.1 k) ∧ (if k = ka then (kb : Int) else tb.2.1 k) < (tb.1.length : Int)
            rw [gi_pi]
            by_cases hka : k = ka
            · subst hka; rw [if_pos ⟨rfl, rfl⟩, if_pos rfl]; exact ⟨rfl, by omega, by omega⟩
            · obtain ⟨v1, v2, v3⟩ := e1 k hk
              rw [if_neg (fun q => hka q.2), if_neg hka, ← hc.2]; exact ⟨v1, v2, v3⟩
          · rw [gi_pi, if_neg (fun q => r78 q.1)]
            obtain ⟨v1, v2, v3⟩ := e2 a b ha hb
            exact ⟨v1, v2, by show _ < (tb.1.length : Int); rw [← hc.2]; exact v3⟩
          · exact i7 i (by rw [hc.2]; exact hi)
        · rw [iI_ix (by omega), w1] at q
          have q' : ¬ tb.2.1 ka = -1 := fun w => q (by show iI (tb.2.1 ka) = _; rw [w])
          rw [if_neg q'] at eT
          exact c_pfl (lev := l' + 1) (i := 0) (e := 4) (by omega) h1' rfl (by omega) hm (fun x τ t1 t2 t3 t4 => er x τ 4 px eT t1 t2 t3 t4)
      · obtain ⟨-, pz, rfl⟩ : s1.1 = 2 ∧ ∃ pz, rest = [pz] := by
          rcases hr with q | q
          · exact absurd (by rw [a2, q.1]) k7
          · exact q
        dsimp only at eT
        refine c_sortAt (i := 2) (p := pz) (by omega) hh h1' rfl (by omega) h hc.2 hm (fun kc q3 hkc => fun _ => ?_) (fun x τ q3 t1 t2 t3 t4 => fun _ => er x τ 3 pz (by rw [eT, q3]) t1 t2 t3 t4)
        rw [q3] at eT
        dsimp only at eT
        obtain ⟨w1, w2, w3⟩ := e2 ka kb ka8 kb8
        have eI : iI 8 * iI (ka : Int) + iI (kb : Int) = iI ((8 * ka + kb : Nat) : Int) := by rw [iI_mul, iI_add]; congr 1
        have in7 : inr (iI 8 * iI (ka : Int) + iI (kb : Int)) (gl σ (R 7)) := by rw [eI, d4]; exact iI_in (by omega) (by omega)
        have ix7 : ix (iI 8 * iI (ka : Int) + iI (kb : Int)) = 8 * ka + kb := by rw [eI, iI_ix (by omega)]
        refine ⟨R 1, hh.2.1, i2, tX2_rule ⟨i2, R 7, b2, d3, in7, fun _ => ⟨fun q => ⟨R 1, hh.2.1, i2, R 7, b2, d3, in7, ?_⟩, fun q => ?_⟩⟩⟩
        · rw [ix7, w1, iI_eq (by omega) (by omega) (by omega) (by omega)] at q
          have q' : tb.2.2 ka kb = -1 := q
          rw [if_pos q'] at eT
          rw [ix7]
          have kk : keep (fun q => q = R 1 ∨ q = R 6 ∨ q = R 7 ∨ q = R 8) σ (gpi (R 7) (8 * ka + kb) (iI (kc : Int)) σ) := (keep.rf (W := fun q => q = R 1 ∨ q = R 6 ∨ q = R 7 ∨ q = R 8)).pi (fun _ => Or.inr (Or.inr (Or.inl rfl)))
          refine ok _ _ eT n0 ⟨kk, gle.rf⟩ (JB_bw (tb' := (tb.1, tb.2.1, fun i j => if i = ka ∧ j = kb then (kc : Int) else tb.2.2 i j)) h hc n0 kk gle.rf (fun j => rfl) ?_ ⟨rfl, rfl, rfl⟩ (fun k hk => ?_) (fun a b ha hb => ?_) (fun i hi => ?_) (by show tb.1.length ≤ 8; omega)) (CxK kk) ((hm.bw h kk hz rfl rfl).le (by omega) (by omega))
          · show gi _ (R 1) 3 = iI (tb.1.length : Int)
            rw [gi_pi, if_neg (fun q => r17 q.1), b3, hc.2]
          · rw [gi_pi, if_neg (fun q => r78 q.1.symm)]
            obtain ⟨v1, v2, v3⟩ := e1 k hk
            exact ⟨v1, v2, by show _ < (tb.1.length : Int); rw [← hc.2]; exact v3⟩
          · show gi _ (R 7) (8 * a + b) = iI (if a = ka ∧ b = kb then (kc : Int) else tb.2.2 a b) ∧ -1 ≤ (if a = ka ∧ b = kb then (kc : Int) else tb.2.2 a b) ∧ (if a = ka ∧ b = kb then (kc : Int) else tb.2.2 a b) < (tb.1.length : Int)
            rw [gi_pi]
            by_cases hab : a = ka ∧ b = kb
            · rw [if_pos ⟨rfl, by omega⟩, if_pos hab]; exact ⟨rfl, by omega, by omega⟩
            · obtain ⟨v1, v2, v3⟩ := e2 a b ha hb
              rw [if_neg (fun q => hab (by omega)), if_neg hab, ← hc.2]; exact ⟨v1, v2, v3⟩
          · exact i7 i (by rw [hc.2]; exact hi)
        · rw [ix7, w1] at q
          have q' : ¬ tb.2.2 ka kb = -1 := fun w => q (by show iI (tb.2.2 ka kb) = _; rw [w])
          rw [if_neg q'] at eT
          exact c_pfl (lev := l' + 1) (i := 0) (e := 4) (by omega) h1' rfl (by omega) hm (fun x τ t1 t2 t3 t4 => er x τ 4 px eT t1 t2 t3 t4)
  · have n0 : cx.length ≠ 0 := fun q => e (by rw [f3, show c.nc = 0 by omega]; decide)
    have k7 : keep nil0 σ (gmk 7 8 σ) := keep.rf.mk hz.at
    obtain ⟨w1, w2, w3, w4⟩ := k7 y (by omega) id
    refine ⟨hm.2.2.2.gr hz, y, rfl, w1.trans a1, ?_⟩
    rw [w2, a3]
    exact c_flt (e := 6) (by omega) hz (fun τ t1 t2 t3 t4 t5 => fun l1 => er _ τ 6 _ (hTab_late n0) t5 t1 ((gle_mk hz).tr l1) (hm.new t1 t2 t3 t4))
end PHTC
