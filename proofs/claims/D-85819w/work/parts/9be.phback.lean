/-! THE HOUSE OVER S, P (27): mark, back -/
section PHBE
variable {G : GPl} {s0 : State} {l : Launch} {KK : Nat → Option Nat} {T : Nat → Nat} {lev : Nat} {Q : Outcome → GSt → Prop} {R : Nat → Nat} {σ τ υ st0 ρ σ0 : GSt} {X : SX} {J : JX} {K K' : KS} {n s m u n' s' u' z w w' k a b : Nat} {x1 x2 : Int32} {H H' : HO} {N : Nat → Nat} {c : PC} {L : Nat → Nat → Prop} {lim : Nat} {tb : HT} {cx : List CN} {t : TX} {E : Nat → Prop}
theorem c_mark (hl : 12 ≤ lev) (h : PH G KK T R σ H (n + 1) (s + 6) u)
    (bad : H.mk.length = 20 → ∀ y τ, gk τ y = 27 → PH G KK T R τ H n s u → Q (.threw y) τ)
    (ok : ∀ τ, H.mk.length < 20 → PH G KK T R τ (oMark H) n s u → Q (.returned (some (.int (iI ((H.mk.length + 1 : Nat) : Int))))) τ) : CQ (wP G s0 l KK T) mX1_mark lev (.ref (R 0) :: []) σ Q := by
  obtain ⟨l', rfl⟩ : ∃ l', lev = l' + 2 := ⟨lev - 2, by omega⟩
  have h0 := h
  obtain ⟨a1, ⟨⟨p1, p2⟩, ⟨f3, f4, f5, f6, f7⟩, -, ⟨i1, i2, i3, i4, i5⟩⟩, t1, N, z, w, b1, b2, b3, b4, b5⟩ := h0
  obtain ⟨g1, g2, g3, -⟩ := b1.1.2.2.2.2.2.1
  have j1 := b1.1.1
  have c1 := a1.1
  have n011 : R 0 ≠ R 11 := fun q => by rw [q] at c1; omega
  have hc : H.cx.length ≤ 100 := b1.2.2.1.2.2.2
  refine tX1_mark ⟨a1.1, fun q => ?_, fun q => ?_⟩
  · rw [f7, iI_le (by omega) (by omega) (by omega) (by omega)] at q
    exact c_able (b := false) (by omega) h (fun q => by cases q) (fun _ y τ k1 k2 => fun _ => bad (by omega) y τ k1 k2)
  · have hlt : H.mk.length < 20 := by
      rcases Nat.lt_or_ge H.mk.length 20 with w | w
      · exact w
      · exfalso; apply q; rw [f7, iI_le (by omega) (by omega) (by omega) (by omega)]; omega
    refine c_able (b := true) (by omega) h (fun _ => fun _ => ⟨R 3, a1.2.2.2, j1.1, R 9, j1.2.2.2, g1, tJ2_size ⟨g1, fun _ => ⟨R 11, p2, i1, by rw [f7, i2]; exact iI_in hlt (by omega), ?_⟩⟩⟩) (fun q => by cases q)
    have e9 : ∀ v : Int32, gi (gpi (R 11) (ix (gi σ (R 0) 9)) v σ) (R 0) 9 = gi σ (R 0) 9 := fun v => by rw [gi_pi, if_neg (fun q => n011 q.1)]
    have g3' : gi σ (R 9) 2 = iI (H.cx.length : Int) := g3
    rw [e9, gi_pi, if_pos ⟨rfl, rfl⟩, f7, iI_suc, iI_ix (by omega), g3']
    have kk : keep (fun q => q = R 0 ∨ q = R 11) σ (gpi (R 0) 9 (iI ((H.mk.length + 1 : Nat) : Int)) (gpi (R 11) H.mk.length (iI (H.cx.length : Int)) σ)) := ((keep.rf (W := fun q => q = R 0 ∨ q = R 11)).pi (fun _ => Or.inr rfl)).pi (fun _ => Or.inl rfl)
    have el : (oMark H).mk.length = H.mk.length + 1 := by show (H.mk ++ [H.cx.length]).length = _; simp
    refine ok _ hlt ((h.le (by omega) (by omega) (Nat.le_refl _)).fld (H' := oMark H) kk gle.rf b4.1 rfl rfl (fun _ => rfl) rfl rfl ⟨rfl, rfl, rfl, rfl⟩ ⟨?_, ?_, ?_, ?_, ?_⟩ ⟨by omega, fun i p hp => ?_⟩)
    · rw [gi_pi, if_neg (by omega), gi_pi, if_neg (fun q => n011 q.1)]; exact f3
    · rw [gi_pi, if_neg (by omega), gi_pi, if_neg (fun q => n011 q.1)]; exact f4
    · rw [gi_pi, if_neg (by omega), gi_pi, if_neg (fun q => n011 q.1)]; exact f5
    · rw [gi_pi, if_neg (by omega), gi_pi, if_neg (fun q => n011 q.1)]; exact f6
    · rw [gi_pi, if_pos ⟨rfl, rfl⟩, el]
    · rw [gi_pi, if_neg (fun q => n011 q.1.symm), gi_pi]
      replace hp : (H.mk ++ [H.cx.length])[i]? = some p := hp
      by_cases hi : i < H.mk.length
      · rw [List.getElem?_append_left hi] at hp
        rw [if_neg (fun q => by omega)]
        exact i5 i p hp
      · by_cases hi2 : i = H.mk.length
        · subst hi2
          rw [List.getElem?_append_right (Nat.le_refl _), Nat.sub_self] at hp
          cases hp
          rw [if_pos ⟨rfl, rfl⟩]
        · rw [List.getElem?_eq_none (by simp; omega)] at hp; cases hp
/-- the last of a list goes -/
theorem c_rem {al z k : Nat} (hl : 4 ≤ lev) (h1 : gk σ al = 22) (h2 : gr σ al 1 = some z) (h3 : gk σ z = 103) (h4 : gi σ al 2 = iI ((k + 1 : Nat) : Int)) (h5 : k + 1 ≤ gl σ z) (h6 : k < 1000)
    (ok : ∀ τ r, keep (fun q => q = al ∨ q = z) σ τ → gle σ τ → gz σ → gz τ ∧ gn τ = gn σ ∧ gm τ = gm σ ∧ gr τ al 1 = some z ∧ gi τ al 2 = iI (k : Int) ∧ (∀ j, j ≠ k → gr τ z j = gr σ z j) ∧ gr τ z k = none ∧ gl τ z = gl σ z → Q (.returned (some (va_rf r))) τ) (hz : gz σ) : CQ (wP G s0 l KK T) mJ2_remove lev (.ref al :: [.int (iI (k : Int))]) σ Q := by
  obtain ⟨l', rfl⟩ : ∃ l', lev = l' + 3 := ⟨lev - 3, by omega⟩
  have nz : al ≠ z := fun q => by rw [q] at h1; omega
  refine tJ2_remove ⟨h1, tJ19_checkIndex (tJ5_checkIndex ⟨fun q => ?_, fun _ => ⟨fun _ => (fun _ => fun _ => ⟨z, h2, h3, iI_in (by omega) (by omega), ?_⟩), fun q => ?_⟩⟩)⟩
  · rw [iI_z, iI_lt (by omega) (by omega) (by omega) (by omega)] at q; omega
  · rw [h2]
    have e2 : gi (gpi al 0 (gi σ al 0 + iI 1) σ) al 2 - iI 1 = iI (k : Int) := by rw [gi_pi, if_neg (by omega), h4]; exact iI_prd
    refine tJ2_fastRemove ⟨h1, fun _ => ⟨z, rfl, h3, ?_, fun _ => ?_⟩, fun q => ?_⟩
    · rw [e2]; exact iI_in (by show k < gl σ z; omega) (by omega)
    · rw [e2, iI_ix (by omega)]
      refine ok _ _ (((((keep.rf (W := fun q => q = al ∨ q = z)).pi (fun _ => Or.inl rfl))).pi (fun _ => Or.inl rfl)).pr (fun _ => Or.inr rfl)) ⟨⟨Nat.le_refl _, Nat.le_refl _⟩, fun _ _ => rfl⟩ hz ⟨hz, rfl, rfl, ?_, ?_, fun j hj => ?_, ?_, rfl⟩
      · rw [gr_pr, if_neg (fun q => nz q.1)]; exact h2
      · rw [gi_pr, gi_pi, if_pos ⟨rfl, rfl⟩]
      · rw [gr_pr, if_neg (fun q => hj q.2)]; rfl
      · rw [gr_pr, if_pos ⟨rfl, rfl⟩]
    · exfalso; apply q; rw [e2, iI_le (by omega) (by omega) (by omega) (by omega)]; omega
  · rw [h4, iI_lt (by omega) (by omega) (by omega) (by omega)] at q; omega
theorem kB_le {m n : Nat} : ∀ {v : V}, kB m v → m ≤ n → kB n v := by
  intro v
  fun_induction kB m v with
  | case1 k => intro h hn; exact Nat.lt_of_lt_of_le h hn
  | case2 p d b i1 i2 => intro h hn; exact ⟨i1 h.1 hn, i2 h.2 hn⟩
  | case3 p d b i1 i2 => intro h hn; exact ⟨i1 h.1 hn, i2 h.2 hn⟩
  | case4 p t i1 => intro h hn; exact i1 h hn
  | case5 t i1 => intro h hn; rw [kB_snk]; exact i1 h hn
  | case6 x xs i1 i2 => intro h hn; exact ⟨i1 h.1 hn, i2 h.2 hn⟩
  | case7 => intros; unfold kB; split <;> first | trivial | (simp_all)
theorem cAt_take {cx : List CN} {j k : Nat} (h : j < k) : cAt (cx.take k) j = cAt cx j := by
  unfold cAt
  rw [List.getD_eq_getElem?_getD, List.getD_eq_getElem?_getD, List.getElem?_take, if_pos h]
/-- the context becomes shorter -/
theorem JB_take {zc z' k : Nat} (h : JB R ((fun _ => False), N, cx.length, tb.1.length) nilL σ (hX lim tb cx) (hJ t tb cx) [] none) (hB : cxB cx) (hk : k ≤ cx.length) (hC : gr σ (R 9) 1 = some zc ∧ (cx.length = 0 → gr σ zc 0 = none)) (hkp : keep (fun a => a = R 9 ∨ a = zc) σ τ)
    (h1 : gk τ (R 9) = 22) (h2 : gr τ (R 9) 1 = some z') (h3 : gk τ z' = 103) (h4 : gi τ (R 9) 2 = iI (k : Int)) (h5 : ∀ j, j < k → gr τ z' j = gr σ zc j) (h7 : k ≤ gl τ z') : JB R ((fun _ => False), N, (cx.take k).length, tb.1.length) nilL τ (hX lim tb (cx.take k)) (hJ t tb (cx.take k)) [] none := by
  have hJ0 := h.1
  obtain ⟨⟨a1, a2, a3, a4⟩, ⟨b1, b2, b3⟩, ⟨d1, d2, d3, d4, d5, d6⟩, e1, e2, ⟨f1, f2, f3, z0, f4, f5, f6, f7, f8⟩, g1⟩ := h.1
  obtain ⟨i1, i2, i3, i4, i5, i6, i7⟩ := h.2.1
  obtain ⟨p1, p2, p3, p4⟩ := h.2.2.1
  have ez : z0 = zc := by rw [hC.1] at f4; cases f4; rfl
  subst ez
  have el : (cx.take k).length = k := by rw [List.length_take]; omega
  have no : ∀ q, gk σ q ≠ 22 → gk σ q ≠ 103 → ¬ (q = R 9 ∨ q = z0) := fun q w1 w2 w3 => by
    rcases w3 with rfl | rfl
    · exact w1 f1
    · exact w2 f5
  have mvT : ∀ {v : V} {a : Nat} {yy : Bool} {g : List Bool}, pT ((fun _ => False), N, cx.length, tb.1.length) σ v a 0 → gT v yy g → kB k v → pT ((fun _ => False), N, k, tb.1.length) τ v a 0 := fun {v a yy g} w1 w2 w3 =>
    pT_sh (c := ((fun _ => False), N, cx.length, tb.1.length)) _ _ _ (pT_ctx (c' := ((fun _ => False), N, cx.length, tb.1.length)) hJ0 hC hkp (fun _ q => q) (Nat.le_refl _) (Nat.le_refl _) (fun _ _ => rfl) w1 w2) w3
  have kp : ∀ q, gk σ q ≠ 0 → gk σ q ≠ 22 → gk σ q ≠ 103 → gk τ q = gk σ q ∧ (∀ j, gi τ q j = gi σ q j) ∧ (∀ j, gr τ q j = gr σ q j) ∧ gl τ q = gl σ q := fun q w1 w2 w3 => hkp q w1 (no q w2 w3)
  have kS : ∀ {sa : Nat} {bs : List Nat}, pS σ (R 5) sa bs → pS τ (R 5) sa bs := fun {sa bs} w1 => w1.kpW hkp (fun q w => by rcases w with rfl | rfl <;> exact ⟨by omega, fun w => by omega⟩)
  obtain ⟨r1, r2, r3, r4⟩ := kp (R 3) (by omega) (by omega) (by omega)
  obtain ⟨t1, t2, t3, t4⟩ := kp (R 1) (by omega) (by omega) (by omega)
  obtain ⟨u1, u2, u3, u4⟩ := kp (R 6) (by omega) (by omega) (by omega)
  obtain ⟨v1, v2, v3, v4⟩ := kp (R 7) (by omega) (by omega) (by omega)
  obtain ⟨w1, w2, w3, w4⟩ := kp (R 8) (by omega) (by omega) (by omega)
  have kBm : ∀ {v : V} {j : Nat}, kB j v → j ≤ k → kB k v := fun {v j} hv hj => kB_le hv hj
  rw [el]
  refine ⟨⟨⟨r1.trans a1, by rw [r3]; exact a2, by rw [r3]; exact a3, by rw [r3]; exact a4⟩, ⟨by rw [t3]; exact b1, by rw [t3]; exact b2, by rw [t2]; exact b3⟩, ⟨u1.trans d1, by rw [u4]; exact d2, v1.trans d3, by rw [v4]; exact d4, d5, d6⟩, fun k hk => by rw [u2]; exact e1 k hk, fun a b ha hb => by rw [v2]; exact e2 a b ha hb, ⟨h1, id, h4, z', h2, h3, id, h7, fun j hj => ?_⟩, fun j hj => ?_⟩, ⟨fun j hj => ?_, t1.trans i2, by rw [t3]; exact i3, w1.trans i4, by rw [w4]; exact i5, i6, fun i hi => ?_⟩, ⟨fun j hj => ?_, fun i j hi hj hij => p2 i j (Nat.lt_of_lt_of_le hi hk) (Nat.lt_of_lt_of_le hj hk) hij, p3, Nat.le_trans hk p4⟩, trivial, ⟨fun _ _ z => z.elim, fun _ _ _ z => z.elim, fun _ _ _ z => z.elim⟩, fun q hq => hq.elim⟩
  · rw [h5 j hj]; exact f8 j (Nat.lt_of_lt_of_le hj hk)
  · show gk τ (N j) = 21 ∧ gi τ (N j) 2 = iI (cAt (cx.take k) j).so ∧ -1 ≤ (cAt (cx.take k) j).so ∧ (cAt (cx.take k) j).so < 8 ∧ gT (cAt (cx.take k) j).ty true [] ∧ ∃ b, gr τ (N j) 1 = some b ∧ pT _ τ (cAt (cx.take k) j).ty b 0
    rw [cAt_take hj]
    have hj' : j < cx.length := Nat.lt_of_lt_of_le hj hk
    obtain ⟨y1, y2, y3, y4, y5, b, y6, y7⟩ := g1 j hj'
    have y1' : gk σ (N j) = 21 := y1
    obtain ⟨o1, o2, o3, o4⟩ := kp (N j) (by omega) (by omega) (by omega)
    exact ⟨o1.trans y1, by rw [o2]; exact y2, y3, y4, y5, b, by rw [o3]; exact y6, mvT y7 y5 (kBm (hB j hj').1 (Nat.le_of_lt hj))⟩
  · show gk τ (N j) = 21 ∧ ∃ a, gr τ (N j) 0 = some a ∧ pS τ (R 5) a (cAt (cx.take k) j).nm
    rw [cAt_take hj]
    obtain ⟨y1, b, y6, y7⟩ := i1 j (Nat.lt_of_lt_of_le hj hk)
    have y1' : gk σ (N j) = 21 := y1
    obtain ⟨o1, o2, o3, o4⟩ := kp (N j) (by omega) (by omega) (by omega)
    exact ⟨o1.trans y1, b, by rw [o3]; exact y6, kS y7⟩
  · obtain ⟨b, y6, y7⟩ := i7 i hi
    exact ⟨b, by rw [w3]; exact y6, kS y7⟩
  · show gk τ (N j) = 21 ∧ ((cAt (cx.take k) j).va = none → gr τ (N j) 3 = none) ∧ ∀ t, (cAt (cx.take k) j).va = some t → gT t false [] ∧ ∃ b, gr τ (N j) 3 = some b ∧ pT _ τ t b 0
    rw [cAt_take hj]
    have hj' : j < cx.length := Nat.lt_of_lt_of_le hj hk
    obtain ⟨y1, y2, y3⟩ := p1 j hj'
    have y1' : gk σ (N j) = 21 := y1
    obtain ⟨o1, o2, o3, o4⟩ := kp (N j) (by omega) (by omega) (by omega)
    refine ⟨o1.trans y1, fun q => by rw [o3]; exact y2 q, fun t q => ?_⟩
    obtain ⟨q1, b, q2, q3⟩ := y3 t q
    exact ⟨q1, b, by rw [o3]; exact q2, mvT q3 q1 (kBm ((hB j hj').2 t q) (Nat.le_of_lt hj))⟩
end PHBE
