/-! THE HOUSE OVER S, M (9): what is told with a type -/
section MHI
variable {P : MPl} {s0 : State} {l : Launch} {XX : Prop} {lev : Nat} {Q : Outcome → MSt → Prop} {st st' st'' st0 : MSt} {X : SX} {J : JX} {K K' : KS} {nd nd' ce ce' wa x y lo hi ns ch z o nn nd0 p nk a1 a2 b1 b2 n1 n2 : Nat} {c c' : MC} {t : TX} {tb : HT} {cx : List CN} {x1 x2 : Int32} {bs : List Nat} {kn kn' : Nat → Nat} {cn : CN} {E : Nat → Prop} {TN : Nat → List Nat} {v vt u : V}
/-- the type: judged, its normal form -/
theorem m_t62 (hl : 545 ≤ lev) (hrt : mR TN st vt [] n1 a1 a2 none) (h79 : fI st 79 = iI (n1 : Int)) (hgt : rG vt 0 0 100) (hDt : rD vt ≤ 40) (hb : nd0 ≤ a1 ∧ nd0 ≤ c.nd ∧ a2 ≤ c.nd ∧ a1 ≤ a2) (hI : ∀ j, a1 ≤ j → j < a2 → E j) (hE : ∀ j, E j → 8 ≤ j ∧ j < c.nd) (h : JM 0 0 E c ce st X J TN [] [] 0 0) (hz : ∀ k, k < c.nc → sw (J.ct k) ≤ z) (hJ : MJ st X K c.nd ce 0) (hK : MK X K c.nd ce 0 x) (hx : 202 ≤ x) (hx2 : x + rN vt ≤ 29000) (hy : 203 ≤ y) (hy2 : c.nd + 2 * (60000 - K.life) + (y + rN vt) ≤ 140000) (h59 : fI st 59 = iI ((0 : Nat) : Int)) (hN : rN vt ≤ 4000) (hO : OB K o)
    (ok : ∀ st' K' nd' ce' nt so n, hNorm X J vt K = (K', .ok (nt, so)) → K.life ≤ K'.life → mjf a1 a2 c.nd ce 0 0 st st' → c.nd ≤ nd' → MJ st' X K' nd' ce' 0 → MK X K' nd' ce' 0 (x + rN vt) → nd' + 2 * (60000 - K'.life) + y ≤ 140000 → fI st' 59 = iI ((0 : Nat) : Int) → JM 0 0 (cutE E a1 a2) (nd', c.2) ce' st' X J TN [] [] 0 0 → (∀ E' : Nat → Prop, (∀ j, E' j → 8 ≤ j ∧ j < c.nd) → ∀ st'', ag E' nd' ce' st' st'' → mT (nd', c.2) st'' nt [] n none) → gT nt false [] → so < c.ns → OB K' o → jX5_told_108 P s0 l XX lev st0 Q (iI ((so : Nat) : Int)) (iI ((n : Nat) : Int)) st')
    (er : ∀ st' K' e p', hNorm X J vt K = (K', .error (e, p')) → K.life ≤ K'.life → dfr nd0 st st' → MZj st' X K' e p' → OB K' o → Q (.returned none) st') : jX5_told_62 P s0 l XX lev st0 Q st := by
  obtain ⟨l', rfl⟩ : ∃ l', lev = l' + 1 := ⟨lev - 1, by omega⟩
  have h14 : c.nd ≤ 140000 := hK.2.1
  have n1b : a1 ≤ n1 ∧ n1 < a2 := mR_lt hrt
  refine tX5_told_62 ⟨fun _ => ⟨fun q => ?_, fun _ => ?_⟩, fun q => absurd hJ.2.2.2.1 q⟩
  · rw [h79, iI_z, iI_lt (by omega) (by omega) (by omega) (by omega)] at q; omega
  · rw [h79]
    refine m_jsort (P := P) (s0 := s0) (l := l) (XX := XX) (X := X) (J := J) (TN := TN) (n := 100) (bl := []) (sc := []) (q := 0) (lo := a1) (hi := a2) (E := E) (y := y) (z := z) (ns := 0) (ch := 0) (x := x) (c := c) (m_judge 100 l' (by omega)) (by omega) hrt hgt hI hE h.lh trivial hz (by show 0 + 100 ≤ 300; omega) hJ hK hx (by omega) (by omega) (by omega) h59 (by omega) (by omega) (fun t1 K1 nd1 ce1 u so e1 e2 e3 e4 e5 e6 e7 e8 e9 e10 e11 e12 e13 => ⟨fun _ => ?_, fun q => absurd e7.2.2.2.1 q⟩) (fun t1 K1 e p e1 e2 e3 e4 => ⟨fun q => absurd q e4.ne, fun _ => ?_⟩)
    · have f79 : fI t1 79 = iI (n1 : Int) := (e4.1 79 (by omega)).trans h79
      have o1 : OB K1 o := (kO_ts (kO_judge _ _ _ _ rfl)).ob e1 e3 hO
      have hJ1 : JM a1 a2 (cutE E a1 a2) (nd1, c.2) ce1 t1 X J TN [] [] 0 0 := (h.lh (lo' := a1) (hi' := a2)).mv (c' := (nd1, c.2)) e4 e10 (Nat.le_refl _) (Nat.le_refl _) hI (fun j q => q.1) e5 rfl e6 (Nat.le_refl _) (Nat.le_refl _) e8.2.1 e7.2.2.2.2.1
      have hC1 : mC (nd1, c.2) ce1 (Msc [] []) t1 (vClo u .nil) n1 0 := hJ1.C (e12 t1 ag.rf)
      rw [f79]
      refine m_jnorm (c := (nd1, c.2)) (x := x + rN vt) (y := y) (by omega) hJ1 hC1 ⟨u, .nil, rfl, gT_up _ _ _ e13, trivial⟩ (by show 0 ≤ 300; omega) e7 e8 (by omega) (by omega) (by omega) (by show nd1 + _ + _ ≤ _; omega) (fun t2 K2 nd2 ce2 nt n g1 g2 g3 g4 g5 g6 g7 g8 g9 g10 => ?_) (fun t2 K2 e r g1 g2 g3 g4 => ?_)
      · have g4' : nd1 ≤ nd2 := g4
        have o2 : OB K2 o := ((kO_norm _ _ _ _ rfl).j).ob g1 g2 o1
        have hJ2 : JM 0 0 (cutE E a1 a2) (nd2, c.2) ce2 t2 X J TN [] [] 0 0 := (hJ1.mf (c := (nd1, c.2)) g3 g4 g5 g7.2.1 g6.2.2.2.2.1 hb.2.2.2).lh
        have h59' : fI t2 59 = iI ((0 : Nat) : Int) := (g3.1 59 (by omega)).trans (e11.trans h59)
        have eN : hNorm X J vt K = (K2, .ok (nt, so)) := by
          unfold hNorm
          rw [e1]
          show jBind (jNormal X u [] K1) _ = _
          unfold jNormal
          rw [show jOf (sNorm X 100 (List.length ([] : SC)) (vClo u (scEnv [])) K1) = (K2, .ok nt) from g1]
          rfl
        refine onI_ret (ok t2 K2 nd2 ce2 nt so n eN (by omega) (e4.tr (g3.toJ (lo := a1) (hi := a2) (ns := 0) (ch := 0)) (Nat.le_refl _) (Nat.le_refl _) (Nat.le_refl _) (Nat.le_refl _) e5 e6 (Nat.le_refl _) (Nat.le_refl _)) (by omega) g6 g7 (by omega) h59' hJ2 (fun E' hE' => g9 E' (fun j q => ⟨(hE' j q).1, by have := (hE' j q).2; show j < nd1; omega⟩)) g10 e2 o2)
      · refine onI_ret (tX5_told_108 ⟨fun q => absurd q g4.ne, fun _ => tX5_told_175 ⟨fun q => absurd q g4.ne, fun _ => er t2 K2 e (-1) ?_ (by omega) ((e4.d hb.1 hb.2.1).tr (g3.d (by show nd0 ≤ nd1; omega))) g4 (((kO_norm _ _ _ _ rfl).j).ob g1 g2 o1)⟩⟩)
        unfold hNorm
        rw [e1]
        show jBind (jNormal X u [] K1) _ = _
        unfold jNormal
        rw [show jOf (sNorm X 100 (List.length ([] : SC)) (vClo u (scEnv [])) K1) = (K2, .error (e, -1)) from g1]
        rfl
    · refine tX5_told_108 ⟨fun q => absurd q e4.ne, fun _ => tX5_told_175 ⟨fun q => absurd q e4.ne, fun _ => er t1 K1 e p ?_ e2 (e3.d hb.1 hb.2.1) e4 ((kO_ts (kO_judge _ _ _ _ rfl)).ob e1 e2 hO)⟩⟩
      unfold hNorm
      rw [e1]
      rfl
/-- a type is put down -/
theorem m_becomes (hl : 1 ≤ lev) (h79 : fI st 79 = iI (n1 : Int)) (hn1 : n1 < 140000) (h72 : fI st 72 = 0) (ok : jX5_told_196 P s0 l XX lev st0 Q x1 x2 (mput 61 x1 (mput 60 x2 st))) : jX5_told_175 P s0 l XX lev st0 Q x1 x2 st := by
  obtain ⟨l', rfl⟩ : ∃ l', lev = l' + 1 := ⟨lev - 1, by omega⟩
  refine tX5_told_175 ⟨fun _ => ⟨fun q => ?_, fun _ => tX5_becomes (onV_ret ok)⟩, fun q => absurd h72 q⟩
  rw [h79, iI_z, iI_lt (by omega) (by omega) (by omega) (by omega)] at q; omega
theorem MJ.p6 {k : Nat} {w : Int32} (h : MJ st X K nd ce wa) (hk : k = 60 ∨ k = 61) : MJ (mput k w st) X K nd ce wa := by
  obtain ⟨⟨⟨h1, h2, h3, h4⟩, h5, h6⟩, h7, ⟨h8, h9, h10⟩, h11, h12, h13⟩ := h
  have e : ∀ j, j ≠ 60 → j ≠ 61 → fI (mput k w st) j = fI st j := fun j a b => by show (mput k w st).1 j = _; rw [mput_f, if_neg (by omega)]
  exact ⟨⟨⟨(e 63 (by omega) (by omega)).trans h1, (e 64 (by omega) (by omega)).trans h2, (e 65 (by omega) (by omega)).trans h3, fun j hj => (e _ (by omega) (by omega)).trans (h4 j hj)⟩, (e 75 (by omega) (by omega)).trans h5, h6⟩, (e 57 (by omega) (by omega)).trans h7, ⟨(e 39 (by omega) (by omega)).trans h8, (e 48 (by omega) (by omega)).trans h9, (e 51 (by omega) (by omega)).trans h10⟩, (e 72 (by omega) (by omega)).trans h11, h12, h13⟩
theorem mTb.p6 {k : Nat} {w : Int32} (h : mTb c st X J TN) (hk : k = 60 ∨ k = 61) : mTb c (mput k w st) X J TN := by
  obtain ⟨⟨h1, h2, h3⟩, h4⟩ := h
  exact ⟨⟨by show (mput k w st).1 15 = _; rw [mput_f, if_neg (by omega)]; exact h1, by show (mput k w st).1 20 = _; rw [mput_f, if_neg (by omega)]; exact h2, by show (mput k w st).1 27 = _; rw [mput_f, if_neg (by omega)]; exact h3⟩, h4⟩
/-- the type and its sort are put down, the name is kept -/
theorem m_keep2 {ty : V} {so : Nat} {va : Option V} {tn : Nat} (hl : 1 ≤ lev) (h79 : fI st 79 = iI (n1 : Int)) (hn1 : n1 < 140000) (hn : nn < 140000) (hp : p < 4000) (h80 : fI st 80 = iI (nn : Int)) (e31 : st.2 31 nn = iI (p : Int)) (e32 : st.2 32 nn = iI ((TN p).length : Int)) (hb : mTb c st X J TN) (hnk : c.nc < 100) (hJ : MJ st X K c.nd ce 0) (hnd : 8 ≤ c.nd ∧ c.nd ≤ 140000)
    (hty : mT c st ty [] tn none) (hg : so < 8 ∧ gT ty true []) (hv0 : va = none → fI st 78 = iI (-1)) (hv1 : ∀ v, va = some v → gT v false [] ∧ ∃ n : Nat, fI st 78 = iI (n : Int) ∧ mT c st v [] n none) (hd : dfr nd0 st0 st)
    (ok : ∀ st', tofr nd0 c.nc st0 st' → fI st' 27 = iI ((c.nc + 1 : Nat) : Int) → fI st' 62 = iI (c.nd : Int) → mEn st' c.ns c.nc (TN p, ty, (so : Int), va) c.nd → MJ st' X K c.nd ce 0 → Q (.returned none) st') : jX5_told_175 P s0 l XX lev st'' Q (iI (so : Int)) (iI (tn : Int)) st := by
  refine m_becomes hl h79 hn1 hJ.2.2.2.1 ?_
  have f : ∀ j, j ≠ 60 → j ≠ 61 → fI (mput 61 (iI (so : Int)) (mput 60 (iI (tn : Int)) st)) j = fI st j := fun j a b => by show (mput 61 (iI (so : Int)) (mput 60 (iI (tn : Int)) st)).1 j = _; rw [mput_f, if_neg b, mput_f, if_neg a]
  have d2 : dfr nd0 st0 (mput 61 (iI (so : Int)) (mput 60 (iI (tn : Int)) st)) := (hd.tr (dfr.put (by omega))).tr (dfr.put (by omega))
  refine m_keep (c := c) (ty := ty) (so := (so : Int)) (va := va) (tn := tn) hn hp ((f 80 (by omega) (by omega)).trans h80) e31 e32 ((hb.p6 (by omega)).p6 (by omega)) hnk ((hJ.p6 (by omega)).p6 (by omega)) hnd (by show (mput 61 _ (mput 60 _ st)).1 60 = _; rw [mput_f, if_neg (by omega), mput_f, if_pos rfl]) (by show (mput 61 _ (mput 60 _ st)).1 61 = _; rw [mput_f, if_pos rfl]) ?_ ⟨by omega, by omega, hg.2⟩ (fun q => (f 78 (by omega) (by omega)).trans (hv0 q)) (fun v q => ?_) (fun st' i1 i2 i3 i4 i5 => ok st' (d2.k i1) i2 i3 i4 i5)
  · exact mT_mv (c := c) (st := st) (st' := mput 61 (iI (so : Int)) (mput 60 (iI (tn : Int)) st)) ⟨Nat.le_refl _, Nat.le_refl _, Nat.le_refl _, fun _ _ _ _ _ => rfl⟩ _ _ _ _ hty
  · obtain ⟨g1, n, g2, g3⟩ := hv1 v q
    exact ⟨g1, n, (f 78 (by omega) (by omega)).trans g2, mT_mv (c := c) (st := st) (st' := mput 61 (iI (so : Int)) (mput 60 (iI (tn : Int)) st)) ⟨Nat.le_refl _, Nat.le_refl _, Nat.le_refl _, fun _ _ _ _ _ => rfl⟩ _ _ _ _ g3⟩
end MHI
