/-! THE HOUSE OVER S, M (3): head, check -/
section MHC
variable {P : MPl} {s0 : State} {l : Launch} {XX : Prop} {lev : Nat} {Q : Outcome → MSt → Prop} {st st' st'' st0 : MSt} {X : SX} {J : JX} {K K' : KS} {nd nd' ce ce' wa x y lo hi ns ch z o nn nd0 a1 a2 b1 b2 n1 n2 : Nat} {c c' : MC} {M M' : Nat → Int → Prop} {E E' : Nat → Prop} {TN : Nat → List Nat} {v u vt : V} {x1 x2 : Int32} {ty : Option V}
theorem m_hbad (hl : 1 ≤ lev) (h : ¬ fI st 72 = 0) (ok : Q (.returned none) (mput 53 x2 (mput 52 x1 st))) : CQ (wM P s0 l XX) mX5_head lev (.ref P.mo :: [.int x1, .int x2]) st Q := by
  obtain ⟨l', rfl⟩ : ∃ l', lev = l' + 1 := ⟨lev - 1, by omega⟩
  exact tX5_head ⟨fun q => absurd q h, fun _ => tX5_head_25 ⟨fun _ => ok, fun q => absurd rfl q⟩⟩
theorem MZj.ph {e : Nat} {p : Int} {w : Int32} {k : Nat} (h : MZj st X K e p) (hk : k = 52 ∨ k = 53) : MZj (mput k w st) X K e p := by
  obtain ⟨⟨⟨h1, h2, h3, h4⟩, h5, h6⟩, h7, h8, h9⟩ := h
  refine ⟨⟨⟨?_, ?_, ?_, fun j hj => ?_⟩, ?_, h6⟩, ?_, ?_, h9⟩
  · show (mput k w st).1 63 = _; rw [mput_f, if_neg (by omega)]; exact h1
  · show (mput k w st).1 64 = _; rw [mput_f, if_neg (by omega)]; exact h2
  · show (mput k w st).1 65 = _; rw [mput_f, if_neg (by omega)]; exact h3
  · show (mput k w st).1 (66 + j) = _; rw [mput_f, if_neg (by omega)]; exact h4 j hj
  · show (mput k w st).1 75 = _; rw [mput_f, if_neg (by omega)]; exact h5
  · show (mput k w st).1 72 = _; rw [mput_f, if_neg (by omega)]; exact h7
  · have e73 : (mput k w st).1 73 = st.1 73 := by rw [mput_f, if_neg (by omega)]
    have e77 : (mput k w st).1 77 = st.1 77 := by rw [mput_f, if_neg (by omega)]
    show (mput k w st).1 73 = (if p = -1 then (mput k w st).1 77 else iI p)
    rw [e73, e77]; exact h8
theorem sNum_w : ∀ (n v : Nat) (K : KS), (sNum n v K).life = K.life ∧ (sNum n v K).work = K.work := by
  intro n
  induction n with
  | zero => intro v K; exact ⟨rfl, rfl⟩
  | succ n ih =>
    intro v K
    unfold sNum
    split
    · exact ih (v / 10) K
    · exact ⟨rfl, rfl⟩
theorem sPuts_w : ∀ {bs : List Nat} {K : KS}, (sPuts bs K).work = K.work := by
  intro bs
  induction bs with
  | nil => intro K; rfl
  | cons b bs ih => intro K; exact ih (K := sPut b K)
theorem sName_b {lm : Bool} {p : Nat} {d b r : V} (h : sBinds u = some (lm, p, d, b, r)) : sName X u K = K := by
  unfold sBinds at h
  split at h
  · rfl
  · rename_i p' d' c' r'
    rcases p' with _ | _ | _ | _ | p' <;> rfl
  · cases h
theorem m_ask6 (hl : 540 ≤ lev) (hr : mR TN st v [] n2 b1 b2 none) (h78 : fI st 78 = iI (n2 : Int)) (hg : rG v 0 0 100) (hD : rD v ≤ 40) (hb : nd0 ≤ b1 ∧ nd0 ≤ c.nd) (hI : ∀ j, b1 ≤ j → j < b2 → E j) (hE : ∀ j, E j → 8 ≤ j ∧ j < c.nd) (h : JM 0 0 E c ce st X J TN [] [] 0 0) (hz : ∀ k, k < c.nc → sw (J.ct k) ≤ z) (hJ : MJ st X K c.nd ce 0) (hK : MK X K c.nd ce 0 x) (hx : 202 ≤ x) (hx2 : x + rN v ≤ 29000) (hy : 203 ≤ y) (hy2 : c.nd + 2 * (60000 - K.life) + (y + rN v) ≤ 140000) (h59 : fI st 59 = iI ((0 : Nat) : Int)) (hN : rN v ≤ 4000) (hO : OB K (o + 60)) (h76 : fI st 76 = iI 6)
    (ok : ∀ st' K', hAsk X J 6 ty (some v) K = (K', .ok ()) → K.life ≤ K'.life → dfr nd0 st st' → MJ0 st' X K' → KB X K' → fI st' 72 = 0 → OB K' o → Q (.returned none) st')
    (er : ∀ st' K' e p, hAsk X J 6 ty (some v) K = (K', .error (e, p)) → K.life ≤ K'.life → dfr nd0 st st' → MZj st' X K' e p → OB K' o → Q (.returned none) st') : jX5_doStatement_20 P s0 l XX lev st0 Q st := by
  obtain ⟨l', rfl⟩ : ∃ l', lev = l' + 1 := ⟨lev - 1, by omega⟩
  refine tX5_doStatement_20 ⟨fun q => ?_, fun q => ?_, fun q => ?_, fun _ => ?_, fun q => ?_⟩
  · rw [h76] at q; exact absurd q (by decide)
  · rw [h76] at q; exact absurd q (by decide)
  · rw [h76] at q; exact absurd q (by decide)
  · rw [h78]
    refine m_jtop (o := o + 60) (by omega) hr hg hD hI hE h.lh hz hJ hK hx hx2 hy hy2 h59 hN hO (fun t1 K1 nd1 ce1 u ty' so tn e1 e2 e3 e4 e5 e6 e7 e8 e9 e10 e11 e12 e13 e14 e15 e16 e17 e18 => ?_) (fun t1 K1 e p e1 e2 e3 e4 e5 => ?_)
    · have f78 : fI t1 78 = iI (n2 : Int) := (e3.1 78 (by omega)).trans h78
      have d1 : dfr nd0 st t1 := e3.d hb.1 hb.2
      have hC : mC (nd1, c.2) ce1 nilM t1 (vClo u .nil) n2 0 := mC_top e6.2.2.2.2.2 (e11 t1 ag.rf)
      have hn14 : nd1 ≤ 140000 := e7.2.1
      obtain ⟨x1, x2, x3, x4⟩ := e10.at
      refine onV_ret (tX5_tellHead ?_)
      rw [f78]
      refine m_head (c := (nd1, c.2)) (by omega) hC ⟨u, .nil, rfl, gT_up _ _ _ e12, trivial⟩ x1 e6 e7 (fun t3 K3 ce3 hv as d1' d2' d3' d4' d5' d6' d7' d8' d9' d10' d11' => ?_) (fun t3 K3 e ce3 g1 g2 g3 g4 g5 g6 => ⟨fun q => absurd q g6.j.ne, fun _ => er t3 K3 e (-1) (by rw [hAsk_6 e1, jB_ok, hK6_er g1]) (by omega) (d1.tr (g3.d (by show nd0 ≤ nd1; omega))) g6.j (((kO_hd rfl).ob g1 g2 e18).le (by omega))⟩)
      rw [Nat.zero_add] at d6' d7'
      have o3 : OB K3 (o + 60) := (kO_hd rfl).ob d1' d2' e18
      have d3 : dfr nd0 t1 t3 := d4'.d (by show nd0 ≤ nd1; omega)
      have N3 : mNm (nd1, c.2) t3 X := mNm_mv d4' e10.1.2.1
      have has : as.length ≤ 20000 := by have := d7'.2.2.2.2.1; have := d7'.1.1; have := d7'.1.2.1; omega
      -- how it ends
      have fin : ∀ (t4 : MSt) (K4 : KS) (r4 : Int32), mOnly t3 t4 → MJ0 t4 X K4 → K4 = sName X hv (hMk hv K3) → OB K4 (o + 30) → K4.life = K3.life ∧ K4.work = K3.work → jX5_tellHead_130 P s0 l XX l' t1 (onV (fun t43 => Q (.returned none) t43) (fun x t => Q (.threw x) t)) r4 t4 := by
        intro t4 K4 r4 o4 j4 ek ob lk
        refine tX5_tellHead_130 (m_out (ch := 32) (by omega) (by have := ob.lt; omega) j4 (fun t5 o5 j5 => ?_))
        have f51 : fI t5 51 = iI (as.length : Int) := ((o5.1 51 (by omega)).trans (o4.1 51 (by omega))).trans d6'.2.2.1.2.2
        refine onV_ret ?_
        rw [f51]
        have ob5 : OB (sPut 32 K4) (o + 29) := ob.put
        refine m_num 11 as.length l' t5 (sPut 32 K4) _ (by show _ < 1000000000000; omega) (by omega) (by omega) (by have := ob5.lt; omega) j5 (fun t6 o6 j6 => ?_)
        have ob6 : OB (sNum (11 + 1) as.length (sPut 32 K4)) (o + 17) := (ob5.le (o' := o + 17 + 12) (by omega)).num
        refine m_out (ch := 10) (by omega) (by have := ob6.lt; omega) j6 (fun t7 o7 j7 => ?_)
        have hk : (sPut 10 (sNum (11 + 1) as.length (sPut 32 K4))).life = K3.life ∧ (sPut 10 (sNum (11 + 1) as.length (sPut 32 K4))).work = K3.work := by
          have := sNum_w (11 + 1) as.length (sPut 32 K4)
          exact ⟨this.1.trans lk.1, this.2.trans lk.2⟩
        obtain ⟨kb1, kb2, kb3⟩ := d7'.1
        refine ok t7 _ (by rw [hAsk_6 e1, jB_ok, hK6_ok d1', hHead_K rfl, ← ek]) (by rw [hk.1]; omega) ((d1.tr d3).tr (((o4.t o5).t o6).t o7).d) j7 ⟨by rw [hk.2]; exact kb1, kb2, by rw [hk.1]; exact kb3⟩ ?_ ((ob6.le (o' := o + 1) (by omega)).put)
        exact ((o7.1 72 (by omega)).trans ((o6.1 72 (by omega)).trans ((o5.1 72 (by omega)).trans (o4.1 72 (by omega))))).trans d6'.2.2.2.1
      refine ⟨fun _ => ?_, fun q => absurd d6'.2.2.2.1 q⟩
      rcases hd_fb d8' d10' with ⟨ku, cu, hf, hbn⟩ | ⟨lm, p, dx, bx, rx, a, e', xx, yy, i', g, hbc⟩
      · have emk : hMk hv K3 = K3 := by unfold hMk; rw [hbn]
        refine m_kindf (by omega) hn14 hf ?_
        rcases hf with ⟨j, w1, w2, -⟩ | ⟨k, r, w1, rfl, rfl, w4, a, w5, w6, w7, w8⟩ | ⟨k, r, w1, rfl, rfl, w4, a, w5, w6, w7, w8⟩
        · exact w2.elim
        · have eN : sName X hv K3 = sPuts (X.nm k) K3 := by rw [w1]; rfl
          have hnk : mNa t3 21 22 k (X.nm k) := N3.1 k w4
          have w6' : a < nd1 := w6
          have w4' : k < c.nc := w4
          have hc100 : c.nc ≤ 100 := x1.2.1
          refine ⟨fun q => absurd q (by decide), fun _ => ⟨fun q => absurd q (by decide), fun _ => ⟨fun q => absurd q (by decide), fun _ => ?_⟩⟩⟩
          rw [w5]
          have ia : aI t3 31 (iI (a : Int)) = iI (k : Int) := by rw [aI_n (by omega)]; exact w8
          have il : aI t3 22 (iI (k : Int)) = iI ((X.nm k).length : Int) := by rw [aI_n (by omega)]; exact hnk.1
          have im : iI 12 * iI (k : Int) = iI ((12 * k : Nat) : Int) := by rw [iI_mul]; congr 1
          refine ⟨iI_in (by omega) (by omega), iI_in (by omega) (by omega), by rw [ia]; exact iI_in (by omega) (by omega), ?_⟩
          rw [ia, il, im]
          refine m_word (kr := 21) (kl := 22) (by omega) rfl (by show 12 * k + 12 ≤ 1200; omega) (by omega) hnk (by omega) (by have := o3.lt; omega) d6'.1 (fun t4 o4 j4 => fin t4 _ _ o4 j4 (by rw [emk, eN]) ((o3.le (o' := o + 30 + (X.nm k).length) (by have := hnk.2.1; omega)).puts) ?_)
          exact ⟨(sPuts_o _ _).2, sPuts_w⟩
        · have eN : sName X hv K3 = sPuts (X.sn k) K3 := by rw [w1]; rfl
          have hnk : mNa t3 16 17 k (X.sn k) := N3.2 k w4
          have w6' : a < nd1 := w6
          have w4' : k < c.ns := w4
          have hc8 : c.ns ≤ 8 := x1.2.2.1
          refine ⟨fun q => absurd q (by decide), fun _ => ⟨fun q => absurd q (by decide), fun _ => ⟨fun _ => ?_, fun q => absurd rfl q⟩⟩⟩
          rw [w5]
          have ia : aI t3 31 (iI (a : Int)) = iI (k : Int) := by rw [aI_n (by omega)]; exact w8
          have il : aI t3 17 (iI (k : Int)) = iI ((X.sn k).length : Int) := by rw [aI_n (by omega)]; exact hnk.1
          have im : iI 12 * iI (k : Int) = iI ((12 * k : Nat) : Int) := by rw [iI_mul]; congr 1
          refine ⟨iI_in (by omega) (by omega), iI_in (by omega) (by omega), by rw [ia]; exact iI_in (by omega) (by omega), ?_⟩
          rw [ia, il, im]
          refine m_word (kr := 16) (kl := 17) (by omega) rfl (by show 12 * k + 12 ≤ 96; omega) (by omega) hnk (by omega) (by have := o3.lt; omega) d6'.1 (fun t4 o4 j4 => fin t4 _ _ o4 j4 (by rw [emk, eN]) ((o3.le (o' := o + 30 + (X.sn k).length) (by have := hnk.2.1; omega)).puts) ?_)
          exact ⟨(sPuts_o _ _).2, sPuts_w⟩
      · obtain ⟨w1, w2, w3, w4, w5, w6, -⟩ := hbc
        have w4' : a < nd1 := w4
        have emk : hMk hv K3 = sPut (if lm = true then 92 else 33) K3 := by unfold hMk; rw [w1]
        have eN : ∀ K, sName X hv K = K := fun K => sName_b w1
        rw [w2]
        refine m_kindb (lm := lm) (by omega) (by omega) w6 ?_
        cases lm with
        | true => exact ⟨fun _ => m_out (ch := 92) (by omega) (by have := o3.lt; omega) d6'.1 (fun t4 o4 j4 => fin t4 _ _ o4 j4 (by rw [emk, eN]; rfl) ((o3.le (o' := o + 30 + 1) (by omega)).put) ⟨rfl, rfl⟩), fun q => absurd rfl q⟩
        | false => exact ⟨fun q => absurd q (by decide), fun _ => ⟨fun _ => m_out (ch := 33) (by omega) (by have := o3.lt; omega) d6'.1 (fun t4 o4 j4 => fin t4 _ _ o4 j4 (by rw [emk, eN]; rfl) ((o3.le (o' := o + 30 + 1) (by omega)).put) ⟨rfl, rfl⟩), fun q => absurd rfl q⟩⟩
    · refine onV_ret (tX5_tellHead (m_hbad (by omega) e4.ne ⟨fun q => absurd q ?_, fun _ => er _ K1 e p (by rw [hAsk_6 e1]; rfl) e2 ((e3.d hb.1 hb.2).tr ((dfr.put (by omega)).tr (dfr.put (by omega)))) ((e4.ph (Or.inl rfl)).ph (Or.inr rfl)) (e5.le (by omega))⟩))
      exact ((e4.ph (Or.inl rfl)).ph (Or.inr rfl)).ne
  · rw [h76] at q; exact absurd q (by unfold tout; decide)
end MHC
