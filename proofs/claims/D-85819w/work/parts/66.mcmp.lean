/-! M OVER S (7): comparing -/
/-- locals: each of one code; new ones are below all -/
def MF (M : Nat → Int → Prop) (K : KS) : Prop := (∀ j k, M j k → j < 1000 + K.fr ∧ -200000 - (K.fr : Int) < k) ∧ (∀ j k k', M j k → M j k' → k = k') ∧ (∀ i j k, M i k → M j k → i = j)
/-- what a head that binds nothing is, by kind and number -/
def fco (c : MC) (st : MSt) (M : Nat → Int → Prop) (u : V) (n : Int32) (ku cu : Int) : Prop :=
  (∃ j, u = vLoc j ∧ M j cu ∧ ((ku = -1 ∧ -2000000 ≤ cu ∧ cu < 0 ∧ n = iI cu) ∨ (ku = 1 ∧ 0 ≤ cu ∧ cu < 140000 ∧ ∃ a : Nat, n = iI (a : Int) ∧ a < c.nd ∧ st.2 30 a = iI 1 ∧ st.2 31 a = iI cu))) ∨
  (∃ (k : Nat) (r : V), u = vClo (.tag k .nil) r ∧ ku = 2 ∧ cu = (k : Int) ∧ k < c.nc ∧ ∃ a : Nat, n = iI (a : Int) ∧ a < c.nd ∧ st.2 30 a = iI 2 ∧ st.2 31 a = iI (k : Int)) ∨
  (∃ (k : Nat) (r : V), u = vClo (.tag k (.align true)) r ∧ ku = 3 ∧ cu = (k : Int) ∧ k < c.ns ∧ ∃ a : Nat, n = iI (a : Int) ∧ a < c.nd ∧ st.2 30 a = iI 3 ∧ st.2 31 a = iI (k : Int))
/-- what a head that binds is -/
def bco (c : MC) (ce : Nat) (M : Nat → Int → Prop) (st : MSt) (u : V) (n q : Int32) (lm : Bool) (p : Nat) (d b r : V) (a e x y i : Nat) (g : List Nat) : Prop :=
  sBinds u = some (lm, p, d, b, r) ∧ n = iI (a : Int) ∧ q = iI (e : Int) ∧ a < c.nd ∧ e < ce ∧ st.2 30 a = (if lm then iI 4 else iI 5) ∧ st.2 32 a = iI (x : Int) ∧ st.2 33 a = iI (y : Int) ∧ st.2 38 a = iI (i : Int) ∧ i < c.nd ∧ i ∉ g ∧ (∀ z ∈ g, z < 2147483648) ∧ mT c st d g x none ∧ mT c st b (i :: g) y none ∧ mE c ce M st r g e ∧ (lm = false → st.2 36 a = iI ((p / 8 : Nat) : Int) ∧ st.2 37 a = iI ((p % 8 : Nat) : Int))
section MCM
variable {P : MPl} {s0 : State} {l : Launch} {XX : Prop} {lev d w : Nat} {Q : Outcome → MSt → Prop} {st st' st0 : MSt} {X : SX} {K K' : KS} {nd ce ce' wa x base : Nat} {c c' : MC} {M M' : Nat → Int → Prop} {x1 x2 x3 x4 x8 x9 : Int32}
theorem hd_fb {u : V} {n q : Int32} (h : mHd c ce M st u n q) (hg : gR X u) : (∃ ku cu, fco c st M u n ku cu ∧ sBinds u = none) ∨ ∃ lm p d b r a e x y i g, bco c ce M st u n q lm p d b r a e x y i g := by
  rcases mHd_cases h hg with ⟨j, k, h1, h2, h3, h4, h5⟩ | ⟨j, k, a, h1, h2, h3, h4, h5, h6, h7, h8⟩ | ⟨k, r, a, h1, h2, h3, h4, h5, h6, h7⟩ | ⟨k, r, a, h1, h3, h4, h5, h6, h7⟩ | ⟨lm, p, d, b, r, a, e, x, y, i, g, h1⟩
  · exact Or.inl ⟨-1, k, Or.inl ⟨j, h1, h2, Or.inl ⟨rfl, h3, h4, h5⟩⟩, by subst h1; rcases j with _ | _ | _ | _ | j <;> rfl⟩
  · exact Or.inl ⟨1, k, Or.inl ⟨j, h1, h2, Or.inr ⟨rfl, h3, h4, a, h5, h6, h7, h8⟩⟩, by subst h1; rcases j with _ | _ | _ | _ | j <;> rfl⟩
  · exact Or.inl ⟨2, k, Or.inr (Or.inl ⟨k, r, h1, rfl, rfl, h5, a, h3, h4, h6, h7⟩), by subst h1; exact sBinds_kn⟩
  · exact Or.inl ⟨3, k, Or.inr (Or.inr ⟨k, r, h1, rfl, rfl, h5, a, h3, h4, h6, h7⟩), by subst h1; exact sBinds_so⟩
  · exact Or.inr ⟨lm, p, d, b, r, a, e, x, y, i, g, h1⟩
theorem fco_iff {u v : V} {n n' : Int32} {ku cu kv cv : Int} (hF : MF M K) (hu : fco c st M u n ku cu) (hv : fco c st M v n' kv cv) : sFront u v = true ↔ ku = kv ∧ cu = cv := by
  rcases hu with ⟨i, rfl, hi, hi2⟩ | ⟨k, r, rfl, rfl, rfl, -⟩ | ⟨k, r, rfl, rfl, rfl, -⟩ <;> rcases hv with ⟨j, rfl, hj, hj2⟩ | ⟨k', r', rfl, rfl, rfl, -⟩ | ⟨k', r', rfl, rfl, rfl, -⟩
  · rw [sFront_ll]
    constructor
    · intro h
      have hij : i = j := by simpa using h
      subst hij
      have := hF.2.1 i cu cv hi hj
      subst this
      refine ⟨?_, rfl⟩
      rcases hi2 with ⟨h1, h2, h3, h4⟩ | ⟨h1, h2, h3, h4⟩ <;> rcases hj2 with ⟨g1, g2, g3, g4⟩ | ⟨g1, g2, g3, g4⟩ <;> omega
    · rintro ⟨-, rfl⟩
      have := hF.2.2 i j cu hi hj
      subst this
      simp
  · rw [sFront_lc]
    constructor
    · intro h; cases h
    · rintro ⟨h, -⟩; rcases hi2 with ⟨h1, -⟩ | ⟨h1, -⟩ <;> omega
  · rw [sFront_lc]
    constructor
    · intro h; cases h
    · rintro ⟨h, -⟩; rcases hi2 with ⟨h1, -⟩ | ⟨h1, -⟩ <;> omega
  · rw [sFront_cl]
    constructor
    · intro h; cases h
    · rintro ⟨h, -⟩; rcases hj2 with ⟨h1, -⟩ | ⟨h1, -⟩ <;> omega
  · show (k == k') = true ↔ _
    constructor
    · intro h; have : k = k' := by simpa using h
      omega
    · rintro ⟨-, h⟩; have : k = k' := by omega
      simpa using this
  · constructor
    · intro h; cases h
    · rintro ⟨h, -⟩; omega
  · rw [sFront_cl]
    constructor
    · intro h; cases h
    · rintro ⟨h, -⟩; rcases hj2 with ⟨h1, -⟩ | ⟨h1, -⟩ <;> omega
  · constructor
    · intro h; cases h
    · rintro ⟨h, -⟩; omega
  · show (k == k') = true ↔ _
    constructor
    · intro h; have : k = k' := by simpa using h
      omega
    · rintro ⟨-, h⟩; have : k = k' := by omega
      simpa using this
def MCmp (P : MPl) (s0 : State) (l : Launch) (XX : Prop) (X : SX) (c : MC) (lev d w : Nat) : Prop := ∀ (M : Nat → Int → Prop) (va vb : V) (na qa nb qb : Nat) (K : KS) (st : MSt) (ce wa x : Nat) (Q : Outcome → MSt → Prop), MF M K → mC c ce M st va na qa → mC c ce M st vb nb qb → gKv va → gKv vb → mXc c st X → MJ st X K c.nd ce wa → MK X K c.nd ce wa x → 2 * d + 2 ≤ x →
  (∀ st' K' ce' r, sSame X d va vb K = (K', .ok r) → K.life ≤ K'.life → K.fr ≤ K'.fr → mfr c.nd ce wa st st' → ce ≤ ce' → MJ st' X K' c.nd ce' wa → MK X K' c.nd ce' wa x → Q (.returned (some (.int (bI r)))) st') →
  (∀ st' K' e ce', sSame X d va vb K = (K', .error e) → K.life ≤ K'.life → mfr c.nd ce wa st st' → ce ≤ ce' → ce' ≤ 1 + 2 * K'.work + x → MZ st' X K' e c.nd ce' → Q (.returned (some (.int (iI 0)))) st') → CQ (wM P s0 l XX) mX5_compare lev (.ref P.mo :: [.int (iI (na : Int)), .int (iI (qa : Int)), .int (iI (nb : Int)), .int (iI (qb : Int)), .int (iI (w : Int))]) st Q
theorem MF.mono (h : MF M K) (hf : K.fr ≤ K'.fr) : MF M K' := ⟨fun j k hm => by have := h.1 j k hm; omega, h.2⟩
theorem MJ.fr1 (h : MJ st X K nd ce wa) : MJ (mput 57 (iI ((K.fr + 1 : Nat) : Int)) st) X (K.1, K.2.1, K.2.2.1, K.2.2.2.1, K.2.2.2.2.1, K.fr + 1) nd ce wa := by
  obtain ⟨⟨⟨h1, h2, h3, h4⟩, h5, h6⟩, h7, ⟨h8, h9, h10⟩, h11, h12, h13⟩ := h
  refine ⟨⟨⟨?_, ?_, ?_, fun j hj => ?_⟩, ?_, h6⟩, ?_, ⟨?_, ?_, ?_⟩, ?_, h12, h13⟩
  · show (mput 57 _ st).1 63 = _; rw [mput_f, if_neg (by omega)]; exact h1
  · show (mput 57 _ st).1 64 = _; rw [mput_f, if_neg (by omega)]; exact h2
  · show (mput 57 _ st).1 65 = _; rw [mput_f, if_neg (by omega)]; exact h3
  · show (mput 57 _ st).1 (66 + j) = _; rw [mput_f, if_neg (by omega)]; exact h4 j hj
  · show (mput 57 _ st).1 75 = _; rw [mput_f, if_neg (by omega)]; exact h5
  · show (mput 57 _ st).1 57 = _; rw [mput_f, if_pos rfl]
  · show (mput 57 _ st).1 39 = _; rw [mput_f, if_neg (by omega)]; exact h8
  · show (mput 57 _ st).1 48 = _; rw [mput_f, if_neg (by omega)]; exact h9
  · show (mput 57 _ st).1 51 = _; rw [mput_f, if_neg (by omega)]; exact h10
  · show (mput 57 _ st).1 72 = _; rw [mput_f, if_neg (by omega)]; exact h11
theorem mvE.L (h : mvE c c ce ce' M M st st') (hM : ∀ j k, M j k → M' j k) : mvE c c ce ce' M M' st st' := ⟨h.1, h.2.1, h.2.2.1, h.2.2.2.1, hM⟩
theorem mvE.t (h : mvE c c ce ce' M M st st') {st'' : MSt} {ce'' : Nat} (k : mvE c c ce' ce'' M M st' st'') : mvE c c ce ce'' M M st st'' :=
  ⟨⟨Nat.le_refl _, Nat.le_refl _, Nat.le_refl _, fun a j z1 z2 z3 => (k.1.2.2.2 a j z1 z2 z3).trans (h.1.2.2.2 a j z1 z2 z3)⟩, h.2.1, Nat.le_trans h.2.2.1 k.2.2.1, fun a j z1 z2 z3 => (k.2.2.2.1 a j z1 z2 (Nat.lt_of_lt_of_le z3 h.2.2.1)).trans (h.2.2.2.1 a j z1 z2 z3), fun _ _ z => z⟩
theorem m_parts {u v dx bx rx dy by' ry : V} {lm lm' : Bool} {p p' a e xx yy i a' e' xx' yy' i' : Nat} {g g' : List Nat} {n q n' q' : Int32} (ih : MCmp P s0 l XX X c lev d (w + 1)) (hl : 3 ≤ lev) (hw : w < 100) (hF : MF M K) (hu : bco c ce M st u n q lm p dx bx rx a e xx yy i g) (hv : bco c ce M st v n' q' lm' p' dy by' ry a' e' xx' yy' i' g') (gu : gR X u) (gv : gR X v) (hX : mXc c st X) (hJ : MJ st X K c.nd ce wa) (hK : MK X K c.nd ce wa (x - 2)) (hx : 2 * d + 4 ≤ x) (hx3 : x ≤ 30000)
    (ok : ∀ st' K' ce' r, sParts X d dx bx rx dy by' ry K = (K', .ok r) → K.life ≤ K'.life → K.fr ≤ K'.fr → mfr c.nd ce wa st st' → ce ≤ ce' → MJ st' X K' c.nd ce' wa → MK X K' c.nd ce' wa x → Q (.returned (some (.int (bI r)))) st')
    (er : ∀ st' K' e ce', sParts X d dx bx rx dy by' ry K = (K', .error e) → K.life ≤ K'.life → mfr c.nd ce wa st st' → ce ≤ ce' → ce' ≤ 1 + 2 * K'.work + x → MZ st' X K' e c.nd ce' → Q (.returned (some (.int (iI 0)))) st') : jX5_alike_34 P s0 l XX lev st0 Q (iI (a : Int)) (iI (e : Int)) x3 x4 (iI (a' : Int)) (iI (e' : Int)) (iI (w : Int)) x8 x9 st := by
  obtain ⟨u1, u2, u3, u4, u5, u6, u7, u8, u9, u10, u11, u12, u13, u14, u15, -⟩ := hu
  obtain ⟨v1, v2, v3, v4, v5, v6, v7, v8, v9, v10, v11, v12, v13, v14, v15, -⟩ := hv
  obtain ⟨gd, gb, ge, gw⟩ := gR_binds gu u1
  obtain ⟨fd, fb, fe, fw⟩ := gR_binds gv v1
  have hnd := hX.2.2.2
  have h1 : a < 140000 := by omega
  have h2 : a' < 140000 := by omega
  have hch := hJ.2.2.2.2.1
  refine tX5_alike_34 ⟨iI_in h1 (by omega), iI_in h2 (by omega), ?_⟩
  rw [aI_n (by omega), aI_n (by omega), u7, v7, iI_suc]
  have hk := hK
  obtain ⟨kb, k2, k3, k4, k5, k6⟩ := hK
  refine ih M (vClo dx rx) (vClo dy ry) xx e xx' e' K st ce wa (x - 2) _ hF ⟨dx, rx, g, rfl, u5, u12, u13, u15⟩ ⟨dy, ry, g', rfl, v5, v12, v13, v15⟩ ⟨dx, rx, rfl, gT_up _ _ _ gd, ge⟩ ⟨dy, ry, rfl, gT_up _ _ _ fd, fe⟩ hX hJ hk (by omega) (fun t1 K1 ce1 r s1 s2 s3 s4 s5 s6 s7 => ⟨fun r0 => ?_, fun r0 => ?_⟩) (fun t1 K1 e1 ce1 s1 s2 s3 s4 s5 s6 => ⟨fun _ => ?_, fun z => absurd rfl z⟩)
  · rw [bI_z] at r0
    subst r0
    obtain ⟨y1, y2, y3, y4, y5, y6⟩ := s7
    exact ok t1 K1 ce1 false (by unfold sParts; rw [s1]; rfl) s2 s3 s4 s5 s6 ⟨y1, y2, by omega, by omega, y5, by omega⟩
  · have r1 : r = true := by cases r; exact absurd rfl (fun q => r0 (bI_z.mpr q)); rfl
    subst r1
    obtain ⟨y1, y2, y3, y4, y5, y6⟩ := s7
    have y1' := y1
    obtain ⟨z1, z2, z3⟩ := y1
    have mv1 : mvE c c ce ce1 M M st t1 := s4.E hch s5
    have hf57 : fI t1 57 = iI (K1.fr : Int) := s6.2.1
    have ecode : iI (-200000) - fI t1 57 = iI (-200000 - (K1.fr : Int)) := by rw [hf57, iI_sub]
    rw [ecode, hf57, iI_suc]
    have J1 := s6.fr1
    have F1 : mfr c.nd ce wa st (mput 57 (iI ((K1.fr + 1 : Nat) : Int)) t1) := s4.tr (mfr_put (nd := c.nd) (ce := ce1) (wa := wa) (by omega)) (Nat.le_refl _) s5 (Nat.le_refl _)
    have mvp : mvE c c ce ce1 M M st (mput 57 (iI ((K1.fr + 1 : Nat) : Int)) t1) := F1.E hch s5
    generalize mput 57 (iI ((K1.fr + 1 : Nat) : Int)) t1 = t2 at J1 F1 mvp
    have nn : ∀ (sx : MSt) (ce2 : Nat), mvE c c ce ce2 M M st sx → ∀ k j, 30 ≤ k → k ≤ 38 → j < c.nd → sx.2 k j = st.2 k j := fun sx ce2 h => h.1.2.2.2
    refine m_inside (i := i) (by omega) h1 (by rw [nn t2 ce1 mvp 38 a (by omega) (by omega) u4]; exact u9) J1 (by omega) (by omega) (fun t3 J3 F3 c1 c2 c3 c4 c5 => ?_)
    have F13 := F1.tr F3 (Nat.le_refl _) s5 (Nat.le_refl _)
    have mv3 : mvE c c ce (ce1 + 1) M M st t3 := F13.E hch (by omega)
    refine m_inside (i := i') (by omega) h2 (by rw [nn t3 _ mv3 38 a' (by omega) (by omega) v4]; exact v9) J3 (by omega) (by omega) (fun t5 J5 F5 d1 d2 d3 d4 d5 => ⟨iI_in h1 (by omega), iI_in h2 (by omega), ?_⟩)
    have F15 := F13.tr F5 (Nat.le_refl _) (by omega) (Nat.le_refl _)
    have mv5 : mvE c c ce (ce1 + 1 + 1) M M st t5 := F15.E hch (by omega)
    rw [aI_n (by omega), aI_n (by omega), nn t5 _ mv5 33 a (by omega) (by omega) u4, nn t5 _ mv5 33 a' (by omega) (by omega) v4, u8, v8]
    have ch5 := J5.2.2.2.2.1
    have cell0 : ∀ k, 44 ≤ k → k ≤ 47 → t5.2 k ce1 = t3.2 k ce1 := fun k w1 w2 => F5.2 k ce1 (fun z => by omega) (fun _ => by omega) (fun z => by omega) (by omega)
    have hM : ∀ j k, M j k → (fun j k => M j k ∨ (j = 1000 + K1.fr ∧ k = -200000 - (K1.fr : Int))) j k := fun j k h => Or.inl h
    have hi : i < 2147483648 := by omega
    have hi' : i' < 2147483648 := by omega
    have ce0 : 0 < ce1 := s6.2.2.2.2.2
    -- the first body
    have chA : mch t5 (ce1 + 1) := ⟨by have := ch5.1; omega, fun q a1 a2 => ch5.2 q a1 (by omega)⟩
    have l1 : lk t5 ce1 i = ce1 := by
      rw [lk_new chA ce0 (show e < ce1 by omega) (by rw [cell0 44 (by omega) (by omega)]; exact c1) (by rw [cell0 45 (by omega) (by omega)]; exact c2) hi hi, if_pos rfl]
    have mvA : mvE c c ce (ce1 + 1) M (fun j k => M j k ∨ (j = 1000 + K1.fr ∧ k = -200000 - (K1.fr : Int))) st t5 := ((F15.E hch (by omega)).L hM)
    have eA0 : mE c (ce1 + 1) (fun j k => M j k ∨ (j = 1000 + K1.fr ∧ k = -200000 - (K1.fr : Int))) t5 rx g ce1 := mE_push chA ce0 (show e < ce1 by omega) (by rw [cell0 44 (by omega) (by omega)]; exact c1) (by rw [cell0 45 (by omega) (by omega)]; exact c2) hi rx g e rfl u11 u12 (mE_mv mvA _ _ _ u5 u15)
    have up1 : mvE c c (ce1 + 1) (ce1 + 1 + 1) (fun j k => M j k ∨ (j = 1000 + K1.fr ∧ k = -200000 - (K1.fr : Int))) (fun j k => M j k ∨ (j = 1000 + K1.fr ∧ k = -200000 - (K1.fr : Int))) t5 t5 := ⟨⟨Nat.le_refl _, Nat.le_refl _, Nat.le_refl _, fun _ _ _ _ _ => rfl⟩, chA, by omega, fun _ _ _ _ _ => rfl, fun _ _ z => z⟩
    have eA : mE c (ce1 + 1 + 1) (fun j k => M j k ∨ (j = 1000 + K1.fr ∧ k = -200000 - (K1.fr : Int))) t5 (.append (vLoc (1000 + K1.fr)) rx) (i :: g) ce1 := by
      rw [mE_loc]
      refine ⟨⟨-200000 - (K1.fr : Int), Or.inr ⟨rfl, rfl⟩, Or.inl ⟨by omega, by omega, by rw [l1]; exact ce0, by rw [l1]; omega, by rw [l1, cell0 46 (by omega) (by omega)]; exact c3⟩⟩, mE_mv up1 _ _ _ (by omega) eA0⟩
    -- the second body
    have l2 : lk t5 (ce1 + 1) i' = ce1 + 1 := by
      rw [lk_new ch5 (by omega) (show e' < ce1 + 1 by omega) d1 d2 hi' hi', if_pos rfl]
    have mvB : mvE c c ce (ce1 + 1 + 1) M (fun j k => M j k ∨ (j = 1000 + K1.fr ∧ k = -200000 - (K1.fr : Int))) st t5 := mv5.L hM
    have eB : mE c (ce1 + 1 + 1) (fun j k => M j k ∨ (j = 1000 + K1.fr ∧ k = -200000 - (K1.fr : Int))) t5 (.append (vLoc (1000 + K1.fr)) ry) (i' :: g') (ce1 + 1) := by
      rw [mE_loc]
      refine ⟨⟨-200000 - (K1.fr : Int), Or.inr ⟨rfl, rfl⟩, Or.inl ⟨by omega, by omega, by rw [l2]; omega, by rw [l2]; omega, by rw [l2]; exact d3⟩⟩, mE_push ch5 (by omega) (show e' < ce1 + 1 by omega) d1 d2 hi' ry g' e' rfl v11 v12 (mE_mv mvB _ _ _ v5 v15)⟩
    have hF5 : MF (fun j k => M j k ∨ (j = 1000 + K1.fr ∧ k = -200000 - (K1.fr : Int))) (K1.1, K1.2.1, K1.2.2.1, K1.2.2.2.1, K1.2.2.2.2.1, K1.fr + 1) := by
      have hF1 := hF.mono s3
      refine ⟨?_, ?_, ?_⟩
      · rintro j k (h | ⟨rfl, rfl⟩)
        · have := hF1.1 j k h
          show j < 1000 + (K1.fr + 1) ∧ -200000 - ((K1.fr + 1 : Nat) : Int) < k
          omega
        · show 1000 + K1.fr < 1000 + (K1.fr + 1) ∧ -200000 - ((K1.fr + 1 : Nat) : Int) < -200000 - (K1.fr : Int)
          omega
      · rintro j k k' (h | ⟨rfl, rfl⟩) (h' | ⟨h', rfl⟩)
        · exact hF1.2.1 j k k' h h'
        · have := (hF1.1 j k h).1; omega
        · have := (hF1.1 _ k' h').1; omega
        · rfl
      · rintro j j' k (h | ⟨rfl, rfl⟩) (h' | ⟨rfl, h'⟩)
        · exact hF1.2.2 j j' k h h'
        · have := (hF1.1 j k h).2; omega
        · have := (hF1.1 j' _ h').2; omega
        · rfl
    refine ih _ (vClo bx (.append (vLoc (1000 + K1.fr)) rx)) (vClo by' (.append (vLoc (1000 + K1.fr)) ry)) yy ce1 yy' (ce1 + 1) _ t5 (ce1 + 1 + 1) wa x _ hF5 ⟨bx, _, i :: g, rfl, by omega, fun z hz => by rcases List.mem_cons.mp hz with rfl | h; exact hi; exact u12 z h, mT_mv mv5.1 _ _ _ _ u14, eA⟩ ⟨by', _, i' :: g', rfl, by omega, fun z hz => by rcases List.mem_cons.mp hz with rfl | h; exact hi'; exact v12 z h, mT_mv mv5.1 _ _ _ _ v14, eB⟩ ⟨bx, _, rfl, gb, ⟨by rcases (1000 + K1.fr) with _ | _ | _ | _ | i <;> trivial, ge⟩⟩ ⟨by', _, rfl, fb, ⟨by rcases (1000 + K1.fr) with _ | _ | _ | _ | i <;> trivial, fe⟩⟩ (mXc_mv F15 hX) J5 ⟨y1', y2, by show ce1 + 1 + 1 ≤ 1 + 2 * K1.work + x; omega, by omega, y5, ?_⟩ (by omega) (fun t7 K7 ce7 r o1 o2 o3 o4 o5 o6 o7 => ⟨bI_Z, ?_⟩) (fun t7 K7 e7 ce7 o1 o2 o3 o4 o5 o6 => ⟨isZ0, ?_⟩)
    · show K1.fr + 1 ≤ 2 * K1.work + x; omega
    · exact ok t7 K7 ce7 r (by unfold sParts; rw [s1]; exact o1) (Nat.le_trans s2 o2) (by have : K1.fr + 1 ≤ K7.fr := o3; omega) (F15.tr o4 (Nat.le_refl _) (by omega) (Nat.le_refl _)) (by omega) o6 o7
    · exact er t7 K7 e7 ce7 (by unfold sParts; rw [s1]; exact o1) (Nat.le_trans s2 o2) (F15.tr o3 (Nat.le_refl _) (by omega) (Nat.le_refl _)) (by omega) o5 o6
  · exact er t1 K1 e1 ce1 (by unfold sParts; rw [s1]; rfl) s2 s3 s4 (by omega) s6
end MCM
