/-! M OVER S (15): normal forms: binders -/
def MNorm (P : MPl) (s0 : State) (l : Launch) (XX : Prop) (X : SX) (lev d w : Nat) : Prop := ∀ (c : MC) (M : Nat → Int → Prop) (v : V) (na qa dep : Nat) (g0 : List Nat) (K : KS) (st : MSt) (ce wa x y : Nat) (Q : Outcome → MSt → Prop), MN M g0 dep c → mC c ce M st v na qa → gKv v → mXc c st X → mSo c st → fI st 15 = iI 1 → dep + d ≤ 1000 → MJ st X K c.nd ce wa → MK X K c.nd ce wa x → 2 * d + 2 ≤ x → x ≤ 29000 → 2 * d + 2 ≤ y → c.nd + 2 * (60000 - K.life) + y ≤ 140000 →
  (∀ st' K' ce' nd' t n, sNorm X d dep v K = (K', .ok t) → K.life < K'.life → mfr c.nd ce wa st st' → ce ≤ ce' → c.nd ≤ nd' → MJ st' X K' nd' ce' wa → MK X K' nd' ce' wa x → nd' + 2 * (60000 - K'.life) + (y + 1) ≤ 140000 → n < nd' → mTf (nd', c.2) c.nd st' t g0 n none → Q (.returned (some (.int (iI (n : Int))))) st') →
  (∀ st' K' e ce' nd' r, sNorm X d dep v K = (K', .error e) → K.life ≤ K'.life → mfr c.nd ce wa st st' → ce ≤ ce' → ce' ≤ 1 + 2 * K'.work + x + (2 * d + 2) → c.nd ≤ nd' → nd' + 2 * (60000 - K'.life) + y ≤ 140000 + (2 * d + 2) → nd' ≤ 140000 → MZ st' X K' e nd' ce' → KB X K' → Q (.returned (some (.int r))) st') → CQ (wM P s0 l XX) mX5_normal lev (.ref P.mo :: [.int (iI (na : Int)), .int (iI (qa : Int)), .int (iI (w : Int))]) st Q
section MN2
variable {P : MPl} {s0 : State} {l : Launch} {XX : Prop} {lev d w : Nat} {Q : Outcome → MSt → Prop} {st st' st0 : MSt} {X : SX} {K K' : KS} {nd ce ce' wa x y base many o dep : Nat} {c c' : MC} {M M' : Nat → Int → Prop} {x1 x2 : Int32}
theorem m_nbind {u dx bx r : V} {lm : Bool} {p a e xx yy i : Nat} {g g0 : List Nat} {n q : Int32} (ih : MNorm P s0 l XX X lev d (w + 1)) (hl : 4 ≤ lev) (hw' : w < 100) (hd : dep + 1 + d ≤ 1000) (hM : MN M g0 dep c) (hu : bco c ce M st u n q lm p dx bx r a e xx yy i g) (gu : gR X u) (hX : mXc c st X) (hS : mSo c st) (h15 : fI st 15 = iI 1) (hJ : MJ st X K c.nd ce wa) (hK : MK X K c.nd ce wa (x - 2)) (hx : 2 * d + 4 ≤ x) (hx3 : x ≤ 29000) (hy : 2 * d + 4 ≤ y) (hy2 : c.nd + 2 * (60000 - K.life) + (y + 2) ≤ 140000) (hbase : base ≤ wa)
    (ok : ∀ st' K' ce' nd' t n, (sBind (sNorm X d dep (vClo dx r) K) fun t K => sBind (sNorm X d (dep + 1) (vClo bx (.append (vLoc dep) r)) K) fun u K => (K, .ok (if lm then Std.Format.tag 0 (.append t u) else .tag p (.group (.append t u) .fill)))) = (K', .ok t) → K.life ≤ K'.life → mfr c.nd ce base st st' → ce ≤ ce' → c.nd ≤ nd' → MJ st' X K' nd' ce' base → MK X K' nd' ce' base x → nd' + 2 * (60000 - K'.life) + (y + 1) ≤ 140000 → n < nd' → mTf (nd', c.2) c.nd st' t g0 n none → Q (.returned (some (.int (iI (n : Int))))) st')
    (er : ∀ st' K' e ce' nd' r', (sBind (sNorm X d dep (vClo dx r) K) fun t K => sBind (sNorm X d (dep + 1) (vClo bx (.append (vLoc dep) r)) K) fun u K => (K, .ok (if lm then Std.Format.tag 0 (.append t u) else .tag p (.group (.append t u) .fill)))) = (K', .error e) → K.life ≤ K'.life → mfr c.nd ce base st st' → ce ≤ ce' → ce' ≤ 1 + 2 * K'.work + x + (2 * d + 4) → c.nd ≤ nd' → nd' + 2 * (60000 - K'.life) + y ≤ 140000 + (2 * d + 4) → nd' ≤ 140000 → MZ st' X K' e nd' ce' → KB X K' → Q (.returned (some (.int r'))) st') :
    jX5_normal_63 P s0 l XX lev st0 Q x1 x2 (iI (w : Int)) (iI (base : Int)) (iI (a : Int)) (iI (e : Int)) (if lm then iI 4 else iI 5) st := by
  obtain ⟨u1, u2, u3, u4, u5, u6, u7, u8, u9, u10, u11, u12, u13, u14, u15, u16⟩ := hu
  obtain ⟨gd, gb, ge, gw⟩ := gR_binds gu u1
  have hnd := hX.2.2.2
  have h1 : a < 140000 := by omega
  have hch := hJ.2.2.2.2.1
  have hmade : c.nd < 140000 := by omega
  obtain ⟨kb, k2, k3, k4, k5, k6⟩ := hK
  have hKB := kb
  obtain ⟨b1, b2, b3⟩ := kb
  refine tX5_normal_63 (m_node (by omega) h15 hJ hmade (fun t1 J1 F1 n1 n2 n3 n4 n5 n6 n7 => ?_))
  have ia := iI_in (a := a) (n := 140000) h1 (by omega)
  have im := iI_in (a := c.nd) (n := 140000) hmade (by omega)
  refine ⟨ia, im, ia, im, ia, ?_⟩
  have na : ∀ k, t1.2 k a = st.2 k a := fun k => n7 k a (Or.inr (Or.inr (by omega)))
  rw [aI_n (by omega), aI_n (by omega), aI_n (by omega), na 32, u7, iI_suc]
  have J1' := ((J1.mst (k := 36) (i := c.nd) (v := t1.2 36 a) (by omega) (by omega)).mst (k := 37) (i := c.nd) (v := t1.2 37 a) (by omega) (by omega))
  have F1' : mfr c.nd ce wa st (mst 37 (iI (c.nd : Int)) (t1.2 37 a) (mst 36 (iI (c.nd : Int)) (t1.2 36 a) t1)) := (F1.tr (mfr_mst (nd := c.nd) (ce := ce) (wa := wa) (by omega) (Nat.le_refl _) (by omega)) (Nat.le_refl _) (Nat.le_refl _) (Nat.le_refl _)).tr (mfr_mst (nd := c.nd) (ce := ce) (wa := wa) (by omega) (Nat.le_refl _) (by omega)) (Nat.le_refl _) (Nat.le_refl _) (Nat.le_refl _)
  have am : ∀ k j, (mst 37 (iI (c.nd : Int)) (t1.2 37 a) (mst 36 (iI (c.nd : Int)) (t1.2 36 a) t1)).2 k j = if k = 37 ∧ j = c.nd then t1.2 37 a else if k = 36 ∧ j = c.nd then t1.2 36 a else t1.2 k j := fun k j => by rw [mst_a (by omega), mst_a (by omega)]
  have f15 : fI (mst 37 (iI (c.nd : Int)) (t1.2 37 a) (mst 36 (iI (c.nd : Int)) (t1.2 36 a) t1)) 15 = iI 1 := (n6 15 (by omega)).trans h15
  generalize mst 37 (iI (c.nd : Int)) (t1.2 37 a) (mst 36 (iI (c.nd : Int)) (t1.2 36 a) t1) = t2 at J1' F1' am f15
  have mv2 : mvE c (c.nd + 1, c.2) ce ce M M st t2 := ⟨⟨Nat.le_succ _, Nat.le_refl _, Nat.le_refl _, fun k j z1 z2 z3 => F1'.2 k j (fun _ => z3) (fun q => by omega) (fun q => by omega) (by omega)⟩, hch, Nat.le_refl _, fun k j z1 z2 z3 => F1'.2 k j (fun q => by omega) (fun _ => z3) (fun q => by omega) (by omega), fun _ _ z => z⟩
  have hX2 : mXc (c.nd + 1, c.2) t2 X := mXc_up (c' := (c.nd + 1, c.2)) (mXc_mv F1' hX) (Nat.le_succ _) rfl (by show c.nd + 1 ≤ 140000; omega)
  have hS2 : mSo (c.nd + 1, c.2) t2 := hS.mv F1' (Nat.le_succ _) rfl
  -- the same for both ends: the row of waiting parts goes back
  have mfb : ∀ {sx : MSt} {v : Int32}, mfr c.nd ce wa st sx → mfr c.nd ce base st (mput 51 v sx) := fun h => (h.wk hbase).tr (mfr_put (nd := c.nd) (ce := ce) (wa := base) (by omega)) (Nat.le_refl _) (Nat.le_refl _) (Nat.le_refl _)
  refine ih (c.nd + 1, c.2) M (vClo dx r) xx e dep g0 K t2 ce wa (x - 2) (y + 1) _ (hM.up (Nat.le_succ _)) ⟨dx, r, g, rfl, u5, u12, mT_mv mv2.1 _ _ _ _ u13, mE_mv mv2 _ _ _ u5 u15⟩ ⟨dx, r, rfl, gT_up _ _ _ gd, ge⟩ hX2 hS2 f15 (by omega) J1' ⟨hKB, by show c.nd + 1 ≤ 140000; omega, k3, k4, k5, k6⟩ (by omega) (by omega) (by omega) (by show c.nd + 1 + _ + _ ≤ _; omega) (fun t3 K3 ce3 nd3 td nd1 s1 s2 s3 s4 s5 s6 s7 s8 s9 s10 => ⟨im, ia, ?_⟩) (fun t3 K3 e3 ce3 nd3 r3 s1 s2 s3 s4 s5 s6 s7 s8 s9 s10 => ⟨im, ia, ?_⟩)
  · have s5' : c.nd + 1 ≤ nd3 := s5
    have F3 : mfr c.nd ce wa st t3 := F1'.tr s3 (Nat.le_succ _) (Nat.le_refl _) (Nat.le_refl _)
    have p3 : ∀ k, 30 ≤ k → k ≤ 38 → t3.2 k c.nd = t2.2 k c.nd := fun k z1 z2 => s3.2 k c.nd (fun _ => Nat.lt_succ_self _) (fun q => by omega) (fun q => by omega) (by omega)
    have n3a : ∀ k, 30 ≤ k → k ≤ 38 → t3.2 k a = st.2 k a := fun k z1 z2 => F3.2 k a (fun _ => u4) (fun q => by omega) (fun q => by omega) (by omega)
    obtain ⟨⟨z1, z2, z3⟩, y2, y3, y4, y5, y6⟩ := s7
    have J3 := s6.mst (k := 32) (i := c.nd) (v := iI (nd1 : Int)) (by omega) (by omega)
    have F3' : mfr c.nd ce wa st (mst 32 (iI (c.nd : Int)) (iI (nd1 : Int)) t3) := F3.tr (mfr_mst (nd := c.nd) (ce := ce) (wa := wa) (by omega) (Nat.le_refl _) (by omega)) (Nat.le_refl _) (Nat.le_refl _) (Nat.le_refl _)
    have a3 : ∀ k j, (mst 32 (iI (c.nd : Int)) (iI (nd1 : Int)) t3).2 k j = if k = 32 ∧ j = c.nd then iI (nd1 : Int) else t3.2 k j := fun k j => mst_a (by omega)
    have e33 : aI t3 33 (iI (a : Int)) = iI (yy : Int) := by rw [aI_n (by omega), n3a 33 (by omega) (by omega)]; exact u8
    rw [e33]
    have ec : iI (-2) - iI (c.nd : Int) = iI (-2 - (c.nd : Int)) := by rw [iI_sub]
    rw [ec]
    generalize mst 32 (iI (c.nd : Int)) (iI (nd1 : Int)) t3 = t4 at J3 F3' a3
    refine m_inside (i := i) (by omega) h1 (by rw [a3, if_neg (by omega), n3a 38 (by omega) (by omega)]; exact u9) J3 (by omega) (by omega) (fun t5 J5 F5 c1 c2 c3 c4 c5 => ?_)
    have F5' : mfr c.nd ce wa st t5 := F3'.tr F5 (by omega) s4 (Nat.le_refl _)
    have hch5 := J5.2.2.2.2.1
    have ce0 : 0 < ce3 := s6.2.2.2.2.2
    have hi : i < 2147483648 := by omega
    have hM2 : ∀ j k, M j k → (fun j k => M j k ∨ (j = dep ∧ k = -2 - (c.nd : Int))) j k := fun j k h => Or.inl h
    have mv5 : mvE c (nd3, c.2) ce (ce3 + 1) M (fun j k => M j k ∨ (j = dep ∧ k = -2 - (c.nd : Int))) st t5 := ⟨⟨by show c.nd ≤ nd3; omega, Nat.le_refl _, Nat.le_refl _, fun k j z1 z2 z3 => F5'.2 k j (fun _ => z3) (fun q => by omega) (fun q => by omega) (by omega)⟩, hch, by omega, fun k j z1 z2 z3 => F5'.2 k j (fun q => by omega) (fun _ => z3) (fun q => by omega) (by omega), hM2⟩
    have l1 : lk t5 ce3 i = ce3 := by rw [lk_new hch5 ce0 (show e < ce3 by omega) c1 c2 hi hi, if_pos rfl]
    have eA : mE (nd3, c.2) (ce3 + 1) (fun j k => M j k ∨ (j = dep ∧ k = -2 - (c.nd : Int))) t5 (.append (vLoc dep) r) (i :: g) ce3 := by
      rw [mE_loc]
      exact ⟨⟨-2 - (c.nd : Int), Or.inr ⟨rfl, rfl⟩, Or.inl ⟨by omega, by omega, by rw [l1]; exact ce0, by rw [l1]; omega, by rw [l1]; exact c3⟩⟩, mE_push hch5 ce0 (show e < ce3 by omega) c1 c2 hi r g e rfl u11 u12 (mE_mv mv5 _ _ _ u5 u15)⟩
    have hMN : MN (fun j k => M j k ∨ (j = dep ∧ k = -2 - (c.nd : Int))) (c.nd :: g0) (dep + 1) (nd3, c.2) := by
      obtain ⟨m1, m2, m3⟩ := hM
      refine ⟨by simp [m1], fun z hz => ?_, fun j k hjk => ?_⟩
      · show z < nd3 ∨ z = 1000000
        rcases List.mem_cons.mp hz with rfl | h
        · omega
        · have := m2 z h; omega
      · rcases hjk with h | ⟨rfl, rfl⟩
        · obtain ⟨w1, id, w2, w4, w3⟩ := m3 j k h
          refine ⟨by omega, id, ?_, (by show id < nd3; omega), w3⟩
          rw [show dep + 1 - 1 - j = (dep - 1 - j) + 1 by omega, List.getElem?_cons_succ]
          exact w2
        · exact ⟨by omega, c.nd, by rw [show j + 1 - 1 - j = 0 by omega]; rfl, (by show c.nd < nd3; omega), Or.inr rfl⟩
    have hX5 : mXc (nd3, c.2) t5 X := mXc_up (c' := (nd3, c.2)) (mXc_mv F5' hX) (by show c.nd ≤ nd3; omega) rfl (by show nd3 ≤ 140000; omega)
    refine ih (nd3, c.2) _ (vClo bx (.append (vLoc dep) r)) yy ce3 (dep + 1) (c.nd :: g0) K3 t5 (ce3 + 1) wa x (y + 2) _ hMN ⟨bx, _, i :: g, rfl, by omega, fun z hz => by rcases List.mem_cons.mp hz with rfl | h; exact hi; exact u12 z h, mT_mv mv5.1 _ _ _ _ u14, eA⟩ ⟨bx, _, rfl, gb, ⟨by rcases dep with _ | _ | _ | _ | i <;> trivial, ge⟩⟩ hX5 (hS.mv F5' (by show c.nd ≤ nd3; omega) rfl) ((F5'.1 15 (by omega)).trans h15) (by omega) J5 ⟨⟨z1, z2, z3⟩, by show nd3 ≤ 140000; omega, by omega, by omega, y5, by omega⟩ (by omega) (by omega) (by omega) (by show nd3 + _ + _ ≤ _; omega) (fun t7 K7 ce7 nd7 tb nd2 q1 q2 q3 q4 q5 q6 q7 q8 q9 q10 => ⟨im, ?_⟩) (fun t7 K7 e7 ce7 nd7 r7 q1 q2 q3 q4 q5 q6 q7 q8 q9 q10 => ⟨im, ?_⟩)
    · have q5' : nd3 ≤ nd7 := q5
      have F7 : mfr c.nd ce wa st t7 := F5'.tr q3 (by show c.nd ≤ nd3; omega) (by omega) (Nat.le_refl _)
      have a7 : ∀ k j, (mput 51 (iI (base : Int)) (mst 33 (iI (c.nd : Int)) (iI (nd2 : Int)) t7)).2 k j = if k = 33 ∧ j = c.nd then iI (nd2 : Int) else t7.2 k j := fun k j => by rw [mput_a]; exact mst_a (by omega)
      obtain ⟨⟨v1, v2, v3⟩, w2, w3, w4, w5, w6⟩ := q7
      have J7 : MJ (mput 51 (iI (base : Int)) (mst 33 (iI (c.nd : Int)) (iI (nd2 : Int)) t7)) X K7 nd7 ce7 base := (q6.mst (k := 33) (i := c.nd) (by omega) (by omega)).setw
      have F7' : mfr c.nd ce base st (mput 51 (iI (base : Int)) (mst 33 (iI (c.nd : Int)) (iI (nd2 : Int)) t7)) := mfb (F7.tr (mfr_mst (nd := c.nd) (ce := ce) (wa := wa) (by omega) (Nat.le_refl _) (by omega)) (Nat.le_refl _) (Nat.le_refl _) (Nat.le_refl _))
      generalize mput 51 (iI (base : Int)) (mst 33 (iI (c.nd : Int)) (iI (nd2 : Int)) t7) = t8 at a7 J7 F7'
      have p7 : ∀ k j, 30 ≤ k → k ≤ 38 → j < nd3 → t7.2 k j = t5.2 k j := fun k j z1 z2 z3 => q3.2 k j (fun _ => z3) (fun q => by omega) (fun q => by omega) (by omega)
      have p5 : ∀ k j, 30 ≤ k → k ≤ 38 → t5.2 k j = t4.2 k j := fun k j z1 z2 => c5 k j (by omega)
      have made : ∀ k, 30 ≤ k → k ≤ 38 → k ≠ 33 → k ≠ 32 → t8.2 k c.nd = t2.2 k c.nd := fun k z1 z2 z3 z4 => by
        rw [a7, if_neg (by omega), p7 k _ z1 z2 (by omega), p5 k _ z1 z2, a3, if_neg (by omega)]; exact p3 k z1 z2
      have m30 : t8.2 30 c.nd = (if lm then iI 4 else iI 5) := by rw [made 30 (by omega) (by omega) (by omega) (by omega), am, if_neg (by omega), if_neg (by omega)]; exact n1
      have m38 : t8.2 38 c.nd = iI (c.nd : Int) := by rw [made 38 (by omega) (by omega) (by omega) (by omega), am, if_neg (by omega), if_neg (by omega)]; exact n5
      have m32 : t8.2 32 c.nd = iI (nd1 : Int) := by rw [a7, if_neg (by omega), p7 32 _ (by omega) (by omega) (by omega), p5 32 _ (by omega) (by omega), a3, if_pos ⟨rfl, rfl⟩]
      have m33 : t8.2 33 c.nd = iI (nd2 : Int) := by rw [a7, if_pos ⟨rfl, rfl⟩]
      have m36 : t8.2 36 c.nd = st.2 36 a := by rw [made 36 (by omega) (by omega) (by omega) (by omega), am, if_neg (by omega), if_pos ⟨rfl, rfl⟩]; exact na 36
      have m37 : t8.2 37 c.nd = st.2 37 a := by rw [made 37 (by omega) (by omega) (by omega) (by omega), am, if_pos ⟨rfl, rfl⟩]; exact na 37
      have hg0 : c.nd ∉ g0 := fun h => by have := hM.2.1 _ h; omega
      have h8 := hS.2.1
      have fd : mTf (nd7, c.2) c.nd t8 td g0 nd1 none := s10.mv (c' := (nd7, c.2)) q5' rfl (Nat.le_succ _) (fun k j z1 z2 hj => by
        have hj' : j ≠ c.nd ∧ j < nd3 := by
          rcases hj with ⟨w1, w2⟩ | w
          · have w1' : c.nd + 1 ≤ j := w1
            have w2' : j < nd3 := w2
            omega
          · omega
        rw [a7, if_neg (by omega), p7 k j z1 z2 hj'.2, p5 k j z1 z2, a3, if_neg (by omega)])
      have fb : mTf (nd7, c.2) c.nd t8 tb (c.nd :: g0) nd2 none := q10.mv (c' := (nd7, c.2)) (Nat.le_refl _) rfl (by show c.nd ≤ nd3; omega) (fun k j z1 z2 hj => by
        have hj' : j ≠ c.nd := by
          rcases hj with ⟨w1, w2⟩ | w
          · have w1' : nd3 ≤ j := w1
            omega
          · omega
        rw [a7, if_neg (by omega)])
      refine ok t8 K7 ce7 nd7 (if lm then Std.Format.tag 0 (.append td tb) else .tag p (.group (.append td tb) .fill)) c.nd (by rw [s1]; show sBind (sNorm X d (dep + 1) _ K3) _ = _; rw [q1]; rfl) (by omega) F7' (by omega) (by omega) J7 ⟨⟨v1, v2, v3⟩, w2, w3, by omega, by omega, w6⟩ (by omega) (by omega) ⟨fun st'' hst => ?_, by cases lm with | true => exact ⟨s10.2, q10.2⟩ | false => (show nT (.tag p (.group (.append td tb) .fill)); rw [nT_prod]; exact ⟨s10.2, q10.2⟩)⟩
      have hm : ∀ k, 30 ≤ k → k ≤ 38 → st''.2 k c.nd = t8.2 k c.nd := fun k z1 z2 => hst k c.nd z1 z2 (Or.inl ⟨Nat.le_refl _, by show c.nd < nd7; omega⟩)
      have d1 := fd.1 st'' hst
      have d2 := fb.1 st'' hst
      cases lm with
      | true =>
        exact ⟨by show c.nd < nd7; omega, by rw [hm 30 (by omega) (by omega)]; exact m30, nd1, nd2, c.nd, by rw [hm 32 (by omega) (by omega)]; exact m32, by rw [hm 33 (by omega) (by omega)]; exact m33, by rw [hm 38 (by omega) (by omega)]; exact m38, by show c.nd < nd7; omega, hg0, d1, d2⟩
      | false =>
        show mT (nd7, c.2) st'' (.tag p (.group (.append td tb) .fill)) g0 c.nd none
        rw [mT_prod]
        obtain ⟨o1, o2⟩ := u16 rfl
        exact ⟨by show c.nd < nd7; omega, by rw [hm 30 (by omega) (by omega)]; exact m30, by rw [hm 36 (by omega) (by omega), m36]; exact o1, by rw [hm 37 (by omega) (by omega), m37]; exact o2, nd1, nd2, c.nd, by rw [hm 32 (by omega) (by omega)]; exact m32, by rw [hm 33 (by omega) (by omega)]; exact m33, by rw [hm 38 (by omega) (by omega)]; exact m38, by show c.nd < nd7; omega, hg0, d1, d2⟩
    · have q6' : nd3 ≤ nd7 := q6
      have F7 : mfr c.nd ce wa st t7 := F5'.tr q3 (by show c.nd ≤ nd3; omega) (by omega) (Nat.le_refl _)
      exact er _ K7 e7 ce7 nd7 _ (by rw [s1]; show sBind (sNorm X d (dep + 1) _ K3) _ = _; rw [q1]; rfl) (by omega) (mfb (F7.tr (mfr_mst (nd := c.nd) (ce := ce) (wa := wa) (by omega) (Nat.le_refl _) (by omega)) (Nat.le_refl _) (Nat.le_refl _) (Nat.le_refl _))) (by omega) (by omega) (by omega) (by omega) q8 ((q9.mst (by omega) (by omega)).put) q10
  · have s6' : c.nd + 1 ≤ nd3 := s6
    have F3 : mfr c.nd ce wa st t3 := F1'.tr s3 (Nat.le_succ _) (Nat.le_refl _) (Nat.le_refl _)
    have Z4 := s9.mst (k := 32) (i := c.nd) (v := r3) (by omega) (by omega)
    have F4 : mfr c.nd ce wa st (mst 32 (iI (c.nd : Int)) r3 t3) := F3.tr (mfr_mst (nd := c.nd) (ce := ce) (wa := wa) (by omega) (Nat.le_refl _) (by omega)) (Nat.le_refl _) (Nat.le_refl _) (Nat.le_refl _)
    obtain ⟨w1, w2, w3⟩ := s10
    obtain ⟨l', rfl⟩ : ∃ l', lev = l' + 1 := ⟨lev - 1, by omega⟩
    refine tX5_inside ⟨ia, m_cellZ (by omega) Z4 (by omega) (fun r5 t5 Z5 F5 => m_normZ (by omega) Z5 ⟨im, ?_⟩)⟩
    exact er _ K3 e3 (ce3 + 1) nd3 _ (by rw [s1]; rfl) s2 (mfb ((F4.tr (F5 c.nd ce wa (by omega)) (Nat.le_refl _) (Nat.le_refl _) (Nat.le_refl _)).tr (mfr_mst (nd := c.nd) (ce := ce) (wa := wa) (by omega) (Nat.le_refl _) (by omega)) (Nat.le_refl _) (Nat.le_refl _) (Nat.le_refl _))) (by omega) (by omega) (by omega) (by omega) s8 ((Z5.mst (by omega) (by omega)).put) ⟨w1, w2, w3⟩
end MN2
