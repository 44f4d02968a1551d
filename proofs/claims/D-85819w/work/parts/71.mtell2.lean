/-! M OVER S (11): PureHouseModel.tell -/
/-- how: 0, 1: in ( ) if it binds, 2: also if it is applied -/
def hw (parts binds : Bool) : Nat := if parts then 2 else if binds then 1 else 0
def MTell (P : MPl) (s0 : State) (l : Launch) (XX : Prop) (X : SX) (c : MC) (lev d w : Nat) : Prop := ∀ (M : Nat → Int → Prop) (v : V) (na qa nb : Nat) (parts binds : Bool) (K : KS) (st : MSt) (ce wa x o : Nat) (Q : Outcome → MSt → Prop), (parts = true → binds = true) → MTl M → mC c ce M st v na qa → gKv v → mXc c st X → mNm c st X → nb + d ≤ 1000 → OB K o → MJ st X K c.nd ce wa → MK X K c.nd ce wa x → 2 * d + 2 ≤ x →
  (∀ st' K' ce', sTell X d v nb parts binds K = (K', .ok ()) → K.life ≤ K'.life → mfr c.nd ce wa st st' → ce ≤ ce' → MJ st' X K' c.nd ce' wa → MK X K' c.nd ce' wa x → OB K' (o + 2) → Q (.returned none) st') →
  (∀ st' K' e ce', sTell X d v nb parts binds K = (K', .error e) → K.life ≤ K'.life → mfr c.nd ce wa st st' → ce ≤ ce' → ce' ≤ 1 + 2 * K'.work + x → MZ st' X K' e c.nd ce' → OB K' o → Q (.returned none) st') → CQ (wM P s0 l XX) mX5_tell lev (.ref P.mo :: [.int (iI (na : Int)), .int (iI (qa : Int)), .int (iI (w : Int)), .int (iI (nb : Int)), .int (iI (hw parts binds : Int))]) st Q
section MT2
variable {P : MPl} {s0 : State} {l : Launch} {XX : Prop} {lev d w : Nat} {Q : Outcome → MSt → Prop} {st st' st0 : MSt} {X : SX} {K K' : KS} {nd ce ce' wa x base many o : Nat} {c c' : MC} {M M' : Nat → Int → Prop} {x1 x2 x5 x8 x9 x10 x11 : Int32}
theorem sPut_fr {ch : Nat} : (sPut ch K).fr = K.fr := rfl
theorem sPuts_fr : ∀ (bs : List Nat) (K : KS), (sPuts bs K).fr = K.fr ∧ (sPuts bs K).work = K.work := by
  intro bs
  induction bs with
  | nil => intro K; exact ⟨rfl, rfl⟩
  | cons b bs ih => intro K; exact ih (sPut b K)
theorem sNum_fr : ∀ (f v : Nat) (K : KS), (sNum f v K).fr = K.fr ∧ (sNum f v K).work = K.work := by
  intro f
  induction f with
  | zero => intro v K; exact ⟨rfl, rfl⟩
  | succ f ih =>
    intro v K
    unfold sNum
    split
    · exact ih (v / 10) K
    · exact ⟨rfl, rfl⟩
theorem sName_fr {u : V} : (sName X u K).fr = K.fr ∧ (sName X u K).work = K.work := by
  unfold sName
  split
  · exact sNum_fr _ _ _
  · exact sPuts_fr _ _
  · exact sPuts_fr _ _
  · exact ⟨rfl, rfl⟩
theorem MK.out (h : MK X K nd ce wa x) (h1 : K'.work = K.work) (h2 : K'.life = K.life) (h3 : K'.fr = K.fr) : MK X K' nd ce wa x := by
  obtain ⟨⟨a1, a2, a3⟩, b1, b2, b3, b4, b5⟩ := h
  exact ⟨⟨by omega, a2, by omega⟩, b1, by omega, b3, by omega, by omega⟩
/-- the front's name -/
theorem m_name {u : V} {n : Int32} {ku cu : Int} (hl : 15 ≤ lev) (hnd : c.nd ≤ 140000) (hnc : c.nc ≤ 100 ∧ c.ns ≤ 8) (hM : MTl M) (hf : fco c st M u n ku cu) (hN : mNm c st X) (ho : K.outs + 13 < 2000000000) (h : MJ0 st X K)
    (ok : ∀ st', mOnly st st' → MJ0 st' X (sName X u K) → jX5_tell_314 P s0 l XX lev st0 Q x1 x2 (iI (w : Int)) x8 x5 (iI (base : Int)) n x9 (iI ku) (iI 0) x11 st') : jX5_tell_111 P s0 l XX lev st0 Q x1 x2 (iI (w : Int)) x8 x5 (iI (base : Int)) n x9 (iI ku) (iI 0) x11 st := by
  refine tX5_tell_111 ⟨fun _ => ?_, fun z => absurd rfl z⟩
  rcases hf with ⟨j, rfl, hj, ⟨rfl, h1, h2, rfl⟩ | ⟨rfl, h1, h2, -⟩⟩ | ⟨k, r, rfl, rfl, rfl, hk, a, rfl, h3, h4, h5⟩ | ⟨k, r, rfl, rfl, rfl, hk, a, rfl, h3, h4, h5⟩
  · obtain ⟨m1, m2⟩ := hM j cu hj
    have eN : sName X (vLoc j) K = sNum 12 j (sPut 95 K) := by rcases j with _ | _ | _ | _ | j <;> rfl
    refine ⟨fun _ => m_out (ch := 95) (by omega) (by omega) h (fun s1 o1 j1 => ?_), fun z => absurd rfl z⟩
    have e1 : iI (-1000000) - iI cu = iI (j : Int) := by rw [iI_sub]; congr 1; omega
    rw [e1]
    exact m_num 11 j lev s1 (sPut 95 K) _ (by omega) (by omega) (by omega) (by rw [sPut_life.2]; omega) j1 (fun s2 o2 j2 => ok s2 (o1.t o2) (by rw [eN]; exact j2))
  · have := (hM j cu hj).2; omega
  · have hnk := hN.1 k hk
    refine ⟨fun z => absurd z (by decide), fun _ => ⟨fun z => absurd z (by decide), fun _ => ⟨iI_in (by omega) (by omega), iI_in (by omega) (by omega), ?_⟩⟩⟩
    rw [aI_n (by omega), h5, aI_n (by omega), hnk.1]
    have e1 : iI 12 * iI (k : Int) = iI ((12 * k : Nat) : Int) := by rw [iI_mul]; congr 1
    rw [e1]
    exact ⟨iI_in (by omega) (by omega), m_word (kr := 21) (kl := 22) (by omega) rfl (by show 12 * k + 12 ≤ 1200; omega) (by omega) hnk (by omega) (by omega) h (fun s1 o1 j1 => ok s1 o1 j1)⟩
  · have hnk := hN.2 k hk
    refine ⟨fun z => absurd z (by decide), fun _ => ⟨fun _ => ⟨iI_in (by omega) (by omega), iI_in (by omega) (by omega), ?_⟩, fun z => absurd rfl z⟩⟩
    rw [aI_n (by omega), h5, aI_n (by omega), hnk.1]
    have e1 : iI 12 * iI (k : Int) = iI ((12 * k : Nat) : Int) := by rw [iI_mul]; congr 1
    rw [e1]
    exact ⟨iI_in (by omega) (by omega), m_word (kr := 16) (kl := 17) (by omega) rfl (by show 12 * k + 12 ≤ 96; omega) (by omega) hnk (by omega) (by omega) h (fun s1 o1 j1 => ok s1 o1 j1)⟩
/-- what it is applied to -/
theorem m_each {nb : Nat} {x7 : Int32} (ih : MTell P s0 l XX X c lev d (w + 1)) (hl : 2 ≤ lev) (hd : nb + d ≤ 1000) (hx : 2 * d + 2 ≤ x) (hM : MTl M) (hbm : base + many ≤ 20000) : ∀ (ra : List V) (i : Nat) (K : KS) (st : MSt) (ce : Nat), i + ra.length = many + 1 → 1 ≤ i → mW c ce M st base ra → gA ra → mXc c st X → mNm c st X → OB K (o + 2) → MJ st X K c.nd ce (base + many) → MK X K c.nd ce (base + many) x →
    (∀ st' K' ce', sEach (fun c K => sTell X d c nb true true K) ra K = (K', .ok ()) → K.life ≤ K'.life → mfr c.nd ce (base + many) st st' → ce ≤ ce' → MJ st' X K' c.nd ce' (base + many) → MK X K' c.nd ce' (base + many) x → OB K' (o + 2) → jX5_tell_382 P s0 l XX lev st0 Q x1 x2 (iI (w : Int)) (iI (nb : Int)) x5 (iI (base : Int)) x7 x8 x9 x10 x11 st') →
    (∀ st' K' e ce', sEach (fun c K => sTell X d c nb true true K) ra K = (K', .error e) → K.life ≤ K'.life → mfr c.nd ce (base + many) st st' → ce ≤ ce' → ce' ≤ 1 + 2 * K'.work + x → MZ st' X K' e c.nd ce' → OB K' o → Q (.returned none) st') → jX5_tell_323 P s0 l XX lev st0 Q x1 x2 (iI (w : Int)) (iI (nb : Int)) x5 (iI (base : Int)) x7 x8 x9 x10 x11 (iI ((base + many : Nat) : Int)) (iI (i : Int)) st := by
  intro ra
  induction ra with
  | nil =>
    intro i K st ce hi h1 hW ga hX hN hO hJ hK ok er
    simp at hi
    have e1 : iI ((base + many : Nat) : Int) - iI (base : Int) = iI (many : Int) := by rw [iI_sub]; congr 1; omega
    refine tX5_tell_323 ⟨fun _ => ?_, fun z => absurd hJ.2.2.2.1 z⟩
    rw [e1]
    refine ⟨fun _ => ok st K ce rfl (Nat.le_refl _) mfr.rf (Nat.le_refl _) hJ hK hO, fun z => ?_⟩
    exact absurd (by rw [iI_lt (by omega) (by omega) (by omega) (by omega)]; omega) z
  | cons a ra iha =>
    intro i K st ce hi h1 hW ga hX hN hO hJ hK ok er
    simp at hi
    obtain ⟨⟨na, qa, a1, a2, a3⟩, a4⟩ := hW
    have gva := ga a List.mem_cons_self
    have hka : gKv a := by
      obtain ⟨t, r, g, h1, -⟩ := a3
      subst h1
      exact ⟨t, r, rfl, gT_up _ _ _ gva.1.1, gva.1.2⟩
    have e1 : iI ((base + many : Nat) : Int) - iI (base : Int) = iI (many : Int) := by rw [iI_sub]; congr 1; omega
    have i1 : iI ((base + many : Nat) : Int) - iI (i : Int) = iI ((base + ra.length : Nat) : Int) := by rw [iI_sub]; congr 1; omega
    have hlt := hO.lt
    refine tX5_tell_323 ⟨fun _ => ?_, fun z => absurd hJ.2.2.2.1 z⟩
    rw [e1, i1]
    refine ⟨fun z => ?_, fun _ => m_out (ch := 32) (by omega) (by omega) hJ.1 (fun s1 o1 j1 => ⟨iI_in (by omega) (by omega), iI_in (by omega) (by omega), ?_⟩)⟩
    · rw [iI_lt (by omega) (by omega) (by omega) (by omega)] at z; omega
    · have F1 : mfr c.nd ce (base + many) st s1 := o1.fr
      have mv1 : mvE c c ce ce M M st s1 := F1.E hJ.2.2.2.2.1 (Nat.le_refl _)
      rw [aI_n (by omega), aI_n (by omega), o1.2 49 _ (by omega), o1.2 50 _ (by omega), a1, a2, iI_suc]
      refine ih M a na qa nb true true (sPut 32 K) s1 ce (base + many) x (o + 1) _ (fun h => h) hM (mC_mv mv1 a3) hka (mXc_mv F1 hX) (mNm_mv F1 hN) hd (OB.put (hO.le (by omega))) (hJ.only o1 j1 rfl) (hK.out rfl rfl rfl) hx (fun t1 K1 ce1 s2 s3 s4 s5 s6 s7 s8 => ?_) (fun t1 K1 e ce1 s2 s3 s4 s5 s6 s7 s8 => ?_)
      · have F2 := F1.tr s4 (Nat.le_refl _) (Nat.le_refl _) (Nat.le_refl _)
        have mv2 : mvE c c ce ce1 M M st t1 := F2.E hJ.2.2.2.2.1 s5
        rw [iI_suc]
        exact iha (i + 1) K1 t1 ce1 (by omega) (by omega) (mW_mv mv2 _ (fun k j z1 z2 z3 => F2.2 k j (fun w => by omega) (fun w => by omega) (fun _ => by omega) (by omega)) a4) (fun v hv => ga v (List.mem_cons_of_mem _ hv)) (mXc_mv F2 hX) (mNm_mv F2 hN) (s8.le (by omega)) s6 s7 (fun st' K' ce' u1 u2 u3 u4 u5 u6 u7 => ok st' K' ce' (by unfold sEach; rw [s2]; exact u1) (by rw [sPut_life.1] at s3; omega) (F2.tr u3 (Nat.le_refl _) s5 (Nat.le_refl _)) (by omega) u5 u6 u7) (fun st' K' e ce' u1 u2 u3 u4 u5 u6 u7 => er st' K' e ce' (by unfold sEach; rw [s2]; exact u1) (by rw [sPut_life.1] at s3; omega) (F2.tr u3 (Nat.le_refl _) s5 (Nat.le_refl _)) (by omega) u5 u6 u7)
      · have F2 := F1.tr s4 (Nat.le_refl _) (Nat.le_refl _) (Nat.le_refl _)
        have hb : jX5_tell_323 P s0 l XX lev st0 Q x1 x2 (iI (w : Int)) (iI (nb : Int)) x5 (iI (base : Int)) x7 x8 x9 x10 x11 (iI ((base + many : Nat) : Int)) (iI (i : Int) + iI 1) t1 := tX5_tell_323 ⟨fun z => absurd z s7.ne, fun _ => tX5_tell_382 ⟨fun z => absurd z s7.ne, fun _ => er t1 K1 e ce1 (by unfold sEach; rw [s2]; rfl) (by rw [sPut_life.1] at s3; omega) F2 s5 s6 s7 (s8.le (by omega))⟩⟩
        exact hb
end MT2
