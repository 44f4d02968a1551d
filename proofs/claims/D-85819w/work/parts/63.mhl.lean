/-! M OVER S (4): the head's loop -/
theorem sSpend_eq {X : SX} {k : Nat} {K K' : KS} (h : sSpend X k K = (K', .ok ())) : K' = (K.work + 1, K.life + 1, (fun j => if j = k then K.sp k + 1 else K.sp j), K.2.2.2) := by
  unfold sSpend at h
  split at h
  · cases h
  · split at h
    · cases h
    · cases h; rfl
section MHL
variable {P : MPl} {s0 : State} {l : Launch} {XX : Prop} {lev : Nat} {Q : Outcome → MSt → Prop} {st st' st0 : MSt} {X : SX} {K K' : KS} {nd ce ce' wa x base : Nat} {c c' : MC} {M M' : Nat → Int → Prop} {x1 x2 : Int32}
theorem mfr_spend {k : Nat} {a b d : Int32} (hk : k < 6) : mfr nd ce wa st (mput (66 + k) a (mput 65 b (mput 64 d st))) := ((mfr_put (by omega)).tr (mfr_put (by omega)) (Nat.le_refl _) (Nat.le_refl _) (Nat.le_refl _)).tr (mfr_put (by omega)) (Nat.le_refl _) (Nat.le_refl _) (Nat.le_refl _)
/-- what is applied waits -/
theorem m_use {q : Nat} {g : List Nat} {ps r : V} {as : List V} {h : Nat → Nat} (hl : 3 ≤ lev) (hg : ∀ z ∈ g, z < 2147483648) (hq : q < ce) : ∀ (i : Nat) (K : KS) (st : MSt), i ≤ vlen ps → (∀ j, j < vlen ps → h (j + 1) < c.nd ∧ st.2 30 (h (j + 1)) = iI 7 ∧ st.2 32 (h (j + 1)) = iI (h j : Int) ∧ ∃ a : Nat, st.2 33 (h (j + 1)) = iI (a : Int) ∧ mT c st (vget ps j) g a none) → mE c ce M st r g q → c.nd ≤ 140000 → mW c ce M st base (vmapC r (vdrop i ps) ++ as) → MJ st X K c.nd ce (base + (vmapC r (vdrop i ps) ++ as).length) → MK X K c.nd ce (base + (vmapC r (vdrop i ps) ++ as).length) x →
    (∀ st' K', sSpendN X 3 i K = (K', .ok ()) → K'.life = K.life + i → mfr c.nd ce (base + (vmapC r (vdrop i ps) ++ as).length) st st' → MJ st' X K' c.nd ce (base + (vmapC r ps ++ as).length) → MK X K' c.nd ce (base + (vmapC r ps ++ as).length) x → mW c ce M st' base (vmapC r ps ++ as) → jX5_head_25 P s0 l XX lev st0 Q x1 x2 (iI (base : Int)) (iI (h 0 : Int)) (iI (q : Int)) (iI 1) st') →
    (∀ st' K' e, sSpendN X 3 i K = (K', .error e) → K.life ≤ K'.life → mfr c.nd ce (base + (vmapC r (vdrop i ps) ++ as).length) st st' → MZ st' X K' e c.nd ce → Q (.returned none) st') → jX5_head_25 P s0 l XX lev st0 Q x1 x2 (iI (base : Int)) (iI (h i : Int)) (iI (q : Int)) (iI 1) st := by
  intro i
  induction i with
  | zero =>
    intro K st hi hh hE hnd hW hJ hK ok er
    exact ok st K rfl rfl mfr.rf hJ hK hW
  | succ i ih =>
    intro K st hi hh hE hnd hW hJ hK ok er
    obtain ⟨p1, p2, p3, a, p4, p5⟩ := hh i (by omega)
    obtain ⟨k1, k2, k3, k4, k5, k6⟩ := hK
    have hkb := k1
    obtain ⟨b1, b2, b3⟩ := k1
    have h140 : h (i + 1) < 140000 := by omega
    have ed : vmapC r (vdrop i ps) = vClo (vget ps i) r :: vmapC r (vdrop (i + 1) ps) := vmapC_drop ps i (by omega)
    generalize hL : vmapC r (vdrop (i + 1) ps) = rest at *
    refine tX5_head_25 ⟨fun z => absurd z (by decide), fun _ => ⟨fun _ => ⟨iI_in h140 (by omega), ?_⟩, fun z => absurd (by rw [iI_z, iI_le (by omega) (by omega) (by omega) (by omega)]; omega) z⟩⟩
    rw [aI_n (by omega), p2]
    refine ⟨fun _ => ?_, fun z => absurd rfl z⟩
    refine m_may (k := 3) (by omega) hJ hkb (fun K1 s1 s2 s2' s2'' s3 => ⟨fun z => absurd z (by decide), fun _ => ?_⟩) (fun e st' s1 s2 s3 => ⟨fun _ => tX5_head_428 (m_end ?_), fun z => absurd rfl z⟩)
    · have J1 := hJ.spend (by omega : 3 < 6) s1
      have F1 : mfr c.nd ce (base + (rest ++ as).length) st (mput (66 + 3) (fI (mput 65 (fI st 65 + iI 1) (mput 64 (fI st 64 + iI 1) st)) (66 + 3) + iI 1) (mput 65 (fI st 65 + iI 1) (mput 64 (fI st 64 + iI 1) st))) := mfr_spend (by omega)
      have e49 : aI (mput 65 (fI st 65 + iI 1) (mput 64 (fI st 64 + iI 1) st)) 33 (iI (h (i + 1) : Int)) = iI (a : Int) := by rw [aI_n (by omega)]; exact p4
      have e32 : aI (mput 65 (fI st 65 + iI 1) (mput 64 (fI st 64 + iI 1) st)) 32 (iI (h (i + 1) : Int)) = iI (h i : Int) := by rw [aI_n (by omega)]; exact p3
      have e51 : fI (mput 65 (fI st 65 + iI 1) (mput 64 (fI st 64 + iI 1) st)) 51 = iI ((base + (rest ++ as).length : Nat) : Int) := by
        show (mput 65 _ (mput 64 _ st)).1 51 = _
        rw [mput_f, if_neg (by omega), mput_f, if_neg (by omega)]; exact hJ.2.2.1.2.2
      rw [e49, e32, e51, iI_suc]
      generalize mput (66 + 3) (fI (mput 65 (fI st 65 + iI 1) (mput 64 (fI st 64 + iI 1) st)) (66 + 3) + iI 1) (mput 65 (fI st 65 + iI 1) (mput 64 (fI st 64 + iI 1) st)) = st1 at J1 F1
      have hwa : base + (rest ++ as).length < 21000 := by omega
      refine ⟨iI_in h140 (by omega), iI_in hwa (by omega), iI_in hwa (by omega), iI_in h140 (by omega), tX5_head_428 ?_⟩
      obtain ⟨J2, F2, g1, g2⟩ := J1.push (a := iI (a : Int)) (b := iI (q : Int)) hwa
      have F3 := F1.tr F2 (Nat.le_refl _) (Nat.le_refl _) (Nat.le_refl _)
      generalize mput 51 (iI ((base + (rest ++ as).length + 1 : Nat) : Int)) (mst 50 (iI ((base + (rest ++ as).length : Nat) : Int)) (iI (q : Int)) (mst 49 (iI ((base + (rest ++ as).length : Nat) : Int)) (iI (a : Int)) st1)) = st2 at J2 F2 g1 g2 F3
      have mv2 : mvE c c ce ce M M st st2 := F3.E hJ.2.2.2.2.1 (Nat.le_refl _)
      have hlen : (vmapC r (vdrop i ps) ++ as).length = (rest ++ as).length + 1 := by rw [ed]; rfl
      refine ih K1 st2 (by omega) (fun j hj => ?_) (mE_mv mv2 _ _ _ hq hE) hnd ?_ ?_ ?_ (fun st' K' u1 u2 u3 u4 u5 u6 => ?_) (fun st' K' e u1 u2 u3 u4 => ?_)
      · obtain ⟨r1, r2, r3, a', r4, r5⟩ := hh j hj
        have nn : ∀ k, 30 ≤ k → k ≤ 38 → st2.2 k (h (j + 1)) = st.2 k (h (j + 1)) := fun k z1 z2 => mv2.1.2.2.2 k _ z1 z2 r1
        exact ⟨r1, by rw [nn 30 (by omega) (by omega)]; exact r2, by rw [nn 32 (by omega) (by omega)]; exact r3, a', by rw [nn 33 (by omega) (by omega)]; exact r4, mT_mv mv2.1 _ _ _ _ r5⟩
      · rw [ed]
        refine ⟨⟨a, q, g1, g2, vget ps i, r, g, rfl, hq, hg, mT_mv mv2.1 _ _ _ _ p5, mE_mv mv2 _ _ _ hq hE⟩, ?_⟩
        exact mW_mv mv2 _ (fun k j z1 z2 z3 => F3.2 k j (fun w => by omega) (fun w => by omega) (fun _ => z3) (by omega)) hW
      · rw [hlen]; exact J2
      · rw [hlen]
        have e1 : K1.2.2.2 = K.2.2.2 := s2''
        have e2 : K1.fr = K.fr := by show K1.2.2.2.2.2 = _; rw [e1]
        exact ⟨s3, k2, by omega, k4, by omega, by omega⟩
      · exact ok st' K' (by unfold sSpendN; rw [s1]; exact u1) (by omega) (F3.tr u3 (Nat.le_refl _) (Nat.le_refl _) (by rw [hlen]; omega)) u4 u5 u6
      · exact er st' K' e (by unfold sSpendN; rw [s1]; exact u1) (by omega) (F3.tr u3 (Nat.le_refl _) (Nat.le_refl _) (by rw [hlen]; omega)) u4
    · exact er _ K e (by unfold sSpendN; rw [s1]; rfl) (Nat.le_refl _) ((s3.tr (mfr_put (by omega)) (Nat.le_refl _) (Nat.le_refl _) (Nat.le_refl _)).tr (mfr_put (by omega)) (Nat.le_refl _) (Nat.le_refl _) (Nat.le_refl _)) (s2.put.put)
end MHL
