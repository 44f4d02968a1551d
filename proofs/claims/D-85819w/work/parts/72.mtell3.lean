/-! M OVER S (12): PureHouseModel.tell, all of it -/
section MT3
variable {P : MPl} {s0 : State} {l : Launch} {XX : Prop} {lev d w : Nat} {Q : Outcome → MSt → Prop} {st st' st0 : MSt} {X : SX} {K K' : KS} {nd ce ce' wa x base many o nb : Nat} {c c' : MC} {M M' : Nat → Int → Prop} {x1 x2 x5 x8 x9 x10 x11 : Int32}
theorem sPut_work {ch : Nat} : (sPut ch K).work = K.work := rfl
/-- a binder -/
theorem m_bind {u dx bx r : V} {lm : Bool} {p a e xx yy i : Nat} {g : List Nat} {n q : Int32} (ih : MTell P s0 l XX X c lev d (w + 1)) (hl : 15 ≤ lev) (hw' : w < 100) (hd : nb + 1 + d ≤ 1000) (hM : MTl M) (hu : bco c ce M st u n q lm p dx bx r a e xx yy i g) (gu : gR X u) (hX : mXc c st X) (hN : mNm c st X) (hO : OB K (o + 20)) (hJ : MJ st X K c.nd ce wa) (hK : MK X K c.nd ce wa (x - 2)) (hx : 2 * d + 4 ≤ x) (hx3 : x ≤ 30000)
    (ok : ∀ st' K' ce', sBnd X d nb lm dx bx r K = (K', .ok ()) → K.life ≤ K'.life → mfr c.nd ce wa st st' → ce ≤ ce' → MJ st' X K' c.nd ce' wa → MK X K' c.nd ce' wa x → OB K' (o + 4) → jX5_tell_382 P s0 l XX lev st0 Q x1 x2 (iI (w : Int)) (iI (nb : Int)) x5 (iI (base : Int)) (iI (a : Int)) (iI (e : Int)) (if lm then iI 4 else iI 5) (iI 1) x11 st')
    (er : ∀ st' K' e ce', sBnd X d nb lm dx bx r K = (K', .error e) → K.life ≤ K'.life → mfr c.nd ce wa st st' → ce ≤ ce' → ce' ≤ 1 + 2 * K'.work + x → MZ st' X K' e c.nd ce' → OB K' o → Q (.returned none) st') : jX5_tell_111 P s0 l XX lev st0 Q x1 x2 (iI (w : Int)) (iI (nb : Int)) x5 (iI (base : Int)) (iI (a : Int)) (iI (e : Int)) (if lm then iI 4 else iI 5) (iI 1) x11 st := by
  obtain ⟨u1, u2, u3, u4, u5, u6, u7, u8, u9, u10, u11, u12, u13, u14, u15, -⟩ := hu
  obtain ⟨gd, gb, ge, gw⟩ := gR_binds gu u1
  have hnd := hX.2.2.2
  have h1 : a < 140000 := by omega
  have hch := hJ.2.2.2.2.1
  have hlt : K.outs + (o + 20) ≤ 2000000000 := hO.lt
  have main : ∀ ch : Nat, ch = (if lm then 92 else 33) → CQ (wM P s0 l XX) mX5_put lev (.ref P.mo :: [.int (iI (ch : Int))]) st (onV (fun t11 => (CQ (wM P s0 l XX) mX5_put lev (.ref P.mo :: [.int (iI 95)]) t11 (onV (fun t13 => (CQ (wM P s0 l XX) mX5_number lev (.ref P.mo :: [.int (iI (nb : Int))]) t13 (onV (fun t15 => (CQ (wM P s0 l XX) mX5_put lev (.ref P.mo :: [.int (iI 58)]) t15 (onV (fun t17 => (inr (iI (a : Int)) 140000 ∧ (CQ (wM P s0 l XX) mX5_tell lev (.ref P.mo :: [.int (aI t17 32 (iI (a : Int))), .int (iI (e : Int)), .int (iI (w : Int) + iI 1), .int (iI (nb : Int)), .int (iI 1)]) t17 (onV (fun t19 => (((fI t19 72) = 0 → (CQ (wM P s0 l XX) mX5_put lev (.ref P.mo :: [.int (iI 46)]) t19 (onV (fun t21 => (inr (iI (a : Int)) 140000 ∧ (CQ (wM P s0 l XX) mX5_inside lev (.ref P.mo :: [.int (iI (a : Int)), .int (iI (e : Int)), .int ((iI (-1000000)) - iI (nb : Int))]) t21 (onI (fun r24 t23 => (CQ (wM P s0 l XX) mX5_tell lev (.ref P.mo :: [.int (aI t21 33 (iI (a : Int))), .int r24, .int (iI (w : Int) + iI 1), .int (iI (nb : Int) + iI 1), .int (iI 0)]) t23 (onV (fun t25 => jX5_tell_382 P s0 l XX lev st0 Q x1 x2 (iI (w : Int)) (iI (nb : Int)) x5 (iI (base : Int)) (iI (a : Int)) (iI (e : Int)) (if lm then iI 4 else iI 5) (iI 1) x11 t25) (fun x t => Q (.threw x) t)))) (fun x t => Q (.threw x) t))))) (fun x t => Q (.threw x) t)))) ∧ (¬ (fI t19 72) = 0 → Q (.returned none) t19))) (fun x t => Q (.threw x) t))))) (fun x t => Q (.threw x) t)))) (fun x t => Q (.threw x) t)))) (fun x t => Q (.threw x) t)))) (fun x t => Q (.threw x) t)) := by
    intro ch hche
    refine m_out (by omega) (by omega) hJ.1 (fun t11 o1 j1 => ?_)
    refine m_out (ch := 95) (by omega) (by rw [sPut_life.2]; omega) j1 (fun t13 o2 j2 => ?_)
    refine m_num 11 nb lev t13 (sPut 95 (sPut ch K)) _ (by omega) (by omega) (by omega) (by rw [sPut_life.2, sPut_life.2]; omega) j2 (fun t15 o3 j3 => ?_)
    have nk := sNum_k (11 + 1) nb (sPut 95 (sPut ch K))
    rw [sPut_life.1, sPut_life.1, sPut_life.2, sPut_life.2] at nk
    refine m_out (ch := 58) (by omega) (by omega) j3 (fun t17 o4 j4 => ⟨iI_in h1 (by omega), ?_⟩)
    have O17 : mOnly st t17 := ((o1.t o2).t o3).t o4
    have F17 : mfr c.nd ce wa st t17 := O17.fr
    have mv17 : mvE c c ce ce M M st t17 := F17.E hch (Nat.le_refl _)
    have OB17 : OB (sPut 58 (sNum 12 nb (sPut 95 (sPut ch K)))) (o + 3) := OB.put (OB.num (OB.put (OB.put (hO.le (by omega)))))
    have eB : sBnd X d nb lm dx bx r K = sBind (sTell X d (vClo dx r) nb false true (sPut 58 (sNum 12 nb (sPut 95 (sPut ch K))))) fun _ K => sTell X d (vClo bx (.append (vLoc nb) r)) (nb + 1) false false (sPut 46 K) := by unfold sBnd; rw [hche]
    have k17 : (sPut 58 (sNum 12 nb (sPut 95 (sPut ch K)))).life = K.life ∧ (sPut 58 (sNum 12 nb (sPut 95 (sPut ch K)))).work = K.work ∧ (sPut 58 (sNum 12 nb (sPut 95 (sPut ch K)))).fr = K.fr := ⟨nk.1, (sNum_fr 12 nb _).2, (sNum_fr 12 nb _).1⟩
    have J17 : MJ t17 X (sPut 58 (sNum 12 nb (sPut 95 (sPut ch K)))) c.nd ce wa := hJ.only O17 j4 k17.2.2
    have K17 : MK X (sPut 58 (sNum 12 nb (sPut 95 (sPut ch K)))) c.nd ce wa (x - 2) := hK.out k17.2.1 k17.1 k17.2.2
    generalize sPut 58 (sNum 12 nb (sPut 95 (sPut ch K))) = K1 at OB17 eB k17 J17 K17
    rw [aI_n (by omega), mv17.1.2.2.2 32 a (by omega) (by omega) u4, u7, iI_suc]
    refine ih M (vClo dx r) xx e nb false true K1 t17 ce wa (x - 2) (o + 3) _ (fun h => by cases h) hM ⟨dx, r, g, rfl, u5, u12, mT_mv mv17.1 _ _ _ _ u13, mE_mv mv17 _ _ _ u5 u15⟩ ⟨dx, r, rfl, gT_up _ _ _ gd, ge⟩ (mXc_mv F17 hX) (mNm_mv F17 hN) (by omega) OB17 J17 K17 (by omega) (fun t19 K19 ce19 s1 s2 s3 s4 s5 s6 s7 => ⟨fun _ => ?_, fun z => absurd s5.2.2.2.1 z⟩) (fun t19 K19 e19 ce19 s1 s2 s3 s4 s5 s6 s7 => ⟨fun z => absurd z s6.ne, fun _ => ?_⟩)
    · have F19 := F17.tr s3 (Nat.le_refl _) (Nat.le_refl _) (Nat.le_refl _)
      have o19 := s7.lt
      refine m_out (ch := 46) (by omega) (by omega) s5.1 (fun t21 o5 j5 => ⟨iI_in h1 (by omega), ?_⟩)
      have F21 : mfr c.nd ce wa st t21 := F19.tr (nd' := c.nd) (ce' := ce19) (wa' := wa) o5.fr (Nat.le_refl _) s4 (Nat.le_refl _)
      have mv21 : mvE c c ce ce19 M M st t21 := F21.E hch s4
      have J21 : MJ t21 X (sPut 46 K19) c.nd ce19 wa := s5.only o5 j5 rfl
      obtain ⟨⟨z1, z2, z3⟩, y2, y3, y4, y5, y6⟩ := s6
      refine m_inside (i := i) (by omega) h1 (by rw [mv21.1.2.2.2 38 a (by omega) (by omega) u4]; exact u9) J21 (by omega) (by omega) (fun t23 J23 F23 c1 c2 c3 c4 c5 => ?_)
      have F23' := F21.tr F23 (Nat.le_refl _) s4 (Nat.le_refl _)
      have mv23 : mvE c c ce (ce19 + 1) M M st t23 := F23'.E hch (by omega)
      have hM2 : ∀ j k, M j k → (fun j k => M j k ∨ (j = nb ∧ k = -1000000 - (nb : Int))) j k := fun j k h => Or.inl h
      have mvA : mvE c c ce (ce19 + 1) M (fun j k => M j k ∨ (j = nb ∧ k = -1000000 - (nb : Int))) st t23 := mv23.L hM2
      have ch23 := J23.2.2.2.2.1
      have ce0 : 0 < ce19 := s5.2.2.2.2.2
      have hi : i < 2147483648 := by omega
      have l1 : lk t23 ce19 i = ce19 := by rw [lk_new ch23 ce0 (show e < ce19 by omega) c1 c2 hi hi, if_pos rfl]
      have ec : iI (-1000000) - iI (nb : Int) = iI (-1000000 - (nb : Int)) := by rw [iI_sub]
      have eA : mE c (ce19 + 1) (fun j k => M j k ∨ (j = nb ∧ k = -1000000 - (nb : Int))) t23 (.append (vLoc nb) r) (i :: g) ce19 := by
        rw [mE_loc]
        exact ⟨⟨-1000000 - (nb : Int), Or.inr ⟨rfl, rfl⟩, Or.inl ⟨by omega, by omega, by rw [l1]; exact ce0, by rw [l1]; omega, by rw [l1, c3, ec]⟩⟩, mE_push ch23 ce0 (show e < ce19 by omega) c1 c2 hi r g e rfl u11 u12 (mE_mv mvA _ _ _ u5 u15)⟩
      rw [aI_n (by omega), mv21.1.2.2.2 33 a (by omega) (by omega) u4, u8, iI_suc]
      refine ih _ (vClo bx (.append (vLoc nb) r)) yy ce19 (nb + 1) false false (sPut 46 K19) t23 (ce19 + 1) wa x (o + 4) _ (fun h => by cases h) (fun j k h => by rcases h with h | ⟨rfl, rfl⟩; exact hM j k h; exact ⟨by omega, rfl⟩) ⟨bx, _, i :: g, rfl, by omega, fun z hz => by rcases List.mem_cons.mp hz with rfl | h; exact hi; exact u12 z h, mT_mv mv23.1 _ _ _ _ u14, eA⟩ ⟨bx, _, rfl, gb, ⟨by rcases nb with _ | _ | _ | _ | i <;> trivial, ge⟩⟩ (mXc_mv F23' hX) (mNm_mv F23' hN) (by omega) (OB.put (s7.le (by omega))) J23 ⟨⟨z1, z2, z3⟩, y2, by show ce19 + 1 ≤ 1 + 2 * K19.work + x; omega, hx3, y5, by show K19.fr ≤ 2 * K19.work + x; omega⟩ (by omega) (fun t25 K25 ce25 q1 q2 q3 q4 q5 q6 q7 => ?_) (fun t25 K25 e25 ce25 q1 q2 q3 q4 q5 q6 q7 => ?_)
      · exact ok t25 K25 ce25 (by rw [eB, s1]; exact q1) (by rw [sPut_life.1] at q2; omega) (F23'.tr q3 (Nat.le_refl _) (by omega) (Nat.le_refl _)) (by omega) q5 q6 (q7.le (by omega))
      · refine tX5_tell_382 ⟨fun z => absurd z q6.ne, fun _ => ?_⟩
        exact er t25 K25 e25 ce25 (by rw [eB, s1]; exact q1) (by rw [sPut_life.1] at q2; omega) (F23'.tr q3 (Nat.le_refl _) (by omega) (Nat.le_refl _)) (by omega) q5 q6 (q7.le (by omega))
    · exact er t19 K19 e19 ce19 (by rw [eB, s1]; rfl) (by omega) (F17.tr s3 (Nat.le_refl _) (Nat.le_refl _) (Nat.le_refl _)) s4 (by omega) s6 (s7.le (by omega))
  refine tX5_tell_111 ⟨fun z => absurd z (by decide), fun _ => ?_⟩
  cases lm with
  | true => exact ⟨fun _ => main 92 rfl, fun z => absurd rfl z⟩
  | false => exact ⟨fun z => absurd z (by decide), fun _ => main 33 rfl⟩
end MT3
