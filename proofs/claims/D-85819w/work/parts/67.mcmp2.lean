/-! M OVER S (8): PureHouseModel.compare -/
section MC2
variable {P : MPl} {s0 : State} {l : Launch} {XX : Prop} {lev d w : Nat} {Q : Outcome → MSt → Prop} {st st' st0 : MSt} {X : SX} {K K' : KS} {nd ce ce' wa x base many : Nat} {c c' : MC} {M M' : Nat → Int → Prop} {x1 x2 x3 x4 x5 x6 x8 x9 : Int32}
theorem mHd_mv {u : V} {n q : Int32} (h : mvE c c ce ce' M M st st') (hu : mHd c ce M st u n q) : mHd c ce' M st' u n q := by
  rcases hu with ⟨a, b, h1, h2, h3⟩ | ⟨j, k, h1, h2, h3⟩
  · exact Or.inl ⟨a, b, h1, h2, mC_mv h h3⟩
  · refine Or.inr ⟨j, k, h1, h2, ?_⟩
    rcases h3 with h3 | ⟨z1, z2, a, b, z3, z4, z5, z6, z7, z8⟩
    · exact Or.inl h3
    · exact Or.inr ⟨z1, z2, a, b, z3, z4, Nat.lt_of_lt_of_le z5 h.2.2.1, z6, by rw [h.1.2.2.2 30 a (by omega) (by omega) z6]; exact z7, by rw [h.1.2.2.2 31 a (by omega) (by omega) z6]; exact z8⟩
theorem m_headZ {e : Nat} {a b : Int32} (hl : 1 ≤ lev) (h : MZ st X K e nd ce) (ok : Q (.returned none) (mput 53 b (mput 52 a st))) : CQ (wM P s0 l XX) mX5_head lev (.ref P.mo :: [.int a, .int b]) st Q := by
  obtain ⟨l', rfl⟩ := Nat.exists_eq_add_of_le' hl
  refine tX5_head ⟨fun z => ?_, fun _ => m_end ok⟩
  rw [h.2.1, iI_z, iI_eq (by omega) (by have := h.2.2.2.1.2; omega) (by omega) (by omega)] at z
  have := h.2.2.2.1.1; omega
theorem MZ.ne {e : Nat} (h : MZ st X K e nd ce) : ¬ fI st 72 = 0 := fun z => by
  rw [h.2.1, iI_z, iI_eq (by omega) (by have := h.2.2.2.1.2; omega) (by omega) (by omega)] at z
  have := h.2.2.2.1.1; omega
theorem m_kindf {u : V} {n : Int32} {ku cu : Int} (hl : 1 ≤ lev) (hnd : c.nd ≤ 140000) (hf : fco c st M u n ku cu) (ok : Q (.returned (some (.int (iI ku)))) st) : CQ (wM P s0 l XX) mX5_kindOf lev (.ref P.mo :: [.int n]) st Q := by
  rcases hf with ⟨j, -, -, ⟨rfl, h1, h2, rfl⟩ | ⟨rfl, h1, h2, a, rfl, h3, h4, h5⟩⟩ | ⟨k, r, -, rfl, -, -, a, rfl, h3, h4, h5⟩ | ⟨k, r, -, rfl, -, -, a, rfl, h3, h4, h5⟩
  · exact m_kind hl (Or.inl ⟨h1, h2, rfl⟩) ok
  · exact m_kind hl (Or.inr ⟨by omega, by omega, h4⟩) ok
  · exact m_kind hl (Or.inr ⟨by omega, by omega, h4⟩) ok
  · exact m_kind hl (Or.inr ⟨by omega, by omega, h4⟩) ok
theorem fco_k {u : V} {n : Int32} {ku cu : Int} (hf : fco c st M u n ku cu) : ku = -1 ∨ ku = 1 ∨ ku = 2 ∨ ku = 3 := by
  rcases hf with ⟨j, -, -, ⟨rfl, -⟩ | ⟨rfl, -⟩⟩ | ⟨k, r, -, rfl, -⟩ | ⟨k, r, -, rfl, -⟩ <;> omega
theorem m_kindb {a : Nat} {lm : Bool} (hl : 1 ≤ lev) (ha : a < 140000) (hk : st.2 30 a = (if lm then iI 4 else iI 5)) (ok : Q (.returned (some (.int (if lm then iI 4 else iI 5)))) st) : CQ (wM P s0 l XX) mX5_kindOf lev (.ref P.mo :: [.int (iI (a : Int))]) st Q := by
  cases lm with
  | true => exact m_kind (kd := 4) hl (Or.inr ⟨by omega, by omega, hk⟩) ok
  | false => exact m_kind (kd := 5) hl (Or.inr ⟨by omega, by omega, hk⟩) ok
theorem m_no {x7 x10 : Int32} (hq : Q (.returned (some (.int (iI 0)))) st) : jX5_alike_208 P s0 l XX lev st0 Q x1 x2 x3 x4 x5 x6 x7 x8 x9 x10 st := tX5_alike_208 (tX5_alike_220 ⟨fun _ => ⟨isZ0, hq⟩, fun z => absurd rfl z⟩)
theorem m_no2 {x7 : Int32} (h : ¬ x8 = x9) (hq : Q (.returned (some (.int (iI 0)))) st) : jX5_alike_131 P s0 l XX lev st0 Q x1 x2 x3 x4 x5 x6 x7 x8 x9 st := tX5_alike_131 ⟨fun q => absurd q h, fun _ => m_no hq⟩
/-- two names -/
theorem m_ff {u v : V} {n n' : Int32} {ku cu kv cv : Int} {la lb : Nat} {x7 : Int32} (hnd : c.nd ≤ 140000) (hnc : c.nc ≤ 100 ∧ c.ns ≤ 8) (hF : MF M K) (hu : fco c st M u n ku cu) (hv : fco c st M v n' kv cv) (h51 : fI st 51 = iI ((base + la + lb : Nat) : Int)) (hb : base + la + lb < 1000000)
    (yes : sFront u v = true → la = lb → jX5_alike_204 P s0 l XX lev st0 Q n x2 (iI ((base + la : Nat) : Int)) (iI (base : Int)) n' x6 x7 (iI ku) (iI kv) (iI (la : Int)) st)
    (no : (sFront u v && la == lb) = false → Q (.returned (some (.int (iI 0)))) st) : jX5_alike_131 P s0 l XX lev st0 Q n x2 (iI ((base + la : Nat) : Int)) (iI (base : Int)) n' x6 x7 (iI ku) (iI kv) st := by
  have hiff := fco_iff hF hu hv
  have hku := fco_k hu
  have hkv := fco_k hv
  have e1 : iI ((base + la : Nat) : Int) - iI (base : Int) = iI (la : Int) := by rw [iI_sub]; congr 1; omega
  have e2 : fI st 51 - iI ((base + la : Nat) : Int) = iI (lb : Int) := by rw [h51, iI_sub]; congr 1; omega
  have nof : ¬ (ku = kv ∧ cu = cv) → Q (.returned (some (.int (iI 0)))) st := fun h => no (by
    have : sFront u v = false := by
      cases hs : sFront u v with
      | false => rfl
      | true => exact absurd (hiff.mp hs) h
    rw [this]; rfl)
  refine tX5_alike_131 ⟨fun q => ?_, fun q => ?_⟩
  · rw [iI_eq (by omega) (by omega) (by omega) (by omega)] at q
    subst q
    rw [e1, e2]
    refine ⟨fun q => ?_, fun q => ?_⟩
    · rw [iI_eq (by omega) (by omega) (by omega) (by omega)] at q
      have hlen : la = lb := by omega
      have one : ∀ a a' : Nat, n = iI (a : Int) → n' = iI (a' : Int) → a < c.nd → a' < c.nd → st.2 31 a = iI cu → st.2 31 a' = iI cv → 0 ≤ cu → cu < 140000 → 0 ≤ cv → cv < 140000 → jX5_alike_188 P s0 l XX lev st0 Q n x2 (iI ((base + la : Nat) : Int)) (iI (base : Int)) n' x6 x7 (iI ku) (iI ku) (iI (la : Int)) st := by
        rintro a a' rfl rfl h1 h2 h3 h4 h5 h6 h7 h8
        refine tX5_alike_188 ⟨iI_in (by omega) (by omega), iI_in (by omega) (by omega), ?_⟩
        rw [aI_n (by omega), aI_n (by omega), h3, h4]
        refine ⟨fun z => yes (hiff.mpr ⟨rfl, ?_⟩) hlen, fun z => m_no (nof (fun h => z (by rw [h.2])))⟩
        rw [iI_eq (by omega) (by omega) (by omega) (by omega)] at z
        exact z
      rcases hu with ⟨j, -, -, ⟨hk1, h1, h2, hn⟩ | ⟨hk1, h1, h2, a, hn, h3, h4, h5⟩⟩ | ⟨k, r, -, hk1, hc, hkc, a, hn, h3, h4, h5⟩ | ⟨k, r, -, hk1, hc, hkc, a, hn, h3, h4, h5⟩ <;> rcases hv with ⟨j', -, -, ⟨hk2, g1, g2, hn'⟩ | ⟨hk2, g1, g2, a', hn', g3, g4, g5⟩⟩ | ⟨k', r', -, hk2, hc', hkc', a', hn', g3, g4, g5⟩ | ⟨k', r', -, hk2, hc', hkc', a', hn', g3, g4, g5⟩ <;> first | (exfalso; omega) | skip
      · refine ⟨fun _ => ⟨fun z => yes (hiff.mpr ⟨rfl, ?_⟩) hlen, fun z => m_no (nof (fun h => z (by rw [hn, hn', h.2])))⟩, fun z => absurd (by rw [hk1]) z⟩
        rw [hn, hn', iI_eq (by omega) (by omega) (by omega) (by omega)] at z
        exact z
      · have o1 := one a a' hn hn' h3 g3 h5 g5 h1 h2 g1 g2
        exact ⟨fun z => (by rw [hk1] at z; exact absurd z (by decide)), fun _ => ⟨fun _ => o1, fun z => absurd (by rw [hk1]) z⟩⟩
      · have o1 := one a a' hn hn' h3 g3 (by rw [hc]; exact h5) (by rw [hc']; exact g5) (by omega) (by omega) (by omega) (by omega)
        exact ⟨fun z => (by rw [hk1] at z; exact absurd z (by decide)), fun _ => ⟨fun z => (by rw [hk1] at z; exact absurd z (by decide)), fun _ => ⟨fun _ => o1, fun z => absurd (by rw [hk1]) z⟩⟩⟩
      · have o1 := one a a' hn hn' h3 g3 (by rw [hc]; exact h5) (by rw [hc']; exact g5) (by omega) (by omega) (by omega) (by omega)
        exact ⟨fun z => (by rw [hk1] at z; exact absurd z (by decide)), fun _ => ⟨fun z => (by rw [hk1] at z; exact absurd z (by decide)), fun _ => ⟨fun z => (by rw [hk1] at z; exact absurd z (by decide)), fun _ => ⟨fun _ => o1, fun z => absurd (by rw [hk1]) z⟩⟩⟩⟩
    · refine m_no (no ?_)
      have : la ≠ lb := fun h => q (by rw [h])
      rw [beq_false_of_ne this, Bool.and_false]
  · exact m_no (nof (fun h => q (by rw [h.1])))
theorem m_sargs (ih : MCmp P s0 l XX X c lev d (w + 1)) (hb : base + many + many ≤ 20000) (hx : 2 * d + 2 ≤ x) : ∀ (ra rb : List V) (i : Nat) (K : KS) (st : MSt) (ce : Nat), ra.length = rb.length → i + ra.length = many + 1 → 1 ≤ i → MF M K → mW c ce M st base ra → mW c ce M st (base + many) rb → gA ra → gA rb → mXc c st X → MJ st X K c.nd ce (base + many + many) → MK X K c.nd ce (base + many + many) x →
    (∀ st' K' ce' r, sAll (sSame X d) ra rb K = (K', .ok r) → K.life ≤ K'.life → K.fr ≤ K'.fr → mfr c.nd ce (base + many + many) st st' → ce ≤ ce' → MJ st' X K' c.nd ce' (base + many + many) → MK X K' c.nd ce' (base + many + many) x → Q (.returned (some (.int (bI r)))) st') →
    (∀ st' K' e ce', sAll (sSame X d) ra rb K = (K', .error e) → K.life ≤ K'.life → mfr c.nd ce (base + many + many) st st' → ce ≤ ce' → ce' ≤ 1 + 2 * K'.work + x → MZ st' X K' e c.nd ce' → Q (.returned (some (.int (iI 0)))) st') → jX5_alike_220 P s0 l XX lev st0 Q x1 x2 (iI ((base + many : Nat) : Int)) x4 x5 x6 (iI (w : Int)) x8 x9 (iI (many : Int)) (iI 1) (iI ((base + many + many : Nat) : Int)) (iI (i : Int)) st := by
  intro ra
  induction ra with
  | nil =>
    intro rb i K st ce hlen hi h1 hF hWa hWb ga gb hX hJ hK ok er
    simp at hi
    refine tX5_alike_220 ⟨fun z => absurd z (by decide), fun _ => ⟨fun _ => ⟨isZ1, ok st K ce true rfl (Nat.le_refl _) (Nat.le_refl _) mfr.rf (Nat.le_refl _) hJ hK⟩, fun z => ?_⟩⟩
    exact absurd (by rw [iI_lt (by omega) (by omega) (by omega) (by omega)]; omega) z
  | cons a ra iha =>
    intro rb i K st ce hlen hi h1 hF hWa hWb ga gb hX hJ hK ok er
    cases rb with
    | nil => simp at hlen
    | cons b rb =>
      simp at hlen hi
      obtain ⟨⟨na, qa, a1, a2, a3⟩, a4⟩ := hWa
      obtain ⟨⟨nb, qb, b1, b2, b3⟩, b4⟩ := hWb
      have gva := ga a List.mem_cons_self
      have gvb := gb b List.mem_cons_self
      have hka : gKv a := by
        obtain ⟨t, r, g, h1, -⟩ := a3
        subst h1
        exact ⟨t, r, rfl, gT_up _ _ _ gva.1.1, gva.1.2⟩
      have hkb : gKv b := by
        obtain ⟨t, r, g, h1, -⟩ := b3
        subst h1
        exact ⟨t, r, rfl, gT_up _ _ _ gvb.1.1, gvb.1.2⟩
      have i1 : iI ((base + many : Nat) : Int) - iI (i : Int) = iI ((base + ra.length : Nat) : Int) := by rw [iI_sub]; congr 1; omega
      have i2 : iI ((base + many + many : Nat) : Int) - iI (i : Int) = iI ((base + many + rb.length : Nat) : Int) := by rw [iI_sub]; congr 1; omega
      refine tX5_alike_220 ⟨fun z => absurd z (by decide), fun _ => ⟨fun z => ?_, fun _ => ?_⟩⟩
      · rw [iI_lt (by omega) (by omega) (by omega) (by omega)] at z; omega
      · rw [i1, i2]
        refine ⟨iI_in (by omega) (by omega), iI_in (by omega) (by omega), iI_in (by omega) (by omega), iI_in (by omega) (by omega), ?_⟩
        rw [aI_n (by omega), aI_n (by omega), aI_n (by omega), aI_n (by omega), a1, a2, b1, b2, iI_suc]
        refine ih M a b na qa nb qb K st ce (base + many + many) x _ hF a3 b3 hka hkb hX hJ hK hx (fun t1 K1 ce1 r s1 s2 s3 s4 s5 s6 s7 => ?_) (fun t1 K1 e ce1 s1 s2 s3 s4 s5 s6 => ?_)
        · rw [iI_suc]
          cases r with
          | false => exact tX5_alike_220 ⟨fun _ => ⟨isZ0, ok t1 K1 ce1 false (by unfold sAll; rw [s1]; rfl) s2 s3 s4 s5 s6 s7⟩, fun z => absurd rfl z⟩
          | true =>
            have mv1 : mvE c c ce ce1 M M st t1 := s4.E hJ.2.2.2.2.1 s5
            refine iha rb (i + 1) K1 t1 ce1 (by omega) (by omega) (by omega) (hF.mono s3) (mW_mv mv1 _ (fun k j z1 z2 z3 => s4.2 k j (fun w => by omega) (fun w => by omega) (fun _ => by omega) (by omega)) a4) (mW_mv mv1 _ (fun k j z1 z2 z3 => s4.2 k j (fun w => by omega) (fun w => by omega) (fun _ => by omega) (by omega)) b4) (fun v hv => ga v (List.mem_cons_of_mem _ hv)) (fun v hv => gb v (List.mem_cons_of_mem _ hv)) (mXc_mv s4 hX) s6 s7 (fun st' K' ce' r u1 u2 u3 u4 u5 u6 u7 => ok st' K' ce' r (by unfold sAll; rw [s1]; exact u1) (Nat.le_trans s2 u2) (Nat.le_trans s3 u3) (s4.tr u4 (Nat.le_refl _) s5 (Nat.le_refl _)) (Nat.le_trans s5 u5) u6 u7) (fun st' K' e ce' u1 u2 u3 u4 u5 u6 => er st' K' e ce' (by unfold sAll; rw [s1]; exact u1) (Nat.le_trans s2 u2) (s4.tr u3 (Nat.le_refl _) s5 (Nat.le_refl _)) (Nat.le_trans s5 u4) u5 u6)
        · exact tX5_alike_220 ⟨fun _ => ⟨isZ0, er t1 K1 e ce1 (by unfold sAll; rw [s1]; rfl) s2 s3 s4 s5 s6⟩, fun z => absurd rfl z⟩
end MC2
