/-! M OVER S (28): judging: use -/
/-- the parts of a use, as they stand in the chain -/
def mRp (TN : Nat → List Nat) (st : MSt) (bs : List (Option Nat)) (n hi at_ ch : Nat) : V → Nat → Nat → Prop
  | .append p ps, lo, m => st.2 34 m = iI (at_ : Int) ∧ ∃ k a l1 : Nat, st.2 58 (ch + vlen ps) = iI (k : Int) ∧ lo ≤ l1 ∧ l1 ≤ k ∧ k < hi ∧ st.2 30 k = iI 7 ∧ st.2 32 k = iI (m : Int) ∧ st.2 33 k = iI (a : Int) ∧ mR TN st p bs a lo l1 none ∧ mRp TN st bs n hi at_ ch ps (k + 1) k
  | .nil, _, m => m = n
  | _, _, _ => False
section MJU
variable {P : MPl} {s0 : State} {l : Launch} {XX : Prop} {lev n m : Nat} {Q : Outcome → MSt → Prop} {st st' st'' st2 st0 : MSt} {X : SX} {J : JX} {K K' : KS} {nd nd' ce ce' wa x y lo hi lo' hi' lo1 hi1 lo2 hi2 ns ns' ch ch' q z : Nat} {c c' : MC} {M M' : Nat → Int → Prop} {E E' : Nat → Prop} {TN : Nat → List Nat} {sc : SC} {bl : List (Nat × Option Nat)}
theorem mRp_mv {bs : List (Option Nat)} {nn at_ : Nat} : ∀ (ps : V) (lo m : Nat), mRp TN st bs nn hi at_ ch ps lo m → (∀ k j, 30 ≤ k → k ≤ 38 → lo ≤ j → j < hi → st'.2 k j = st.2 k j) → st'.2 34 m = st.2 34 m → (∀ j, j < ch + vlen ps → st'.2 58 j = st.2 58 j) → mRp TN st' bs nn hi at_ ch ps lo m := by
  intro ps
  induction ps with
  | append p ps _ ih =>
    intro lo m h hs hm hc
    obtain ⟨a1, k, a, l1, a2, a3, a4, a5, a6, a7, a8, a9, a10⟩ := h
    exact ⟨hm.trans a1, k, a, l1, by rw [hc _ (by show ch + vlen ps < ch + (vlen ps + 1); omega)]; exact a2, a3, a4, a5, by rw [hs 30 k (by omega) (by omega) (by omega) a5]; exact a6, by rw [hs 32 k (by omega) (by omega) (by omega) a5]; exact a7, by rw [hs 33 k (by omega) (by omega) (by omega) a5]; exact a8, mR_mv _ _ _ _ _ _ a9 (fun k j z1 z2 z3 z4 => hs k j z1 z2 z3 (by omega)) (fun _ _ w => by cases w), ih (k + 1) k a10 (fun k' j z1 z2 z3 z4 => hs k' j z1 z2 (by omega) z4) (hs 34 k (by omega) (by omega) (by omega) a5) (fun j hj => hc j (by show j < ch + (vlen ps + 1); omega))⟩
  | nil => intro lo m h _ _ _; exact h
  | _ => intro lo m h; exact h.elim
/-- down to what is applied -/
theorem ju_walk {bs : List (Option Nat)} {nn at_ : Nat} {x1 x2 x3 : Int32} (hhi : hi ≤ 140000) : ∀ (ps : V) (lo m : Nat) (st : MSt), mR TN st ps bs nn lo hi (some (m, at_)) → fI st 59 = iI (ch : Int) → ch + vlen ps ≤ 4000 → m < 140000 →
    (∀ st', mRp TN st' bs nn hi at_ ch ps lo m → fI st' 59 = iI ((ch + vlen ps : Nat) : Int) → (∀ k, k ≠ 59 → fI st' k = fI st k) → (∀ k j, k ≠ 58 ∨ j < ch → st'.2 k j = st.2 k j) → (∀ {X K nd ce wa}, MJ st X K nd ce wa → MJ st' X K nd ce wa) → jX5_judgeUse_8 P s0 l XX lev st0 Q x1 x2 x3 (iI (m : Int)) st') → jX5_judgeUse_8 P s0 l XX lev st0 Q x1 x2 x3 (iI (nn : Int)) st := by
  intro ps
  induction ps with
  | append p ps _ ih =>
    intro lo m st h h59 hch hm ok
    obtain ⟨a1, k, a, l1, a3, a4, a5, a6, a7, a8, a9, a10⟩ := h
    have hch' : ch + (vlen ps + 1) ≤ 4000 := hch
    refine ih (k + 1) k st a10 h59 (by omega) (by omega) (fun st1 b1 b2 b3 b4 b5 => ?_)
    have n4 : ∀ k' j, 30 ≤ k' → k' ≤ 38 → st1.2 k' j = st.2 k' j := fun k' j w1 w2 => b4 k' j (by omega)
    refine tX5_judgeUse_8 ⟨iI_in (by omega) (by omega), fun _ => ⟨by rw [b2]; exact iI_in (by omega) (by omega), iI_in (by omega) (by omega), ?_⟩, fun w => absurd (by rw [aI_n (by omega), n4 30 k (by omega) (by omega)]; exact a6) w⟩
    rw [aI_n (by omega), n4 32 k (by omega) (by omega), a7, b2, iI_suc]
    have ar : ∀ k' j, (mput 59 (iI ((ch + vlen ps + 1 : Nat) : Int)) (mst 58 (iI ((ch + vlen ps : Nat) : Int)) (iI (k : Int)) st1)).2 k' j = if k' = 58 ∧ j = ch + vlen ps then iI (k : Int) else st1.2 k' j := fun k' j => by rw [mput_a, mst_a (by omega)]
    refine ok _ ⟨?_, k, a, l1, ?_, a3, a4, a5, ?_, ?_, ?_, ?_, ?_⟩ fI_self (fun k' hk' => by rw [fI_put hk']; exact b3 k' hk') (fun k' j hk' => by rw [ar, if_neg (by omega)]; exact b4 k' j hk') (fun hJ => (jmstx (b5 hJ) (by omega) (by omega)).putx (by omega))
    · rw [ar, if_neg (by omega), n4 34 m (by omega) (by omega)]; exact a1
    · rw [ar, if_pos ⟨rfl, rfl⟩]
    · rw [ar, if_neg (by omega), n4 30 k (by omega) (by omega)]; exact a6
    · rw [ar, if_neg (by omega), n4 32 k (by omega) (by omega)]; exact a7
    · rw [ar, if_neg (by omega), n4 33 k (by omega) (by omega)]; exact a8
    · exact mR_mv _ _ _ _ _ _ a9 (fun k' j z1 z2 z3 z4 => by rw [ar, if_neg (by omega)]; exact n4 k' j z1 z2) (fun _ _ w => by cases w)
    · exact mRp_mv ps (k + 1) k b1 (fun k' j z1 z2 z3 z4 => by rw [ar, if_neg (by omega)]) (by rw [ar, if_neg (by omega)]) (fun j hj => by rw [ar, if_neg (by omega)])
  | nil =>
    intro lo m st h h59 hch hm ok
    have h' : m = nn := h
    subst h'
    exact ok st rfl h59 (fun _ _ => rfl) (fun _ _ _ => rfl) (fun hJ => hJ)
  | _ =>
    intro lo m st h
    exfalso
    unfold mR at h
    first | exact h | (split at h <;> first | exact h.elim | (simp_all))
theorem vlen_rN : ∀ (ps : V), vlen ps ≤ rN ps := by
  intro ps
  induction ps with
  | append p ps _ ih => show vlen ps + 1 ≤ rN p + rN ps + 1; omega
  | _ => exact Nat.zero_le _
/-- all that it is applied to -/
theorem ju_parts {nn at_ ch9 zz : Nat} {fu : V} {x1 x3 x4 : Int32} {base : Nat} (ih : ∀ lev, 3 * n + 230 ≤ lev → MJd P s0 l XX X J TN lev n) (hlv : 3 * n + 231 ≤ lev) (hd : sc.length + n ≤ 300) (hx3 : x3 = iI (base : Int)) (hbase : base ≤ ch) (hch9 : ch9 ≤ 4000) (hhi : hi ≤ 140000) : ∀ (ps : V) (lo m : Nat) (E : Nat → Prop) (c : MC) (ce x y tn : Nat) (ty r : V) (so : Int) (K : KS) (st : MSt), mRp TN st (bl.map (fun z => z.2)) nn hi at_ ch ps lo m → m < c.nd → hi ≤ c.nd → lo ≤ hi → rG ps 1 sc.length n → (∀ j, lo ≤ j → j < hi → E j) → (∀ j, E j → 8 ≤ j ∧ j < c.nd) → JM lo hi E c ce st X J TN sc bl q ns → gSc c.ns z sc → (∀ k, k < c.nc → sw (J.ct k) ≤ z) → MJ st X K c.nd ce 0 → MK X K c.nd ce 0 x → 202 ≤ x → x + rN ps ≤ 29000 → 203 ≤ y → c.nd + 2 * (60000 - K.life) + (y + rN ps) ≤ 140000 → fI st 59 = iI (ch9 : Int) → ch + vlen ps ≤ ch9 → ch9 + rN ps ≤ 4000 + vlen ps → ns + rD ps ≤ 50 → fI st 60 = iI (tn : Int) → fI st 61 = iI so → mTy E c ce st sc bl ty r tn → tyG c.ns zz (scEnv sc) ty r so →
    (∀ st' K' nd' ce' ps' ty' r' so' tn', jParts X (at_ : Int) sc (fun p K => sJudge X J n p sc K) ps (fu, ty, r, so) K = (K', .ok (ps', (fu, ty', r', so'))) → K.life ≤ K'.life → mjf lo hi c.nd ce ns ch9 st st' → c.nd ≤ nd' → ce ≤ ce' → MJ st' X K' nd' ce' 0 → MK X K' nd' ce' 0 (x + rN ps) → nd' + 2 * (60000 - K'.life) + y ≤ 140000 → fI st' 43 = fI st 43 → fI st' 59 = fI st 59 → (∀ st'', ag (cutE E lo hi) nd' ce' st' st'' → mT (nd', c.2) st'' ps' (bl.map (fun z => z.1)) nn (some m)) → gT ps' false (List.replicate sc.length true) → vlen ps' = vlen ps → fI st' 60 = iI ((tn' : Nat) : Int) → fI st' 61 = iI so' → mTy (cutE E lo hi) (nd', c.2) ce' st' sc bl ty' r' tn' → tyG c.ns (max zz (z + rB ps)) (scEnv sc) ty' r' so' → jX5_judgeUse_68 P s0 l XX lev st0 Q x1 (iI (q : Int)) x3 x4 (iI ((ch : Int) - 1)) st') →
    (∀ st' K' e p', jParts X (at_ : Int) sc (fun p K => sJudge X J n p sc K) ps (fu, ty, r, so) K = (K', .error (e, p')) → K.life ≤ K'.life → mjf lo hi c.nd ce ns ch9 st st' → MZj st' X K' e p' → ∀ x5, jX5_judgeUse_68 P s0 l XX lev st0 Q x1 (iI (q : Int)) x3 x4 x5 st') →
    jX5_judgeUse_68 P s0 l XX lev st0 Q x1 (iI (q : Int)) x3 x4 (iI (((ch + vlen ps : Nat) : Int) - 1)) st := by
  intro ps
  induction ps with
  | append p ps _ ihp =>
    intro lo m E c ce x y tn ty r so K st hr hm hhc hlh hg hI hE h hs hz hJ hK hx hx2 hy hy2 h59 hv9 hv92 hns h60 h61 hT hG ok er
    obtain ⟨a1, k, a, l1, a2, a3, a4, a5, a6, a7, a8, a9, a10⟩ := hr
    have eN : rN (Std.Format.append p ps) = rN p + rN ps + 1 := rfl
    have eV : vlen (Std.Format.append p ps) = vlen ps + 1 := rfl
    have eD : rD (Std.Format.append p ps) = max (rD p) (rD ps) := rfl
    rw [eN] at hx2 hy2 hv92
    rw [eV] at hv9 hv92
    rw [eD] at hns
    have hpV := vlen_rN ps
    have ex : iI (((ch + vlen (Std.Format.append p ps) : Nat) : Int) - 1) = iI ((ch + vlen ps : Nat) : Int) := by rw [eV]; congr 1; omega
    rw [ex]
    refine tX5_judgeUse_68 ⟨fun _ => ⟨fun w => ?_, fun _ => ⟨iI_in (by omega) (by omega), ?_⟩⟩, fun w => absurd hJ.2.2.2.1 w⟩
    · rw [hx3, iI_lt (by omega) (by omega) (by omega) (by omega)] at w; omega
    rw [aI_n (by omega), a2]
    have hlp := mR_lt a9
    refine m_applied (fu := fu) (y := y + rN ps + 1) (x := x) (ch := ch9) (m := zz) ih (by omega) a9 ⟨a3, by omega⟩ hg.1 hI hE h hs hz hd hJ hK hx (by omega) (by omega) (by omega) h59 (by omega) (by omega) h60 hT hG (by omega) a8 a7 hm a1 (fun t1 K1 nd1 ce1 cu t nt qq e1 e2 e4 e5 e6 e7 e8 e9 e10 e11 e12 e13 e14 e15 e16 e17 => ?_) (fun t1 K1 e p' e1 e2 e3 e4 => er t1 K1 e p' (e1 ps) e2 (e3.wk (Nat.le_refl _) (by omega)) e4 _)
    have hnd1 : nd1 ≤ 140000 := e8.2.1
    have hgV := scEnv_gV sc hs
    have ex2 : iI ((ch + vlen ps : Nat) : Int) + iI (-1) = iI (((ch + vlen ps : Nat) : Int) - 1) := by rw [iI_add]; congr 1
    rw [ex2]
    have h1 : JM (k + 1) hi (cutE E lo l1) (nd1, c.2) ce1 t1 X J TN sc bl q ns := h.mv (c' := (nd1, c.2)) e4 e10 (Nat.le_refl _) (by omega) (fun j w1 w2 => hI j w1 (by omega)) (fun _ w => w.1) e5 rfl e6 (by omega) (Nat.le_refl _) hnd1 e7.2.2.2.2.1
    have kn : ∀ k' j, 30 ≤ k' → k' ≤ 38 → j < c.nd → (j < lo ∨ l1 ≤ j) → t1.2 k' j = st.2 k' j := fun k' j w1 w2 w3 w4 => e4.2 k' j (fun _ => by omega) (fun _ => by omega) (fun _ => by omega) (fun _ => by omega) (by omega) (fun _ => by omega) (by omega)
    have r1 : mRp TN t1 (bl.map (fun z => z.2)) nn hi at_ ch ps (k + 1) k := mRp_mv ps (k + 1) k a10 (fun k' j w1 w2 w3 w4 => kn k' j w1 w2 (by omega) (by omega)) (kn 34 k (by omega) (by omega) (by omega) (by omega)) (fun j hj => e4.2 58 j (fun _ => by omega) (fun _ => by omega) (fun _ => by omega) (fun _ => by omega) (by omega) (fun _ => by omega) (by omega))
    refine ihp (k + 1) k (cutE E lo l1) (nd1, c.2) ce1 (x + (rN p + 1)) y nt t (scEnv sc) ((qq % 8 : Nat) : Int) K1 t1 r1 (by show k < nd1; omega) (by show hi ≤ nd1; omega) (by omega) hg.2 (fun j w1 w2 => ⟨hI j (by omega) w2, by omega⟩) (fun j w => by have := hE j w.1; exact ⟨this.1, by show j < nd1; omega⟩) h1 hs hz e7 e8 (by omega) (by omega) hy (by show nd1 + _ + _ ≤ _; omega) (e11.trans h59) (by omega) (by omega) (by omega) e14 e15 e16 ⟨⟨0, rfl⟩, gT_up _ _ _ e17, hgV, by omega, by omega, by rw [sw_false _ _ e17]; omega⟩ (fun t2 K2 nd2 ce2 ps' ty' r' so' tn' i1 i2 i3 i4 i5 i6 i7 i8 i9 i10 i11 i12 i13 i14 i15 i16 i17 => ?_) (fun t2 K2 e p' i1 i2 i3 i4 => er t2 K2 e p' (by rw [e1 ps _ i1]; rfl) (by omega) (e4.tr i3 (Nat.le_refl _) (by omega) (by omega) (Nat.le_refl _) e5 e6 (Nat.le_refl _) (Nat.le_refl _)) i4)
    have i4' : nd1 ≤ nd2 := i4
    have hnd2 : nd2 ≤ 140000 := i7.2.1
    have FF : mjf lo hi c.nd ce ns ch9 st t2 := e4.tr i3 (Nat.le_refl _) (by omega) (by omega) (Nat.le_refl _) e5 e6 (Nat.le_refl _) (Nat.le_refl _)
    have subE : ∀ j, cutE E lo hi j → cutE E lo l1 j := fun j w => ⟨w.1, by have := w.2; omega⟩
    have subE2 : ∀ j, cutE E lo hi j → cutE (cutE E lo l1) (k + 1) hi j := fun j w => ⟨subE j w, by have := w.2; omega⟩
    obtain ⟨kb, k2, k3, k4, k5, k6⟩ := i7
    have A12 : ag (cutE E lo l1) nd1 ce1 t1 t2 := i3.ag (fun j w1 w2 => ⟨hI j (by omega) w2, by omega⟩)
    refine ok t2 K2 nd2 ce2 (.append cu ps') ty' r' so' tn' (by rw [e1 ps _ i1]; rfl) (by omega) FF (by omega) (by omega) i6 ⟨kb, k2, by rw [eN]; omega, by rw [eN]; omega, k5, by rw [eN]; omega⟩ i8 (i9.trans e10) (i10.trans e11) (fun st'' ha => ?_) ⟨e13, i12⟩ (by show vlen ps' + 1 = vlen ps + 1; rw [i13]) i14 i15 ?_ ?_
    · have hz' : ∀ k', 30 ≤ k' → k' ≤ 38 → st''.2 k' k = st.2 k' k := fun k' w1 w2 => by
        rw [ha k' k (Or.inr (Or.inl ⟨w1, w2, by omega, fun w => by have := w.2; omega⟩)), i3.2 k' k (fun _ => ⟨by show k < nd1; omega, by omega⟩) (fun _ => by omega) (fun _ => by omega) (fun _ => by omega) (by omega) (fun _ => by omega) (by omega)]
        exact kn k' k w1 w2 (by omega) (by omega)
      have d1 := e12 st'' (A12.tr ha subE i4' (by omega))
      have d2 := i11 st'' (ag.tr (ag.rf (E := cutE (cutE E lo l1) (k + 1) hi)) ha subE2 (Nat.le_refl _) (Nat.le_refl _))
      exact ⟨k, a, by show k < nd2; omega, by rw [hz' 30 (by omega) (by omega)]; exact a6, by rw [hz' 32 (by omega) (by omega)]; exact a7, by rw [hz' 33 (by omega) (by omega)]; exact a8, mT_up (c := (nd1, c.2)) (c' := (nd2, c.2)) i4' rfl d1, d2⟩
    · exact i16.mv ag.rf subE2 (Nat.le_refl _) rfl (Nat.le_refl _)
    · exact i17.le (by show max zz (z + rB ps) ≤ max zz (z + (rB p + rB ps)); omega)
  | nil =>
    intro lo m E c ce x y tn ty r so K st hr hm hhc hlh hg hI hE h hs hz hJ hK hx hx2 hy hy2 h59 hv9 hv92 hns h60 h61 hT hG ok er
    have hr' : m = nn := hr
    exact ok st K c.nd ce .nil ty r so tn rfl (Nat.le_refl _) mjf.rf (Nat.le_refl _) (Nat.le_refl _) hJ hK hy2 rfl rfl (fun st'' _ => hr') trivial rfl h60 h61 (hT.mv ag.rf (fun _ w => w.1) (Nat.le_refl _) rfl (Nat.le_refl _)) (hG.le (by omega))
  | _ => intro lo m E c ce x y tn ty r so K st hr; exact hr.elim
end MJU
