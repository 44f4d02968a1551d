/-! THE HOUSE OVER S, M (12): what is told, from its begin -/
section MHL
variable {P : MPl} {s0 : State} {l : Launch} {XX : Prop} {lev : Nat} {Q : Outcome → MSt → Prop} {st st' st'' st0 : MSt} {X : SX} {J : JX} {K K' : KS} {nd nd' ce ce' wa x y lo hi ns ch z o nn nd0 p nk a1 a2 b1 b2 n1 n2 : Nat} {c c' : MC} {t : TX} {tb : HT} {cx : List CN} {x1 x2 : Int32} {bs : List Nat} {kn kn' : Nat → Nat} {cn : CN} {E : Nat → Prop} {v vt u : V} {ty tm : Option V}
theorem m_tells (hl : 550 ≤ lev) (hno : ty ≠ none ∨ tm ≠ none) (hG1 : oG ty) (hG2 : oG tm) (hb : nd0 ≤ b1 ∧ nd0 ≤ a1 ∧ nd0 ≤ c.nd ∧ b2 ≤ c.nd ∧ a2 ≤ c.nd ∧ a1 ≤ a2 ∧ b1 ≤ b2) (hab : a2 ≤ b1 ∨ b2 ≤ a1) (h8 : 8 ≤ nd0) (h : JM 0 0 (rwE a1 a2 b1 b2) c ce st X J (tname t) [] [] 0 0) (hz : ∀ k, k < c.nc → sw (J.ct k) ≤ z) (hJ : MJ st X K c.nd ce 0) (hK : MK X K c.nd ce 0 x) (hx : 202 ≤ x) (hx2 : x + (oN ty + oN tm) ≤ 29000) (hy : 203 ≤ y) (hy2 : c.nd + 2 * (60000 - K.life) + (y + (oN ty + oN tm)) ≤ 140000) (h59 : fI st 59 = iI ((0 : Nat) : Int)) (hN : oN ty + oN tm ≤ 4000) (hO : OB K o)
    (ht0 : ty = none → fI st 79 = iI (-1)) (ht1 : ∀ v, ty = some v → ∃ n : Nat, fI st 79 = iI (n : Int) ∧ mR (tname t) st v [] n a1 a2 none) (hm0 : tm = none → fI st 78 = iI (-1)) (hm1 : ∀ v, tm = some v → ∃ n : Nat, fI st 78 = iI (n : Int) ∧ mR (tname t) st v [] n b1 b2 none)
    (hn : nn < c.nd ∧ (nn < a1 ∨ a2 ≤ nn) ∧ (nn < b1 ∨ b2 ≤ nn)) (hp : p < 4000) (h80 : fI st 80 = iI (nn : Int)) (e31 : st.2 31 nn = iI (p : Int)) (e32 : st.2 32 nn = iI ((tname t p).length : Int)) (hcx : c.nc = cx.length)
    (ok : ∀ st' K' nd' cn, hTells t X J cx p ty tm K = (K', .ok (cx ++ [cn])) → K.life ≤ K'.life → tofr nd0 c.nc st st' → nd0 ≤ nd' → fI st' 27 = iI ((c.nc + 1 : Nat) : Int) → fI st' 62 = iI (nd' : Int) → mEn st' c.ns c.nc cn nd' → MJ0 st' X K' → KB X K' → fI st' 72 = 0 → nd' + 2 * (60000 - K'.life) + y ≤ 140000 → OB K' o → c.nc < 100 → Q (.returned none) st')
    (er : ∀ st' K' e p', hTells t X J cx p ty tm K = (K', .error (e, p')) → K.life ≤ K'.life → dfr nd0 st st' → MZj st' X K' e p' → OB K' o → Q (.returned none) st') : CQ (wM P s0 l XX) mX5_told lev (.ref P.mo :: []) st Q := by
  obtain ⟨l', rfl⟩ : ∃ l', lev = l' + 1 := ⟨lev - 1, by omega⟩
  have h14 : c.nd ≤ 140000 := hK.2.1
  have hns : c.ns ≤ 8 := h.at.1.2.2.1
  have hnc : c.nc ≤ 100 := h.at.1.2.1
  have h72 : fI st 72 = 0 := hJ.2.2.2.1
  have hTb := h.1
  have cnl : ∀ {k}, J.cn p = some k → k < c.nc := fun {k} q => by rw [(hTb.2.2.2.2.2.2.2 p).1] at q; exact lastN_lt q
  have sfl : ∀ {k}, J.sf p = some k → k < c.ns := fun {k} q => by rw [(hTb.2.2.2.2.2.2.2 p).2] at q; have := firstN_lt q; omega
  have a31 : aI st 31 (iI (nn : Int)) = iI (p : Int) := by rw [aI_n (by omega)]; exact e31
  -- a fault at the name
  have bad : ∀ e : Nat, 0 < e ∧ e < 100 → hTells t X J cx p ty tm K = (K, .error (e, (p : Int))) → inr (fI st 80) 140000 ∧ CQ (wM P s0 l XX) mX5_wrong l' (.ref P.mo :: [.int (iI (e : Int)), .int (aI st 31 (fI st 80))]) st (onV (fun t5 => jX5_told_62 P s0 l XX l' st Q t5) (fun x t => Q (.threw x) t)) := fun e he hT => by
    rw [h80, a31]
    refine ⟨iI_in (by omega) (by omega), m_wrong (e := e) (by omega) hJ he (by omega) (fun t5 z1 z2 => onV_ret (tX5_told_62 ⟨fun q => absurd q z1.ne, fun _ => tX5_told_108 ⟨fun q => absurd q z1.ne, fun _ => tX5_told_175 ⟨fun q => absurd q z1.ne, fun _ => er t5 K e p hT (Nat.le_refl _) ((z2 (lo := nd0) (hi := nd0) (nd := nd0) (ce := 0) (ns := 0) (ch := 0)).d (Nat.le_refl _) (Nat.le_refl _)) z1 hO⟩⟩⟩))⟩
  refine tX5_told ?_
  rw [h80]
  refine m_knownOf (c := c) (J := J) (by omega) (by omega) hp hnc hTb e31 e32 (onI_ret ?_)
  cases hcn : J.cn p with
  | some k =>
    have hT : hTells t X J cx p ty tm K = (K, .error (4, (p : Int))) := by unfold hTells; rw [if_pos (Or.inl (by rw [hcn]; rfl))]
    refine ⟨fun _ => tX5_told_22 (bad 4 (by omega) hT), fun q => absurd ?_ q⟩
    have := cnl hcn
    show (0 : Int32) ≤ iI (k : Int)
    rw [iI_z, iI_le (by omega) (by omega) (by omega) (by omega)]; omega
  | none =>
    refine ⟨fun q => absurd q (by decide), fun _ => ?_⟩
    rw [h80]
    refine m_sortOf (c := c) (J := J) (by omega) (by omega) hp hns hTb e31 e32 (onI_ret ?_)
    cases hsf : J.sf p with
    | some k =>
      have hT : hTells t X J cx p ty tm K = (K, .error (4, (p : Int))) := by unfold hTells; rw [if_pos (Or.inr (by rw [hsf]; rfl))]
      refine ⟨fun q => absurd q ?_, fun _ => tX5_told_22 (bad 4 (by omega) hT)⟩
      have := sfl hsf
      show ¬ iI (k : Int) < 0
      rw [iI_z, iI_lt (by omega) (by omega) (by omega) (by omega)]; omega
    | none =>
      have hne : ¬ ((J.cn p).isSome = true ∨ (J.sf p).isSome = true) := by rw [hcn, hsf]; rintro (q | q) <;> cases q
      refine ⟨fun _ => ?_, fun q => absurd (by decide) q⟩
      have h27 : fI st 27 = iI (c.nc : Int) := hTb.1.2.2
      refine ⟨fun q => ?_, fun q => ?_⟩
      · rw [h27, iI_eq (by omega) (by omega) (by omega) (by omega)] at q
        have hT : hTells t X J cx p ty tm K = (K, .error (5, (p : Int))) := by unfold hTells; rw [if_neg hne, if_pos (by omega)]
        exact bad 5 (by omega) hT
      · rw [h27, iI_eq (by omega) (by omega) (by omega) (by omega)] at q
        have hT : ∀ K6 r, hTell X J (tname t p) ty tm K = (K6, r) → hTells t X J cx p ty tm K = jBind (K6, r) fun c K => (K, .ok (cx ++ [c])) := fun K6 r e => by unfold hTells; rw [if_neg hne, if_neg (by omega), ← e]
        have hE : ∀ j, rwE a1 a2 b1 b2 j → 8 ≤ j ∧ j < c.nd := fun j q => by rcases q with q | q <;> omega
        cases ty with
        | none =>
          cases tm with
          | none => rcases hno with w | w <;> exact absurd rfl w
          | some v =>
            obtain ⟨n2, f78, hr⟩ := hm1 v rfl
            have hN' : rN v ≤ 4000 := by have : oN none + oN (some v) = 0 + rN v := rfl; omega
            have eN : oN none + oN (some v) = 0 + rN v := rfl
            exact m_tell0 (nd0 := nd0) (by omega) hr f78 (ht0 rfl) (hG2 v rfl).1 (hG2 v rfl).2 ⟨hb.1, hb.2.2.1, hb.2.2.2.1⟩ (fun j q1 q2 => Or.inr ⟨q1, q2⟩) hE h hz hJ hK hx (by omega) hy (by omega) h59 hN' hO ⟨hn.1, hn.2.2⟩ hp h80 e31 e32 (by omega) (fun st' K' nd' cn d1 d2 d3 d4 d5 d6 d7 d8 d9 d10 d11 d12 => ok st' K' nd' cn (by rw [hT _ _ d1]; rfl) d2 d3 d4 d5 d6 d7 d8 d9 d10 d11 d12 (by omega)) (fun st' K' e p' d1 d2 d3 d4 d5 => er st' K' e p' (by rw [hT _ _ d1]; rfl) d2 d3 d4 d5)
        | some vt =>
          obtain ⟨n1, f79, hrt⟩ := ht1 vt rfl
          cases tm with
          | none =>
            have eN : oN (some vt) + oN none = rN vt + 0 := rfl
            exact m_tell1 (nd0 := nd0) (by omega) hrt (hm0 rfl) f79 (hG1 vt rfl).1 (hG1 vt rfl).2 ⟨hb.2.1, hb.2.2.1, hb.2.2.2.2.1, hb.2.2.2.2.2.1⟩ (fun j q1 q2 => Or.inl ⟨q1, q2⟩) hE h hz hJ hK hx (by omega) hy (by omega) h59 (by omega) hO ⟨hn.1, hn.2.1⟩ hp h80 e31 e32 (by omega) (fun st' K' nd' cn d1 d2 d3 d4 d5 d6 d7 d8 d9 d10 d11 d12 => ok st' K' nd' cn (by rw [hT _ _ d1]; rfl) d2 d3 d4 d5 d6 d7 d8 d9 d10 d11 d12 (by omega)) (fun st' K' e p' d1 d2 d3 d4 d5 => er st' K' e p' (by rw [hT _ _ d1]; rfl) d2 d3 d4 d5)
          | some v =>
            obtain ⟨n2, f78, hr⟩ := hm1 v rfl
            have eN : oN (some vt) + oN (some v) = rN vt + rN v := rfl
            exact m_tell2 (nd0 := nd0) (by omega) hr hrt f78 f79 (hG2 v rfl).1 (hG2 v rfl).2 (hG1 vt rfl).1 (hG1 vt rfl).2 hb hab h8 h hz hJ hK hx (by omega) hy (by omega) h59 ⟨by omega, by omega⟩ hO hn hp h80 e31 e32 (by omega) (fun st' K' nd' cn d1 d2 d3 d4 d5 d6 d7 d8 d9 d10 d11 d12 => ok st' K' nd' cn (by rw [hT _ _ d1]; rfl) d2 d3 d4 d5 d6 d7 d8 d9 d10 d11 d12 (by omega)) (fun st' K' e p' d1 d2 d3 d4 d5 => er st' K' e p' (by rw [hT _ _ d1]; rfl) d2 d3 d4 d5)
end MHL
