/-! P OVER S (32): reading: strings -/
theorem c16_nat : ∀ n : Nat, n < 128 → ((iI (n : Int)).toUInt32 % 65536).toInt32 = iI (n : Int) := by decide +kernel
theorem b8_two : ∀ n : Nat, n < 128 → (iI (n : Int)).toInt8.toInt32.toInt8.toInt32 = iI (n : Int) := by decide +kernel
theorem b8_one : ∀ n : Nat, n < 128 → (iI (n : Int)).toInt8.toInt32 = iI (n : Int) := by decide +kernel
/-- the hash of a text -/
def jh (h : Int32) : List Nat → Int32
  | [] => h
  | c :: cs => jh (iI 31 * h + iI (c : Int)) cs
def jhs : List Int32 := [iI 3536286, iI 93260912, iI 3512060, iI 94627080, iI 3387324, iI 3522662, iI 3198432, iI 107035, iI 3365]
theorem jh_kept : ∀ w, w < 9 → jh 0 (kept.getD w []) = jhs.getD w 0 := by decide +kernel
theorem jhs_inj : ∀ i, i < 9 → ∀ j, j < 9 → jhs.getD i 0 = jhs.getD j 0 → i = j := by decide +kernel
section PRS
variable {G : GPl} {s0 : State} {l : Launch} {KK : Nat → Option Nat} {T : Nat → Nat} {lev : Nat} {Q : Outcome → GSt → Prop} {R : Nat → Nat} {σ τ st0 : GSt} {X : SX} {K : KS} {w n s : Nat} {W : Nat → Prop}
theorem gi_ci {d b j z m : Nat} : gi (gci d z 0 0 m σ) b j = if b = d ∧ j < m then gi σ z j else gi σ b j := by
  show va_up σ.2.1 d (va_cpy (σ.2.1 z) (σ.2.1 d) 0 0 m) b j = _
  by_cases h : b = d
  · subst h
    rw [va_up_self]
    by_cases h2 : j < m
    · rw [pk_cpy_in (by omega) (by omega), if_pos ⟨rfl, h2⟩]
      simp
    · rw [pk_cpy_out (by omega), if_neg (fun q => h2 q.2)]
  · rw [va_up_ne _ _ h, if_neg (fun q => h q.1)]
theorem keep.ci {d z m : Nat} (h : keep W σ τ) (ha : gk σ d ≠ 0 → W d) : keep W σ (gci d z 0 0 m τ) := fun b h0 hw => by
  obtain ⟨a1, a2, a3, a4⟩ := h b h0 hw
  have hb : b ≠ d := fun q => hw (q ▸ ha (q ▸ h0))
  exact ⟨a1, fun i => by rw [gi_ci, if_neg (fun q => hb q.1)]; exact a2 i, a3, a4⟩
theorem MB.kp (h : MB G R σ X K w n s) (hk : keep W σ τ) (hW : ∀ a, isM R a → ¬ W a) (hz : gz τ) (h1 : gn τ = gn σ) (h2 : gm τ = gm σ) : MB G R τ X K w n s :=
  ⟨hz, h.2.1.kp hk hW, h.2.2.1, ⟨by have := h.2.2.2.1; omega, by have := h.2.2.2.2; omega⟩⟩
/-- a letter more -/
theorem c_sbapp {B v m c : Nat} (hl : 4 ≤ lev) (h1 : gk σ B = 24) (h2 : gr σ B 0 = some v) (h3 : gk σ v = 102) (h4 : gl σ v = 12) (h5 : gi σ B 1 = 0) (h6 : gi σ B 3 = iI (m : Int)) (hm : m < 12) (hc : c < 128) (hv : G.h0.size ≤ v) (ok : Q (.returned (some (va_rf (some B)))) (gpi v m (iI (c : Int)) (gpi B 3 (iI ((m + 1 : Nat) : Int)) σ))) : CQ (wP G s0 l KK T) mJ13_append lev (.ref B :: [.int (iI (c : Int))]) σ Q := by
  obtain ⟨l', rfl⟩ : ∃ l', lev = l' + 3 := ⟨lev - 3, by omega⟩
  refine tJ13_append ⟨h1, tJ12_append ⟨h1, ?_⟩⟩
  rw [h6, iI_suc]
  refine tJ12_ensureCapacityInternal ⟨h1, v, h2, h3, fun _ => fun _ => tJ12_isLatin1 ⟨h1, fun _ => fun _ => ⟨fun q => absurd q (by decide), fun _ => tJ4_canEncode ⟨fun q => ?_, fun _ => fun _ => ⟨fun q => absurd q (by decide), fun _ => ?_⟩⟩⟩, fun q => absurd h5 q⟩, fun q => ?_⟩
  · rw [iI_lt (by omega) (by omega) (by omega) (by omega)] at q; omega
  · refine ⟨v, h2, h3, hv, ?_⟩
    rw [h6, iI_suc, iI_ix (by omega), b8_two c hc]
    exact ⟨by rw [gl_pi, h4]; exact iI_in hm (by omega), fun _ => ok⟩
  · exfalso
    refine q ?_
    rw [h4, h5, iI_sh0, iI_sub, iI_z, iI_le (by omega) (by omega) (by omega) (by omega)]
    omega
/-- the text that was built -/
theorem c_tostr {B v m : Nat} {bs : List Nat} (hl : 7 ≤ lev) (h1 : gk σ B = 24) (h2 : gr σ B 0 = some v) (h3 : gk σ v = 102) (h4 : gl σ v = 12) (h5 : gi σ B 1 = 0) (h6 : gi σ B 3 = iI (m : Int)) (hm : m ≤ 12) (hv : G.h0.size ≤ v) (hb : bs.length = m) (hbs : ∀ (j c : Nat), bs[j]? = some c → gi σ v j = iI (c : Int) ∧ c < 128) (hM : MB G R σ X K w (n + 2) (s + 16))
    (ok : ∀ τ, keep nil0 σ τ → MB G R τ X K w n s → gn τ = gn σ + 2 → pS τ (R 5) (gn σ) bs → gi τ (gn σ) 2 = 0 → gi τ (gn σ) 3 = 0 → (∃ b, gr τ (gn σ) 0 = some b ∧ gn σ ≤ b) → Q (.returned (some (va_rf (some (gn σ))))) τ) : CQ (wP G s0 l KK T) mJ13_toString lev (.ref B :: []) σ Q := by
  obtain ⟨l', rfl⟩ : ∃ l', lev = l' + 6 := ⟨lev - 6, by omega⟩
  have hz := hM.1
  have n0 : gk σ (gn σ) = 0 := hz.at
  have lB := hz.ne (show gk σ B ≠ 0 by omega)
  have lv := hz.ne (show gk σ v ≠ 0 by omega)
  have h0 : G.h0.size ≤ gn σ := hM.2.1.h0 hz
  have t23 : gk (gmk 23 4 σ) (gn σ) = 23 := gk_new (n := 4) n0
  have b1 : MB G R (gmk 23 4 σ) X K w (n + 1) (s + 12) := (hM.le (n' := n + 1 + 1) (s' := s + 12 + 4) (by omega) (by omega)).mk
  refine tJ13_toString ⟨⟨by have := hM.2.2.2.1; omega, by have := hM.2.2.2.2; omega, n0⟩, tJ3_init (tJ3_init_2 ⟨B, rfl, by rw [gk_old lB]; exact h1, tJ12_getValue ⟨by rw [gk_old lB]; exact h1, onR_ret (fun _ => ?_)⟩⟩)⟩
  have e2 : gr (gmk 23 4 σ) B 0 = some v := by rw [gr_mk lB]; exact h2
  have e3 : gk (gmk 23 4 σ) v = 102 := by rw [gk_old lv]; exact h3
  have e4 : gl (gmk 23 4 σ) v = 12 := by rw [gl_mk lv]; exact h4
  have e5 : gi (gmk 23 4 σ) B 1 = 0 := by rw [gi_mk lB]; exact h5
  have e6 : gi (gmk 23 4 σ) B 3 = iI (m : Int) := by rw [gi_mk lB]; exact h6
  have e7 : ∀ j, gi (gmk 23 4 σ) v j = gi σ v j := fun j => gi_mk lv
  have e8 : gk (gmk 23 4 σ) B = 24 := by rw [gk_old lB]; exact h1
  have g2 : gi (gmk 23 4 σ) (gn σ) 2 = 0 := gi_nw
  have g3 : gi (gmk 23 4 σ) (gn σ) 3 = 0 := gi_nw
  have k1 : keep nil0 σ (gmk 23 4 σ) := keep.rf.mk n0
  have gn1 : gn (gmk 23 4 σ) = gn σ + 1 := rfl
  rw [e2]
  generalize gmk 23 4 σ = t1 at *
  refine tJ13_length ⟨e8, tJ12_length ⟨e8, fun _ => fun _ => ?_⟩⟩
  refine tJ12_isLatin1 ⟨e8, fun _ => fun _ => ⟨fun q => absurd q (by decide), fun _ => ⟨t23, h0, ?_⟩⟩, fun q => absurd e5 q⟩
  rw [e6]
  have fr : ¬ isM R (gn σ) := hM.2.1.fr hz (Nat.le_refl _)
  have b2 : MB G R (gpi (gn σ) 1 (iI 0) t1) X K w (n + 1) (s + 12) := b1.pi' fr
  have z2 := b2.1
  have n2 : gk (gpi (gn σ) 1 (iI 0) t1) (gn t1) = 0 := z2.at
  have lv1 : v ≠ gn t1 := b1.1.ne (by omega)
  have ls : gn σ ≠ gn t1 := by omega
  have ls' : gn σ ≠ gn (gpi (gn σ) 1 (iI 0) t1) := ls
  have lv' : v ≠ gn (gpi (gn σ) 1 (iI 0) t1) := lv1
  -- the end: a copy of the bytes
  have fin : ∀ (mm : Nat), mm = m → MB G R (gmk 102 mm (gpi (gn σ) 1 (iI 0) t1)) X K w n s → Q (.returned (some (va_rf (some (gn σ))))) (gpr (gn σ) 0 (some (gn t1)) (gci (gn t1) v 0 0 mm (gmk 102 mm (gpi (gn σ) 1 (iI 0) t1)))) := fun mm hmm b3 => by
    subst hmm
    have k3 : keep nil0 σ (gpr (gn σ) 0 (some (gn t1)) (gci (gn t1) v 0 0 mm (gmk 102 mm (gpi (gn σ) 1 (iI 0) t1)))) := ((((k1.pi (fun q => absurd n0 q)).mk (hz _ (by show gn σ ≤ gn t1; omega))).ci (fun q => absurd (hz _ (by omega)) q)).pr (fun q => absurd n0 q))
    have fr1 : ¬ isM R (gn t1) := hM.2.1.fr hz (by omega)
    have bF : MB G R (gpr (gn σ) 0 (some (gn t1)) (gci (gn t1) v 0 0 mm (gmk 102 mm (gpi (gn σ) 1 (iI 0) t1)))) X K w n s := by
      refine MB.pr' ?_ fr
      exact b3.kp (W := fun q => q = gn t1) (keep.rf.ci (fun _ => rfl)) (fun q hq w => by subst w; exact fr1 hq) b3.1 rfl rfl
    refine ok _ k3 bF (by show gn t1 + 1 = _; omega) ⟨?_, ?_, gn t1, ?_, ?_, ?_, ?_, by omega, fun j c hj => ?_⟩ ?_ ?_ ⟨gn t1, ?_, by omega⟩
    · show gk (gmk 102 mm (gpi (gn σ) 1 (iI 0) t1)) (gn σ) = 23
      rw [gk_old ls']; exact t23
    · rw [gi_pr, gi_ci, if_neg (fun q => ls q.1), gi_mk ls', gi_pi, if_pos ⟨rfl, rfl⟩]; rfl
    · rw [gr_pr, if_pos ⟨rfl, rfl⟩]
    · exact gk_new (n := mm) (σ := gpi (gn σ) 1 (iI 0) t1) n2
    · exact fun q => fr1 (Or.inr (Or.inr q))
    · rw [hb]; exact gl_nw (σ := gpi (gn σ) 1 (iI 0) t1) (t := 102)
    · obtain ⟨y1, y2⟩ := hbs j c hj
      have hjl : j < mm := by rw [← hb]; exact (List.getElem?_eq_some_iff.mp hj).1
      refine ⟨?_, y2⟩
      rw [gi_pr, gi_ci, if_pos ⟨rfl, hjl⟩, gi_mk lv', gi_pi, if_neg (fun q => lv q.1), e7]
      exact y1
    · rw [gi_pr, gi_ci, if_neg (fun q => ls q.1), gi_mk ls', gi_pi, if_neg (by omega)]; exact g2
    · rw [gi_pr, gi_ci, if_neg (fun q => ls q.1), gi_mk ls', gi_pi, if_neg (by omega)]; exact g3
    · rw [gr_pr, if_pos ⟨rfl, rfl⟩]
  have gr12 : groom G 12 (gpi (gn σ) 1 (iI 0) t1) := ⟨by have := b2.2.2.2.1; omega, by have := b2.2.2.2.2; omega, n2⟩
  refine tJ16_copyOfRange ⟨fun _ => ⟨v, rfl, e3, fun q => ?_, fun q => tJ16_copyOfRange_10 ?_⟩, fun q => absurd rfl q⟩
  · have q' : iI (m : Int) = iI (gl t1 v : Int) := q
    rw [e4, iI_eq (by omega) (by omega) (by omega) (by omega)] at q'
    have hm12 : m = 12 := by omega
    refine ⟨hv, ?_⟩
    have e9 : gl (gpi (gn σ) 1 (iI 0) t1) v = 12 := e4
    unfold gcl8
    rw [e9]
    exact ⟨gr12, by show G.h0.size ≤ gn t1; omega, onR_ret (fun _ => ⟨h0, fun _ => fun _ => fin 12 hm12.symm (b2.mk (k := 12))⟩)⟩
  · have e10 : iI (m : Int) - iI 0 = iI (m : Int) := by rw [iI_sub]; congr 1
    have e11 : (iI (m : Int)).toInt.toNat = m := by rw [iI_nat (by omega)]; rfl
    refine tJ16_copyOfRangeByte (tJ16_checkLength ⟨fun _ => fun _ => ?_, fun q => absurd (by rw [iI_le (by omega) (by omega) (by omega) (by omega)]; omega) q⟩)
    rw [e10, e11]
    have e12 : gl (gmk 102 m (gpi (gn σ) 1 (iI 0) t1)) v = 12 := by rw [gl_mk lv']; exact e4
    have e13 : (if iI (m : Int) < iI ((gl (gmk 102 m (gpi (gn σ) 1 (iI 0) t1)) v : Nat) : Int) - iI 0 then iI (m : Int) else iI ((gl (gmk 102 m (gpi (gn σ) 1 (iI 0) t1)) v : Nat) : Int) - iI 0) = iI (m : Int) := by
      rw [e12]
      have e14 : iI ((12 : Nat) : Int) - iI 0 = iI 12 := by decide
      rw [e14]
      by_cases q : m < 12
      · rw [if_pos (by rw [iI_lt (by omega) (by omega) (by omega) (by omega)]; omega)]
      · rw [if_neg (by rw [iI_lt (by omega) (by omega) (by omega) (by omega)]; omega), show m = 12 by omega]
        rfl
    have e15 : gl (gmk 102 m (gpi (gn σ) 1 (iI 0) t1)) (gn (gpi (gn σ) 1 (iI 0) t1)) = m := gl_nw
    refine ⟨iI_in (by omega) (by omega), ⟨gr12.1, by have := gr12.2.1; omega, n2⟩, v, rfl, by rw [gk_old lv']; exact e3, by show G.h0.size ≤ gn t1; omega, ?_⟩
    rw [e13, iI_ix (by omega)]
    refine ⟨⟨by decide, by decide, by rw [iI_nat (by omega)]; omega, ?_, ?_⟩, onR_ret (fun _ => onR_ret (fun _ => ⟨h0, fun _ => fun _ => ?_⟩))⟩
    · rw [e12, iI_nat (by omega)]; show (0 : Int) + m ≤ 12; omega
    · rw [e15, iI_nat (by omega)]; show (0 : Int) + m ≤ m; omega
    · exact fin m rfl ((b2.le (n' := n + 1) (s' := s + m) (Nat.le_refl _) (by omega)).mk (k := m))
end PRS
