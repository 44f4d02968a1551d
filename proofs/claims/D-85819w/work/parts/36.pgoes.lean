/-! P OVER S (5): the other moves -/
section PG
variable {G : GPl} {s0 : State} {l : Launch} {KK : Nat → Option Nat} {T : Nat → Nat} {lev : Nat} {Q : Outcome → GSt → Prop} {R : Nat → Nat} {σ τ st0 : GSt} {X : SX} {K : KS} {w n s : Nat} {c : PC} {L : Nat → Nat → Prop}
/-- the machine is set to another term, environment -/
theorem MB.at {x y : Option Nat} (h : MB G R σ X K w n s) : MB G R (gpr (R 2) 2 y (gpr (R 2) 1 x σ)) X K w n s :=
  ⟨h.1, (h.2.1.pr (by omega)).pr (by omega), h.2.2.1, h.2.2.2⟩
theorem keep_at {x y : Option Nat} : keep (isM R) σ (gpr (R 2) 2 y (gpr (R 2) 1 x σ)) := (keep.rf.pr (fun _ => Or.inl rfl)).pr (fun _ => Or.inl rfl)
theorem HS_at {t r : V} {as : List V} {a : Nat} {y : Option Nat} (hm : MS G R σ X K w) (ht : pT c σ t a 0) (hr : pV c L σ r true y) (hA : pA c L σ as (gr σ (R 2) 3)) : HS c L R (gpr (R 2) 2 y (gpr (R 2) 1 (some a) σ)) t r as := by
  have hmv : mv c c L L σ (gpr (R 2) 2 y (gpr (R 2) 1 (some a) σ)) := mv_keep keep_at hm.ok
  refine ⟨⟨a, ?_, pT_mv hmv _ _ _ ht⟩, ?_, ?_⟩
  · rw [gr_pr, if_neg (by omega), gr_pr, if_pos ⟨rfl, rfl⟩]
  · rw [gr_pr, if_pos ⟨rfl, rfl⟩]; exact pV_mv hmv _ _ _ hr
  · rw [gr_pr, if_neg (by omega), gr_pr, if_neg (by omega)]; exact pA_mv hmv _ _ hA
theorem go_kn {a k : Nat} {t : V} {as : List V} (hl : 6 ≤ lev) (h : MB G R σ X K w (n + 1) (s + 8)) (hX : pX c σ X) (hp : pT c σ (.tag k .nil) a 0) (hv : X.val k = some t) (hA : pA c L σ as (gr σ (R 2) 3))
    (ok : ∀ τ K', sSpend X 1 K = (K', .ok ()) → K'.life = K.life + 1 → keep (isM R) σ τ → MB G R τ X K' w (n + 11) (s + 44) → HS c L R τ t .nil as → Q (.returned (some (.int (iI 1)))) τ)
    (er : ∀ x τ e, sSpend X 1 K = (K, .error e) → flt τ x e (-1) → keep (isM R) σ τ → MB G R τ X K w n s → Q (.threw x) τ) : CQ (wP G s0 l KK T) mX14_goes lev (.ref a :: [va_rf (some (R 2))]) σ Q := by
  obtain ⟨l', rfl⟩ := Nat.exists_eq_add_of_le' hl
  have m1 := h.2.1.1.1
  obtain ⟨p0, p1, p2, p3, p4⟩ := hp
  obtain ⟨x1, -, x3⟩ := hX.1 k p0
  obtain ⟨-, b, x4, x5⟩ := x3 t hv
  refine tX14_goes ⟨p1, fun e => (by rw [p3] at e; cases e), fun a2 e2 => ?_⟩
  rw [p3] at e2
  cases e2
  refine ⟨x1, fun e => (by rw [x4] at e; cases e), fun a4 e4 => ⟨R 2, rfl, m1, c_spend (c := 1) (by omega) (by omega) h (fun τ K' s1 s2 s3 s4 s5 s6 _ => ?_) (fun x τ e s1 s2 s3 s4 _ => er x τ e s1 s2 s3 s4)⟩⟩
  have hmv : mv c c L L σ τ := mv_keep s3 h.2.1.ok
  obtain ⟨a1, a2, a3, -⟩ := hmv.ct p1 p2 rfl
  obtain ⟨b1, b2, b3, -⟩ := hmv.cl x1 rfl
  refine ⟨c.N k, by rw [a3]; exact p3, b1, tX3_at ⟨s4.2.1.1.1, fun _ => ?_⟩⟩
  rw [b3, x4]
  exact ok _ K' s1 s2 (s3.t2 keep_at) s4.at (HS_at s4.2.1 (pT_mv hmv _ _ _ x5) trivial (by rw [s5]; exact pA_mv hmv _ _ hA))
theorem go_knN {a k : Nat} (hl : 1 ≤ lev) (hX : pX c σ X) (hp : pT c σ (.tag k .nil) a 0) (hv : X.val k = none) (ok : Q (.returned (some (.int (iI 0)))) σ) : CQ (wP G s0 l KK T) mX14_goes lev (.ref a :: [va_rf (some (R 2))]) σ Q := by
  obtain ⟨l', rfl⟩ := Nat.exists_eq_add_of_le' hl
  obtain ⟨p0, p1, p2, p3, p4⟩ := hp
  obtain ⟨x1, x2, -⟩ := hX.1 k p0
  refine tX14_goes ⟨p1, fun e => (by rw [p3] at e; cases e), fun a2 e2 => ?_⟩
  rw [p3] at e2
  cases e2
  exact ⟨x1, fun _ => ok, fun a4 e4 => by rw [x2 hv] at e4; cases e4⟩
theorem go_so {a k : Nat} (hl : 1 ≤ lev) (hp : pT c σ (.tag k (.align true)) a 0) (ok : Q (.returned (some (.int (iI 0)))) σ) : CQ (wP G s0 l KK T) mX14_goes lev (.ref a :: [va_rf (some (R 2))]) σ Q := by
  obtain ⟨l', rfl⟩ := Nat.exists_eq_add_of_le' hl
  obtain ⟨p0, p1, p2, p3, p4⟩ := hp
  exact tX14_goes ⟨p1, fun _ => ok, fun a2 e2 => by rw [p3] at e2; cases e2⟩
/-- the environment's place k -/
theorem goB_loop {a k : Nat} {x1 : Option Nat} (hk : gk σ a = 11) (hi : gi σ a 2 = iI (k : Int)) (hk6 : k < 1000000) : ∀ (d i : Nat) (r : V) (x2 : Option Nat), k = i + d → pV c L σ r true x2 → (shp r)[d]? = some true →
    (∀ e v r', v = vget r d → v ≠ .line → pV c L σ (.append v r') true (some e) → jX13_goes_7 G s0 l KK T lev st0 Q a x1 (some e) (iI (k : Int)) σ) → jX13_goes_7 G s0 l KK T lev st0 Q a x1 x2 (iI (i : Int)) σ := by
  intro d
  induction d with
  | zero =>
    intro i r x2 e hr hs done
    have hr0 := hr
    unfold pV at hr0
    split at hr0
    · rename_i v r e' _
      have hik : k = i := by omega
      subst hik
      refine done e' v r rfl ?_ hr
      rintro rfl
      simp [shp] at hs
    · simp [shp] at hs
    · cases ‹true = false›
    · cases ‹true = false›
    · cases ‹true = false›
    · exact hr0.elim
  | succ d ih =>
    intro i r x2 e hr hs done
    have hr0 := hr
    unfold pV at hr0
    split at hr0
    · rename_i v r e' _
      refine tX13_goes_7 ⟨hk, fun q => ?_, fun _ => ⟨e', rfl, hr0.1, ?_⟩⟩
      · rw [hi, iI_le (by omega) (by omega) (by omega) (by omega)] at q; omega
      · rw [iI_suc]
        refine ih (i + 1) r _ (by omega) hr0.2.2.2 ?_ (fun e v r' h1 h2 h3 => done e v r' h1 h2 h3)
        unfold shp at hs
        split at hs <;> simp_all
    · simp [shp] at hs
    · cases ‹true = false›
    · cases ‹true = false›
    · cases ‹true = false›
    · exact hr0.elim
/-- a name that is bound: to something, to a local -/
theorem go_bnd {a k : Nat} {r : V} {as : List V} (hl : 6 ≤ lev) (h : MB G R σ X K w (n + 1) (s + 8)) (hp : pT c σ (.tag k .line) a 0) (hg : (shp r)[k]? = some true) (hr : pV c L σ r true (gr σ (R 2) 2)) (hA : pA c L σ as (gr σ (R 2) 3))
    (okL : ∀ i b, vget r k = vLoc i → gk σ b = 18 → L i b → ∀ τ, keep (isM R) σ τ → MB G R τ X K w (n + 1) (s + 8) → gr τ (R 2) 1 = some b → pA c L τ as (gr τ (R 2) 3) → Q (.returned (some (.int (iI 1)))) τ)
    (ok : ∀ t' r' τ K', vget r k = vClo t' r' → sSpend X 4 K = (K', .ok ()) → K'.life = K.life + 1 → keep (isM R) σ τ → MB G R τ X K' w (n + 11) (s + 44) → HS c L R τ t' r' as → Q (.returned (some (.int (iI 1)))) τ)
    (er : ∀ t' r' x τ e, vget r k = vClo t' r' → sSpend X 4 K = (K, .error e) → flt τ x e (-1) → keep (isM R) σ τ → MB G R τ X K w n s → Q (.threw x) τ) : CQ (wP G s0 l KK T) mX13_goes lev (.ref a :: [va_rf (some (R 2))]) σ Q := by
  obtain ⟨l', rfl⟩ := Nat.exists_eq_add_of_le' hl
  have m1 := h.2.1.1.1
  obtain ⟨p0, p1, pE, p2⟩ := hp
  refine tX13_goes ⟨R 2, rfl, m1, goB_loop p1 p2 p0 k 0 r _ (by omega) hr hg (fun e v r1 h1 h2 h3 => ?_)⟩
  obtain ⟨v1, v2, v3, v4⟩ := h3
  have v3' := v3
  unfold pV at v3'
  split at v3'
  · cases ‹false = true›
  · cases ‹false = true›
  · exact absurd rfl h2
  · rename_i t' r' q _ hq
    obtain ⟨c1, ⟨b, c2, c3⟩, c4⟩ := v3'
    refine tX13_goes_7 ⟨p1, fun _ => ⟨e, rfl, v1, q, by assumption, c1, b, c2, pT_tm c3, fun i18 => ?_, fun _ => ⟨R 2, rfl, m1, c_spend (c := 4) (by omega) (by omega) h (fun τ K' s1 s2 s3 s4 s5 s6 _ => ?_) (fun x τ e s1 s2 s3 s4 _ => er t' r' x τ e h1.symm s1 s2 s3 s4)⟩⟩, fun q => ?_⟩
    · exact absurd (i18.tag c2) (pT_18 c3)
    · have hmv : mv c c L L σ τ := mv_keep s3 h.2.1.ok
      obtain ⟨g1, g2, g3, -⟩ := hmv.cl v1 rfl
      obtain ⟨f1, f2, f3, -⟩ := hmv.cl c1 rfl
      refine tX13_goes_44 ⟨e, rfl, g1, R 2, rfl, s4.2.1.1.1, tX3_enter ⟨q, ?_, f1, s4.2.1.1.1, tX3_at ⟨s4.2.1.1.1, fun _ => fun _ => ?_⟩⟩⟩
      · rw [g3]; assumption
      · rw [f3, f3, c2]
        exact ok t' r' _ K' h1.symm s1 s2 (s3.t2 keep_at) s4.at (HS_at s4.2.1 (pT_mv hmv _ _ _ c3) (pV_mv hmv _ _ _ c4) (by rw [s5]; exact pA_mv hmv _ _ hA))
    · exact absurd (by rw [p2, iI_le (by omega) (by omega) (by omega) (by omega)]; omega) q
  · rename_i i q _ hq
    obtain ⟨c1, b, c2, c3, c4⟩ := v3'
    refine tX13_goes_7 ⟨p1, fun _ => ⟨e, rfl, v1, q, by assumption, c1, b, c2, ⟨17, by decide, c3⟩, fun _ => ?_, fun q => absurd ⟨b, c2, c3⟩ q⟩, fun q => ?_⟩
    · refine tX13_goes_44 ⟨e, rfl, v1, R 2, rfl, m1, tX3_enter ⟨q, by assumption, c1, m1, tX3_at ⟨m1, fun _ => fun _ => ?_⟩⟩⟩
      rw [c2]
      refine okL i b h1.symm c3 c4 _ keep_at h.at ?_ ?_
      · rw [gr_pr, if_neg (by omega), gr_pr, if_pos ⟨rfl, rfl⟩]
      · rw [gr_pr, if_neg (by omega), gr_pr, if_neg (by omega)]
        exact pA_mv (mv_keep (L := L) keep_at h.2.1.ok) _ _ hA
    · exact absurd (by rw [p2, iI_le (by omega) (by omega) (by omega) (by omega)]; omega) q
  · exact v3'.elim
/-- further out -/
theorem goL_loop {a m : Nat} {x1 : Option Nat} (hk : gk σ a = 19) (hi : gi σ a 3 = iI (m : Int)) (hm6 : m < 1000000) : ∀ (d i : Nat) (r : V) (x2 : Option Nat), m = i + d → pV c L σ r true x2 → d ≤ (shp r).length →
    (∀ x, pV c L σ (vdrop d r) true x → jX21_goes_7 G s0 l KK T lev st0 Q a x1 x (iI (m : Int)) σ) → jX21_goes_7 G s0 l KK T lev st0 Q a x1 x2 (iI (i : Int)) σ := by
  intro d
  induction d with
  | zero =>
    intro i r x2 e hr hs done
    have hik : m = i := by omega
    subst hik
    exact done _ hr
  | succ d ih =>
    intro i r x2 e hr hs done
    have hr0 := hr
    unfold pV at hr0
    split at hr0
    · rename_i v r e' _
      refine tX21_goes_7 ⟨hk, fun q => ?_, fun _ => ⟨e', rfl, hr0.1, ?_⟩⟩
      · rw [hi, iI_le (by omega) (by omega) (by omega) (by omega)] at q; omega
      · rw [iI_suc]
        refine ih (i + 1) r _ (by omega) hr0.2.2.2 ?_ (fun x hx => done x hx)
        unfold shp at hs
        split at hs <;> simp_all
    · simp [shp] at hs
    · cases ‹true = false›
    · cases ‹true = false›
    · cases ‹true = false›
    · exact hr0.elim
theorem go_lft {a m : Nat} {t r : V} {as : List V} (hl : 6 ≤ lev) (h : MB G R σ X K w n s) (hp : pT c σ (.group (.tag m t) .allOrNone) a 0) (hg : m ≤ (shp r).length) (hr : pV c L σ r true (gr σ (R 2) 2)) (hA : pA c L σ as (gr σ (R 2) 3))
    (ok : ∀ τ, keep (isM R) σ τ → MB G R τ X K w n s → HS c L R τ t (vdrop m r) as → Q (.returned (some (.int (iI 1)))) τ) : CQ (wP G s0 l KK T) mX21_goes lev (.ref a :: [va_rf (some (R 2))]) σ Q := by
  obtain ⟨l', rfl⟩ := Nat.exists_eq_add_of_le' hl
  have m1 := h.2.1.1.1
  obtain ⟨p0, p1, pE, p2, x, p3, p4⟩ := hp
  refine tX21_goes ⟨R 2, rfl, m1, goL_loop p1 p2 p0 m 0 r _ (by omega) hr hg (fun y hy => ?_)⟩
  refine tX21_goes_7 ⟨p1, fun _ => ⟨R 2, rfl, m1, tX3_at ⟨m1, fun _ => ?_⟩⟩, fun q => ?_⟩
  · rw [p3]
    exact ok _ keep_at h.at (HS_at h.2.1 p4 hy hA)
  · exact absurd (by rw [p2, iI_le (by omega) (by omega) (by omega) (by omega)]; omega) q
theorem go_snk {a : Nat} {t r : V} {as : List V} (hl : 6 ≤ lev) (h : MB G R σ X K w (n + 1) (s + 3)) (hp : pT c σ (.group t .fill) a 0) (hr : pV c L σ r true (gr σ (R 2) 2)) (hA : pA c L σ as (gr σ (R 2) 3))
    (ok : ∀ τ, keep (isM R) σ τ → MB G R τ X K w n s → HS c L R τ t (.append .line r) as → Q (.returned (some (.int (iI 1)))) τ) : CQ (wP G s0 l KK T) mX22_goes lev (.ref a :: [va_rf (some (R 2))]) σ Q := by
  obtain ⟨l', rfl⟩ := Nat.exists_eq_add_of_le' hl
  have m1 := h.2.1.1.1
  have hz := h.1
  rw [pT_snk] at hp
  obtain ⟨p1, pE, x, p3, p4⟩ := hp
  have e1 : R 2 ≠ gn σ := hz.ne (by omega)
  have hd := pE_dep hr
  have hfr : ¬ isM R (gn σ) := h.2.1.fr hz (Nat.le_refl _)
  refine tX22_goes ⟨p1, h.2.2.2.gr hz, R 2, rfl, by rw [gk_old e1]; exact m1, c_env (d := vlen r) (by omega) (gk_new (n := 3) hz.at) (fun e => ?_) (fun e he => ?_) (fun _ => tX3_at ⟨by rw [gk_pi, gk_pr, gk_pr, gk_old e1]; exact m1, fun _ => ?_⟩)⟩
  · rw [gr_mk e1] at e; exact hd.1 e
  · rw [gr_mk e1] at he
    obtain ⟨d1, d2⟩ := hd.2 e he
    have e4 : e ≠ gn σ := hz.ne (by omega)
    exact ⟨e4, by rw [gk_old e4]; exact d1, by rw [gi_mk e4]; exact d2⟩
  · rw [p3, gr_mk e1]
    generalize gr σ (R 2) 2 = xe at hr
    have hk0 : keep (isM R) σ (gpi (gn σ) 2 (iI ((vlen r + 1 : Nat) : Int)) (gpr (gn σ) 1 xe (gpr (gn σ) 0 none (gmk 16 3 σ)))) := (((keep.rf.mk hz.at).pr (fun q => absurd hz.at q)).pr (fun q => absurd hz.at q)).pi (fun q => absurd hz.at q)
    have hm0 : MS G R (gpi (gn σ) 2 (iI ((vlen r + 1 : Nat) : Int)) (gpr (gn σ) 1 xe (gpr (gn σ) 0 none (gmk 16 3 σ)))) X K w := (((h.2.1.mk hz).pr' hfr).pr' hfr).pi' hfr
    have hmv : mv c c L L σ _ := mv_keep hk0 h.2.1.ok
    have hMB : MB G R (gpi (gn σ) 2 (iI ((vlen r + 1 : Nat) : Int)) (gpr (gn σ) 1 xe (gpr (gn σ) 0 none (gmk 16 3 σ)))) X K w n s := ⟨gz.mk hz, hm0, h.2.2.1, h.2.2.2.mk (t := 16)⟩
    refine ok _ (hk0.t2 keep_at) hMB.at (HS_at hm0 (pT_mv hmv _ _ _ p4) ⟨gk_new (n := 3) hz.at, ?_, ?_, ?_⟩ ?_)
    · rw [gi_pi, if_pos ⟨rfl, rfl⟩]
    · rw [gr_pi, gr_pr, if_neg (by omega), gr_pr, if_pos ⟨rfl, rfl⟩]; trivial
    · rw [gr_pi, gr_pr, if_pos ⟨rfl, rfl⟩]; exact pV_mv hmv _ _ _ hr
    · rw [gr_pi, gr_pr, if_neg (by omega), gr_pr, if_neg (by omega), gr_mk e1]; exact pA_mv hmv _ _ hA
end PG
