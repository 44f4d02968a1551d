/-! P OVER S (7): the head's loop -/
theorem sHead_lft {X : SX} {n m : Nat} {t r : V} {as : List V} {K : KS} : sHead X (n + 1) (.group (.tag m t) .allOrNone) r as K = sHead X (n + 1) t (vdrop m r) as K := rfl
theorem sHead_snk {X : SX} {n : Nat} {t r : V} {as : List V} {K : KS} : sHead X (n + 1) (.group t .fill) r as K = sHead X (n + 1) t (.append .line r) as K := by cases t <;> rfl
theorem sHead_bndL {X : SX} {n k i : Nat} {r : V} {as : List V} {K : KS} (h : vget r k = vLoc i) : sHead X (n + 1) (.tag k .line) r as K = (K, .ok (vLoc i, as)) := by simp [sHead, sUnw, h]
theorem sHead_bnd {X : SX} {n k : Nat} {t' r' r : V} {as : List V} {K : KS} (h : vget r k = vClo t' r') : sHead X (n + 1) (.tag k .line) r as K = sBind (sSpend X 4 K) (fun _ K => sHead X n t' r' as K) := by simp [sHead, sUnw, h]
theorem sHead_knN {X : SX} {n k : Nat} {r : V} {as : List V} {K : KS} (h : X.val k = none) : sHead X (n + 1) (.tag k .nil) r as K = (K, .ok (vClo (.tag k .nil) r, as)) := by simp [sHead, sUnw, h]
theorem sHead_kn {X : SX} {n k : Nat} {t r : V} {as : List V} {K : KS} (h : X.val k = some t) : sHead X (n + 1) (.tag k .nil) r as K = sBind (sSpend X 1 K) (fun _ K => sHead X n t .nil as K) := by simp [sHead, sUnw, h]
theorem sHead_so {X : SX} {n k : Nat} {r : V} {as : List V} {K : KS} : sHead X (n + 1) (.tag k (.align true)) r as K = (K, .ok (vClo (.tag k (.align true)) r, as)) := by simp [sHead, sUnw]
theorem sHead_lamN {X : SX} {n : Nat} {d b r : V} {K : KS} : sHead X (n + 1) (.tag 0 (.append d b)) r [] K = (K, .ok (vClo (.tag 0 (.append d b)) r, [])) := by simp [sHead, sUnw]
theorem sHead_lam {X : SX} {n : Nat} {d b r v : V} {as : List V} {K : KS} : sHead X (n + 1) (.tag 0 (.append d b)) r (v :: as) K = sBind (sSpend X 0 K) (fun _ K => sHead X n b (.append v r) as K) := by simp [sHead, sUnw]
theorem sHead_let {X : SX} {n : Nat} {v b r : V} {as : List V} {K : KS} : sHead X (n + 1) (.tag 1 (.append v b)) r as K = sBind (sSpend X 2 K) (fun _ K => sHead X n b (.append (vClo v r) r) as K) := by simp [sHead, sUnw]
theorem sHead_use {X : SX} {n : Nat} {f ps r : V} {as : List V} {K : KS} : sHead X (n + 1) (.tag 2 (.append f ps)) r as K = sBind (sSpendN X 3 (vlen ps) K) (fun _ K => sHead X n f r (vmapC r ps ++ as) K) := by simp [sHead, sUnw]
theorem sHead_prod {X : SX} {n p : Nat} {d b r : V} {as : List V} {K : KS} : sHead X (n + 1) (.tag p (.group (.append d b) .fill)) r as K = (K, .ok (vClo (.tag p (.group (.append d b) .fill)) r, as)) := by simp [sHead, sUnw]
theorem shp_cons {v r : V} (h : v ≠ .line) : shp (.append v r) = true :: shp r := by
  cases v <;> first | rfl | exact absurd rfl h
theorem shp_drop : ∀ (m : Nat) (r : V), shp (vdrop m r) = (shp r).drop m := by
  intro m
  induction m with
  | zero => intro r; rfl
  | succ m ih =>
    intro r
    cases r with
    | append v r =>
      show shp (vdrop m r) = _
      rw [ih r]
      by_cases h : v = .line
      · subst h; rfl
      · rw [shp_cons h]; rfl
    | _ => rfl
theorem gV_drop : ∀ (m : Nat) (r : V), gV r true → gV (vdrop m r) true := by
  intro m
  induction m with
  | zero => intro r h; exact h
  | succ m ih =>
    intro r h
    cases r with
    | append v r => exact ih r h.2
    | _ => trivial
theorem gV_get : ∀ (r : V) (k : Nat), gV r true → (shp r)[k]? = some true → gV (vget r k) false ∧ vget r k ≠ .line := by
  intro r
  induction r with
  | append v r _ ih =>
    intro k h hk
    cases k with
    | zero =>
      refine ⟨h.1, fun q => ?_⟩
      have q' : v = .line := q
      subst q'
      simp [shp] at hk
    | succ k =>
      refine ih k h.2 ?_
      by_cases hv : v = .line
      · subst hv; exact hk
      · rw [shp_cons hv] at hk; exact hk
  | _ => intro k h hk; simp [shp] at hk
theorem sw_false : ∀ (t : V) (g : List Bool), gT t false g → sw t = 0 := by
  intro t g
  generalize hy : false = y
  fun_induction gT t y g <;> intro h <;> simp_all [sw]
theorem swv_loc {i : Nat} : swv (vLoc i) = 0 := by rcases i with _ | _ | _ | _ | i <;> rfl
theorem pH_loc {c : PC} {L : Nat → Nat → Prop} {σ : GSt} {i : Nat} {x y : Option Nat} : pH c L σ (vLoc i) x y = ∃ a, x = some a ∧ gk σ a = 18 ∧ L i a := by rcases i with _ | _ | _ | _ | i <;> rfl
theorem gT_snk {t : V} {y : Bool} {g : List Bool} : gT (.group t .fill) y g = (y = true ∧ gT t true (false :: g)) := by cases t <;> rfl
theorem sw_snk {t : V} : sw (.group t .fill) = sw t + 1 := by cases t <;> rfl
theorem gT_up : ∀ (t : V) (y : Bool) (g : List Bool), gT t y g → gT t true g := by
  intro t y g
  fun_induction gT t y g <;> intro h <;> simp_all [gT]
theorem gA_map {r : V} {as : List V} (hr : gV r true) (hA : gA as) : ∀ (ps : V), gT ps false (shp r) → gA (vmapC r ps ++ as) := by
  intro ps
  induction ps with
  | append x xs _ ih =>
    intro h v hv
    rcases List.mem_cons.mp hv with rfl | h2
    · exact ⟨⟨h.1, hr⟩, by simp [vClo]⟩
    · exact ih h.2 v h2
  | _ => intro _; exact hA
theorem vmapC_len {r : V} : ∀ (ps : V), (vmapC r ps).length = vlen ps := by
  intro ps
  induction ps with
  | append x xs _ ih => simp [vmapC, vlen, ih]
  | _ => rfl
section PHL
variable {G : GPl} {s0 : State} {l : Launch} {KK : Nat → Option Nat} {T : Nat → Nat} {lev : Nat} {Q : Outcome → GSt → Prop} {R : Nat → Nat} {σ τ st0 : GSt} {X : SX} {K : KS} {w n s : Nat} {c : PC} {L : Nat → Nat → Prop}
/-- how the loop ends -/
theorem head_end {x1 : Option Nat} (ok : Q (.returned none) σ) : jX3_head_19 G s0 l KK T lev st0 Q (R 2) x1 (iI 0) σ := tX3_head_19 ⟨fun _ => ok, fun q => absurd rfl q⟩
/-- one round of it -/
theorem head_go {x1 : Option Nat} {a : Nat} (hm : gk σ (R 2) = 3) (ha : gr σ (R 2) 1 = some a) (ht : isTmA σ a)
    (h : (gk σ a = 8 → CQ (wP G s0 l KK T) mX10_goes lev (.ref a :: [va_rf (some (R 2))]) σ (onI (fun r5 t4 => gle σ t4 → jX3_head_19 G s0 l KK T lev st0 Q (R 2) x1 r5 t4) (fun x t => gle σ t → Q (.threw x) t))) ∧ (gk σ a = 9 → CQ (wP G s0 l KK T) mX11_goes lev (.ref a :: [va_rf (some (R 2))]) σ (onI (fun r5 t4 => gle σ t4 → jX3_head_19 G s0 l KK T lev st0 Q (R 2) x1 r5 t4) (fun x t => gle σ t → Q (.threw x) t))) ∧ (gk σ a = 10 → CQ (wP G s0 l KK T) mX12_goes lev (.ref a :: [va_rf (some (R 2))]) σ (onI (fun r5 t4 => gle σ t4 → jX3_head_19 G s0 l KK T lev st0 Q (R 2) x1 r5 t4) (fun x t => gle σ t → Q (.threw x) t))) ∧ (gk σ a = 11 → CQ (wP G s0 l KK T) mX13_goes lev (.ref a :: [va_rf (some (R 2))]) σ (onI (fun r5 t4 => gle σ t4 → jX3_head_19 G s0 l KK T lev st0 Q (R 2) x1 r5 t4) (fun x t => gle σ t → Q (.threw x) t))) ∧ (gk σ a = 12 → CQ (wP G s0 l KK T) mX14_goes lev (.ref a :: [va_rf (some (R 2))]) σ (onI (fun r5 t4 => gle σ t4 → jX3_head_19 G s0 l KK T lev st0 Q (R 2) x1 r5 t4) (fun x t => gle σ t → Q (.threw x) t))) ∧ (gk σ a = 13 → CQ (wP G s0 l KK T) mX15_goes lev (.ref a :: [va_rf (some (R 2))]) σ (onI (fun r5 t4 => gle σ t4 → jX3_head_19 G s0 l KK T lev st0 Q (R 2) x1 r5 t4) (fun x t => gle σ t → Q (.threw x) t))) ∧ (gk σ a = 18 → CQ (wP G s0 l KK T) mX20_goes lev (.ref a :: [va_rf (some (R 2))]) σ (onI (fun r5 t4 => gle σ t4 → jX3_head_19 G s0 l KK T lev st0 Q (R 2) x1 r5 t4) (fun x t => gle σ t → Q (.threw x) t))) ∧ (gk σ a = 19 → CQ (wP G s0 l KK T) mX21_goes lev (.ref a :: [va_rf (some (R 2))]) σ (onI (fun r5 t4 => gle σ t4 → jX3_head_19 G s0 l KK T lev st0 Q (R 2) x1 r5 t4) (fun x t => gle σ t → Q (.threw x) t))) ∧ (gk σ a = 20 → CQ (wP G s0 l KK T) mX22_goes lev (.ref a :: [va_rf (some (R 2))]) σ (onI (fun r5 t4 => gle σ t4 → jX3_head_19 G s0 l KK T lev st0 Q (R 2) x1 r5 t4) (fun x t => gle σ t → Q (.threw x) t)))) : jX3_head_19 G s0 l KK T lev st0 Q (R 2) x1 (iI 1) σ :=
  tX3_head_19 ⟨fun q => absurd q (by decide), fun _ => ⟨hm, a, ha, ht, h⟩⟩
theorem c_headL {x1 : Option Nat} (hl : 8 ≤ lev) : ∀ (f k : Nat) (t r : V) (as : List V) (K : KS) (σ : GSt) (n s : Nat) (y : Bool), SizeOf.sizeOf t < k → 60001 ≤ f + K.life → HS c L R σ t r as → gT t y (shp r) → gV r true → gA as → as.length ≤ K.life → pX c σ X → MB G R σ X K w (n + sw t + 1) (s + 3 * sw t + 8) →
    (∀ τ K' v as', sHead X f t r as K = (K', .ok (v, as')) → K.life ≤ K'.life → keep (isM R) σ τ → MB G R τ X K' w (n + swv v + 1) (s + 3 * swv v + 8) → pH c L τ v (gr τ (R 2) 1) (gr τ (R 2) 2) → pA c L τ as' (gr τ (R 2) 3) → gR X v → gA as' → as'.length ≤ K'.life → Q (.returned none) τ) →
    (∀ x τ K' e, sHead X f t r as K = (K', .error e) → K.life ≤ K'.life → flt τ x e (-1) → keep (isM R) σ τ → MB G R τ X K' w n s → Q (.threw x) τ) → jX3_head_19 G s0 l KK T lev st0 Q (R 2) x1 (iI 1) σ := by
  intro f
  induction f with
  | zero => intro k t r as K σ n s y _ hf _ _ _ _ _ _ h; have := h.2.2.1.2.2; omega
  | succ f ihf =>
    intro k
    induction k with
    | zero => intro t r as K σ n s y hk; omega
    | succ k ihk =>
      intro t r as K σ n s y hsz hf hS hg hv hA hlen hX h ok er
      have m1 := h.2.1.1.1
      have hmvx : ∀ {τ : GSt}, keep (isM R) σ τ → pX c τ X := fun hk => pX_mv (mv_keep (L := L) hk h.2.1.ok) hX
      obtain ⟨⟨a, ha, hp⟩, hr, hp2⟩ := hS
      have htm := pT_tm hp
      have hp0 := hp
      unfold pT at hp0
      split at hp0
      · -- bound
        rename_i k' _
        have hg' : (shp r)[k']? = some true := hg
        obtain ⟨g1, g2⟩ := gV_get r k' hv hg'
        have e0 : sw (.tag k' .line) = 0 := rfl
        rw [e0] at h
        refine head_go m1 ha htm ⟨?_, ?_, ?_, ?_, ?_, ?_, ?_, ?_, ?_⟩ <;> intro q <;> first | (exfalso; omega) | skip
        refine go_bnd (n := n) (s := s) (c := c) (L := L) (r := r) (as := as) (by omega) h hp hg' hr hp2 (fun i b h1 h2 h3 τ k1 k2 k3 k4 _ => ?_) (fun t' r' τ K' h1 s1 s2 s3 s4 s5 _ => ?_) (fun t' r' x τ e h1 s1 s2 s3 s4 _ => ?_)
        · -- a local: one more round
          have hmv : mv c c L L σ τ := mv_keep k1 h.2.1.ok
          have t18 : gk τ b = 18 := (hmv.cl h2 rfl).1
          refine head_go k2.2.1.1.1 k3 ⟨17, by decide, t18⟩ ⟨?_, ?_, ?_, ?_, ?_, ?_, ?_, ?_, ?_⟩ <;> intro q <;> first | (exfalso; omega) | skip
          obtain ⟨l', rfl⟩ := Nat.exists_eq_add_of_le' hl
          refine tX20_goes (fun _ => head_end ?_)
          exact ok τ K (vLoc i) as (sHead_bndL h1) (Nat.le_refl _) k1 (by rw [swv_loc]; exact k2) (by rw [pH_loc]; exact ⟨b, k3, t18, h3⟩) k4 (Or.inl ⟨i, rfl⟩) hA hlen
        · rw [h1] at g1
          have e1 : sw t' = 0 := sw_false _ _ g1.1
          refine ihf (SizeOf.sizeOf t' + 1) t' r' as K' τ n s false (Nat.lt_succ_self _) (by omega) s5 g1.1 g1.2 hA (by omega) (hmvx s3) (s4.le (by omega) (by omega)) (fun τ' K'' v as' u1 u2 u3 u4 u5 u6 u7 u8 u9 => ok τ' K'' v as' (by rw [sHead_bnd h1, s1]; exact u1) (by omega) (s3.t2 u3) u4 u5 u6 u7 u8 u9) (fun x τ' K'' e u1 u2 u3 u4 u5 => er x τ' K'' e (by rw [sHead_bnd h1, s1]; exact u1) (by omega) u3 (s3.t2 u4) u5)
        · exact er x τ K e (by rw [sHead_bnd h1, s1]; rfl) (Nat.le_refl _) s2 s3 s4
      · -- a name of the context
        rename_i k' _
        have e0 : sw (.tag k' .nil) = 0 := rfl
        rw [e0] at h
        refine head_go m1 ha htm ⟨?_, ?_, ?_, ?_, ?_, ?_, ?_, ?_, ?_⟩ <;> intro q <;> first | (exfalso; omega) | skip
        cases hv' : X.val k' with
        | none =>
          refine go_knN (X := X) (by omega) hX hp hv' (fun _ => head_end ?_)
          exact ok σ K _ as (sHead_knN hv') (Nat.le_refl _) keep.rf h ⟨⟨_, ha, hp⟩, hr⟩ hp2 (Or.inr ⟨_, r, rfl, trivial, hv, Or.inl ⟨k', rfl, hv'⟩⟩) hA hlen
        | some t' =>
          have gt := ((hX.1 k' hp0.1).2.2 t' hv').1
          have e1 : sw t' = 0 := sw_false _ _ gt
          refine go_kn (n := n) (s := s) (c := c) (L := L) (as := as) (by omega) h hX hp hv' hp2 (fun τ K' s1 s2 s3 s4 s5 _ => ?_) (fun x τ e s1 s2 s3 s4 _ => ?_)
          · refine ihf (SizeOf.sizeOf t' + 1) t' .nil as K' τ n s false (Nat.lt_succ_self _) (by omega) s5 gt trivial hA (by omega) (hmvx s3) (s4.le (by omega) (by omega)) (fun τ' K'' v as' u1 u2 u3 u4 u5 u6 u7 u8 u9 => ok τ' K'' v as' (by rw [sHead_kn hv', s1]; exact u1) (by omega) (s3.t2 u3) u4 u5 u6 u7 u8 u9) (fun x τ' K'' e u1 u2 u3 u4 u5 => er x τ' K'' e (by rw [sHead_kn hv', s1]; exact u1) (by omega) u3 (s3.t2 u4) u5)
          · exact er x τ K e (by rw [sHead_kn hv', s1]; rfl) (Nat.le_refl _) s2 s3 s4
      · -- a sort
        rename_i k' _
        have e0 : sw (.tag k' (.align true)) = 0 := rfl
        rw [e0] at h
        refine head_go m1 ha htm ⟨?_, ?_, ?_, ?_, ?_, ?_, ?_, ?_, ?_⟩ <;> intro q <;> first | (exfalso; omega) | skip
        refine go_so (by omega) hp (fun _ => head_end ?_)
        exact ok σ K _ as sHead_so (Nat.le_refl _) keep.rf h ⟨⟨_, ha, hp⟩, hr⟩ hp2 (Or.inr ⟨_, r, rfl, trivial, hv, Or.inr (Or.inl ⟨k', rfl⟩)⟩) hA hlen
      · -- a lambda
        rename_i d b _
        have e0 : sw (.tag 0 (.append d b)) = 0 := rfl
        rw [e0] at h
        have hg' : gT d false (shp r) ∧ gT b false (true :: shp r) := hg
        refine head_go m1 ha htm ⟨?_, ?_, ?_, ?_, ?_, ?_, ?_, ?_, ?_⟩ <;> intro q <;> first | (exfalso; omega) | skip
        obtain ⟨p1, pE, x, y', p2, p3, p4, p5⟩ := hp0
        cases as with
        | nil =>
          have hn0 : gr σ (R 2) 3 = none := by
            cases hq : gr σ (R 2) 3 with
            | none => rfl
            | some q => rw [hq] at hp2; exact hp2.elim
          obtain ⟨l', rfl⟩ := Nat.exists_eq_add_of_le' hl
          refine tX10_goes ⟨R 2, rfl, m1, fun _ => fun _ => head_end ?_, fun a3 e => by rw [hn0] at e; cases e⟩
          exact ok σ K _ [] sHead_lamN (Nat.le_refl _) keep.rf h ⟨⟨_, ha, hp⟩, hr⟩ hp2 (Or.inr ⟨_, r, rfl, hg', hv, Or.inr (Or.inr (Or.inl ⟨d, b, rfl⟩))⟩) hA hlen
        | cons v as =>
          have e1 : sw b = 0 := sw_false _ _ hg'.2
          have hv1 := hA v List.mem_cons_self
          refine go_lam (n := n) (s := s) (by omega) h p1 pE p3 p5 hr hp2 (fun τ K' s1 s2 s3 s4 s5 _ => ?_) (fun x τ e s1 s2 s3 s4 _ => ?_)
          · refine ihf (SizeOf.sizeOf b + 1) b (.append v r) as K' τ n s false (Nat.lt_succ_self _) (by omega) s5 (by rw [shp_cons hv1.2]; exact hg'.2) ⟨hv1.1, hv⟩ (fun u hu => hA u (List.mem_cons_of_mem _ hu)) (by simp at hlen; omega) (hmvx s3) (s4.le (by omega) (by omega)) (fun τ' K'' v as' u1 u2 u3 u4 u5 u6 u7 u8 u9 => ok τ' K'' v as' (by rw [sHead_lam, s1]; exact u1) (by omega) (s3.t2 u3) u4 u5 u6 u7 u8 u9) (fun x τ' K'' e u1 u2 u3 u4 u5 => er x τ' K'' e (by rw [sHead_lam, s1]; exact u1) (by omega) u3 (s3.t2 u4) u5)
          · exact er x τ K e (by rw [sHead_lam, s1]; rfl) (Nat.le_refl _) s2 s3 s4
      · -- let
        rename_i d b _
        have e0 : sw (.tag 1 (.append d b)) = 0 := rfl
        rw [e0] at h
        have hg' : gT d false (shp r) ∧ gT b false (true :: shp r) := hg
        refine head_go m1 ha htm ⟨?_, ?_, ?_, ?_, ?_, ?_, ?_, ?_, ?_⟩ <;> intro q <;> first | (exfalso; omega) | skip
        have e1 : sw b = 0 := sw_false _ _ hg'.2
        refine go_let (n := n) (s := s) (by omega) h hp hr hp2 (fun τ K' s1 s2 s3 s4 s5 _ => ?_) (fun x τ e s1 s2 s3 s4 _ => ?_)
        · refine ihf (SizeOf.sizeOf b + 1) b (.append (vClo d r) r) as K' τ n s false (Nat.lt_succ_self _) (by omega) s5 hg'.2 ⟨⟨hg'.1, hv⟩, hv⟩ hA (by omega) (hmvx s3) (s4.le (by omega) (by omega)) (fun τ' K'' v as' u1 u2 u3 u4 u5 u6 u7 u8 u9 => ok τ' K'' v as' (by rw [sHead_let, s1]; exact u1) (by omega) (s3.t2 u3) u4 u5 u6 u7 u8 u9) (fun x τ' K'' e u1 u2 u3 u4 u5 => er x τ' K'' e (by rw [sHead_let, s1]; exact u1) (by omega) u3 (s3.t2 u4) u5)
        · exact er x τ K e (by rw [sHead_let, s1]; rfl) (Nat.le_refl _) s2 s3 s4
      · -- use
        rename_i f' ps _
        have e0 : sw (.tag 2 (.append f' ps)) = 0 := rfl
        rw [e0] at h
        have hg' : gT f' false (shp r) ∧ gT ps false (shp r) ∧ 1 ≤ vlen ps := hg
        refine head_go m1 ha htm ⟨?_, ?_, ?_, ?_, ?_, ?_, ?_, ?_, ?_⟩ <;> intro q <;> first | (exfalso; omega) | skip
        have e1 : sw f' = 0 := sw_false _ _ hg'.1
        refine go_use (n := n) (s := s) (by omega) h hp hr hp2 (fun τ K' s1 s2 s3 s4 s5 _ => ?_) (fun x τ K' e s1 s2 s3 s4 s5 _ => ?_)
        · refine ihf (SizeOf.sizeOf f' + 1) f' r (vmapC r ps ++ as) K' τ n s false (Nat.lt_succ_self _) (by omega) s5 hg'.1 hv (gA_map hv hA ps hg'.2.1) (by rw [List.length_append, vmapC_len]; omega) (hmvx s3) (s4.le (by omega) (by omega)) (fun τ' K'' v as' u1 u2 u3 u4 u5 u6 u7 u8 u9 => ok τ' K'' v as' (by rw [sHead_use, s1]; exact u1) (by omega) (s3.t2 u3) u4 u5 u6 u7 u8 u9) (fun x τ' K'' e u1 u2 u3 u4 u5 => er x τ' K'' e (by rw [sHead_use, s1]; exact u1) (by omega) u3 (s3.t2 u4) u5)
        · exact er x τ K' e (by rw [sHead_use, s1]; rfl) s2 s3 s4 s5
      · -- product
        rename_i p d b _
        refine head_go m1 ha htm ⟨?_, ?_, ?_, ?_, ?_, ?_, ?_, ?_, ?_⟩ <;> intro q <;> first | (exfalso; omega) | skip
        obtain ⟨l', rfl⟩ := Nat.exists_eq_add_of_le' hl
        refine tX11_goes (fun _ => head_end ?_)
        refine ok σ K _ as sHead_prod (Nat.le_refl _) keep.rf h ⟨⟨_, ha, hp⟩, hr⟩ hp2 (Or.inr ⟨_, r, rfl, ?_, hv, Or.inr (Or.inr (Or.inr ⟨p, d, b, rfl⟩))⟩) hA hlen
        exact gT_up _ _ _ hg
      · -- further out
        rename_i m t' _
        have hg' : y = true ∧ m ≤ (shp r).length ∧ gT t' true ((shp r).drop m) := hg
        have e0 : sw (.group (.tag m t') .allOrNone) = sw t' := rfl
        rw [e0] at h
        refine head_go m1 ha htm ⟨?_, ?_, ?_, ?_, ?_, ?_, ?_, ?_, ?_⟩ <;> intro q <;> first | (exfalso; omega) | skip
        refine go_lft (by omega) h hp hg'.2.1 hr hp2 (fun τ s3 s4 s5 _ => ?_)
        exact ihk t' (vdrop m r) as K τ n s true (by simp at hsz; omega) hf s5 (by rw [shp_drop]; exact hg'.2.2) (gV_drop m r hv) hA hlen (hmvx s3) s4 (fun τ' K'' v as' u1 u2 u3 u4 u5 u6 u7 u8 u9 => ok τ' K'' v as' (by rw [sHead_lft]; exact u1) u2 (s3.t2 u3) u4 u5 u6 u7 u8 u9) (fun x τ' K'' e u1 u2 u3 u4 u5 => er x τ' K'' e (by rw [sHead_lft]; exact u1) u2 u3 (s3.t2 u4) u5)
      · -- further in
        rename_i t' _
        have hg' : y = true ∧ gT t' true (false :: shp r) := gT_snk ▸ hg
        have e0 : sw (.group t' .fill) = sw t' + 1 := sw_snk
        rw [e0] at h
        refine head_go m1 ha htm ⟨?_, ?_, ?_, ?_, ?_, ?_, ?_, ?_, ?_⟩ <;> intro q <;> first | (exfalso; omega) | skip
        refine go_snk (n := n + sw t' + 1) (s := s + 3 * sw t' + 8) (by omega) (h.le (by omega) (by omega)) hp hr hp2 (fun τ s3 s4 s5 _ => ?_)
        exact ihk t' (.append .line r) as K τ n s true (by simp at hsz; omega) hf s5 hg'.2 ⟨trivial, hv⟩ hA hlen (hmvx s3) s4 (fun τ' K'' v as' u1 u2 u3 u4 u5 u6 u7 u8 u9 => ok τ' K'' v as' (by rw [sHead_snk]; exact u1) u2 (s3.t2 u3) u4 u5 u6 u7 u8 u9) (fun x τ' K'' e u1 u2 u3 u4 u5 => er x τ' K'' e (by rw [sHead_snk]; exact u1) u2 u3 (s3.t2 u4) u5)
      · omega
      · omega
      · exact hp0.elim
end PHL
