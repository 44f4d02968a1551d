/-! P OVER S (21): judging: what was found, sorts, scopes -/
theorem sUnw_lft {m : Nat} {t r : V} : sUnw (.group (.tag m t) .allOrNone) r = sUnw t (vdrop m r) := rfl
theorem sUnw_snk {t r : V} : sUnw (.group t .fill) r = sUnw t (.append .line r) := by cases t <;> rfl
theorem sUnw_id {t r : V} (h1 : ∀ m t', t ≠ .group (.tag m t') .allOrNone) (h2 : ∀ t', t ≠ .group t' .fill) : sUnw t r = (t, r) := by
  unfold sUnw
  split
  · exact absurd rfl (h1 _ _)
  · exact absurd rfl (h2 _)
  · rfl
theorem pT_shape {c : PC} {σ : GSt} {t : V} {a : Nat} (h : pT c σ t a 0) : (∃ m t', t = .group (.tag m t') .allOrNone) ∨ (∃ t', t = .group t' .fill) ∨ ((∀ m t', t ≠ .group (.tag m t') .allOrNone) ∧ (∀ t', t ≠ .group t' .fill) ∧ gk σ a ≠ 19 ∧ gk σ a ≠ 20) := by
  unfold pT at h
  split at h
  · exact Or.inr (Or.inr ⟨fun _ _ q => (by cases q), fun _ q => (by cases q), by have := h.2.1; omega, by have := h.2.1; omega⟩)
  · exact Or.inr (Or.inr ⟨fun _ _ q => (by cases q), fun _ q => (by cases q), by have := h.2.1; omega, by have := h.2.1; omega⟩)
  · exact Or.inr (Or.inr ⟨fun _ _ q => (by cases q), fun _ q => (by cases q), by have := h.2.1; omega, by have := h.2.1; omega⟩)
  · exact Or.inr (Or.inr ⟨fun _ _ q => (by cases q), fun _ q => (by cases q), by have := h.1; omega, by have := h.1; omega⟩)
  · exact Or.inr (Or.inr ⟨fun _ _ q => (by cases q), fun _ q => (by cases q), by have := h.1; omega, by have := h.1; omega⟩)
  · exact Or.inr (Or.inr ⟨fun _ _ q => (by cases q), fun _ q => (by cases q), by have := h.1; omega, by have := h.1; omega⟩)
  · exact Or.inr (Or.inr ⟨fun _ _ q => (by cases q), fun _ q => (by cases q), by have := h.1; omega, by have := h.1; omega⟩)
  · exact Or.inl ⟨_, _, rfl⟩
  · exact Or.inr (Or.inl ⟨_, rfl⟩)
  · omega
  · omega
  · exact h.elim
section PJ2
variable {G : GPl} {s0 : State} {l : Launch} {KK : Nat → Option Nat} {T : Nat → Nat} {lev d : Nat} {Q : Outcome → GSt → Prop} {R : Nat → Nat} {σ τ st0 : GSt} {X : SX} {J : JX} {K K' : KS} {w n s o : Nat} {c c' : PC} {L L' : Nat → Nat → Prop} {W : Nat → Prop}
theorem fd_out {m ty : Nat} {x1 : Option Nat} (hk : gk σ ty = 19) (hi : gi σ ty 3 = iI (m : Int)) (hm6 : m < 1000000) : ∀ (d i : Nat) (r : V) (x2 : Option Nat), m = i + d → pV c L σ r true x2 → d ≤ (shp r).length →
    (∀ x, pV c L σ (vdrop d r) true x → jX4_found_10 G s0 l KK T lev st0 Q (R 3) (gr σ ty 2) x σ) → jX4_found_39 G s0 l KK T lev st0 Q (R 3) x1 x2 (some ty) (iI (i : Int)) σ := by
  intro d
  induction d with
  | zero =>
    intro i r x2 e hr hs done
    refine tX4_found_39 ⟨ty, rfl, hk, fun _ => done _ hr, fun z => absurd (by rw [hi, iI_le (by omega) (by omega) (by omega) (by omega)]; omega) z⟩
  | succ d ih =>
    intro i r x2 e hr hs done
    have hr0 := hr
    unfold pV at hr0
    split at hr0
    · rename_i v r e' _
      refine tX4_found_39 ⟨ty, rfl, hk, fun q => ?_, fun _ => ⟨e', rfl, hr0.1, ?_⟩⟩
      · rw [hi, iI_le (by omega) (by omega) (by omega) (by omega)] at q; omega
      · rw [iI_suc]
        refine ih (i + 1) r _ (by omega) hr0.2.2.2 ?_ (fun x hx => done x hx)
        unfold shp at hs
        split at hs <;> simp_all
    · simp [shp] at hs
    · cases ‹true = false›
    · cases ‹true = false›
    · cases ‹true = false›
    · exact hr0.elim
/-- the type that was found, without what only moves it -/
theorem c_foundL (hl : 1 ≤ lev) : ∀ (k : Nat) (t r : V) (ty : Nat) (x2 : Option Nat) (σ : GSt), SizeOf.sizeOf t < k → pT c σ t ty 0 → pV c L σ r true x2 → gT t true (shp r) → gV r true → MB G R σ X K w (n + sw t + 1) (s + 3 * sw t + 2) →
    (∀ τ q, keep nil0 σ τ → MB G R τ X K w (n + sw (sUnw t r).1) (s + 3 * sw (sUnw t r).1) → pV c L τ (vClo (sUnw t r).1 (sUnw t r).2) false (some q) → gT (sUnw t r).1 true (shp (sUnw t r).2) → gV (sUnw t r).2 true → Q (.returned (some (va_rf (some q)))) τ) → jX4_found_10 G s0 l KK T lev st0 Q (R 3) (some ty) x2 σ := by
  obtain ⟨l', rfl⟩ := Nat.exists_eq_add_of_le' hl
  intro k
  induction k with
  | zero => intro t r ty x2 σ hk; omega
  | succ k ih =>
    intro t r ty x2 σ hsz hp hr hg hv h ok
    have htm := pT_tm hp
    rcases pT_shape hp with ⟨m, t', rfl⟩ | ⟨t', rfl⟩ | ⟨h1, h2, h3, h4⟩
    · have hg' : true = true ∧ m ≤ (shp r).length ∧ gT t' true ((shp r).drop m) := hg
      obtain ⟨p0, p1, pE, p2, x, p3, p4⟩ := hp
      have i19 : isA σ (some ty) 19 := ⟨ty, rfl, p1⟩
      refine tX4_found_10 ⟨ty, rfl, htm, fun _ => tX4_found_24 ⟨ty, rfl, htm, fun _ => ?_, fun z => absurd i19 z⟩, fun z => absurd i19 z⟩
      refine fd_out p1 p2 p0 m 0 r x2 (by omega) hr hg'.2.1 (fun y hy => ?_)
      rw [p3]
      exact ih t' (vdrop m r) x y σ (by simp at hsz; omega) p4 hy (by rw [shp_drop]; exact hg'.2.2) (gV_drop m r hv) h (fun τ q u1 u2 u3 u4 u5 => ok τ q u1 u2 u3 u4 u5)
    · have hg' : true = true ∧ gT t' true (false :: shp r) := gT_snk ▸ hg
      rw [pT_snk] at hp
      obtain ⟨p1, pE, x, p3, p4⟩ := hp
      have hz := h.1
      have n0 : gk σ (gn σ) = 0 := hz.at
      have e0 : sw (.group t' .fill) = sw t' + 1 := sw_snk
      rw [e0] at h
      have i20 : isA σ (some ty) 20 := ⟨ty, rfl, p1⟩
      have n19 : ¬ isA σ (some ty) 19 := fun q => by have := q.tag rfl; omega
      have hd := pE_dep hr
      have lt : ty ≠ gn σ := hz.ne (by omega)
      refine tX4_found_10 ⟨ty, rfl, htm, fun z => absurd z n19, fun _ => ⟨fun _ => tX4_found_24 ⟨ty, rfl, htm, fun z => absurd z n19, fun _ => ⟨(h.2.2.2.le (n' := n + sw t' + 1 + 1) (s' := s + 3 * sw t' + 2 + 3) (by omega) (by omega)).gr hz, c_env (d := vlen r) (by omega) (gk_new (n := 3) n0) hd.1 (fun e he => ?_) (fun _ => ⟨Or.inr ⟨ty, rfl, ?_⟩, ?_, ?_⟩)⟩⟩, fun z => absurd i20 z⟩⟩
      · obtain ⟨d1, d2⟩ := hd.2 e he
        have e4 : e ≠ gn σ := hz.ne (by omega)
        exact ⟨e4, by rw [gk_old e4]; exact d1, by rw [gi_mk e4]; exact d2⟩
      · rw [gk_pi, gk_pr, gk_pr, gk_old lt, p1]; decide
      · rw [gk_pi, gk_pr, gk_pr, gk_old lt]; exact p1
      · have hk0 : keep nil0 σ (gpi (gn σ) 2 (iI ((vlen r + 1 : Nat) : Int)) (gpr (gn σ) 1 x2 (gpr (gn σ) 0 none (gmk 16 3 σ)))) := (((keep.rf.mk n0).pr (fun q => absurd n0 q)).pr (fun q => absurd n0 q)).pi (fun q => absurd n0 q)
        have hMB : MB G R (gpi (gn σ) 2 (iI ((vlen r + 1 : Nat) : Int)) (gpr (gn σ) 1 x2 (gpr (gn σ) 0 none (gmk 16 3 σ)))) X K w (n + sw t' + 1) (s + 3 * sw t' + 2) := (h.le (n' := n + sw t' + 1 + 1) (s' := s + 3 * sw t' + 2 + 3) (by omega) (by omega)).new hk0 (gz.mk hz) rfl rfl
        have hmv : mv c c L L σ _ := hk0.mv
        have e2 : gr (gpi (gn σ) 2 (iI ((vlen r + 1 : Nat) : Int)) (gpr (gn σ) 1 x2 (gpr (gn σ) 0 none (gmk 16 3 σ)))) ty 2 = some x := by
          rw [gr_pi, gr_pr, if_neg (by omega), gr_pr, if_neg (by omega), gr_mk lt]; exact p3
        rw [e2]
        have eV : pV c L (gpi (gn σ) 2 (iI ((vlen r + 1 : Nat) : Int)) (gpr (gn σ) 1 x2 (gpr (gn σ) 0 none (gmk 16 3 σ)))) (.append .line r) true (some (gn σ)) := by
          refine ⟨gk_new (n := 3) n0, ?_, ?_, ?_⟩
          · rw [gi_pi, if_pos ⟨rfl, rfl⟩]
          · rw [gr_pi, gr_pr, if_neg (by omega), gr_pr, if_pos ⟨rfl, rfl⟩]; trivial
          · rw [gr_pi, gr_pr, if_pos ⟨rfl, rfl⟩]; exact pV_mv hmv _ _ _ hr
        generalize gpi (gn σ) 2 (iI ((vlen r + 1 : Nat) : Int)) (gpr (gn σ) 1 x2 (gpr (gn σ) 0 none (gmk 16 3 σ))) = σ1 at hk0 hMB hmv eV
        exact ih t' (.append .line r) x _ σ1 (by simp at hsz; omega) (pT_mv hmv _ _ _ p4) eV hg'.2 ⟨trivial, hv⟩ hMB (fun τ q u1 u2 u3 u4 u5 => ok τ q (hk0.t2 u1) (by rw [sUnw_snk]; exact u2) (by rw [sUnw_snk]; exact u3) (by rw [sUnw_snk]; exact u4) (by rw [sUnw_snk]; exact u5))
    · have hz := h.1
      have e0 : sUnw t r = (t, r) := sUnw_id h1 h2
      rw [e0] at ok
      refine tX4_found_10 ⟨ty, rfl, htm, fun z => absurd (z.tag rfl) h3, fun _ => ⟨fun z => absurd (z.tag rfl) h4, fun _ => ⟨(h.2.2.2.le (n' := n + sw t + 1) (s' := s + 3 * sw t + 2) (by omega) (by omega)).gr hz, ?_⟩⟩⟩
      refine c_clo (by omega) hz (fun τ t1 t2 t3 t4 t5 t6 t7 _ => ok τ (gn σ) t1 (h.new t1 t2 t3 t4) (pV_pH t5 ⟨⟨ty, t6, pT_mv (t1.mv (L := L)) _ _ _ hp⟩, ?_⟩) hg hv)
      rw [t7]
      exact pV_mv t1.mv _ _ _ hr
theorem c_found {t r : V} {ty : Nat} (hl : 2 ≤ lev) (hj : gk σ (R 3) = 4) (h3 : gr σ (R 3) 3 = some ty) (hp : pT c σ t ty 0) (hr : pV c L σ r true (gr σ (R 3) 4)) (hg : gT t true (shp r)) (hv : gV r true) (h : MB G R σ X K w (n + sw t + 1) (s + 3 * sw t + 2))
    (ok : ∀ τ q, keep nil0 σ τ → MB G R τ X K w (n + sw (sUnw t r).1) (s + 3 * sw (sUnw t r).1) → pV c L τ (vClo (sUnw t r).1 (sUnw t r).2) false (some q) → gT (sUnw t r).1 true (shp (sUnw t r).2) → gV (sUnw t r).2 true → Q (.returned (some (va_rf (some q)))) τ) : CQ (wP G s0 l KK T) mX4_found lev (.ref (R 3) :: []) σ Q := by
  obtain ⟨l', rfl⟩ := Nat.exists_eq_add_of_le' hl
  refine tX4_found ⟨hj, ?_⟩
  rw [h3]
  exact c_foundL (c := c) (L := L) (by omega) (SizeOf.sizeOf t + 1) t r ty _ σ (Nat.lt_succ_self _) hp hr hg hv h ok
/-- what was judged latest -/
def JF (c : PC) (L : Nat → Nat → Prop) (R : Nat → Nat) (σ : GSt) (t r : V) (so : Int) : Prop := (∃ ty, gr σ (R 3) 3 = some ty ∧ pT c σ t ty 0) ∧ pV c L σ r true (gr σ (R 3) 4) ∧ gi σ (R 3) 5 = iI so
theorem c_is {t r : V} {ty : Nat} {y : Option Nat} {so : Int} (hl : 1 ≤ lev) (hj : gk σ (R 3) = 4) (hn : ¬ isM R (R 3)) (hp : pT c σ t ty 0) (hr : pV c L σ r true y) (h : MB G R σ X K w n s)
    (ok : ∀ τ, keep (fun a => a = R 3) σ τ → MB G R τ X K w n s → JF c L R τ t r so → (∀ j, j < 3 → gr τ (R 3) j = gr σ (R 3) j) → Q (.returned none) τ) : CQ (wP G s0 l KK T) mX4_is lev (.ref (R 3) :: [va_rf (some ty), va_rf y, .int (iI so)]) σ Q := by
  obtain ⟨l', rfl⟩ := Nat.exists_eq_add_of_le' hl
  have hk : keep (fun a => a = R 3) σ (gpi (R 3) 5 (iI so) (gpr (R 3) 4 y (gpr (R 3) 3 (some ty) σ))) := (((keep.rf (W := fun a => a = R 3)).pr (fun _ => rfl)).pr (fun _ => rfl)).pi (fun _ => rfl)
  have hmv : mv c c L L σ (gpi (R 3) 5 (iI so) (gpr (R 3) 4 y (gpr (R 3) 3 (some ty) σ))) := mv_keep hk (fun a q => by subst q; omega)
  refine tX4_is ⟨hj, ok _ hk (((h.pr' hn).pr' hn).pi' hn) ⟨⟨ty, ?_, pT_mv hmv _ _ _ hp⟩, ?_, ?_⟩ (fun j hj3 => ?_)⟩
  · rw [gr_pi, gr_pr, if_neg (by omega), gr_pr, if_pos ⟨rfl, rfl⟩]
  · rw [gr_pi, gr_pr, if_pos ⟨rfl, rfl⟩]; exact pV_mv hmv _ _ _ hr
  · rw [gi_pi, if_pos ⟨rfl, rfl⟩]
  · rw [gr_pi, gr_pr, if_neg (by omega), gr_pr, if_neg (by omega)]
/-- a sort as a type -/
theorem c_sortT {v : Nat} (hl : 3 ≤ lev) (hE : ∀ a, c.E a → a < gn σ) (hJ : JT c R σ J) (hN : pNm c R σ X) (hv : v < c.ns) (h : MB G R σ X K w (n + 1) (s + 5))
    (ok : ∀ τ q, keep nil0 σ τ → MB G R τ X K w n s → pT c τ (.tag v (.align true)) q 0 → Q (.returned (some (va_rf (some q)))) τ) : CQ (wP G s0 l KK T) mX4_sortTerm lev (.ref (R 3) :: [.int (iI (v : Int))]) σ Q := by
  obtain ⟨l', rfl⟩ := Nat.exists_eq_add_of_le' hl
  obtain ⟨⟨j1, j2, -⟩, -⟩ := hJ
  obtain ⟨-, n2, n3, n4, n5, n6, n7⟩ := hN
  have hz := h.1
  have n0 : gk σ (gn σ) = 0 := hz.at
  have e3 : R 3 ≠ gn σ := hz.ne (by omega)
  have e1 : R 1 ≠ gn σ := hz.ne (by omega)
  have e8 : R 8 ≠ gn σ := hz.ne (by omega)
  have t12 : gk (gmk 12 5 σ) (gn σ) = 12 := gk_new (n := 5) n0
  have hfr : ¬ isM R (gn σ) := h.2.1.fr hz (Nat.le_refl _)
  refine tX4_sortTerm ⟨h.2.2.2.gr hz, by rw [gk_old e3]; exact j1, R 1, by rw [gr_mk e3]; exact j2, by rw [gk_old e1]; exact n2, R 8, by rw [gr_mk e1]; exact n3, by rw [gk_old e8]; exact n4, by rw [gl_mk e8, n5]; exact iI_in (by omega) (by omega), tX14_init (tX9_init ⟨⟨11, by decide, t12⟩, fun _ => ⟨t12, fun _ => ?_⟩⟩)⟩
  generalize gr (gmk 12 5 σ) (R 8) (ix (iI (v : Int))) = xn
  have hk : keep nil0 σ (gpi (gn σ) 4 (iI (v : Int)) (gpr (gn σ) 2 xn (gpi (gn σ) 4 (iI (-1)) (gpi (gn σ) 1 (iI (-1)) (gpi (gn σ) 0 (iI (-1)) (gmk 12 5 σ)))))) := (((((keep.rf.mk n0).pi (fun q => absurd n0 q)).pi (fun q => absurd n0 q)).pi (fun q => absurd n0 q)).pr (fun q => absurd n0 q)).pi (fun q => absurd n0 q)
  refine ok _ (gn σ) hk (h.new hk (gz.mk hz) rfl rfl) ⟨hv, t12, fun q => (by have := hE _ q; omega), ?_, ?_⟩
  · rw [gr_pi, gr_pr, if_neg (by omega), gr_pi, gr_pi, gr_pi, gr_nw]
  · rw [gi_pi, if_pos ⟨rfl, rfl⟩]
end PJ2
