/-! THE HOUSE OVER S, P (7): a name more in the context -/
/-- the context's row: if there are no names, nothing stands there -/
def CxR (KK : Nat → Option Nat) (R : Nat → Nat) (σ : GSt) (nc : Nat) : Prop := ∃ z, gr σ (R 9) 1 = some z ∧ gk σ z = 103 ∧ (nc = 0 → gr σ z 0 = none) ∧ ((KK 14 = some z ∧ gl σ z = 0) ∨ (10 ≤ gl σ z ∧ gl σ z ≤ 160))
/-- the cell of a name -/
def pNa (R : Nat → Nat) (c : PC) (σ : GSt) (nn : Nat) (cn : CN) : Prop := gk σ nn = 21 ∧ (∃ sa, gr σ nn 0 = some sa ∧ pS σ (R 5) sa cn.nm) ∧ (∃ ta, gr σ nn 1 = some ta ∧ pT c σ cn.ty ta 0) ∧ gT cn.ty true [] ∧ gi σ nn 2 = iI cn.so ∧ (-1 ≤ cn.so ∧ cn.so < 8) ∧ (cn.va = none → gr σ nn 3 = none) ∧ ∀ v, cn.va = some v → gT v false [] ∧ ∃ b, gr σ nn 3 = some b ∧ pT c σ v b 0
/-- of the context's names only the first n are in a term -/
def kB (n : Nat) : V → Prop
  | .tag k .nil => k < n
  | .tag _ (.append d b) => kB n d ∧ kB n b
  | .tag _ (.group (.append d b) .fill) => kB n d ∧ kB n b
  | .group (.tag _ t) .allOrNone => kB n t
  | .group t .fill => kB n t
  | .append x xs => kB n x ∧ kB n xs
  | _ => True
theorem kB_snk {n : Nat} {t : V} : kB n (.group t .fill) = kB n t := by cases t <;> rfl
def cnB (n : Nat) (cn : CN) : Prop := kB n cn.ty ∧ ∀ v, cn.va = some v → kB n v
def cxB (cx : List CN) : Prop := ∀ j, j < cx.length → cnB j (cAt cx j)
theorem pT_kB {c : PC} {σ : GSt} : ∀ (t : V) (a i : Nat), pT c σ t a i → kB c.nc t := by
  intro t a i
  fun_induction pT c σ t a i with
  | case1 k a => intro _; trivial
  | case2 k a => intro h; exact h.1
  | case3 s a => intro _; trivial
  | case4 d b a i1 i2 => rintro ⟨_, _, x, y, _, _, h1, h2⟩; exact ⟨i1 x h1, i2 y h2⟩
  | case5 d b a i1 i2 => rintro ⟨_, _, x, y, _, _, h1, h2⟩; exact ⟨i1 x h1, i2 y h2⟩
  | case6 f ps a i1 i2 => rintro ⟨_, _, x, y, z, _, _, _, _, _, _, _, _, _, _, h1, h2⟩; exact ⟨i1 x h1, i2 z h2⟩
  | case7 p d b a i1 i2 => rintro ⟨_, _, _, _, x, y, _, _, h1, h2⟩; exact ⟨i1 x h1, i2 y h2⟩
  | case8 m t a i1 => rintro ⟨_, _, _, _, x, _, h1⟩; exact i1 x h1
  | case9 t a i1 => rintro ⟨_, _, x, _, h1⟩; rw [kB_snk]; exact i1 x h1
  | case10 x xs z i i1 i2 => rintro ⟨_, _, b, _, h1, h2⟩; exact ⟨i1 b h1, i2 h2⟩
  | case11 => intro _; trivial
  | case12 => intro q; exact q.elim
theorem pT_sh {c : PC} {σ : GSt} {k : Nat} : ∀ (t : V) (a i : Nat), pT c σ t a i → kB k t → pT (c.1, c.2.1, k, c.2.2.2) σ t a i := by
  intro t a i
  fun_induction pT c σ t a i with
  | case1 k a => intro h _; exact h
  | case2 k a => rintro ⟨_, h1, h2, h3, h4⟩ hb; exact ⟨hb, h1, h2, h3, h4⟩
  | case3 s a => intro h _; exact h
  | case4 d b a i1 i2 => rintro ⟨g1, g2, x, y, g3, g4, h1, h2⟩ ⟨b1, b2⟩; exact ⟨g1, g2, x, y, g3, g4, i1 x h1 b1, i2 y h2 b2⟩
  | case5 d b a i1 i2 => rintro ⟨g1, g2, x, y, g3, g4, h1, h2⟩ ⟨b1, b2⟩; exact ⟨g1, g2, x, y, g3, g4, i1 x h1 b1, i2 y h2 b2⟩
  | case6 f ps a i1 i2 => rintro ⟨g1, g2, x, y, z, g3, g4, g5, g6, g7, g8, g9, g10, g11, g12, h1, h2⟩ ⟨b1, b2⟩; exact ⟨g1, g2, x, y, z, g3, g4, g5, g6, g7, g8, g9, g10, g11, g12, i1 x h1 b1, i2 z h2 b2⟩
  | case7 p d b a i1 i2 =>
    rintro ⟨g1, g2, g3, g4, x, y, g5, g6, h1, h2⟩ hb
    rw [pT_prod]
    have hb' : kB k d ∧ kB k b := hb
    exact ⟨g1, g2, g3, g4, x, y, g5, g6, i1 x h1 hb'.1, i2 y h2 hb'.2⟩
  | case8 m t a i1 => rintro ⟨g1, g2, g3, g4, x, g5, h1⟩ hb; exact ⟨g1, g2, g3, g4, x, g5, i1 x h1 hb⟩
  | case9 t a i1 =>
    rintro ⟨g1, g2, x, g3, h1⟩ hb
    rw [kB_snk] at hb
    rw [pT_snk]
    exact ⟨g1, g2, x, g3, i1 x h1 hb⟩
  | case10 x xs z i i1 i2 => rintro ⟨g1, g2, b, g3, h1, h2⟩ ⟨b1, b2⟩; exact ⟨g1, g2, b, g3, i1 b h1 b1, i2 h2 b2⟩
  | case11 => intros; trivial
  | case12 => intro q; exact q.elim
theorem cAt_snoc {cx : List CN} {cn : CN} {k : Nat} : cAt (cx ++ [cn]) k = if k = cx.length then cn else cAt cx k := by
  unfold cAt
  rw [List.getD_eq_getElem?_getD, List.getD_eq_getElem?_getD]
  by_cases h : k < cx.length
  · rw [List.getElem?_append_left h, if_neg (by omega)]
  · by_cases h2 : k = cx.length
    · subst h2
      rw [if_pos rfl, List.getElem?_append_right (Nat.le_refl _), Nat.sub_self]
      rfl
    · rw [if_neg h2, List.getElem?_eq_none (by rw [List.length_append]; show cx.length + 1 ≤ k; omega), List.getElem?_eq_none (by omega)]
section PHX
variable {G : GPl} {s0 : State} {l : Launch} {KK : Nat → Option Nat} {T : Nat → Nat} {lev : Nat} {Q : Outcome → GSt → Prop} {R : Nat → Nat} {σ τ υ st0 : GSt} {X : SX} {J : JX} {K K' : KS} {w n s o z m Z Yc Ys a y kd lim : Nat} {c c' : PC} {L L' : Nat → Nat → Prop} {W I I' I1 I2 D : Nat → Prop} {TN : Nat → List Nat} {sc : SC} {x : Option Nat} {t : TX} {ty tm : Option V} {v u : V} {tb : HT} {cx : List CN}
/-- terms where the context's list changes -/
theorem pT_ctx {zc : Nat} (hJ : JT c R σ J) (hC : gr σ (R 9) 1 = some zc ∧ (c.nc = 0 → gr σ zc 0 = none)) (hk : keep (fun a => a = R 9 ∨ a = zc) σ τ) (hE : ∀ q, c'.E q → c.E q) (hnc : c.nc ≤ c'.nc) (hns : c.ns ≤ c'.ns) (hN : ∀ k, k < c.nc → c'.N k = c.N k) {v : V} {a : Nat} {yy : Bool} {g : List Bool} (h : pT c σ v a 0) (hg : gT v yy g) : pT c' τ v a 0 := by
  obtain ⟨-, -, -, -, -, ⟨f1, f2, f3, z', f4, f5, f6, f7, f8⟩, g1⟩ := hJ
  have ez : z' = zc := by rw [hC.1] at f4; cases f4; rfl
  subst ez
  refine pT_dx (D := fun a => a = R 9 ∨ a = z') (fun al z b h1 h2 h3 h4 h5 => ?_) (fun a h1 => by rcases h1 with rfl | rfl; exact Or.inl f1; exact Or.inr f5) (fun a h1 h2 h3 => ⟨fun q => h2 (hE a q), hk a (tmt_ne h1).1 h3⟩) hnc hns hN v a 0 h yy g hg (fun q => absurd rfl q)
  have ez : z = z' := by
    rcases h4 with (rfl | rfl) | (rfl | rfl)
    · rw [f4] at h2; cases h2; rfl
    · omega
    · omega
    · rfl
  subst ez
  by_cases h0 : c.nc = 0
  · rw [hC.2 h0] at h5; cases h5
  · rw [f8 0 (by omega)] at h5
    cases h5
    exact (g1 0 (by omega)).1
theorem JB_snoc {zc z' nn : Nat} {cn : CN} {E' : Nat → Prop} (h : JB R c nilL σ (hX lim tb cx) (hJ t tb cx) [] none) (hm : MS G R σ X K w) (hc : c.nc = cx.length ∧ c.ns = tb.1.length) (hC : gr σ (R 9) 1 = some zc ∧ (c.nc = 0 → gr σ zc 0 = none)) (hn : pNa R c σ nn cn) (hne : ∀ k, k < c.nc → c.N k ≠ nn) (hk : keep (fun a => a = R 9 ∨ a = zc) σ τ) (hE : ∀ q, E' q → c.E q) (hl : gle σ τ)
    (h1 : gk τ (R 9) = 22) (h2 : gr τ (R 9) 1 = some z') (h3 : gk τ z' = 103) (h4 : gi τ (R 9) 2 = iI ((c.nc + 1 : Nat) : Int)) (h5 : ∀ j, j < c.nc → gr τ z' j = gr σ zc j) (h6 : gr τ z' c.nc = some nn) (h7 : c.nc + 1 ≤ gl τ z') (h8 : ¬ E' z') (h9 : c.nc < 100) : JB R (E', (fun k => if k = c.nc then nn else c.N k), c.nc + 1, c.ns) nilL τ (hX lim tb (cx ++ [cn])) (hJ t tb (cx ++ [cn])) [] none := by
  have hJ0 := h.1
  have hN0 := h.2.1
  obtain ⟨⟨a1, a2, a3, a4⟩, ⟨b1, b2, b3⟩, ⟨d1, d2, d3, d4, d5, d6⟩, e1, e2, ⟨f1, f2, f3, z0, f4, f5, f6, f7, f8⟩, g1⟩ := h.1
  obtain ⟨i1, i2, i3, i4, i5, i6, i7⟩ := h.2.1
  obtain ⟨p1, p2, p3, p4⟩ := h.2.2.1
  obtain ⟨⟨m1, m2, m3⟩, -⟩ := hm
  have ez : z0 = zc := by rw [hC.1] at f4; cases f4; rfl
  subst ez
  have no : ∀ q, gk σ q ≠ 22 → gk σ q ≠ 103 → ¬ (q = R 9 ∨ q = z0) := fun q w1 w2 w3 => by
    rcases w3 with rfl | rfl
    · exact w1 f1
    · exact w2 f5
  have mvT : ∀ {v : V} {a : Nat} {yy : Bool} {g : List Bool}, pT c σ v a 0 → gT v yy g → pT (E', (fun k => if k = c.nc then nn else c.N k), c.nc + 1, c.ns) τ v a 0 := fun {v a yy g} w1 w2 => pT_ctx (c' := (E', (fun k => if k = c.nc then nn else c.N k), c.nc + 1, c.ns)) hJ0 hC hk hE (Nat.le_succ _) (Nat.le_refl _) (fun k hk => by show (if k = c.nc then nn else c.N k) = c.N k; rw [if_neg (by omega)]) w1 w2
  have kp : ∀ q, gk σ q ≠ 0 → gk σ q ≠ 22 → gk σ q ≠ 103 → gk τ q = gk σ q ∧ (∀ j, gi τ q j = gi σ q j) ∧ (∀ j, gr τ q j = gr σ q j) ∧ gl τ q = gl σ q := fun q w1 w2 w3 => hk q w1 (no q w2 w3)
  have kS : ∀ {sa : Nat} {bs : List Nat}, pS σ (R 5) sa bs → pS τ (R 5) sa bs := fun {sa bs} w1 => w1.kpW hk (fun q w => by rcases w with rfl | rfl <;> exact ⟨by omega, fun w => by omega⟩)
  obtain ⟨r1, r2, r3, r4⟩ := kp (R 3) (by omega) (by omega) (by omega)
  obtain ⟨t1, t2, t3, t4⟩ := kp (R 1) (by omega) (by omega) (by omega)
  obtain ⟨u1, u2, u3, u4⟩ := kp (R 6) (by omega) (by omega) (by omega)
  obtain ⟨v1, v2, v3, v4⟩ := kp (R 7) (by omega) (by omega) (by omega)
  obtain ⟨w1, w2, w3, w4⟩ := kp (R 8) (by omega) (by omega) (by omega)
  obtain ⟨n1, ⟨sa, n2, n3⟩, ⟨ta, n4, n5⟩, n6, n7, n8, n9, n10⟩ := hn
  obtain ⟨x1, x2, x3, x4⟩ := kp nn (by omega) (by omega) (by omega)
  have cA : ∀ k, k ≠ c.nc → cAt (cx ++ [cn]) k = cAt cx k := fun k hk => by rw [cAt_snoc, if_neg (by omega)]
  have cA' : cAt (cx ++ [cn]) c.nc = cn := by rw [cAt_snoc, if_pos hc.1]
  refine ⟨⟨⟨r1.trans a1, by rw [r3]; exact a2, by rw [r3]; exact a3, by rw [r3]; exact a4⟩, ⟨by rw [t3]; exact b1, by rw [t3]; exact b2, by rw [t2]; exact b3⟩, ⟨u1.trans d1, by rw [u4]; exact d2, v1.trans d3, by rw [v4]; exact d4, d5, d6⟩, fun k hk => by rw [u2]; exact e1 k hk, fun a b ha hb => by rw [v2]; exact e2 a b ha hb, ⟨h1, fun q => f2 (hE _ q), h4, z', h2, h3, h8, h7, fun k hk => ?_⟩, fun k hk => ?_⟩, ⟨fun k hk => ?_, t1.trans i2, by rw [t3]; exact i3, w1.trans i4, by rw [w4]; exact i5, i6, fun i hi => ?_⟩, ⟨fun k hk => ?_, fun i j hi hj hij => ?_, p3, h9⟩, trivial, ⟨fun _ _ z => z.elim, fun _ _ _ z => z.elim, fun _ _ _ z => z.elim⟩, fun q hq => ?_⟩
  · show gr τ z' k = some (if k = c.nc then nn else c.N k)
    by_cases hkn : k = c.nc
    · subst hkn; rw [if_pos rfl]; exact h6
    · have hk' : k < c.nc := by have : k < c.nc + 1 := hk; omega
      rw [if_neg hkn, h5 k hk']; exact f8 k hk'
  · show gk τ (if k = c.nc then nn else c.N k) = 21 ∧ gi τ (if k = c.nc then nn else c.N k) 2 = iI (cAt (cx ++ [cn]) k).so ∧ -1 ≤ (cAt (cx ++ [cn]) k).so ∧ (cAt (cx ++ [cn]) k).so < 8 ∧ gT (cAt (cx ++ [cn]) k).ty true [] ∧ ∃ b, gr τ (if k = c.nc then nn else c.N k) 1 = some b ∧ pT _ τ (cAt (cx ++ [cn]) k).ty b 0
    by_cases hkn : k = c.nc
    · subst hkn
      rw [if_pos rfl, cA']
      exact ⟨x1.trans n1, by rw [x2]; exact n7, n8.1, n8.2, n6, ta, by rw [x3]; exact n4, mvT n5 n6⟩
    · have hk' : k < c.nc := by have : k < c.nc + 1 := hk; omega
      obtain ⟨y1, y2, y3, y4, y5, b, y6, y7⟩ := g1 k hk'
      obtain ⟨o1, o2, o3, o4⟩ := kp (c.N k) (by omega) (by omega) (by omega)
      rw [if_neg hkn, cA k hkn]
      exact ⟨o1.trans y1, by rw [o2]; exact y2, y3, y4, y5, b, by rw [o3]; exact y6, mvT y7 y5⟩
  · show gk τ (if k = c.nc then nn else c.N k) = 21 ∧ ∃ a, gr τ (if k = c.nc then nn else c.N k) 0 = some a ∧ pS τ (R 5) a (cAt (cx ++ [cn]) k).nm
    by_cases hkn : k = c.nc
    · subst hkn
      rw [if_pos rfl, cA']
      exact ⟨x1.trans n1, sa, by rw [x3]; exact n2, kS n3⟩
    · have hk' : k < c.nc := by have : k < c.nc + 1 := hk; omega
      obtain ⟨y1, b, y6, y7⟩ := i1 k hk'
      obtain ⟨o1, o2, o3, o4⟩ := kp (c.N k) (by omega) (by omega) (by omega)
      rw [if_neg hkn, cA k hkn]
      exact ⟨o1.trans y1, b, by rw [o3]; exact y6, kS y7⟩
  · obtain ⟨b, y6, y7⟩ := i7 i hi
    exact ⟨b, by rw [w3]; exact y6, kS y7⟩
  · show gk τ (if k = c.nc then nn else c.N k) = 21 ∧ ((cAt (cx ++ [cn]) k).va = none → gr τ (if k = c.nc then nn else c.N k) 3 = none) ∧ ∀ t, (cAt (cx ++ [cn]) k).va = some t → gT t false [] ∧ ∃ b, gr τ (if k = c.nc then nn else c.N k) 3 = some b ∧ pT _ τ t b 0
    by_cases hkn : k = c.nc
    · subst hkn
      rw [if_pos rfl, cA']
      refine ⟨x1.trans n1, fun q => by rw [x3]; exact n9 q, fun t q => ?_⟩
      obtain ⟨q1, b, q2, q3⟩ := n10 t q
      exact ⟨q1, b, by rw [x3]; exact q2, mvT q3 q1⟩
    · have hk' : k < c.nc := by have : k < c.nc + 1 := hk; omega
      obtain ⟨y1, y2, y3⟩ := p1 k hk'
      obtain ⟨o1, o2, o3, o4⟩ := kp (c.N k) (by omega) (by omega) (by omega)
      rw [if_neg hkn, cA k hkn]
      refine ⟨o1.trans y1, fun q => by rw [o3]; exact y2 q, fun t q => ?_⟩
      obtain ⟨q1, b, q2, q3⟩ := y3 t q
      exact ⟨q1, b, by rw [o3]; exact q2, mvT q3 q1⟩
  · have hi' : i < c.nc + 1 := hi
    have hj' : j < c.nc + 1 := hj
    replace hij : (if i = c.nc then nn else c.N i) = (if j = c.nc then nn else c.N j) := hij
    split at hij
    · split at hij
      · omega
      · exact absurd hij.symm (hne j (by omega))
    · split at hij
      · exact absurd hij (hne i (by omega))
      · exact p2 i j (by omega) (by omega) hij
  · have h3 := h.2.2.2.2.2 q (hE q hq)
    rw [hl.2 q (tmt_ne h3).1]
    exact h3
theorem st_nm {nn : Nat} (h : gk σ nn = 21) : stOK σ (some nn) "java/lang/Object" := Or.inr ⟨nn, 20, rfl, h, (obj_ok 20 (by decide)).1, Or.inl (obj_ok 20 (by decide)).2⟩
theorem c_cadd {nn : Nat} {cn : CN} (hl : 7 ≤ lev) (h : JB R c nilL σ (hX lim tb cx) (hJ t tb cx) [] none) (hc : c.nc = cx.length ∧ c.ns = tb.1.length) (hC : CxR KK R σ c.nc) (hn : pNa R c σ nn cn) (hne : ∀ k, k < c.nc → c.N k ≠ nn) (h9 : c.nc < 100) (hm : MB G R σ X K w (n + 1) (s + 240))
    (ok : ∀ τ, keep (fun a => a = R 9 ∨ (gr σ (R 9) 1 = some a ∧ 0 < gl σ a)) σ τ → gle σ τ → JB R (c.E, (fun k => if k = c.nc then nn else c.N k), c.nc + 1, c.ns) nilL τ (hX lim tb (cx ++ [cn])) (hJ t tb (cx ++ [cn])) [] none → CxR KK R τ (c.nc + 1) → MB G R τ X K w n s → (∀ q, gr τ (R 9) 1 = some q → gr σ (R 9) 1 = some q ∨ gk σ q = 0) → Q (.returned (some (.int (iI 1)))) τ) : CQ (wP G s0 l KK T) mJ2_add lev (.ref (R 9) :: [va_rf (some nn)]) σ Q := by
  obtain ⟨z, c1, c2, c3, c4⟩ := hC
  have hz := hm.1
  obtain ⟨f1, f2, f3, z0, f4, f5, f6, f7, f8⟩ := h.1.2.2.2.2.2.1
  have ez : z0 = z := by rw [c1] at f4; cases f4; rfl
  subst ez
  have g0 : G.h0.size ≤ gn σ := by
    have h1 := hm.2.1.2.2.1.2.2
    have h2 := hz.lt (a := R 5) (by rw [hm.2.1.1.2.2]; omega)
    omega
  have hro := hm.2.2.2
  have noM : ∀ a, (a = R 9 ∨ a = z0) → ¬ isM R a := fun a q w => by
    obtain ⟨⟨m1, m2, m3⟩, -⟩ := hm.2.1
    rcases q with rfl | rfl <;> rcases w with w | w | w <;> (first | (rw [w] at f1; omega) | (rw [w] at f5; omega))
  have mM : ∀ {τ : GSt}, keep (fun a => a = R 9 ∨ a = z0) σ τ → MS G R τ X K w := fun {τ} hk => hm.2.1.mv (fun a ha => by obtain ⟨e1, e2, e3, e4⟩ := hk a (hm.2.1.tg ha) (fun q => noM a q ha); exact ⟨e1, e2, e4⟩) (fun j _ => (hk (R 2) (hm.2.1.tg (Or.inl rfl)) (fun q => noM _ q (Or.inl rfl))).2.2.1 j)
  have hE : ¬ c.E (gn σ) := fun q => Nat.lt_irrefl _ (h.lt hz _ q)
  rcases c4 with ⟨k1, k2⟩ | ⟨k1, k2⟩
  · have n0 : c.nc = 0 := by omega
    refine c_add0 hl hz f1 f4 f5 k2 (by rw [f3, n0]) k1 (Or.inr (Or.inl hn.1)) ⟨by have := hro.1; omega, by have := hro.2; omega⟩ (fun τ u1 u2 u3 u4 u5 u6 u7 u8 u9 u10 u11 => ?_)
    have k9 : keep (fun a => a = R 9 ∨ a = z0) σ τ := u1.wk (fun _ q => Or.inl q)
    refine ok τ (u1.wk (fun _ q => Or.inl q)) u11 (JB_snoc h hm.2.1 hc ⟨c1, c3⟩ hn hne k9 (fun _ q => q) u11 u3 u4 u5 (by rw [n0]; exact u7) (fun j hj => by omega) (by rw [n0]; exact u8) (by omega) hE h9) ⟨gn σ, u4, u5, fun q => by omega, Or.inr ⟨by omega, by omega⟩⟩ ⟨u2, mM k9, hm.2.2.1, ⟨by have := hro.1; omega, by have := hro.2; omega⟩⟩ (fun q hq => by rw [u4] at hq; cases hq; exact Or.inr hz.at)
  · refine CQ.gl (c_add hl hz g0 f1 f4 f5 rfl f3 f7 (by omega) (by omega) (st_nm hn.1) (fun j hj => by rw [f8 j hj]; exact st_nm (h.1.2.2.2.2.2.2 j hj).1) (fun _ => ⟨by have := hro.1; omega, by have := hro.2; omega⟩) (fun τ z' u1 u2 u3 u4 u5 u6 u7 u8 u9 => fun l1 => ?_))
    refine ok τ (u1.wk (fun a q => by rcases q with rfl | rfl; exact Or.inl rfl; exact Or.inr ⟨c1, by omega⟩)) l1 (JB_snoc h hm.2.1 hc ⟨c1, c3⟩ hn hne u1 (fun _ q => q) l1 u3 u4 u5 u6 u7 u8 (by rcases u9 with ⟨w0, _, w1, _⟩ | ⟨w0, _, w1, _⟩ <;> omega) (by rcases u9 with ⟨_, w0, _⟩ | ⟨_, w0, _⟩; rw [w0]; exact f6; rw [w0]; exact hE) h9) ⟨z', u4, u5, fun q => by omega, Or.inr (by rcases u9 with ⟨_, _, w0, _⟩ | ⟨w2, _, w0, _⟩ <;> exact ⟨by omega, by omega⟩)⟩ ⟨u2, mM u1, hm.2.2.1, ⟨by rcases u9 with ⟨_, _, _, w1, w2⟩ | ⟨_, _, _, w1, w2⟩ <;> (have := hro.1; omega), by rcases u9 with ⟨_, _, _, w1, w2⟩ | ⟨w3, _, _, w1, w2⟩ <;> (have := hro.2; omega)⟩⟩ (fun q hq => by rw [u4] at hq; cases hq; rcases u9 with ⟨_, w0, _⟩ | ⟨_, w0, _⟩; exact Or.inl (by rw [w0]; exact c1); exact Or.inr (by rw [w0]; exact hz.at))
end PHX
