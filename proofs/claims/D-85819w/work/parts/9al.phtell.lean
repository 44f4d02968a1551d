/-! THE HOUSE OVER S, P (8): a name is told -/
section PHT
variable {G : GPl} {s0 : State} {l : Launch} {KK : Nat → Option Nat} {T : Nat → Nat} {lev : Nat} {Q : Outcome → GSt → Prop} {R : Nat → Nat} {σ τ υ st0 ρ : GSt} {X : SX} {J : JX} {K K' : KS} {w n s o z m Z Yc Ys a y kd lim lo pl nn : Nat} {c c' : PC} {L L' : Nat → Nat → Prop} {W I I' I1 I2 D : Nat → Prop} {TN : Nat → List Nat} {sc : SC} {x : Option Nat} {t : TX} {ty tm : Option V} {v u : V} {tb : HT} {cx : List CN} {ns : List Nat}
/-- a fault at the place of the statement's i-th name -/
theorem c_pfl {i p e : Nat} (hl : 4 ≤ lev) (h1 : pS1 KK R t lo σ y kd pl ns) (hi : ns[i]? = some p) (hi3 : i < 3) (hm : MB G R σ X K w (n + 1) (s + 8)) (er : ∀ x τ, flt τ x (e : Int) (p : Int) → keep nil0 σ τ → gle σ τ → MB G R τ X K w n s → Q (.threw x) τ) :
    groom G 8 σ ∧ ∃ a59, gr (gmk 7 8 σ) y 3 = some a59 ∧ (gk (gmk 7 8 σ) a59 = 101 ∧ (inr (iI (i : Int)) (gl (gmk 7 8 σ) a59) ∧ (CQ (wP G s0 l KK T) mX8_init lev (.ref (gn σ) :: [.int (iI (e : Int)), .int (gi (gmk 7 8 σ) a59 (ix (iI (i : Int))))]) (gmk 7 8 σ) (onV (fun t62 => gle (gmk 7 8 σ) t62 → Q (.threw (gn σ)) t62) (fun x t => gle (gmk 7 8 σ) t → Q (.threw x) t))))) := by
  obtain ⟨a1, a2, a3, a4, nm, ps, a5, a6, a7, a8, a9, a10, a11, a12, a13⟩ := h1
  have hz := hm.1
  have k7 : keep nil0 σ (gmk 7 8 σ) := keep.rf.mk hz.at
  obtain ⟨b1, b2, b3, b4⟩ := k7 y (by omega) id
  obtain ⟨d1, d2, d3, d4⟩ := k7 ps (by omega) id
  refine ⟨hm.2.2.2.gr hz, ps, by rw [b3]; exact a9, d1.trans a10, by rw [d4, a11]; exact iI_in hi3 (by omega), ?_⟩
  rw [d2, iI_ix (by omega), (a13 i p hi).1]
  refine c_flt hl hz (fun τ t1 t2 t3 t4 t5 => fun l1 => er _ τ t5 t1 ((gle_mk hz).tr l1) (hm.new t1 t2 t3 t4))
theorem CxR.mv {nc : Nat} {sc : SC} {x : Option Nat} (h : CxR KK R σ nc) (hJ : JB R c L σ X J sc x) (hm : MS G R σ X K w) (hj : jfr R I σ τ) (hI : ∀ q, I q → c.E q) : CxR KK R τ nc := by
  obtain ⟨z, c1, c2, c3, c4⟩ := h
  obtain ⟨⟨m1, m2, m3⟩, -⟩ := hm
  obtain ⟨f1, f2, f3, z0, f4, f5, f6, f7, f8⟩ := hJ.1.2.2.2.2.2.1
  have h3 := hJ.1.1.1
  have ez : z0 = z := by rw [c1] at f4; cases f4; rfl
  subst ez
  have n1 : ¬ isJ R I (R 9) := by
    rintro ((q | q | q) | q | q)
    · rw [q] at f1; omega
    · rw [q] at f1; omega
    · rw [q] at f1; omega
    · rw [q] at f1; omega
    · exact f2 (hI _ q)
  have n2 : ¬ isJ R I z0 := by
    rintro ((q | q | q) | q | q)
    · rw [q] at f5; omega
    · rw [q] at f5; omega
    · rw [q] at f5; omega
    · rw [q] at f5; omega
    · exact f6 (hI _ q)
  obtain ⟨e1, e2, e3, e4⟩ := hj.1 (R 9) (by omega) n1
  obtain ⟨g1, g2, g3, g4⟩ := hj.1 z0 (by omega) n2
  exact ⟨z0, by rw [e3]; exact c1, g1.trans c2, fun q => by rw [g3]; exact c3 q, by rw [g4]; exact c4⟩
/-- .. it comes to the context -/
theorem c_tl {cn : CN} (hl : 7 ≤ lev) (hy : gk σ y = 6) (hnn : gk σ nn = 21) (eρ : ρ = gpr nn 3 (gr σ y 5) σ) (hh : hcl R ρ) (h : JB R c nilL ρ (hX lim tb cx) (hJ t tb cx) [] none) (hc : c.nc = cx.length ∧ c.ns = tb.1.length) (hC : CxR KK R ρ c.nc) (hn : pNa R c ρ nn cn) (hne : ∀ k, k < c.nc → c.N k ≠ nn) (h9 : c.nc < 100) (hm : MB G R ρ X K w (n + 1) (s + 240))
    (ok : ∀ τ, keep (fun a => a = R 9 ∨ (gr ρ (R 9) 1 = some a ∧ 0 < gl ρ a)) ρ τ → gle ρ τ → JB R (c.E, (fun k => if k = c.nc then nn else c.N k), c.nc + 1, c.ns) nilL τ (hX lim tb (cx ++ [cn])) (hJ t tb (cx ++ [cn])) [] none → CxR KK R τ (c.nc + 1) → MB G R τ X K w n s → (∀ q, gr τ (R 9) 1 = some q → gr ρ (R 9) 1 = some q ∨ gk ρ q = 0) → Q (.returned none) τ) : jX1_tells_184 G s0 l KK T lev st0 Q (R 0) (some y) (some nn) σ := by
  refine tX1_tells_184 ⟨y, rfl, hy, nn, rfl, hnn, ?_⟩
  rw [← eρ]
  exact ⟨hh.1, R 3, hh.2.2.2, h.1.1.1, R 9, h.1.1.2.2.2, h.1.2.2.2.2.2.1.1, c_cadd hl h hc hC hn hne h9 hm (fun τ u1 u2 u3 u4 u5 u6 => fun _ => ok τ u1 u2 u3 u4 u5 u6)⟩
/-- only a cell that is no term's was written -/
theorem pT_nm {yy : Bool} {g : List Bool} (h : pT c σ v a 0) (hg : gT v yy g) (hk : keep (fun q => q = nn) σ τ) (hnn : gk σ nn = 21) : pT c τ v a 0 :=
  pT_dx (D := nil0) (fun _ _ _ _ _ _ q _ => by rcases q with q | q <;> exact q.elim) (fun _ q => q.elim) (fun q h1 h2 _ => ⟨h2, hk q (tmt_ne h1).1 (fun w => by rw [w, hnn] at h1; cases h1)⟩) (Nat.le_refl _) (Nat.le_refl _) (fun _ _ => rfl) v a 0 h yy g hg (fun q => absurd rfl q)
end PHT
