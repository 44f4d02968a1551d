/-! THE HOUSE OVER S, P (18): the house at rest -/
/-- the house's fields, tape and marks -/
def pHf (R : Nat → Nat) (σ : GSt) (H : HO) : Prop := (gr σ (R 0) 0 = some (R 10) ∧ gr σ (R 0) 8 = some (R 11)) ∧
  (gi σ (R 0) 1 = iI (H.tp.2 : Int) ∧ gi σ (R 0) 2 = iI (H.ft.1 : Int) ∧ gi σ (R 0) 3 = iI H.ft.2.1 ∧ gi σ (R 0) 4 = iI (H.ft.2.2 : Int) ∧ gi σ (R 0) 9 = iI (H.mk.length : Int)) ∧
  (gk σ (R 10) = 102 ∧ gl σ (R 10) = 4000 ∧ R 10 ≠ R 5 ∧ H.tp.2 ≤ 4000 ∧ ∀ j, j < H.tp.2 → gi σ (R 10) j &&& iI 255 = iI (H.tp.1 j : Int) ∧ H.tp.1 j < 256) ∧
  (gk σ (R 11) = 101 ∧ gl σ (R 11) = 20 ∧ (R 11 ≠ R 4 ∧ R 11 ≠ R 6 ∧ R 11 ≠ R 7) ∧ H.mk.length ≤ 20 ∧ ∀ (i p : Nat), H.mk[i]? = some p → gi σ (R 11) i = iI (p : Int))
/-- texts, the empty array -/
def pHt (KK : Nat → Option Nat) (T : Nat → Nat) (R : Nat → Nat) (σ : GSt) : Prop := TT R σ T ∧ (pS σ (R 5) (T 0) [121, 101, 115] ∧ pS σ (R 5) (T 1) [110, 111] ∧ pS σ (R 5) (T 2) [116, 121, 112, 101] ∧ pS σ (R 5) (T 3) [107, 105, 110, 100]) ∧ ∃ z0, KK 14 = some z0 ∧ gk σ z0 = 103 ∧ gl σ z0 = 0
/-- context, tables, machine -/
def pHm (G : GPl) (KK : Nat → Option Nat) (R : Nat → Nat) (σ : GSt) (H : HO) (n s u : Nat) : Prop := ∃ N z w, JB R ((fun _ => False), N, H.cx.length, H.tb.1.length) nilL σ (hX H.lim H.tb H.cx) (hJ ((fun _ => 0), 0) H.tb H.cx) [] none ∧ CxR KK R σ H.cx.length ∧ (∀ j, j < H.cx.length → sw (cAt H.cx j).ty ≤ z) ∧ MB G R σ (hX H.lim H.tb H.cx) H.K w (n + fC u z) (s + fS u z) ∧ 15 * z + u ≤ 2600
def PH (G : GPl) (KK : Nat → Option Nat) (T : Nat → Nat) (R : Nat → Nat) (σ : GSt) (H : HO) (n s u : Nat) : Prop := hcl R σ ∧ pHf R σ H ∧ pHt KK T R σ ∧ pHm G KK R σ H n s u
section PHV
variable {G : GPl} {s0 : State} {l : Launch} {KK : Nat → Option Nat} {T : Nat → Nat} {lev : Nat} {Q : Outcome → GSt → Prop} {R : Nat → Nat} {σ τ υ st0 ρ σ0 : GSt} {X : SX} {J : JX} {K K' : KS} {n s o m a y tp lo kd pl lim sl zr u u0 w n' s' u' : Nat} {W I : Nat → Prop} {t t' : TX} {ns : List Nat} {ss : List ST} {Y : Nat → Nat} {I1 I2 : Nat → Nat → Prop} {x1 : Int32} {H H' : HO} {c : PC} {L : Nat → Nat → Prop} {sc : SC} {x : Option Nat} {tb : HT} {cx : List CN}
theorem JB.tx (h : JB R c L σ X (hJ t tb cx) sc x) : JB R c L σ X (hJ t' tb cx) sc x := ⟨h.1, h.2⟩
theorem PH.le (h : PH G KK T R σ H n s u) (h1 : n' ≤ n) (h2 : s' ≤ s) (h3 : u' ≤ u) : PH G KK T R σ H n' s' u' := by
  obtain ⟨a1, a2, a3, N, z, w, b1, b2, b3, b4, b5⟩ := h
  exact ⟨a1, a2, a3, N, z, w, b1, b2, b3, b4.le (Nat.add_le_add h1 (fR_mono h3)) (Nat.add_le_add h2 (fR_mono h3)), by omega⟩
/-- cells that were added alone -/
theorem PH.new {k j : Nat} (h : PH G KK T R σ H (n + k) (s + j) u) (hk : keep nil0 σ τ) (hz : gz τ) (h1 : gn τ = gn σ + k) (h2 : gm τ = gm σ + j) : PH G KK T R τ H n s u := by
  obtain ⟨a1, ⟨⟨f1, f2⟩, f3, ⟨g1, g2, g3, g4, g5⟩, ⟨m1, m2, m3, m4, m5⟩⟩, ⟨t1, ⟨t2, t3, t4, t5⟩, z0, t6, t7, t8⟩, N, z, w, b1, b2, b3, b4, b5⟩ := h
  have hl : gle σ τ := ⟨⟨by omega, by omega⟩, fun q hq => (hk q hq id).1⟩
  have j1 : jfr R nil0 σ τ := jfr.N hk hl b1.1
  obtain ⟨e1, e2, e3, e4⟩ := hk (R 0) (by rw [a1.1]; omega) id
  obtain ⟨k1, k2, k3, k4⟩ := hk (R 10) (by omega) id
  obtain ⟨l1, l2, l3, l4⟩ := hk (R 11) (by omega) id
  obtain ⟨z1, z2, z3, z4⟩ := hk z0 (by omega) id
  have kS : ∀ {sa : Nat} {bs : List Nat}, pS σ (R 5) sa bs → pS τ (R 5) sa bs := fun {sa bs} w1 => w1.kpW hk (fun q w => w.elim)
  refine ⟨a1.kp hk id, ⟨⟨by rw [e3]; exact f1, by rw [e3]; exact f2⟩, by rw [e2, e2, e2, e2, e2]; exact f3, ⟨k1.trans g1, by rw [k4]; exact g2, g3, g4, fun j hj => by rw [k2]; exact g5 j hj⟩, ⟨l1.trans m1, by rw [l4]; exact m2, m3, m4, fun i p hp => by rw [l2]; exact m5 i p hp⟩⟩, ⟨⟨fun w hw => kS (t1.1 w hw), kS t1.2.1, kS t1.2.2⟩, ⟨kS t2, kS t3, kS t4, kS t5⟩, z0, t6, z1.trans t7, by rw [z4]; exact t8⟩, N, z, w, b1.mv b4.2.1 j1 (fun _ z => z.elim) (fun _ z => z) rfl, b2.mv b1 b4.2.1 j1 (fun _ z => z.elim), b3, ?_, b5⟩
  have hr := b4.2.2.2
  exact ⟨hz, b4.2.1.new hk, b4.2.2.1, ⟨by have := hr.1; omega, by have := hr.2; omega⟩⟩
/-- an exception is made -/
theorem c_exc {i : Nat} (hi : i ∈ thC) (hl : 6 ≤ lev) (hz : gz σ) (ok : ∀ τ, keep nil0 σ τ → gz τ → gn τ = gn σ + 1 → gm τ = gm σ + 6 → gk τ (gn σ) = i + 1 → Q (.returned none) τ) : CQ (wP G s0 l KK T) mJ9_init lev (.ref (gn σ) :: []) (gmk (i + 1) 6 σ) Q := by
  obtain ⟨l', rfl⟩ : ∃ l', lev = l' + 2 := ⟨lev - 2, by omega⟩
  have hk : gk (gmk (i + 1) 6 σ) (gn σ) = i + 1 := gk_new hz.at
  have k0 : keep nil0 σ (gmk (i + 1) 6 σ) := keep.rf.mk hz.at
  have h0 : ∀ a, a = gn σ → gk σ a ≠ 0 → nil0 a := fun a h q => q (h ▸ hz.at)
  refine tJ9_init (tJ8_init ⟨by omega, i, hi, hk, gr_nw, fun _ => ?_⟩)
  exact ok _ ((((k0.pr (h0 _ rfl)).pr (h0 _ rfl)).pr (h0 _ rfl)).pr (h0 _ rfl)) hz.mk rfl rfl hk
theorem c_right {b : Bool} (hl : 8 ≤ lev) (h : PH G KK T R σ H (n + 1) (s + 6) u) (ok : b = true → Q (.returned none) σ) (er : b = false → ∀ y τ, gk τ y = 25 → PH G KK T R τ H n s u → Q (.threw y) τ) : CQ (wP G s0 l KK T) mX1_right lev [.int (bI b)] σ Q := by
  obtain ⟨l', rfl⟩ : ∃ l', lev = l' + 2 := ⟨lev - 2, by omega⟩
  have hm := h.2.2.2
  obtain ⟨N, z, w, -, -, -, b4, -⟩ := hm
  refine tX1_right ⟨fun q => ⟨(b4.2.2.2.le (n' := 0 + 1) (s' := 0 + 6) (by omega) (by omega)).gr b4.1, tJ10_init (c_exc (i := 24) (by decide) (by omega) b4.1 (fun τ u1 u2 u3 u4 u5 => fun _ => fun _ => er (bI_z.mp q) _ τ u5 (h.new u1 u2 u3 u4)))⟩, fun q => ok (by cases b; exact absurd rfl q; rfl)⟩
theorem c_there {b : Bool} (hl : 8 ≤ lev) (h : PH G KK T R σ H (n + 1) (s + 6) u) (ok : b = true → Q (.returned none) σ) (er : b = false → ∀ y τ, gk τ y = 26 → PH G KK T R τ H n s u → Q (.threw y) τ) : CQ (wP G s0 l KK T) mX1_there lev [.int (bI b)] σ Q := by
  obtain ⟨l', rfl⟩ : ∃ l', lev = l' + 2 := ⟨lev - 2, by omega⟩
  have hm := h.2.2.2
  obtain ⟨N, z, w, -, -, -, b4, -⟩ := hm
  refine tX1_there ⟨fun q => ⟨(b4.2.2.2.le (n' := 0 + 1) (s' := 0 + 6) (by omega) (by omega)).gr b4.1, tJ20_init (c_exc (i := 25) (by decide) (by omega) b4.1 (fun τ u1 u2 u3 u4 u5 => fun _ => fun _ => er (bI_z.mp q) _ τ u5 (h.new u1 u2 u3 u4)))⟩, fun q => ok (by cases b; exact absurd rfl q; rfl)⟩
theorem c_able {b : Bool} (hl : 8 ≤ lev) (h : PH G KK T R σ H (n + 1) (s + 6) u) (ok : b = true → Q (.returned none) σ) (er : b = false → ∀ y τ, gk τ y = 27 → PH G KK T R τ H n s u → Q (.threw y) τ) : CQ (wP G s0 l KK T) mX1_able lev [.int (bI b)] σ Q := by
  obtain ⟨l', rfl⟩ : ∃ l', lev = l' + 2 := ⟨lev - 2, by omega⟩
  have hm := h.2.2.2
  obtain ⟨N, z, w, -, -, -, b4, -⟩ := hm
  refine tX1_able ⟨fun q => ⟨(b4.2.2.2.le (n' := 0 + 1) (s' := 0 + 6) (by omega) (by omega)).gr b4.1, tJ21_init (c_exc (i := 26) (by decide) (by omega) b4.1 (fun τ u1 u2 u3 u4 u5 => fun _ => fun _ => er (bI_z.mp q) _ τ u5 (h.new u1 u2 u3 u4)))⟩, fun q => ok (by cases b; exact absurd rfl q; rfl)⟩
end PHV
