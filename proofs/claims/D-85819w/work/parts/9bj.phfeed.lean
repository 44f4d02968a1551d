/-! THE HOUSE OVER S, P (32): feed -/
theorem i8_255 (y : Int32) : (y.toInt8.toInt32).toInt8.toInt32 &&& iI 255 = y &&& iI 255 := by
  apply Int32.toBitVec_inj.mp
  rw [Int32.toBitVec_and, Int32.toBitVec_and]
  have e : (iI 255).toBitVec = 255#32 := rfl
  rw [e, Int8.toBitVec_toInt32, Int32.toBitVec_toInt8, Int8.toBitVec_toInt32, Int32.toBitVec_toInt8]
  apply BitVec.eq_of_getLsbD_eq
  intro i hi
  simp only [BitVec.getLsbD_and, BitVec.getLsbD_signExtend]
  by_cases h : i < 8
  · simp [h, hi]
  · have : (255#32).getLsbD i = false := by
      have : ∀ i, i < 32 → ¬ i < 8 → (255#32).getLsbD i = false := by decide
      exact this i hi h
    rw [this]; simp
theorem and255 (y : Int32) : ∃ b : Nat, b < 256 ∧ y &&& iI 255 = iI (b : Int) ∧ (y &&& iI 255).toInt.toNat = b := by
  have hb : (y &&& iI 255).toBitVec.toNat < 256 := by
    rw [Int32.toBitVec_and, BitVec.toNat_and]
    exact Nat.lt_of_le_of_lt Nat.and_le_right (by decide)
  have hi : (y &&& iI 255).toInt = ((y &&& iI 255).toBitVec.toNat : Int) := by
    rw [← Int32.toInt_toBitVec, BitVec.toInt_eq_toNat_of_lt (by omega)]
  refine ⟨(y &&& iI 255).toBitVec.toNat, hb, ?_, ?_⟩
  · rw [← hi]; unfold iI; rw [Int32.ofInt_toInt]
  · rw [hi]; exact Int.toNat_natCast _
/-- a byte of a word, as it is laid -/
def byV (v : Int32) (k : Nat) : Int32 := ((v >>> (iI (24 - 8 * (k : Int)) &&& 31)).toInt8.toInt32).toInt8.toInt32
theorem byV_W (v : Int32) {k : Nat} (hk : k < 4) : byV v k &&& iI 255 = iI (byW v k : Int) ∧ byW v k < 256 := by
  have e : iI (24 - 8 * (k : Int)) &&& 31 = iI (24 - 8 * (k : Int)) := by
    rcases (show k = 0 ∨ k = 1 ∨ k = 2 ∨ k = 3 by omega) with rfl | rfl | rfl | rfl <;> decide
  unfold byV byW
  rw [i8_255, e]
  obtain ⟨b, h1, h2, h3⟩ := and255 (v >>> iI (24 - 8 * (k : Int)))
  rw [h3]
  exact ⟨h2, h1⟩
def lyF (f : Nat → Int32) (d : Nat) (v : Int32) : Nat → Int32 := fun i => if i < d then f i else byV v (i - d)
/-- the tape from p on, d bytes of it laid -/
def lyd (R : Nat → Nat) (σ0 σ : GSt) (p d : Nat) (f : Nat → Int32) : Prop := keep (fun q => q = R 0 ∨ q = R 10) σ0 σ ∧ (∀ a j, gr σ a j = gr σ0 a j) ∧ (∀ a, gk σ a = gk σ0 a) ∧ (∀ a, gl σ a = gl σ0 a) ∧ (gn σ = gn σ0 ∧ gm σ = gm σ0) ∧ gi σ (R 0) 1 = iI ((p + d : Nat) : Int) ∧ (∀ j, j ≠ 1 → gi σ (R 0) j = gi σ0 (R 0) j) ∧ (∀ i, i < d → gi σ (R 10) (p + i) = f i) ∧ (∀ i, i < p → gi σ (R 10) i = gi σ0 (R 10) i)
section PHBJ
variable {G : GPl} {s0 : State} {l : Launch} {KK : Nat → Option Nat} {T : Nat → Nat} {lev : Nat} {Q : Outcome → GSt → Prop} {R : Nat → Nat} {σ τ υ st0 ρ σ0 : GSt} {n s m u k ns i p d : Nat} {x1 x2 x3 x4 x5 v : Int32} {f g : Nat → Int32} {H : HO}
theorem lyd.wr (h : lyd R σ0 σ p d f) (h0 : gk σ0 (R 0) = 1) (h10 : gk σ0 (R 10) = 102) (hp : p + d < 4000) (hg : ∀ i, i < d → g i = f i) (hgd : g d = v) : lyd R σ0 (gpi (R 0) 1 (gi (gpi (R 10) (ix (gi σ (R 0) 1)) v σ) (R 0) 1 + iI 1) (gpi (R 10) (ix (gi σ (R 0) 1)) v σ)) p (d + 1) g := by
  obtain ⟨h1, h2, h3, h4, h5, h6, h7, h8, h9⟩ := h
  have n0 : R 0 ≠ R 10 := fun q => by rw [q] at h0; omega
  have e0 : gi (gpi (R 10) (ix (gi σ (R 0) 1)) v σ) (R 0) 1 = gi σ (R 0) 1 := by rw [gi_pi, if_neg (fun q => n0 q.1)]
  rw [e0, h6, iI_ix (by omega), iI_suc]
  refine ⟨(h1.pi (fun _ => Or.inr rfl)).pi (fun _ => Or.inl rfl), h2, h3, h4, h5, ?_, fun j hj => ?_, fun i hi => ?_, fun i hi => ?_⟩
  · rw [gi_pi, if_pos ⟨rfl, rfl⟩]; rfl
  · rw [gi_pi, if_neg (fun q => hj q.2), gi_pi, if_neg (fun q => n0 q.1)]; exact h7 j hj
  · rw [gi_pi, if_neg (fun q => n0 q.1.symm), gi_pi]
    by_cases hid : i = d
    · subst hid; rw [if_pos ⟨rfl, rfl⟩, hgd]
    · rw [if_neg (fun q => by omega), hg i (by omega)]; exact h8 i (by omega)
  · rw [gi_pi, if_neg (fun q => n0 q.1.symm), gi_pi, if_neg (fun q => by omega)]; exact h9 i hi
theorem c_lay (hl : 1 ≤ lev) (hG : G.h0.size ≤ R 10) (h : lyd R σ0 σ p d f) (h0 : gk σ0 (R 0) = 1) (h10 : gk σ0 (R 10) = 102) (hl10 : gl σ0 (R 10) = 4000) (hr : gr σ0 (R 0) 0 = some (R 10)) (hp : p + d + 4 ≤ 4000) (ok : ∀ τ, lyd R σ0 τ p (d + 4) (lyF f d v) → Q (.returned none) τ) : CQ (wP G s0 l KK T) mX1_lay lev (.ref (R 0) :: [.int v]) σ Q := by
  obtain ⟨l', rfl⟩ : ∃ l', lev = l' + 1 := ⟨lev - 1, by omega⟩
  have step : ∀ (st0 : GSt) (k : Nat) (σ : GSt) (x2 : Int32), k < 4 → x2 = iI (24 - 8 * (k : Int)) → lyd R σ0 σ p (d + k) (lyF f d v) → (∀ τ, lyd R σ0 τ p (d + k + 1) (lyF f d v) → jX1_lay_3 G s0 l KK T l' st0 Q (R 0) v (iI (24 - 8 * ((k + 1 : Nat) : Int))) τ) → jX1_lay_3 G s0 l KK T l' st0 Q (R 0) v x2 σ := by
    intro st0 k σ x2 hk ex h nx
    obtain ⟨h1, h2, h3, h4, h5, h6, h7, h8, h9⟩ := h
    subst ex
    refine tX1_lay_3 ⟨fun q => ?_, fun _ => ⟨(h3 _).trans h0, R 10, by rw [h2]; exact hr, (h3 _).trans h10, hG, by rw [h6, h4, hl10]; exact iI_in (by omega) (by omega), ?_⟩⟩
    · rw [iI_z, iI_lt (by omega) (by omega) (by omega) (by omega)] at q; omega
    · have ec : iI (24 - 8 * (k : Int)) + iI (-8) = iI (24 - 8 * ((k + 1 : Nat) : Int)) := by rw [iI_add]; congr 1; omega
      rw [ec]
      refine nx _ (lyd.wr (f := lyF f d v) ⟨h1, h2, h3, h4, h5, h6, h7, h8, h9⟩ h0 h10 (by omega) (fun i hi => rfl) ?_)
      unfold lyF
      rw [if_neg (by omega), show d + k - d = k by omega]; rfl
  refine tX1_lay (step σ 0 σ _ (by omega) rfl ?_ (fun t1 c1 => step σ 1 t1 _ (by omega) rfl c1 (fun t2 c2 => step σ 2 t2 _ (by omega) rfl c2 (fun t3 c3 => step σ 3 t3 _ (by omega) rfl c3 (fun t4 c4 => ?_)))))
  · obtain ⟨h1, h2, h3, h4, h5, h6, h7, h8, h9⟩ := h
    exact ⟨h1, h2, h3, h4, h5, h6, h7, fun i hi => by unfold lyF; rw [if_pos (by omega)]; exact h8 i (by omega), h9⟩
  · refine tX1_lay_3 ⟨fun _ => ok t4 c4, fun q => absurd (by rw [iI_z, iI_lt (by omega) (by omega) (by omega) (by omega)]; omega) q⟩
theorem c_feed (hl : 3 ≤ lev) (hG : G.h0.size ≤ R 10) (hT : H.tp.2 + 20 ≤ 4000) (h : PH G KK T R σ H n s u)
    (ok : ∀ τ, PH G KK T R τ (oFeed x1 x2 x3 x4 x5 H) n s u → Q (.returned (some (.int (iI ((H.tp.2 + 20 : Nat) : Int))))) τ) : CQ (wP G s0 l KK T) mX1_feed lev (.ref (R 0) :: [.int x1, .int x2, .int x3, .int x4, .int x5]) σ Q := by
  obtain ⟨l', rfl⟩ : ∃ l', lev = l' + 1 := ⟨lev - 1, by omega⟩
  have h0 := h
  obtain ⟨a1, ⟨⟨p1, p2⟩, ⟨f3, f4, f5, f6, f7⟩, ⟨p4, p5, p6, p7, p8⟩, ⟨i1, i2, i3, i4, i5⟩⟩, ⟨t1, ⟨t2, t3, t4, t5⟩, z0, t6, t7, t8⟩, N, z, w, b1, b2, b3, b4, b5⟩ := h0
  have c0 := a1.1
  have e20 : gi σ (R 0) 1 + iI 20 = iI ((H.tp.2 + 20 : Nat) : Int) := by rw [f3, iI_add]; congr 1
  have L0 : lyd R σ σ H.tp.2 0 (fun _ => 0) := ⟨keep.rf, fun _ _ => rfl, fun _ => rfl, fun _ => rfl, ⟨rfl, rfl⟩, f3, fun _ _ => rfl, fun i hi => by omega, fun _ _ => rfl⟩
  refine tX1_feed ⟨a1.1, fun _ => ?_, fun q => absurd (by rw [e20, iI_le (by omega) (by omega) (by omega) (by omega)]; omega) q⟩
  refine c_lay (by omega) hG L0 c0 p4 p5 p1 (by omega) (fun ta ca => fun _ => ?_)
  refine c_lay (by omega) hG ca c0 p4 p5 p1 (by omega) (fun tb cb => fun _ => ?_)
  refine c_lay (by omega) hG cb c0 p4 p5 p1 (by omega) (fun tc cc => fun _ => ?_)
  refine c_lay (by omega) hG cc c0 p4 p5 p1 (by omega) (fun td cd => fun _ => ?_)
  refine c_lay (by omega) hG cd c0 p4 p5 p1 (by omega) (fun te ce => fun _ => ?_)
  obtain ⟨w1, w2, w3, w4, ⟨w5, w6⟩, w7, w8, w9, w10⟩ := ce
  have w7' : gi te (R 0) 1 = iI ((H.tp.2 + 20 : Nat) : Int) := w7
  rw [w7']
  have lF : gle σ te := ⟨⟨Nat.le_of_eq w5.symm, Nat.le_of_eq w6.symm⟩, fun q _ => w3 q⟩
  have nF : ∀ q, gk σ q ≠ 1 → (gk σ q = 102 → q ≠ R 10) → ¬ (q = R 0 ∨ q = R 10) := fun q y1 y2 y3 => by rcases y3 with rfl | rfl; exact y1 c0; exact y2 p4 rfl
  have hbyte : ∀ i, i < 20 → gi te (R 10) (H.tp.2 + i) = byV (wAt x1 x2 x3 x4 x5 i) (i % 4) := fun i hi => by
    rw [w9 i (by omega)]
    unfold wAt lyF
    rcases (show i < 4 ∨ (4 ≤ i ∧ i < 8) ∨ (8 ≤ i ∧ i < 12) ∨ (12 ≤ i ∧ i < 16) ∨ 16 ≤ i by omega) with q | q | q | q | q
    · rw [if_pos (by omega), if_pos (by omega), if_pos (by omega), if_pos (by omega), if_neg (by omega), if_pos q, show i % 4 = i by omega]; rfl
    · rw [if_pos (by omega), if_pos (by omega), if_pos (by omega), if_neg (by omega), if_neg (by omega), if_pos (by omega), show i % 4 = i - (0 + 4) by omega]
    · rw [if_pos (by omega), if_pos (by omega), if_neg (by omega), if_neg (by omega), if_neg (by omega), if_pos (by omega), show i % 4 = i - (0 + 4 + 4) by omega]
    · rw [if_pos (by omega), if_neg (by omega), if_neg (by omega), if_neg (by omega), if_neg (by omega), if_pos (by omega), show i % 4 = i - (0 + 4 + 4 + 4) by omega]
    · rw [if_neg (by omega), if_neg (by omega), if_neg (by omega), if_neg (by omega), if_neg (by omega), show i % 4 = i - (0 + 4 + 4 + 4 + 4) by omega]
  have hM : ∀ a, isM R a → ¬ (a = R 0 ∨ a = R 10) := fun a ha => by
    obtain ⟨⟨y1, y2, y3⟩, -⟩ := b4.2.1
    rcases ha with rfl | rfl | rfl
    · exact nF _ (by omega) (fun w => by omega)
    · exact nF _ (by omega) (fun w => by omega)
    · exact nF _ (by omega) (fun _ q => p6 q.symm)
  have kS : ∀ {sa : Nat} {bs : List Nat}, pS σ (R 5) sa bs → pS te (R 5) sa bs := fun {sa bs} v => by
    obtain ⟨h1, h2, b, h3, h4, h5, h6, h7, h8⟩ := v
    have hne : b ≠ R 10 := fun q => by rw [q, p5] at h6; omega
    obtain ⟨e1, e2, e3, e4⟩ := w1 sa (by omega) (nF _ (by omega) (fun w => by omega))
    obtain ⟨g1, g2, g3, g4⟩ := w1 b (by omega) (nF _ (by omega) (fun _ => hne))
    exact ⟨e1.trans h1, by rw [e2]; exact h2, b, by rw [e3]; exact h3, g1.trans h4, h5, by rw [g4]; exact h6, h7, fun j c hc => by rw [g2]; exact h8 j c hc⟩
  have hz : gz te := fun a ha => by rw [w3]; exact b4.1 a (by rw [← w5]; exact ha)
  have m4 : MB G R te (hX H.lim H.tb H.cx) H.K w (n + fC u z) (s + fS u z) := ⟨hz, b4.2.1.mv (fun a ha => by obtain ⟨y1, y2, y3, y4⟩ := w1 a (b4.2.1.tg ha) (hM a ha); exact ⟨y1, y2, y4⟩) (fun j _ => w2 _ _), b4.2.2.1, ⟨by rw [w5]; exact b4.2.2.2.1, by rw [w6]; exact b4.2.2.2.2⟩⟩
  have jb := b1.pv (W := fun q => q = R 0 ∨ q = R 10) (fun q hq => by rcases hq with rfl | rfl; exact Or.inl c0; exact Or.inr (Or.inl p4)) kS w1 lF
  have k9 := b1.1.2.2.2.2.2.1.1
  have cx : CxR KK R te H.cx.length := by
    obtain ⟨zz, y1, y2, y3, y4⟩ := b2
    exact ⟨zz, by rw [w2]; exact y1, (w3 _).trans y2, fun q => by rw [w2]; exact y3 q, by rw [w4]; exact y4⟩
  obtain ⟨l1, l2, l3, l4⟩ := w1 (R 11) (by omega) (nF _ (by omega) (fun w => by omega))
  refine ok te ⟨⟨(w3 _).trans c0, by rw [w2]; exact a1.2.1, by rw [w2]; exact a1.2.2.1, by rw [w2]; exact a1.2.2.2⟩, ⟨⟨by rw [w2]; exact p1, by rw [w2]; exact p2⟩, ⟨w7', by rw [w8 2 (by omega)]; exact f4, by rw [w8 3 (by omega)]; exact f5, by rw [w8 4 (by omega)]; exact f6, by rw [w8 9 (by omega)]; exact f7⟩, ⟨(w3 _).trans p4, (w4 _).trans p5, p6, hT, fun j hj => ?_⟩, ⟨(w3 _).trans i1, (w4 _).trans i2, i3, i4, fun i p hp => by rw [l2]; exact i5 i p hp⟩⟩, ⟨⟨fun w hw => kS (t1.1 w hw), kS t1.2.1, kS t1.2.2⟩, ⟨kS t2, kS t3, kS t4, kS t5⟩, z0, t6, (w3 _).trans t7, (w4 _).trans t8⟩, N, z, w, jb, cx, b3, m4, b5⟩
  replace hj : j < H.tp.2 + 20 := hj
  show gi te (R 10) j &&& iI 255 = iI ((if H.tp.2 ≤ j ∧ j < H.tp.2 + 20 then byW (wAt x1 x2 x3 x4 x5 (j - H.tp.2)) ((j - H.tp.2) % 4) else H.tp.1 j : Nat) : Int) ∧ (if H.tp.2 ≤ j ∧ j < H.tp.2 + 20 then byW (wAt x1 x2 x3 x4 x5 (j - H.tp.2)) ((j - H.tp.2) % 4) else H.tp.1 j) < 256
  by_cases hjp : H.tp.2 ≤ j
  · rw [if_pos ⟨hjp, hj⟩]
    have e := hbyte (j - H.tp.2) (by omega)
    rw [show H.tp.2 + (j - H.tp.2) = j by omega] at e
    rw [e]
    exact byV_W _ (Nat.mod_lt _ (by omega))
  · rw [if_neg (fun q => hjp q.1), w10 j (by omega)]
    exact p8 j (by omega)
end PHBJ
