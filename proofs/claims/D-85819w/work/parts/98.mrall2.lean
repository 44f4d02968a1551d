/-! M OVER S (38): reading: statements, all of the text in form -/
/-- one or two terms: what is asked; w: the model's kind -/
def rAsk (t : TX) (kd pl : Nat) (sg : Nat) (must : Bool) (k : TK) : RR ST := rBind (rTerm t 40 [] k) fun v k1 =>
  if must then rBind (rNeed t sg k1) fun _ k2 => rBind (rTerm t 40 [] k2) fun ty k3 => .ok ((kd, pl, [], some ty, some v), k3)
  else if sg ≠ 0 ∧ isSg k1 sg = true then rBind (rTerm t 40 [] (sGo t k1.nx)) fun ty k2 => .ok ((kd, pl, [], some ty, some v), k2) else .ok ((kd, pl, [], none, some v), k1)
section MRQ
variable {P : MPl} {s0 : State} {l : Launch} {XX : Prop} {lev n nd : Nat} {Q : Outcome → MSt → Prop} {st st' st'' st0 : MSt} {t : TX} {k : TK} {b : Bool} {bs : List (Option Nat)} {TN : Nat → List Nat}
/-- a second term, behind the first one -/
theorem m_second {s : ST} {k0 k1 : TK} {kd pl nd0 nd1 vn : Nat} {v : V} {RES : RR ST} (hW : IW P s0 l XX) (hl : 133 ≤ lev) (h : RG t st k1) (h15 : fI st 15 = iI (if b then 1 else 0)) (h77 : fI st 77 = iI (pl : Int)) (h76 : fI st 76 = iI (wcd kd)) (h78 : fI st 78 = iI (vn : Int)) (hR : (rBind (rTerm t 40 [] k1) fun ty k3 => (.ok ((kd, pl, [], some ty, some v), k3) : RR ST)) = RES) (hnd : nd0 ≤ nd1)
    (hb : b = true → fI st 39 = iI (nd1 : Int) ∧ nd1 + 2 * (t.2 - k1.pl) ≤ 140000 ∧ mR (tname t) st v [] vn nd0 nd1 none ∧ ∀ e p, ¬ rBad RES e p)
    (ok : ∀ st' s k' nd', RES = .ok (s, k') → RG t st' k' → k1.pl < k'.pl → rfs b nd1 st st' → nd1 ≤ nd' → (b = true → fI st' 39 = iI ((nd' : Nat) : Int) ∧ nd' + 2 * (t.2 - k'.pl) ≤ nd1 + 2 * (t.2 - k1.pl) ∧ mStt t st' s nd0 nd') → Q (.returned none) st')
    (er : ∀ st' e p, b = false → rBad RES e p → RB t st' e p → rfs b nd1 st st' → Q (.returned none) st') : CQ (wM P s0 l XX) mX5_readTerm lev (.ref P.mo :: [.int (iI 0)]) st (onI (fun r4 t3 => Q (.returned none) (mput 79 r4 t3)) (fun x t => Q (.threw x) t)) := by
  have z3 : ∀ (ty : V) k3, k3.ki = 3 → rBad (.ok ((kd, pl, [], some ty, some v), k3) : RR ST) 2 k3.pl := fun v k3 h3 => Or.inr ⟨_, _, rfl, h3, rfl, rfl⟩
  refine m_t40 (b := b) (nd := nd1) hW (by omega) h h15 (fun hbb => ⟨(hb hbb).1, (hb hbb).2.1, fun e p hbd => (hb hbb).2.2.2 e p (by rw [← hR]; exact hbd.bind z3)⟩) (fun sd ty k3 tn nd' ed gd pd Fd hnd2 nd2 => ?_) (fun sd e p r b0 hbd' gd Fd => er _ e p b0 (by rw [← hR]; exact hbd'.bind z3) (gd.put (by omega)) (Fd.s.tr (rfs.put (by omega)) (Nat.le_refl _)))
  have fD : ∀ j, 75 < j → fI sd j = fI st j := fun j q => Fd.1 j (by omega)
  refine ok _ (kd, pl, [], some ty, some v) k3 nd' (by rw [← hR, ed]; rfl) (gd.put (by omega)) (by omega) (Fd.s.tr (rfs.put (by omega)) (Nat.le_refl _)) hnd2 (fun hbb => ?_)
  obtain ⟨y1, y2, y3⟩ := nd2 hbb
  obtain ⟨x1, x2, x3, x4⟩ := hb hbb
  refine ⟨(fI_put (by omega)).trans y1, by have := gd.2.2.1.1; omega, ?_, ?_, nd1, nd', nd0, nd1, ⟨by omega, by omega, by omega, by omega, by omega, by omega, by omega⟩, fun i p hp => (by simp at hp), fun q => (by cases q), fun w q => ?_, fun q => (by cases q), fun w q => ?_⟩
  · rw [fI_put (by omega), fD 77 (by omega)]; exact h77
  · rw [fI_put (by omega), fD 76 (by omega)]; exact h76
  · cases q
    exact ⟨tn, fI_self, mR_fr y2 (fun _ _ _ _ _ => rfl)⟩
  · cases q
    exact ⟨vn, by rw [fI_put (by omega), fD 78 (by omega)]; exact h78, mR_fr x3 (fun k j _ _ q => by show sd.2 k j = _; rw [Fd.2.2 k j (fun _ _ => q)])⟩
/-- what is asked -/
theorem m_ask {kd pl sg : Nat} {must : Bool} {x : Int32} {RES : RR ST} (hW : IW P s0 l XX) (hl : 133 ≤ lev) (hcase : (kd = 4 ∧ sg = 58 ∧ must = false) ∨ ((kd = 5 ∨ kd = 6) ∧ sg = 0 ∧ must = false) ∨ (kd = 7 ∧ sg = 61 ∧ must = true)) (h : RG t st k) (h15 : fI st 15 = iI (if b then 1 else 0)) (h77 : fI st 77 = iI (pl : Int)) (h76 : fI st 76 = iI (wcd kd)) (h79 : fI st 79 = iI (-1)) (hR : rAsk t kd pl sg must k = RES)
    (hb : b = true → fI st 39 = iI (nd : Int) ∧ nd + 2 * (t.2 - k.pl) ≤ 140000 ∧ ∀ e p, ¬ rBad RES e p)
    (ok : ∀ st' s k' nd', RES = .ok (s, k') → RG t st' k' → k.pl < k'.pl → rfs b nd st st' → nd ≤ nd' → (b = true → fI st' 39 = iI ((nd' : Nat) : Int) ∧ nd' + 2 * (t.2 - k'.pl) ≤ nd + 2 * (t.2 - k.pl) ∧ mStt t st' s nd nd') → Q (.returned none) st')
    (er : ∀ st' e p, b = false → rBad RES e p → RB t st' e p → rfs b nd st st' → Q (.returned none) st') :
    CQ (wM P s0 l XX) mX5_readTerm lev (.ref P.mo :: [.int (iI 0)]) st (onI (fun r19 t18 => (((fI t18 72) = 0 → (((fI t18 76) = (iI 3) → (CQ (wM P s0 l XX) mX5_isSign lev (.ref P.mo :: [.int (iI 58)]) (mput 78 r19 t18) (onI (fun r21 t20 => ((r21 = 0 → jX5_readStatement_226 P s0 l XX lev st0 Q t20) ∧ (¬ r21 = 0 → (CQ (wM P s0 l XX) mX5_next lev (.ref P.mo :: []) t20 (onV (fun t22 => (CQ (wM P s0 l XX) mX5_readTerm lev (.ref P.mo :: [.int (iI 0)]) t22 (onI (fun r25 t24 => Q (.returned none) (mput 79 r25 t24)) (fun x t => Q (.threw x) t)))) (fun x t => Q (.threw x) t)))))) (fun x t => Q (.threw x) t)))) ∧ (¬ (fI t18 76) = (iI 3) → jX5_readStatement_226 P s0 l XX lev st0 Q (mput 78 r19 t18)))) ∧ (¬ (fI t18 72) = 0 → jX5_readStatement_226 P s0 l XX lev st0 Q (mput 78 r19 t18)))) (fun x t => Q (.threw x) t)) := by
  have bf : ∀ {e p : Nat}, rBad RES e p → b = false := fun hbd => by
    cases hbb : b with
    | false => rfl
    | true => exact absurd hbd ((hb hbb).2.2 _ _)
  have z1 : ∀ (v : V) k1, k1.ki = 3 → rBad (if must then rBind (rNeed t sg k1) fun _ k2 => rBind (rTerm t 40 [] k2) fun ty k3 => (.ok ((kd, pl, [], some ty, some v), k3) : RR ST)
  else if sg ≠ 0 ∧ isSg k1 sg = true then rBind (rTerm t 40 [] (sGo t k1.nx)) fun ty k2 => .ok ((kd, pl, [], some ty, some v), k2) else .ok ((kd, pl, [], none, some v), k1)) 2 k1.pl := fun v k1 h3 => by
    split
    · exact rBad.er (rNeed_3 h3)
    · rw [if_neg (fun q => by have := q.2; unfold isSg at this; rw [h3] at this; cases this)]
      exact Or.inr ⟨_, _, rfl, h3, rfl, rfl⟩
  refine m_t40 (b := b) (nd := nd) hW (by omega) h h15 (fun hbb => ⟨(hb hbb).1, (hb hbb).2.1, fun e p hbd => (hb hbb).2.2 e p (by rw [← hR]; exact hbd.bind z1)⟩) (fun sa v k1 vn nda ea ga pa Fa hna na => ?_) (fun sa e p r b0 hbd' ga Fa => ⟨fun w => absurd w ga.ne, fun _ => tX5_readStatement_226 ⟨fun w => absurd w (ga.put (j := 78) (v := r) (by omega)).ne, fun _ => er _ e p b0 (by rw [← hR]; exact hbd'.bind z1) (ga.put (by omega)) (Fa.s.tr (rfs.put (by omega)) (Nat.le_refl _))⟩⟩)
  have hR1 : (if must then rBind (rNeed t sg k1) fun _ k2 => rBind (rTerm t 40 [] k2) fun ty k3 => (.ok ((kd, pl, [], some ty, some v), k3) : RR ST)
  else if sg ≠ 0 ∧ isSg k1 sg = true then rBind (rTerm t 40 [] (sGo t k1.nx)) fun ty k2 => .ok ((kd, pl, [], some ty, some v), k2) else .ok ((kd, pl, [], none, some v), k1)) = RES := by rw [← hR, rAsk, ea]; rfl
  have Ga := ga.put (j := 78) (v := iI (vn : Int)) (by omega)
  have Fa2 : rfs b nd st (mput 78 (iI (vn : Int)) sa) := Fa.s.tr (rfs.put (by omega)) (Nat.le_refl _)
  have va : ∀ j, j ≠ 78 → fI (mput 78 (iI (vn : Int)) sa) j = fI sa j := fun j hj => fI_put hj
  have v78 : fI (mput 78 (iI (vn : Int)) sa) 78 = iI (vn : Int) := fI_self
  have ve : (mput 78 (iI (vn : Int)) sa).2 = sa.2 := rfl
  have a76 : fI sa 76 = iI (wcd kd) := (Fa.1 76 (by omega)).trans h76
  refine ⟨fun _ => ?_, fun w => absurd ga.2.2.2.1 w⟩
  rw [a76]
  generalize mput 78 (iI (vn : Int)) sa = sb at *
  have b76 : fI sb 76 = iI (wcd kd) := (va 76 (by omega)).trans a76
  have b77 : fI sb 77 = iI (pl : Int) := (va 77 (by omega)).trans ((Fa.1 77 (by omega)).trans h77)
  have b79 : fI sb 79 = iI (-1) := (va 79 (by omega)).trans ((Fa.1 79 (by omega)).trans h79)
  have b15 : fI sb 15 = iI (if b then 1 else 0) := (Fa2.1 15 (by omega)).trans h15
  have b39 : b = true → fI sb 39 = iI (nda : Int) := fun hbb => (va 39 (by omega)).trans (na hbb).1
  have bmR : b = true → mR (tname t) sb v [] vn nd nda none := fun hbb => mR_fr (na hbb).2.1 (fun k j _ _ _ => by rw [ve])
  -- nothing more
  have stop : RES = .ok ((kd, pl, [], none, some v), k1) → Q (.returned none) sb := fun eR => by
    refine ok sb _ k1 nda eR Ga pa Fa2 hna (fun hbb => ?_)
    obtain ⟨y1, y2, y3⟩ := na hbb
    exact ⟨b39 hbb, by omega, b77, b76, nd, nd, nd, nda, ⟨by omega, by omega, by omega, by omega, by omega, by omega, by omega⟩, fun i p hp => (by simp at hp), fun _ => b79, fun w q => (by cases q), fun q => (by cases q), fun w q => (by cases q; exact ⟨vn, v78, bmR hbb⟩)⟩
  -- one more term, behind a token
  have two : ∀ (s2 : MSt) (k2 : TK), (rBind (rTerm t 40 [] k2) fun ty k3 => (.ok ((kd, pl, [], some ty, some v), k3) : RR ST)) = RES → RG t s2 k2 → k1.pl ≤ k2.pl → mrf sb s2 → CQ (wM P s0 l XX) mX5_readTerm lev (.ref P.mo :: [.int (iI 0)]) s2 (onI (fun r4 t3 => Q (.returned none) (mput 79 r4 t3)) (fun x t => Q (.threw x) t)) := fun s2 k2 eR g2 p2 F2 =>
    m_second (s := (kd, pl, [], none, none)) (k0 := k) (b := b) (nd0 := nd) (nd1 := nda) (vn := vn) hW (by omega) g2 ((F2.1 15 (by omega)).trans b15) ((F2.1 77 (by omega)).trans b77) ((F2.1 76 (by omega)).trans b76) ((F2.1 78 (by omega)).trans v78) eR hna (fun hbb => ⟨(F2.1 39 (by omega)).trans (b39 hbb), by have := (hb hbb).2.1; have := (na hbb).2.2; omega, mR_fr (bmR hbb) (fun k j _ _ _ => by rw [F2.2]), fun e p hbd => (hb hbb).2.2 e p hbd⟩) (fun s3 s k3 nd3 q1 q2 q3 q4 q5 q6 => ok s3 s k3 nd3 q1 q2 (by omega) ((Fa2.tr F2.s (Nat.le_refl _)).tr q4 hna) (by omega) (fun hbb => ⟨(q6 hbb).1, by have := (q6 hbb).2.1; have := (na hbb).2.2; omega, (q6 hbb).2.2⟩)) (fun s3 e p b0 hbd q2 q3 => er s3 e p b0 hbd q2 ((Fa2.tr F2.s (Nat.le_refl _)).tr q3 hna))
  have twoB : ∀ (s2 : MSt) (e p : Nat), rBad RES e p → RB t s2 e p → mrf sb s2 → CQ (wM P s0 l XX) mX5_readTerm lev (.ref P.mo :: [.int (iI 0)]) s2 (onI (fun r4 t3 => Q (.returned none) (mput 79 r4 t3)) (fun x t => Q (.threw x) t)) := fun s2 e p hbd g2 F2 => m_termB (by omega) g2 (er _ e p (bf hbd) hbd (g2.put (by omega)) ((Fa2.tr F2.s (Nat.le_refl _)).tr (rfs.put (by omega)) (Nat.le_refl _)))
  -- = and a term
  have j226 : (must = false → RES = .ok ((kd, pl, [], none, some v), k1)) → jX5_readStatement_226 P s0 l XX lev st0 Q sb := fun hm => by
    refine tX5_readStatement_226 ⟨fun _ => ?_, fun w => absurd Ga.2.2.2.1 w⟩
    rw [b76]
    rcases hcase with ⟨rfl, rfl, rfl⟩ | ⟨q, rfl, rfl⟩ | ⟨rfl, rfl, rfl⟩
    · exact ⟨fun w => absurd w (by decide), fun _ => stop (hm rfl)⟩
    · rcases q with rfl | rfl
      · exact ⟨fun w => absurd w (by decide), fun _ => stop (hm rfl)⟩
      · exact ⟨fun w => absurd w (by decide), fun _ => stop (hm rfl)⟩
    · rw [if_pos rfl] at hR1
      refine ⟨fun _ => m_need (s := 61) hW (by omega) Ga (by omega) (fun sc ec gc pc Fc => two sc _ (by rw [← hR1, ec]; rfl) gc (by omega) Fc) (fun sc e p hbd' gc Fc => twoB sc e p ?_ gc Fc), fun w => absurd rfl w⟩
      rw [← hR1]
      exact hbd'.bind (fun _ k2 h3 => rBad.er (rTerm_3 h3))
  rcases hcase with ⟨rfl, rfl, rfl⟩ | ⟨q, rfl, rfl⟩ | ⟨rfl, rfl, rfl⟩
  · refine ⟨fun _ => m_isSign (s := 58) (by omega) Ga (by omega) ?_, fun w => absurd rfl w⟩
    rw [if_neg (by decide)] at hR1
    cases hS : isSg k1 58 with
    | false =>
      rw [if_neg (fun q => by rw [hS] at q; cases q.2)] at hR1
      exact ⟨fun _ => j226 (fun _ => hR1.symm), fun w => absurd rfl w⟩
    | true =>
      rw [if_pos ⟨by omega, hS⟩] at hR1
      have k12 : k1.ki = 2 := by unfold isSg at hS; simp only [Bool.and_eq_true, beq_iff_eq] at hS; exact hS.1
      obtain ⟨w1, w2, w3⟩ := Ga.at (by omega)
      refine ⟨fun w => absurd w (by decide), fun _ => m_nextG hW (by omega) Ga.1 Ga.2.2.2.1 w1 w2 (fun sc gc pc Fc => two sc _ hR1 gc (by omega) Fc) (fun sc gc1 gc2 Fc => twoB sc 2 _ ?_ gc2 Fc)⟩
      rw [← hR1]
      exact rBad.er (rTerm_3 gc1)
  · rw [if_neg (by decide), if_neg (fun q => q.1 rfl)] at hR1
    rcases q with rfl | rfl
    · exact ⟨fun w => absurd w (by decide), fun _ => j226 (fun _ => hR1.symm)⟩
    · exact ⟨fun w => absurd w (by decide), fun _ => j226 (fun _ => hR1.symm)⟩
  · exact ⟨fun w => absurd w (by decide), fun _ => j226 (fun w => by cases w)⟩
end MRQ
