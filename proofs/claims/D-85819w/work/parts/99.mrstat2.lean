/-! M OVER S (39): reading: one statement; all of the text in form -/
theorem rStat_tell {t : TX} {k : TK} (h1 : k.ki ≠ 1) (h3 : k.ki ≠ 3) : rStat t k = rTell t k := by
  unfold rStat
  by_cases h0 : k.ki = 0
  · rw [if_pos h0]
  · have e : ∀ w, isWd t k w = false := fun w => by unfold isWd; rw [beq_false_of_ne h1]; rfl
    rw [if_neg h0, e, e, e, e, e, e, e]
    unfold rTell rName
    rw [if_neg h0]
    show rWrong k = rBind (rWrong k) _
    unfold rWrong
    rfl
theorem rStat_w {t : TX} {k : TK} {w : Nat} (h1 : k.ki = 1) (hw : w < 9) (hk : kept[w]? = some (tname t k.pl)) : rStat t k = match w with
    | 0 => rBind (rName t (sGo t k.nx)) fun x k1 => .ok ((0, k.pl, [x], none, none), k1)
    | 1 => rBind (rName t (sGo t k.nx)) fun x k1 => rBind (rNeed t 58 k1) fun _ k2 => rBind (rName t k2) fun y k3 => .ok ((1, k.pl, [x, y], none, none), k3)
    | 2 => rBind (rName t (sGo t k.nx)) fun x k1 => rBind (rName t k1) fun y k2 => rBind (rName t k2) fun z k3 => .ok ((2, k.pl, [x, y, z], none, none), k3)
    | 3 => rAsk t 4 k.pl 58 false (sGo t k.nx)
    | 4 => rAsk t 5 k.pl 0 false (sGo t k.nx)
    | 5 => rAsk t 7 k.pl 61 true (sGo t k.nx)
    | 6 => rAsk t 6 k.pl 0 false (sGo t k.nx)
    | _ => rWrong k := by
  have e : ∀ w', w' < 9 → isWd t k w' = decide (w' = w) := fun w' hw' => by
    unfold isWd
    rw [h1]
    by_cases q : w' = w
    · subst q; rw [hk]; simp
    · rw [decide_eq_false q]
      apply Bool.eq_false_iff.mpr
      intro z
      simp only [beq_self_eq_true, Bool.true_and, beq_iff_eq] at z
      exact q (kept_inj hw' hw z hk)
  have ask : ∀ kd sg, sg ≠ 0 → (rBind (rTerm t 40 [] (sGo t k.nx)) fun v k1 => if isSg k1 sg then rBind (rTerm t 40 [] (sGo t k1.nx)) fun ty k2 => (.ok ((kd, k.pl, [], some ty, some v), k2) : RR ST) else .ok ((kd, k.pl, [], none, some v), k1)) = rAsk t kd k.pl sg false (sGo t k.nx) := fun kd sg hsg => by
    unfold rAsk
    congr 1
    funext v k1
    by_cases q : isSg k1 sg = true
    · rw [if_pos q, if_neg (show ¬ (false = true) by decide), if_pos ⟨hsg, q⟩]
    · rw [if_neg q, if_neg (show ¬ (false = true) by decide), if_neg (fun z => q z.2)]
  have ask0 : ∀ kd, (rBind (rTerm t 40 [] (sGo t k.nx)) fun v k1 => (.ok ((kd, k.pl, [], none, some v), k1) : RR ST)) = rAsk t kd k.pl 0 false (sGo t k.nx) := fun kd => by
    unfold rAsk
    congr 1
  have ask7 : (rBind (rTerm t 40 [] (sGo t k.nx)) fun v k1 => rBind (rNeed t 61 k1) fun _ k2 => rBind (rTerm t 40 [] k2) fun ty k3 => (.ok ((7, k.pl, [], some ty, some v), k3) : RR ST)) = rAsk t 7 k.pl 61 true (sGo t k.nx) := by
    unfold rAsk
    congr 1
  unfold rStat
  rw [if_neg (by omega), e 0 (by omega), e 1 (by omega), e 2 (by omega), e 3 (by omega), e 4 (by omega), e 6 (by omega), e 5 (by omega)]
  rcases w with _ | _ | _ | _ | _ | _ | _ | w
  · rfl
  · rfl
  · rfl
  · exact ask 4 58 (by omega)
  · exact ask0 5
  · exact ask7
  · exact ask0 6
  · rw [if_neg (by rw [decide_eq_true_eq]; omega), if_neg (by rw [decide_eq_true_eq]; omega), if_neg (by rw [decide_eq_true_eq]; omega), if_neg (by rw [decide_eq_true_eq]; omega), if_neg (by rw [decide_eq_true_eq]; omega), if_neg (by rw [decide_eq_true_eq]; omega), if_neg (by rw [decide_eq_true_eq]; omega)]
    rfl
section MRZ
variable {P : MPl} {s0 : State} {l : Launch} {XX : Prop} {lev n nd : Nat} {Q : Outcome → MSt → Prop} {st st' st'' st0 : MSt} {t : TX} {k : TK} {b : Bool} {bs : List (Option Nat)} {TN : Nat → List Nat}
/-- a name's node, for good -/
def nmA (t : TX) (st : MSt) (x p : Nat) : Prop := p < 4000 ∧ st.2 31 x = iI (p : Int) ∧ st.2 32 x = iI ((tname t p).length : Int)
theorem m_stat (hW : IW P s0 l XX) (hl : 136 ≤ lev) (h : RG t st k) (h15 : fI st 15 = iI (if b then 1 else 0)) (hb : b = true → fI st 39 = iI (nd : Int) ∧ nd + 2 * (t.2 - k.pl) ≤ 140000 ∧ ∀ e p, ¬ rBad (rStat t k) e p)
    (ok : ∀ st' s k' nd', rStat t k = .ok (s, k') → RG t st' k' → k.pl < k'.pl → rfs b nd st st' → nd ≤ nd' → (b = true → fI st' 39 = iI ((nd' : Nat) : Int) ∧ nd' + 2 * (t.2 - k'.pl) ≤ nd + 2 * (t.2 - k.pl) ∧ mStt t st' s nd nd') → Q (.returned none) st')
    (er : ∀ st' e p, b = false → rBad (rStat t k) e p → RB t st' e p → rfs b nd st st' → Q (.returned none) st') : CQ (wM P s0 l XX) mX5_readStatement lev (.ref P.mo :: []) st Q := by
  obtain ⟨l', rfl⟩ : ∃ l', lev = l' + 1 := ⟨lev - 1, by omega⟩
  have hx2 := h.1.2.1
  have bf : ∀ {e p : Nat}, rBad (rStat t k) e p → b = false := fun hbd => by
    cases hbb : b with
    | false => rfl
    | true => exact absurd hbd ((hb hbb).2.2 _ _)
  -- the first four fields
  have st4 : ∀ (w : Int32), ∃ s4, s4 = mput 79 (iI (-1)) (mput 78 (iI (-1)) (mput 76 w (mput 77 (fI st 9) st))) ∧ RG t s4 k ∧ rfs b nd st s4 ∧ fI s4 77 = iI (k.pl : Int) ∧ fI s4 76 = w ∧ fI s4 78 = iI (-1) ∧ fI s4 79 = iI (-1) ∧ fI s4 15 = iI (if b then 1 else 0) ∧ fI s4 39 = fI st 39 := fun w => by
    refine ⟨_, rfl, (((h.put (by omega)).put (by omega)).put (by omega)).put (by omega), (((rfs.put (by omega)).tr (rfs.put (by omega)) (Nat.le_refl _)).tr (rfs.put (by omega)) (Nat.le_refl _)).tr (rfs.put (by omega)) (Nat.le_refl _), ?_, ?_, ?_, fI_self, ?_, ?_⟩
    · rw [fI_put (by omega), fI_put (by omega), fI_put (by omega), fI_self]; exact h.2.1.1
    · rw [fI_put (by omega), fI_put (by omega), fI_self]
    · rw [fI_put (by omega), fI_self]
    · rw [fI_put (by omega), fI_put (by omega), fI_put (by omega), fI_put (by omega)]; exact h15
    · rw [fI_put (by omega), fI_put (by omega), fI_put (by omega), fI_put (by omega)]
  have told : k.ki ≠ 1 → ∀ s4, RG t s4 k → rfs b nd st s4 → fI s4 77 = iI (k.pl : Int) → fI s4 76 = iI (-1) → fI s4 78 = iI (-1) → fI s4 79 = iI (-1) → fI s4 15 = iI (if b then 1 else 0) → fI s4 39 = fI st 39 → CQ (wM P s0 l XX) mX5_readTold l' (.ref P.mo :: []) s4 (onV (fun t1 => Q (.returned none) t1) (fun x t => Q (.threw x) t)) := fun hk s4 G4 F4 q1 q2 q3 q4 q5 q6 => by
    have e := rStat_tell (t := t) hk h.2.2.2.2
    rw [e] at hb er
    exact m_told (b := b) (nd := nd) hW (by omega) G4 q5 q1 q2 q3 q4 (fun hbb => ⟨q6.trans (hb hbb).1, (hb hbb).2⟩) (fun s5 s k' nd' z1 z2 z3 z4 z5 z6 => ok s5 s k' nd' (e.trans z1) z2 z3 (F4.tr z4 (Nat.le_refl _)) z5 z6) (fun s5 e5 p5 z1 z2 z3 z4 => er s5 e5 p5 z1 z2 z3 (F4.tr z4 (Nat.le_refl _)))
  obtain ⟨-, ⟨-, -, a0, -, -, hcs⟩, -, -, h3⟩ := h
  have notn : ¬ fI st 7 = iI 1 → k.ki ≠ 1 → ((fI st 7) = (iI 1) → False) ∧ CQ (wM P s0 l XX) mX5_readTold l' (.ref P.mo :: []) (mput 79 (iI (-1)) (mput 78 (iI (-1)) (mput 76 (iI (-1)) (mput 77 (fI st 9) st)))) (onV (fun t1 => Q (.returned none) t1) (fun x t => Q (.threw x) t)) := fun h7 hk => by
    obtain ⟨s4, e4, q1, q2, q3, q4, q5, q6, q7, q8⟩ := st4 (iI (-1))
    rw [← e4]
    exact ⟨h7, told hk s4 q1 q2 q3 q4 q5 q6 q7 q8⟩
  rcases hcs with ⟨k0, k1, k2, -⟩ | ⟨k0, k1, ⟨w, w1, w2, w3⟩, -⟩ | ⟨k0, k1, -⟩ | ⟨k0, -⟩ | ⟨k0, k1, -⟩ | ⟨k0, k1, -⟩
  · refine tX5_readStatement ⟨fun _ => ⟨fun _ => ?_, fun q => absurd k2 q⟩, fun q => absurd k1 q⟩
    rw [k2]
    obtain ⟨s4, e4, q1, q2, q3, q4, q5, q6, q7, q8⟩ := st4 (iI (-1))
    rw [← e4]
    exact told (by omega) s4 q1 q2 q3 q4 q5 q6 q7 q8
  · -- a word
    have eS := rStat_w (t := t) k0 w1 w3
    have ne : ¬ fI st 11 = iI (-1) := fun q => by rw [w2, iI_eq (by omega) (by omega) (by omega) (by omega)] at q; omega
    refine tX5_readStatement ⟨fun _ => ⟨fun q => absurd q ne, fun _ => ?_⟩, fun q => absurd k1 q⟩
    rw [w2]
    obtain ⟨s4, e4, q1, q2, q3, q4, q5, q6, q7, q8⟩ := st4 (iI (w : Int))
    rw [← e4]
    refine ⟨fun hw6 => ?_, fun hw6 => ?_⟩
    · rw [iI_le (by omega) (by omega) (by omega) (by omega)] at hw6
      have hw7 : w < 7 := by omega
      obtain ⟨z1, z2, z3⟩ := q1.at (by omega)
      -- what comes behind the word
      have b3 : ∀ {r : RR ST}, (sGo t k.nx).ki = 3 → rStat t k = r → rBad r 2 (sGo t k.nx).pl := fun h3' hr => by
        rw [← hr, eS]
        rcases w with _ | _ | _ | _ | _ | _ | _ | w
        · exact rBad.er (rName_3 h3')
        · exact rBad.er (rName_3 h3')
        · exact rBad.er (rName_3 h3')
        · exact rBad.er (rTerm_3 h3')
        · exact rBad.er (rTerm_3 h3')
        · exact rBad.er (rTerm_3 h3')
        · exact rBad.er (rTerm_3 h3')
        · omega
      refine m_nextG hW (by omega) q1.1 q1.2.2.2.1 z1 z2 (fun s5 g5 p5 F5 => ?_) (fun s5 g51 g52 F5 => ?_)
      · -- the token behind is good
        have F15 : rfs b nd st s5 := q2.tr F5.s (Nat.le_refl _)
        have f77 : fI s5 77 = iI (k.pl : Int) := (F5.1 77 (by omega)).trans q3
        have f76 : fI s5 76 = iI (w : Int) := (F5.1 76 (by omega)).trans q4
        have f78 : fI s5 78 = iI (-1) := (F5.1 78 (by omega)).trans q5
        have f79 : fI s5 79 = iI (-1) := (F5.1 79 (by omega)).trans q6
        have f15 : fI s5 15 = iI (if b then 1 else 0) := (F5.1 15 (by omega)).trans q7
        have f39 : b = true → fI s5 39 = iI (nd : Int) := fun hbb => (F5.1 39 (by omega)).trans (q8.trans (hb hbb).1)
        have room : b = true → nd + 2 * (t.2 - (sGo t k.nx).pl) + 2 ≤ 140000 := fun hbb => by have := (hb hbb).2.1; have := g5.2.2.1.1; omega
        show (fI s5 76 = iI 0 → _) ∧ (fI s5 76 = iI 1 → _) ∧ (fI s5 76 = iI 2 → _) ∧ (tout (fI s5 76) 0 2 → _)
        rw [f76]
        have e4l : ∀ {v u : Nat}, v < 7 → u < 3 → v ≠ u → ¬ iI (v : Int) = iI (u : Int) := fun a1 a2 a3 a4 => by rw [iI_eq (by omega) (by omega) (by omega) (by omega)] at a4; omega
        have tno : ∀ {v : Nat}, v < 3 → ¬ tout (iI (v : Int)) 0 2 := fun {v} a1 a2 => by
          unfold tout at a2
          rw [iI_nat (by omega)] at a2
          omega
        -- what is asked
        have ask : ∀ kd sg must, rStat t k = rAsk t kd k.pl sg must (sGo t k.nx) → wcd kd = (w : Int) → ((kd = 4 ∧ sg = 58 ∧ must = false) ∨ ((kd = 5 ∨ kd = 6) ∧ sg = 0 ∧ must = false) ∨ (kd = 7 ∧ sg = 61 ∧ must = true)) → CQ (wM P s0 l XX) mX5_readTerm l' (.ref P.mo :: [.int (iI 0)]) s5 (onI (fun r19 t18 => (((fI t18 72) = 0 → (((fI t18 76) = (iI 3) → (CQ (wM P s0 l XX) mX5_isSign l' (.ref P.mo :: [.int (iI 58)]) (mput 78 r19 t18) (onI (fun r21 t20 => ((r21 = 0 → jX5_readStatement_226 P s0 l XX l' st Q t20) ∧ (¬ r21 = 0 → (CQ (wM P s0 l XX) mX5_next l' (.ref P.mo :: []) t20 (onV (fun t22 => (CQ (wM P s0 l XX) mX5_readTerm l' (.ref P.mo :: [.int (iI 0)]) t22 (onI (fun r25 t24 => Q (.returned none) (mput 79 r25 t24)) (fun x t => Q (.threw x) t)))) (fun x t => Q (.threw x) t)))))) (fun x t => Q (.threw x) t)))) ∧ (¬ (fI t18 76) = (iI 3) → jX5_readStatement_226 P s0 l XX l' st Q (mput 78 r19 t18)))) ∧ (¬ (fI t18 72) = 0 → jX5_readStatement_226 P s0 l XX l' st Q (mput 78 r19 t18)))) (fun x t => Q (.threw x) t)) := fun kd sg must eA eW hc =>
          m_ask (x := iI 0) (b := b) (nd := nd) (kd := kd) (pl := k.pl) (sg := sg) (must := must) hW (by omega) hc g5 f15 f77 (by rw [eW]; exact f76) f79 eA.symm (fun hbb => ⟨f39 hbb, by have := room hbb; omega, (hb hbb).2.2⟩) (fun s6 s k' nd' y1 y2 y3 y4 y5 y6 => ok s6 s k' nd' y1 y2 (by omega) (F15.tr y4 (Nat.le_refl _)) y5 (fun hbb => ⟨(y6 hbb).1, by have := (y6 hbb).2.1; omega, (y6 hbb).2.2⟩)) (fun s6 e p y1 y2 y3 y4 => er s6 e p y1 y2 y3 (F15.tr y4 (Nat.le_refl _)))
        rcases w with _ | _ | _ | _ | _ | _ | _ | w
        · -- sort
          have eR : rStat t k = rBind (rName t (sGo t k.nx)) fun x k1 => .ok ((0, k.pl, [x], none, none), k1) := eS
          rw [eR] at hb er ok
          have y3 : ∀ (x : Nat) k1, k1.ki = 3 → rBad (.ok ((0, k.pl, [x], none, none), k1) : RR ST) 2 k1.pl := fun x k1 h3 => Or.inr ⟨_, _, rfl, h3, rfl, rfl⟩
          refine ⟨fun _ => m_nameG (b := b) (nd := nd) hW (by omega) g5 f15 (fun hbb => ⟨f39 hbb, by have := room hbb; omega, fun e p hbd => (hb hbb).2.2 e p (hbd.bind y3)⟩) (fun s6 vx e6 k6 g6 p6 F6 n6 => ?_) (fun s6 e p r b0 hbd' g6 F6 => er _ e p b0 (hbd'.bind y3) (g6.put (by omega)) ((F15.tr F6.s (Nat.le_refl _)).tr (rfs.put (by omega)) (Nat.le_refl _))), fun q => absurd q (e4l (v := 0) (u := 1) (by omega) (by omega) (by omega)), fun q => absurd q (e4l (v := 0) (u := 2) (by omega) (by omega) (by omega)), fun q => absurd q (tno (v := 0) (by omega))⟩
          refine ok _ (0, k.pl, [(sGo t k.nx).pl], none, none) _ (nd + 1) (by rw [e6]; rfl) (g6.put (by omega)) (by omega) ((F15.tr F6.s (Nat.le_refl _)).tr (rfs.put (by omega)) (Nat.le_refl _)) (by omega) (fun hbb => ?_)
          obtain ⟨c1, c2, c3, c4, c5, c6⟩ := n6 hbb
          subst c1
          have g6p := g6.2.2.1.1
          refine ⟨(fI_put (by omega)).trans c2, by omega, ?_, ?_, vx, vx, vx, vx, ⟨by omega, by omega, by omega, by omega, by omega, by omega, by omega⟩, fun i p hp => ?_, fun _ => ?_, fun w q => (by cases q), fun _ => ?_, fun w q => (by cases q)⟩
          · rw [fI_put (by omega)]; exact (F6.1 77 (by omega)).trans f77
          · rw [fI_put (by omega)]; exact (F6.1 76 (by omega)).trans f76
          · cases i with
            | zero => cases hp; exact ⟨by omega, vx, Nat.le_refl _, by omega, by omega, by omega, by omega, fI_self, c4, c5⟩
            | succ i => simp at hp
          · rw [fI_put (by omega)]; exact (F6.1 79 (by omega)).trans f79
          · rw [fI_put (by omega)]; exact (F6.1 78 (by omega)).trans f78
        · -- axiom
          have eR : rStat t k = rBind (rName t (sGo t k.nx)) fun x k1 => rBind (rNeed t 58 k1) fun _ k2 => rBind (rName t k2) fun y k3 => .ok ((1, k.pl, [x, y], none, none), k3) := eS
          rw [eR] at hb er ok bf
          have y1 : ∀ (x : Nat) k1, k1.ki = 3 → rBad (rBind (rNeed t 58 k1) fun _ k2 => rBind (rName t k2) fun y k3 => (.ok ((1, k.pl, [x, y], none, none), k3) : RR ST)) 2 k1.pl := fun x k1 h3 => rBad.er (rNeed_3 h3)
          have y2 : ∀ (x _z : Nat) k2, k2.ki = 3 → rBad (rBind (rName t k2) fun y k3 => (.ok ((1, k.pl, [x, y], none, none), k3) : RR ST)) 2 k2.pl := fun x _ k2 h3 => rBad.er (rName_3 h3)
          have y3 : ∀ (x y : Nat) k1, k1.ki = 3 → rBad (.ok ((1, k.pl, [x, y], none, none), k1) : RR ST) 2 k1.pl := fun x y k1 h3 => Or.inr ⟨_, _, rfl, h3, rfl, rfl⟩
          -- when something is wrong
          have B2 : ∀ (s : MSt) (e p : Nat), rBad (rBind (rName t (sGo t k.nx)) fun x k1 => rBind (rNeed t 58 k1) fun _ k2 => rBind (rName t k2) fun y k3 => (.ok ((1, k.pl, [x, y], none, none), k3) : RR ST)) e p → RB t s e p → rfs b nd st s → CQ (wM P s0 l XX) mX5_nameNode l' (.ref P.mo :: []) s (onI (fun r12 t11 => Q (.returned none) (mput 81 r12 t11)) (fun x t => Q (.threw x) t)) := fun s e p hbd hB hF => by
            have b0 := bf hbd
            refine m_nameB hW (by omega) hB (((hF.1 15 (by omega)).trans h15).trans (by rw [b0]; rfl)) (fun s' r g1 g2 => er _ e p b0 hbd (g1.put (by omega)) ((hF.tr g2.s (Nat.le_refl _)).tr (rfs.put (by omega)) (Nat.le_refl _)))
          refine ⟨fun q => absurd q (e4l (v := 1) (u := 0) (by omega) (by omega) (by omega)), fun _ => m_nameG (b := b) (nd := nd) hW (by omega) g5 f15 (fun hbb => ⟨f39 hbb, by have := room hbb; omega, fun e p hbd => (hb hbb).2.2 e p (hbd.bind y1)⟩) (fun s6 vx e6 k6 g6 p6 F6 n6 => ?_) (fun s6 e p r b0 hbd' g6 F6 => m_needB hW (by omega) (g6.put (by omega)) (fun s7 g7 F7 => B2 s7 e p (hbd'.bind y1) g7 (((F15.tr F6.s (Nat.le_refl _)).tr (rfs.put (by omega)) (Nat.le_refl _)).tr F7.s (Nat.le_refl _)))), fun q => absurd q (e4l (v := 1) (u := 2) (by omega) (by omega) (by omega)), fun q => absurd q (tno (v := 1) (by omega))⟩
          rw [e6] at hb er ok B2
          have G6 := g6.put (j := 80) (v := iI (vx : Int)) (by omega)
          have F16 : rfs b nd st (mput 80 (iI (vx : Int)) s6) := (F15.tr F6.s (Nat.le_refl _)).tr (rfs.put (by omega)) (Nat.le_refl _)
          have o6 : ∀ j, j ≠ 80 → fI (mput 80 (iI (vx : Int)) s6) j = fI s6 j := fun j hj => fI_put hj
          have o680 : fI (mput 80 (iI (vx : Int)) s6) 80 = iI (vx : Int) := fI_self
          have o6a : (mput 80 (iI (vx : Int)) s6).2 = s6.2 := rfl
          show CQ (wM P s0 l XX) mX5_need l' (.ref P.mo :: [.int (iI 58)]) (mput 80 (iI (vx : Int)) s6) _
          generalize mput 80 (iI (vx : Int)) s6 = s7 at *
          refine m_need (s := 58) hW (by omega) G6 (by omega) (fun s8 e8 g8 p8 F8 => ?_) (fun s8 e p hbd' g8 F8 => B2 s8 e p (hbd'.bind (y2 _)) g8 (F16.tr F8.s (Nat.le_refl _)))
          have F18 : rfs b nd st s8 := F16.tr F8.s (Nat.le_refl _)
          have gp8 := g8.2.2.1.1
          refine m_nameG (b := b) (nd := nd + 1) hW (by omega) g8 ((F18.1 15 (by omega)).trans h15) (fun hbb => ⟨(F8.1 39 (by omega)).trans ((o6 39 (by omega)).trans (n6 hbb).2.1), by have := room hbb; omega, fun e p hbd => (hb hbb).2.2 e p (by show rBad (rBind (rNeed t 58 _) _) e p; rw [e8]; exact hbd.bind (y3 _))⟩) (fun s9 vy e9 k9 g9 p9 F9 n9 => ?_) (fun s9 e p r b0 hbd' g9 F9 => er _ e p b0 (by show rBad (rBind (rNeed t 58 _) _) e p; rw [e8]; exact hbd'.bind (y3 _)) (g9.put (by omega)) ((F18.tr F9.s (Nat.le_succ _)).tr (rfs.put (by omega)) (Nat.le_refl _)))
          refine ok _ (1, k.pl, [(sGo t k.nx).pl, (sGo t (sGo t (sGo t k.nx).nx).nx).pl], none, none) _ (nd + 2) (by show rBind (rNeed t 58 _) _ = _; rw [e8]; show rBind (rName t _) _ = _; rw [e9]; rfl) (g9.put (by omega)) (by omega) ((F18.tr F9.s (Nat.le_succ _)).tr (rfs.put (by omega)) (Nat.le_refl _)) (by omega) (fun hbb => ?_)
          obtain ⟨c1, c2, c3, c4, c5, c6⟩ := n6 hbb
          obtain ⟨d1, d2, d3, d4, d5, d6⟩ := n9 hbb
          subst c1 d1
          have g9p := g9.2.2.1.1
          have old : ∀ j, 75 < j → j ≠ 80 → fI s9 j = fI s5 j := fun j a1 a2 => (F9.1 j (by omega)).trans ((F8.1 j (by omega)).trans ((o6 j a2).trans (F6.1 j (by omega))))
          have oldx : ∀ k', 30 ≤ k' → k' ≤ 38 → s9.2 k' vx = s6.2 k' vx := fun k' a1 a2 => by rw [F9.2.2 k' vx (fun _ _ => Nat.lt_succ_self _), F8.2, o6a]
          refine ⟨(fI_put (by omega)).trans d2, by omega, ?_, ?_, vx, vx, vx, vx, ⟨by omega, by omega, by omega, by omega, by omega, by omega, by omega⟩, fun i p hp => ?_, fun _ => ?_, fun w q => (by cases q), fun _ => ?_, fun w q => (by cases q)⟩
          · rw [fI_put (by omega)]; exact (old 77 (by omega) (by omega)).trans f77
          · rw [fI_put (by omega)]; exact (old 76 (by omega) (by omega)).trans f76
          · rcases i with _ | _ | i
            · cases hp
              exact ⟨by omega, vx, Nat.le_refl _, by omega, by omega, by omega, by omega, by rw [fI_put (by omega)]; exact (F9.1 80 (by omega)).trans ((F8.1 80 (by omega)).trans o680), (oldx 31 (by omega) (by omega)).trans c4, (oldx 32 (by omega) (by omega)).trans c5⟩
            · cases hp
              exact ⟨by omega, vx + 1, by omega, by omega, by omega, by omega, by omega, fI_self, d4, d5⟩
            · simp at hp
          · rw [fI_put (by omega)]; exact (old 79 (by omega) (by omega)).trans f79
          · rw [fI_put (by omega)]; exact (old 78 (by omega) (by omega)).trans f78
        · -- rule
          have eR : rStat t k = rBind (rName t (sGo t k.nx)) fun x k1 => rBind (rName t k1) fun y k2 => rBind (rName t k2) fun z k3 => .ok ((2, k.pl, [x, y, z], none, none), k3) := eS
          rw [eR] at hb er ok bf
          have y1 : ∀ (x : Nat) k1, k1.ki = 3 → rBad (rBind (rName t k1) fun y k2 => rBind (rName t k2) fun z k3 => (.ok ((2, k.pl, [x, y, z], none, none), k3) : RR ST)) 2 k1.pl := fun x k1 h3 => rBad.er (rName_3 h3)
          have y2 : ∀ (x y : Nat) k2, k2.ki = 3 → rBad (rBind (rName t k2) fun z k3 => (.ok ((2, k.pl, [x, y, z], none, none), k3) : RR ST)) 2 k2.pl := fun x y k2 h3 => rBad.er (rName_3 h3)
          have y3 : ∀ (x y z : Nat) k1, k1.ki = 3 → rBad (.ok ((2, k.pl, [x, y, z], none, none), k1) : RR ST) 2 k1.pl := fun x y z k1 h3 => Or.inr ⟨_, _, rfl, h3, rfl, rfl⟩
          have gp5 := g5.2.2.1.1
          refine ⟨fun q => absurd q (e4l (v := 2) (u := 0) (by omega) (by omega) (by omega)), fun q => absurd q (e4l (v := 2) (u := 1) (by omega) (by omega) (by omega)), fun _ => m_nameG (b := b) (nd := nd) hW (by omega) g5 f15 (fun hbb => ⟨f39 hbb, by have := room hbb; omega, fun e p hbd => (hb hbb).2.2 e p (hbd.bind y1)⟩) (fun s6 vx e6 k6 g6 p6 F6 n6 => ?_) (fun s6 e p r b0 hbd' g6 F6 => ⟨fun q => absurd q g6.ne, fun _ => tX5_readStatement_159 ⟨fun q => absurd q (g6.put (j := 80) (v := r) (by omega)).ne, fun _ => er _ e p b0 (hbd'.bind y1) (g6.put (by omega)) ((F15.tr F6.s (Nat.le_refl _)).tr (rfs.put (by omega)) (Nat.le_refl _))⟩⟩), fun q => absurd q (tno (v := 2) (by omega))⟩
          rw [e6] at hb er ok
          have G6 := g6.put (j := 80) (v := iI (vx : Int)) (by omega)
          have F16 : rfs b nd st (mput 80 (iI (vx : Int)) s6) := (F15.tr F6.s (Nat.le_refl _)).tr (rfs.put (by omega)) (Nat.le_refl _)
          have o6 : ∀ j, j ≠ 80 → fI (mput 80 (iI (vx : Int)) s6) j = fI s6 j := fun j hj => fI_put hj
          have o680 : fI (mput 80 (iI (vx : Int)) s6) 80 = iI (vx : Int) := fI_self
          have o6a : (mput 80 (iI (vx : Int)) s6).2 = s6.2 := rfl
          have gp6 := g6.2.2.1.1
          refine ⟨fun _ => ?_, fun q => absurd g6.2.2.2.1 q⟩
          generalize mput 80 (iI (vx : Int)) s6 = s7 at *
          refine m_nameG (b := b) (nd := nd + 1) hW (by omega) G6 ((F16.1 15 (by omega)).trans h15) (fun hbb => ⟨(o6 39 (by omega)).trans (n6 hbb).2.1, by have := room hbb; omega, fun e p hbd => (hb hbb).2.2 e p (hbd.bind (y2 _))⟩) (fun s8 vy e8 k8 g8 p8 F8 n8 => ?_) (fun s8 e p r b0 hbd' g8 F8 => tX5_readStatement_159 ⟨fun q => absurd q (g8.put (j := 81) (v := r) (by omega)).ne, fun _ => er _ e p b0 (hbd'.bind (y2 _)) (g8.put (by omega)) ((F16.tr F8.s (Nat.le_succ _)).tr (rfs.put (by omega)) (Nat.le_refl _))⟩)
          have hb8 : b = true → ∀ e p, ¬ rBad (rBind (rName t (sGo t (sGo t (sGo t k.nx).nx).nx)) fun z k3 => (.ok ((2, k.pl, [(sGo t k.nx).pl, (sGo t (sGo t k.nx).nx).pl, z], none, none), k3) : RR ST)) e p := fun hbb e p hbd => (hb hbb).2.2 e p (by show rBad (rBind (rName t _) _) e p; rw [e8]; exact hbd)
          have G8 := g8.put (j := 81) (v := iI (vy : Int)) (by omega)
          have F18 : rfs b nd st (mput 81 (iI (vy : Int)) s8) := (F16.tr F8.s (Nat.le_succ _)).tr (rfs.put (by omega)) (Nat.le_refl _)
          have o8 : ∀ j, j ≠ 81 → fI (mput 81 (iI (vy : Int)) s8) j = fI s8 j := fun j hj => fI_put hj
          have o881 : fI (mput 81 (iI (vy : Int)) s8) 81 = iI (vy : Int) := fI_self
          have o8a : (mput 81 (iI (vy : Int)) s8).2 = s8.2 := rfl
          have gp8 := g8.2.2.1.1
          show jX5_readStatement_159 P s0 l XX l' st Q (mput 81 (iI (vy : Int)) s8)
          generalize mput 81 (iI (vy : Int)) s8 = s9 at *
          refine tX5_readStatement_159 ⟨fun _ => m_nameG (b := b) (nd := nd + 2) hW (by omega) G8 ((F18.1 15 (by omega)).trans h15) (fun hbb => ⟨(o8 39 (by omega)).trans (n8 hbb).2.1, by have := room hbb; omega, fun e p hbd => hb8 hbb e p (hbd.bind (y3 _ _))⟩) (fun s10 vz e10 k10 g10 p10 F10 n10 => ?_) (fun s10 e p r b0 hbd' g10 F10 => er _ e p b0 (by show rBad (rBind (rName t _) _) e p; rw [e8]; exact hbd'.bind (y3 _ _)) (g10.put (by omega)) ((F18.tr F10.s (by omega)).tr (rfs.put (by omega)) (Nat.le_refl _))), fun q => absurd G8.2.2.2.1 q⟩
          refine ok _ (2, k.pl, [(sGo t k.nx).pl, (sGo t (sGo t k.nx).nx).pl, (sGo t (sGo t (sGo t k.nx).nx).nx).pl], none, none) _ (nd + 3) (by show rBind (rName t _) _ = _; rw [e8]; show rBind (rName t _) _ = _; rw [e10]; rfl) (g10.put (by omega)) (by omega) ((F18.tr F10.s (by omega)).tr (rfs.put (by omega)) (Nat.le_refl _)) (by omega) (fun hbb => ?_)
          obtain ⟨c1, c2, c3, c4, c5, c6⟩ := n6 hbb
          obtain ⟨d1, d2, d3, d4, d5, d6⟩ := n8 hbb
          obtain ⟨i1, i2, i3, i4, i5, i6⟩ := n10 hbb
          subst c1 d1 i1
          have g10p := g10.2.2.1.1
          have old : ∀ j, 75 < j → j ≠ 80 → j ≠ 81 → fI s10 j = fI s5 j := fun j a1 a2 a3 => (F10.1 j (by omega)).trans ((o8 j a3).trans ((F8.1 j (by omega)).trans ((o6 j a2).trans (F6.1 j (by omega)))))
          have oldx : ∀ k', 30 ≤ k' → k' ≤ 38 → s10.2 k' vx = s6.2 k' vx := fun k' a1 a2 => by rw [F10.2.2 k' vx (fun _ _ => by omega), o8a, F8.2.2 k' vx (fun _ _ => Nat.lt_succ_self _), o6a]
          have oldy : ∀ k', 30 ≤ k' → k' ≤ 38 → s10.2 k' (vx + 1) = s8.2 k' (vx + 1) := fun k' a1 a2 => by rw [F10.2.2 k' (vx + 1) (fun _ _ => by omega), o8a]
          refine ⟨(fI_put (by omega)).trans i2, by omega, ?_, ?_, vx, vx, vx, vx, ⟨by omega, by omega, by omega, by omega, by omega, by omega, by omega⟩, fun i p hp => ?_, fun _ => ?_, fun w q => (by cases q), fun _ => ?_, fun w q => (by cases q)⟩
          · rw [fI_put (by omega)]; exact (old 77 (by omega) (by omega) (by omega)).trans f77
          · rw [fI_put (by omega)]; exact (old 76 (by omega) (by omega) (by omega)).trans f76
          · rcases i with _ | _ | _ | i
            · cases hp
              exact ⟨by omega, vx, Nat.le_refl _, by omega, by omega, by omega, by omega, by rw [fI_put (by omega)]; exact (F10.1 80 (by omega)).trans ((o8 80 (by omega)).trans ((F8.1 80 (by omega)).trans o680)), (oldx 31 (by omega) (by omega)).trans c4, (oldx 32 (by omega) (by omega)).trans c5⟩
            · cases hp
              exact ⟨by omega, vx + 1, by omega, by omega, by omega, by omega, by omega, by rw [fI_put (by omega)]; exact (F10.1 81 (by omega)).trans o881, (oldy 31 (by omega) (by omega)).trans d4, (oldy 32 (by omega) (by omega)).trans d5⟩
            · cases hp
              exact ⟨by omega, vx + 2, by omega, by omega, by omega, by omega, by omega, fI_self, i4, i5⟩
            · simp at hp
          · rw [fI_put (by omega)]; exact (old 79 (by omega) (by omega) (by omega)).trans f79
          · rw [fI_put (by omega)]; exact (old 78 (by omega) (by omega) (by omega)).trans f78
        · exact ⟨fun q => absurd q (by decide), fun q => absurd q (by decide), fun q => absurd q (by decide), fun _ => ask 4 58 false eS rfl (Or.inl ⟨rfl, rfl, rfl⟩)⟩
        · exact ⟨fun q => absurd q (by decide), fun q => absurd q (by decide), fun q => absurd q (by decide), fun _ => ask 5 0 false eS rfl (Or.inr (Or.inl ⟨Or.inl rfl, rfl, rfl⟩))⟩
        · exact ⟨fun q => absurd q (by decide), fun q => absurd q (by decide), fun q => absurd q (by decide), fun _ => ask 7 61 true eS rfl (Or.inr (Or.inr ⟨rfl, rfl, rfl⟩))⟩
        · exact ⟨fun q => absurd q (by decide), fun q => absurd q (by decide), fun q => absurd q (by decide), fun _ => ask 6 0 false eS rfl (Or.inr (Or.inl ⟨Or.inr rfl, rfl, rfl⟩))⟩
        · omega
      · -- the token behind the word is a name too long
        have hbd : rBad (rStat t k) 2 (sGo t k.nx).pl := b3 g51 rfl
        have b0 := bf hbd
        have F15 : rfs b nd st s5 := q2.tr F5.s (Nat.le_refl _)
        have f76 : fI s5 76 = iI (w : Int) := (F5.1 76 (by omega)).trans q4
        have f15 : fI s5 15 = iI 0 := ((F15.1 15 (by omega)).trans h15).trans (by rw [b0]; rfl)
        refine ⟨fun _ => m_nameB hW (by omega) g52 f15 (fun s6 r g6 F6 => er _ 2 _ b0 hbd (g6.put (by omega)) ((F15.tr F6.s (Nat.le_refl _)).tr (rfs.put (by omega)) (Nat.le_refl _))), fun _ => m_nameB hW (by omega) g52 f15 (fun s6 r g6 F6 => m_needB hW (by omega) (g6.put (by omega)) (fun s7 g7 F7 => ?_)), fun _ => m_nameB hW (by omega) g52 f15 (fun s6 r g6 F6 => ⟨fun q => absurd q g6.ne, fun _ => tX5_readStatement_159 ⟨fun q => absurd q (g6.put (j := 80) (v := r) (by omega)).ne, fun _ => er _ 2 _ b0 hbd (g6.put (by omega)) ((F15.tr F6.s (Nat.le_refl _)).tr (rfs.put (by omega)) (Nat.le_refl _))⟩⟩), fun _ => m_termB (by omega) g52 ⟨fun q => absurd q g52.ne, fun _ => tX5_readStatement_226 ⟨fun q => absurd q (g52.put (j := 78) (v := iI 0) (by omega)).ne, fun _ => er _ 2 _ b0 hbd (g52.put (by omega)) (F15.tr (rfs.put (by omega)) (Nat.le_refl _))⟩⟩⟩
        have F17 : rfs b nd st s7 := ((F15.tr F6.s (Nat.le_refl _)).tr (rfs.put (by omega)) (Nat.le_refl _)).tr F7.s (Nat.le_refl _)
        exact m_nameB hW (by omega) g7 (((F17.1 15 (by omega)).trans h15).trans (by rw [b0]; rfl)) (fun s8 r g8 F8 => er _ 2 _ b0 hbd (g8.put (by omega)) ((F17.tr F8.s (Nat.le_refl _)).tr (rfs.put (by omega)) (Nat.le_refl _)))
    · have hw7 : ¬ w < 7 := fun q => hw6 (by rw [iI_le (by omega) (by omega) (by omega) (by omega)]; omega)
      have eR : rStat t k = .error (1, (k.pl : Int)) := by
        rw [eS]
        rcases w with _ | _ | _ | _ | _ | _ | _ | w
        · omega
        · omega
        · omega
        · omega
        · omega
        · omega
        · omega
        · show rWrong k = _
          unfold rWrong
          rw [if_neg h3]
      have hbd : rBad (rStat t k) 1 k.pl := Or.inl eR
      exact m_cantG (by omega) q1 (fun s5 g5 F5 => er s5 1 _ (bf hbd) hbd g5 (q2.tr F5.s (Nat.le_refl _)))
  · exact tX5_readStatement ⟨fun q => absurd (k1.symm.trans q) (by decide), fun q => (notn q (by omega)).2⟩
  · exact absurd k0 h3
  · exact tX5_readStatement ⟨fun q => absurd (k1.symm.trans q) (by decide), fun q => (notn q (by omega)).2⟩
  · exact tX5_readStatement ⟨fun q => absurd (k1.symm.trans q) (by decide), fun q => (notn q (by omega)).2⟩
end MRZ
