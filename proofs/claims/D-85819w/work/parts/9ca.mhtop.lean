/-! THE HOUSE OVER S, M (1): judging at the top; lines that are told -/
section MHA
variable {P : MPl} {s0 : State} {l : Launch} {XX : Prop} {lev : Nat} {Q : Outcome → MSt → Prop} {st st' st'' st0 : MSt} {X : SX} {J : JX} {K K' : KS} {nd nd' ce ce' wa x y lo hi ns ch z o nn : Nat} {c c' : MC} {M M' : Nat → Int → Prop} {E E' : Nat → Prop} {TN : Nat → List Nat} {v u : V} {x1 x2 : Int32}
theorem m_jbad (hl : 1 ≤ lev) (h : ¬ fI st 72 = 0) (ok : Q (.returned none) st) : CQ (wM P s0 l XX) mX5_judge lev (.ref P.mo :: [.int x1, .int x2]) st Q := by
  obtain ⟨l', rfl⟩ : ∃ l', lev = l' + 1 := ⟨lev - 1, by omega⟩
  exact tX5_judge ⟨fun q => absurd q h, fun _ => ok⟩
theorem JM.lh {q : Nat} {lo' hi' : Nat} (h : JM lo hi E c ce st X J TN [] [] q ns) : JM lo' hi' E c ce st X J TN [] [] q ns := ⟨h.1, h.2.1, trivial, h.2.2.2⟩
/-- a raw term is judged, nothing around it -/
theorem m_jtop (hl : 530 ≤ lev) (hr : mR TN st v [] nn lo hi none) (hg : rG v 0 0 100) (hD : rD v ≤ 40) (hI : ∀ j, lo ≤ j → j < hi → E j) (hE : ∀ j, E j → 8 ≤ j ∧ j < c.nd) (h : JM lo hi E c ce st X J TN [] [] 0 0) (hz : ∀ k, k < c.nc → sw (J.ct k) ≤ z) (hJ : MJ st X K c.nd ce 0) (hK : MK X K c.nd ce 0 x) (hx : 202 ≤ x) (hx2 : x + rN v ≤ 29000) (hy : 203 ≤ y) (hy2 : c.nd + 2 * (60000 - K.life) + (y + rN v) ≤ 140000) (h59 : fI st 59 = iI ((0 : Nat) : Int)) (hN : rN v ≤ 4000) (hO : OB K o)
    (ok : ∀ st' K' nd' ce' u ty so tn, sJudge X J 100 v [] K = (K', .ok (u, ty, .nil, so)) → K.life ≤ K'.life → mjf lo hi c.nd ce 0 0 st st' → c.nd ≤ nd' → ce ≤ ce' → MJ st' X K' nd' ce' 0 → MK X K' nd' ce' 0 (x + rN v) → nd' + 2 * (60000 - K'.life) + y ≤ 140000 → fI st' 59 = iI ((0 : Nat) : Int) → JM 0 0 (cutE E lo hi) (nd', c.2) ce' st' X J TN [] [] 0 0 → (∀ st'', ag (cutE E lo hi) nd' ce' st' st'' → mT (nd', c.2) st'' u [] nn none) → gT u false [] → fI st' 60 = iI ((tn : Nat) : Int) → fI st' 61 = iI so → (∀ st'', ag (cutE E lo hi) nd' ce' st' st'' → mT (nd', c.2) st'' ty [] tn none) → gT ty true [] → (-1 ≤ so ∧ so < 8 ∧ sw ty ≤ z + rB v) → OB K' o → Q (.returned none) st')
    (er : ∀ st' K' e p, sJudge X J 100 v [] K = (K', .error (e, p)) → K.life ≤ K'.life → mjf lo hi c.nd ce 0 0 st st' → MZj st' X K' e p → OB K' o → Q (.returned none) st') : CQ (wM P s0 l XX) mX5_judge lev (.ref P.mo :: [.int (iI (nn : Int)), .int (iI ((0 : Nat) : Int))]) st Q := by
  refine m_judge (P := P) (s0 := s0) (l := l) (XX := XX) (X := X) (J := J) (TN := TN) 100 lev (by omega) E c v nn lo hi [] [] 0 K st ce x y 0 0 z _ hr hg hI hE h trivial hz (by show 0 + 100 ≤ 300; omega) hJ hK hx hx2 hy hy2 h59 (by omega) (by omega) (fun st' K' nd' ce' u ty r so tn e1 e2 e3 e4 e5 e6 e7 e8 e9 e10 e11 e12 e13 e14 e15 e16 => ?_) (fun st' K' e p e1 e2 e3 e4 => er st' K' e p e1 e2 e3 e4 ((kO_judge _ _ _ _ rfl).ob e1 e2 hO))
  obtain ⟨⟨mm, em⟩, y2, y3, y4, y5, y6⟩ := e16
  have er0 : r = .nil := em.trans vdrop_nil
  subst er0
  obtain ⟨m', _, h15⟩ := e15
  have hJM : JM lo hi (cutE E lo hi) (nd', c.2) ce' st' X J TN [] [] 0 0 := h.mv (c' := (nd', c.2)) e3 e9 (Nat.le_refl _) (Nat.le_refl _) hI (fun j q => q.1) e4 rfl e5 (Nat.le_refl _) (Nat.le_refl _) e7.2.1 e6.2.2.2.2.1
  have ed : ∀ m, (tgs [] []).drop m = [] := fun m => by cases m <;> rfl
  exact ok st' K' nd' ce' u ty so tn e1 e2 e3 e4 e5 e6 e7 e8 (e10.trans h59) hJM.lh e11 e12 e13 e14 (fun st'' q => by have := h15 st'' q; rw [ed] at this; exact this) y2 ⟨y4, y5, y6⟩ ((kO_judge _ _ _ _ rfl).ob e1 e2 hO)
/-- nothing is put for: no locals -/
def nilM (_ : Nat) (_ : Int) : Prop := False
theorem mC_top {n : Nat} (h0 : 0 < ce) (hu : mT c st u [] n none) : mC c ce nilM st (vClo u .nil) n 0 := ⟨u, .nil, [], rfl, h0, (fun _ q => by cases q), hu, trivial⟩
theorem m_yes {b : Bool} (hl : 3 ≤ lev) (h : MJ0 st X K) (hO : OB K (o + 10)) (ok : ∀ st', mOnly st st' → MJ0 st' X (hYes b K) → OB (hYes b K) o → Q (.returned none) st') : CQ (wM P s0 l XX) mX5_yes lev (.ref P.mo :: [.int (bI b)]) st Q := by
  obtain ⟨l', rfl⟩ : ∃ l', lev = l' + 1 := ⟨lev - 1, by omega⟩
  have o1 := hO.lt
  refine tX5_yes ⟨fun q => ?_, fun q => ?_⟩
  · have hb : b = false := bI_z.mp q
    subst hb
    refine m_out (ch := 110) (by omega) (by omega) h (fun s1 a1 b1 => m_out (ch := 111) (by omega) ?_ b1 (fun s2 a2 b2 => tX5_yes_37 (m_out (ch := 10) (by omega) ?_ b2 (fun s3 a3 b3 => ok s3 ((a1.t a2).t a3) b3 ?_))))
    · show K.outs + 1 < _; omega
    · show K.outs + 1 + 1 < _; omega
    · exact ((((hO.le (o' := o + 1 + 1 + 1) (by omega)).put).put).put)
  · have hb : b = true := by cases b; exact absurd rfl q; rfl
    subst hb
    refine m_out (ch := 121) (by omega) (by omega) h (fun s1 a1 b1 => m_out (ch := 101) (by omega) ?_ b1 (fun s2 a2 b2 => m_out (ch := 115) (by omega) ?_ b2 (fun s2' a2' b2' => tX5_yes_37 (m_out (ch := 10) (by omega) ?_ b2' (fun s3 a3 b3 => ok s3 (((a1.t a2).t a2').t a3) b3 ?_)))))
    · show K.outs + 1 < _; omega
    · show K.outs + 1 + 1 < _; omega
    · show K.outs + 1 + 1 + 1 < _; omega
    · exact (((((hO.le (o' := o + 1 + 1 + 1 + 1) (by omega)).put).put).put).put)
theorem m_tlbad (hl : 1 ≤ lev) (h : ¬ fI st 72 = 0) (ok : Q (.returned none) st) : CQ (wM P s0 l XX) mX5_tellLine lev (.ref P.mo :: [.int x1]) st Q := by
  obtain ⟨l', rfl⟩ : ∃ l', lev = l' + 1 := ⟨lev - 1, by omega⟩
  exact tX5_tellLine ⟨fun q => absurd q h, fun _ => ok⟩
/-- a line: a term is told -/
theorem m_tline {n : Nat} (hl : 230 ≤ lev) (hM : ∀ j k, ¬ M j k) (hv : mC c ce M st v n 0) (hg : gKv v) (hX : mXc c st X) (hN : mNm c st X) (hO : OB K (o + 10)) (hJ : MJ st X K c.nd ce 0) (hK : MK X K c.nd ce 0 x) (hx : 202 ≤ x)
    (ok : ∀ st' K' ce', sTell X 100 v 0 false false K = (K', .ok ()) → K.life ≤ K'.life → mfr c.nd ce 0 st st' → ce ≤ ce' → MJ0 st' X (sPut 10 K') → KB X K' → fI st' 72 = 0 → OB (sPut 10 K') o → Q (.returned none) st')
    (er : ∀ st' K' e, sTell X 100 v 0 false false K = (K', .error e) → K.life ≤ K'.life → mfr c.nd ce 0 st st' → MZj st' X K' e (-1) → OB K' o → Q (.returned none) st') : CQ (wM P s0 l XX) mX5_tellLine lev (.ref P.mo :: [.int (iI (n : Int))]) st Q := by
  obtain ⟨l', rfl⟩ : ∃ l', lev = l' + 1 := ⟨lev - 1, by omega⟩
  refine tX5_tellLine ⟨fun _ => ?_, fun q => absurd hJ.2.2.2.1 q⟩
  refine m_tell (P := P) (s0 := s0) (l := l) (XX := XX) (X := X) (c := c) 100 0 l' rfl (by omega) M v n 0 0 false false K st ce 0 x (o + 5) _ (fun q => by cases q) (fun _ _ q => absurd q (hM _ _)) hv hg hX hN (by omega) (hO.le (by omega)) hJ hK (by omega) (fun st' K' ce' d1 d2 d3 d4 d5 d6 d7 => ⟨fun _ => m_out (ch := 10) (by omega) (by have := d7.lt; omega) d5.1 (fun st2 a2 b2 => ok st2 K' ce' d1 d2 (d3.tr (a2.fr (nd := c.nd) (ce := ce) (wa := 0)) (Nat.le_refl _) (Nat.le_refl _) (Nat.le_refl _)) d4 b2 d6.1 ((a2.1 72 (by omega)).trans d5.2.2.2.1) ((d7.le (by omega)).put)), fun q => absurd d5.2.2.2.1 q⟩) (fun st' K' e ce' d1 d2 d3 d4 d5 d6 d7 => ⟨fun q => absurd q d6.j.ne, fun _ => er st' K' e d1 d2 d3 d6.j (d7.le (by omega))⟩)
end MHA
