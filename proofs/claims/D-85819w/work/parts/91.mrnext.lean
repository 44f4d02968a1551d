/-! M OVER S (31): reading: the next token -/
/-- the last word below w that is N -/
def lwd (N : List Nat) : Nat → Int
  | 0 => -1
  | w + 1 => if kept.getD w [] = N then (w : Int) else lwd N w
theorem lwd_le (N : List Nat) : ∀ w, -1 ≤ lwd N w ∧ lwd N w < w := by
  intro w
  induction w with
  | zero => exact ⟨Int.le_refl _, (by show (-1 : Int) < 0; omega)⟩
  | succ w ih =>
    unfold lwd
    split
    · omega
    · omega
theorem lwd_some {N : List Nat} : ∀ {w : Nat} {k : Nat}, w ≤ 9 → lwd N w = (k : Int) → k < w ∧ kept[k]? = some N := by
  intro w
  induction w with
  | zero => intro k _ h; have : (-1 : Int) = (k : Int) := h; omega
  | succ w ih =>
    intro k hw h
    unfold lwd at h
    split at h
    · rename_i e
      have : w = k := by omega
      subst this
      refine ⟨by omega, ?_⟩
      rw [← e, List.getD_eq_getElem?_getD, List.getElem?_eq_getElem (show w < kept.length by show w < 9; omega)]
      rfl
    · obtain ⟨a, b⟩ := ih (by omega) h
      exact ⟨by omega, b⟩
theorem lwd_none {N : List Nat} : ∀ {w : Nat}, lwd N w = -1 → ∀ k, k < w → kept.getD k [] ≠ N := by
  intro w
  induction w with
  | zero => intro _ k hk; omega
  | succ w ih =>
    intro h k hk
    unfold lwd at h
    split at h
    · omega
    · rename_i e
      by_cases hkw : k = w
      · subst hkw; exact e
      · exact ih h k (by omega)
theorem lwd_cont {N : List Nat} : kept.contains N = true ↔ lwd N 9 ≠ -1 := by
  constructor
  · intro h q
    have hm := List.contains_iff_mem.mp h
    obtain ⟨i, hi⟩ := List.mem_iff_getElem?.mp hm
    have hi9 : i < 9 := by
      have := (List.getElem?_eq_some_iff.mp hi).1
      exact this
    have := lwd_none q i hi9
    rw [List.getD_eq_getElem?_getD, hi] at this
    exact this rfl
  · intro h
    have h1 := lwd_le N 9
    obtain ⟨k, hk⟩ : ∃ k : Nat, lwd N 9 = (k : Int) := ⟨(lwd N 9).toNat, by omega⟩
    exact List.contains_iff_mem.mpr (List.mem_of_getElem? (lwd_some (Nat.le_refl _) hk).2)
section MRN
variable {P : MPl} {s0 : State} {l : Launch} {XX : Prop} {lev : Nat} {Q : Outcome → MSt → Prop} {st st' st'' st0 : MSt} {t : TX}
theorem m_n193 {x1 x2 : Int32} (hl : 2 ≤ lev) : ∀ (n k : Nat) (st : MSt), mTx t st → t.2 ≤ n + k → k ≤ t.2 → fI st 6 = iI (k : Int) → (∀ st' e, sRun t isMor n k = e → k ≤ e → e ≤ t.2 → fI st' 6 = iI (e : Int) → mrf st st' → (∀ j, j ≠ 6 → fI st' j = fI st j) → jX5_next_235 P s0 l XX lev st0 Q x1 x2 (iI 0) (mput 10 (iI (e : Int)) (mput 7 (iI 1) st'))) → jX5_next_193 P s0 l XX lev st0 Q x1 x2 st := by
  intro n
  induction n with
  | zero =>
    intro k st hx hn hk h6 ok
    have h2 := hx.2.1
    refine tX5_next_193 ?_
    rw [h6]
    refine m_byte (by omega) hx (by omega) (fun h _ => by omega) (fun _ => m_more (b := -1) hl (by omega) ⟨fun _ => ?_, fun w => absurd rfl w⟩)
    rw [h6]
    exact ok st k rfl (Nat.le_refl _) hk h6 mrf.rf (fun _ _ => rfl)
  | succ n ih =>
    intro k st hx hn hk h6 ok
    have h2 := hx.2.1
    refine tX5_next_193 ?_
    rw [h6]
    refine m_byte (by omega) hx (by omega) (fun hk2 hb => m_more (b := (tbyte t k : Int)) hl (by omega) ?_) (fun ho => m_more (b := -1) hl (by omega) ⟨fun _ => ?_, fun w => absurd rfl w⟩)
    · have e0 : (decide ((0 : Int) ≤ (tbyte t k : Int)) && isMor ((tbyte t k : Int)).toNat) = isMor (tbyte t k) := by
        rw [decide_eq_true (by omega), Int.toNat_natCast]; rfl
      rw [e0]
      cases hm : isMor (tbyte t k) with
      | false =>
        refine ⟨fun _ => ?_, fun w => absurd rfl w⟩
        rw [h6]
        exact ok st k (by unfold sRun; rw [if_neg (fun q => by rw [q.2] at hm; cases hm)]) (Nat.le_refl _) hk h6 mrf.rf (fun _ _ => rfl)
      | true =>
        refine ⟨fun w => absurd w (by decide), fun _ => ?_⟩
        rw [h6, iI_suc]
        have hf : mrf st (mput 6 (iI ((k + 1 : Nat) : Int)) st) := mrf.put (by omega)
        refine ih (k + 1) _ (hx.mv hf) (by omega) hk2 fI_self (fun st' e e1 e2 e3 e4 e5 e6 => ok st' e ?_ (by omega) e3 e4 (hf.tr e5) (fun j hj => (e6 j hj).trans (fI_put hj)))
        unfold sRun
        rw [if_pos ⟨hk2, hm⟩]
        exact e1
    · rw [h6]
      exact ok st k (by unfold sRun; rw [if_neg (by omega)]) (Nat.le_refl _) hk h6 mrf.rf (fun _ _ => rfl)
theorem m_n235 {x1 x2 : Int32} {p e : Nat} (hW : IW P s0 l XX) (hl : 4 ≤ lev) (hpe : p ≤ e) (het : e ≤ t.2) (ok : ∀ st', mrf st st' → (∀ j, j ≠ 11 → j ≠ 72 → j ≠ 73 → fI st' j = fI st j) → fI st' 11 = iI (lwd ((List.range (e - p)).map (fun i => tbyte t (p + i))) 9) → ((e - p ≤ 12 ∨ fI st 72 ≠ 0) → fI st' 72 = fI st 72 ∧ fI st' 73 = fI st 73) → (12 < e - p → fI st 72 = 0 → fI st' 72 = iI 2 ∧ fI st' 73 = iI (p : Int)) → Q (.returned none) st') :
    ∀ (d w : Nat) (st1 : MSt), w + d = 9 → mTx t st1 → mrf st st1 → (∀ j, j ≠ 11 → fI st1 j = fI st j) → fI st1 9 = iI (p : Int) → fI st1 10 = iI (e : Int) → fI st1 11 = iI (lwd ((List.range (e - p)).map (fun i => tbyte t (p + i))) w) → jX5_next_235 P s0 l XX lev st0 Q x1 x2 (iI (w : Int)) st1 := by
  intro d
  induction d with
  | zero =>
    intro w st1 hw hx hf ho h9 h10 h11
    have h2 := hx.2.1
    have hw9 : w = 9 := by omega
    subst hw9
    have e1 : fI st1 10 - fI st1 9 = iI ((e - p : Nat) : Int) := by rw [h9, h10, iI_sub]; congr 1; omega
    refine tX5_next_235 ⟨fun _ => ?_, fun w => absurd (by rw [iI_le (by omega) (by omega) (by omega) (by omega)]; omega) w⟩
    rw [e1]
    refine ⟨fun w => ?_, fun w => ?_⟩
    · rw [iI_le (by omega) (by omega) (by omega) (by omega)] at w
      exact ok st1 hf (fun j a _ _ => ho j a) h11 (fun _ => ⟨ho 72 (by omega), ho 73 (by omega)⟩) (fun q => by omega)
    · have h12 : 12 < e - p := by
        apply Classical.byContradiction
        intro q
        exact w (by rw [iI_le (by omega) (by omega) (by omega) (by omega)]; omega)
      obtain ⟨l', rfl⟩ : ∃ l', lev = l' + 1 := ⟨lev - 1, by omega⟩
      rw [h9]
      refine tX5_wrong ⟨fun z => ?_, fun z => ?_⟩
      · refine ok _ ((hf.tr (mrf.put (by omega))).tr (mrf.put (by omega))) (fun j a b c => by rw [fI_put c, fI_put b]; exact ho j a) (by rw [fI_put (by omega), fI_put (by omega)]; exact h11) (fun q => ?_) (fun _ _ => ⟨by rw [fI_put (by omega), fI_self], fI_self⟩)
        rcases q with q | q
        · omega
        · exact absurd ((ho 72 (by omega)).symm.trans z) q
      · exact ok st1 hf (fun j a _ _ => ho j a) h11 (fun _ => ⟨ho 72 (by omega), ho 73 (by omega)⟩) (fun _ q => absurd ((ho 72 (by omega)).trans q) z)
  | succ d ih =>
    intro w st1 hw hx hf ho h9 h10 h11
    have h2 := hx.2.1
    refine tX5_next_235 ⟨fun z => ?_, fun _ => hW lev w p e t st1 _ hl (by omega) hx h9 h10 hpe het ?_⟩
    · rw [iI_le (by omega) (by omega) (by omega) (by omega)] at z; omega
    · by_cases hN : kept.getD w [] = (List.range (e - p)).map (fun i => tbyte t (p + i))
      · rw [decide_eq_true hN]
        refine ⟨fun z => absurd z (by decide), fun _ => tX5_next_254 ?_⟩
        rw [iI_suc]
        have hf2 : mrf st1 (mput 11 (iI (w : Int)) st1) := mrf.put (by omega)
        exact ih (w + 1) _ (by omega) (hx.mv hf2) (hf.tr hf2) (fun j hj => (fI_put hj).trans (ho j hj)) (by rw [fI_put (by omega)]; exact h9) (by rw [fI_put (by omega)]; exact h10) (by rw [fI_self, lwd, if_pos hN])
      · rw [decide_eq_false hN]
        refine ⟨fun _ => tX5_next_254 ?_, fun z => absurd rfl z⟩
        rw [iI_suc]
        exact ih (w + 1) _ (by omega) hx hf ho h9 h10 (by rw [lwd, if_neg hN]; exact h11)
theorem m_sign {p c : Nat} (hl : 2 ≤ lev) (hx : mTx t st) (hp : p < t.2) (hc : c = tbyte t p) (hc2 : c < 256) (h6 : fI st 6 = iI (p : Int))
    (ok : ∀ st' (tk sg a : Nat), mrf st st' → (∀ j, j ≠ 6 → j ≠ 7 → j ≠ 8 → fI st' j = fI st j) → fI st' 7 = iI (tk : Int) → fI st' 8 = iI (sgM sg : Int) → fI st' 6 = iI (a : Int) → tk = (if (c == 45 && tbyte t (p + 1) == 62) || [92, 33, 58, 46, 59, 61, 40, 41].contains c then 2 else 3) → sg = (if (c == 45 && tbyte t (p + 1) == 62) then 256 else if (c == 58 && tbyte t (p + 1) == 61) then 257 else c) → a = p + (if (c == 45 && tbyte t (p + 1) == 62) || (c == 58 && tbyte t (p + 1) == 61) then 2 else 1) → a ≤ t.2 → Q (.returned none) st') : CQ (wM P s0 l XX) mX5_readSign lev (.ref P.mo :: [.int (iI (c : Int))]) st Q := by
  obtain ⟨l', rfl⟩ : ∃ l', lev = l' + 1 := ⟨lev - 1, by omega⟩
  have h2 := hx.2.1
  have F3 : mrf st (mput 6 (iI ((p + 1 : Nat) : Int)) (mput 8 (iI (c : Int)) (mput 7 (iI 2) st))) := ((mrf.put (by omega)).tr (mrf.put (by omega))).tr (mrf.put (by omega))
  have o3 : ∀ j, j ≠ 6 → j ≠ 7 → j ≠ 8 → fI (mput 6 (iI ((p + 1 : Nat) : Int)) (mput 8 (iI (c : Int)) (mput 7 (iI 2) st))) j = fI st j := fun j a b d => by rw [fI_put a, fI_put d, fI_put b]
  have v6 : fI (mput 6 (iI ((p + 1 : Nat) : Int)) (mput 8 (iI (c : Int)) (mput 7 (iI 2) st))) 6 = iI ((p + 1 : Nat) : Int) := fI_self
  have v7 : fI (mput 6 (iI ((p + 1 : Nat) : Int)) (mput 8 (iI (c : Int)) (mput 7 (iI 2) st))) 7 = iI 2 := by rw [fI_put (by omega), fI_put (by omega), fI_self]
  have v8 : fI (mput 6 (iI ((p + 1 : Nat) : Int)) (mput 8 (iI (c : Int)) (mput 7 (iI 2) st))) 8 = iI (c : Int) := by rw [fI_put (by omega), fI_self]
  have hx3 := hx.mv F3
  refine tX5_readSign ?_
  rw [h6, iI_suc]
  generalize mput 6 (iI ((p + 1 : Nat) : Int)) (mput 8 (iI (c : Int)) (mput 7 (iI 2) st)) = s3 at F3 o3 v6 v7 v8 hx3
  have esg : sgM c = c := by unfold sgM; rw [if_neg (by omega), if_neg (by omega)]
  have j98 : ¬ (c = 45 ∧ tbyte t (p + 1) = 62) → ¬ (c = 58 ∧ tbyte t (p + 1) = 61) → jX5_readSign_98 P s0 l XX l' st Q (iI (c : Int)) s3 := fun n1 n2 => by
    have e1 : (c == 45 && tbyte t (p + 1) == 62) = false := by
      apply Bool.eq_false_iff.mpr; intro q; simp only [Bool.and_eq_true, beq_iff_eq] at q; exact n1 q
    have e2 : (c == 58 && tbyte t (p + 1) == 61) = false := by
      apply Bool.eq_false_iff.mpr; intro q; simp only [Bool.and_eq_true, beq_iff_eq] at q; exact n2 q
    rw [e1, e2] at ok
    have yes : [92, 33, 58, 46, 59, 61, 40, 41].contains c = true → Q (.returned none) s3 := fun hc => by
      rw [hc] at ok
      exact ok s3 2 c (p + 1) F3 o3 v7 (by rw [esg]; exact v8) v6 rfl rfl rfl hp
    have eqc : ∀ v : Nat, v < 256 → iI (c : Int) = iI (v : Int) → c = v := fun v hv q => by
      rw [iI_eq (by omega) (by omega) (by omega) (by omega)] at q; omega
    refine tX5_readSign_98 ⟨fun w => yes (by rw [eqc 92 (by omega) w]; rfl), fun w1 => ⟨fun w => yes (by rw [eqc 33 (by omega) w]; rfl), fun w2 => ⟨fun w => yes (by rw [eqc 58 (by omega) w]; rfl), fun w3 => ⟨fun w => yes (by rw [eqc 46 (by omega) w]; rfl), fun w4 => ⟨fun w => yes (by rw [eqc 59 (by omega) w]; rfl), fun w5 => ⟨fun w => yes (by rw [eqc 61 (by omega) w]; rfl), fun w6 => ⟨fun w => yes (by rw [eqc 40 (by omega) w]; rfl), fun w7 => ⟨fun w => yes (by rw [eqc 41 (by omega) w]; rfl), fun w8 => ?_⟩⟩⟩⟩⟩⟩⟩⟩
    have nc : [92, 33, 58, 46, 59, 61, 40, 41].contains c = false := by
      apply Bool.eq_false_iff.mpr
      intro q
      have hm := List.contains_iff_mem.mp q
      simp only [List.mem_cons, List.not_mem_nil, or_false] at hm
      rcases hm with q | q | q | q | q | q | q | q
      · exact w1 (by rw [q]; rfl)
      · exact w2 (by rw [q]; rfl)
      · exact w3 (by rw [q]; rfl)
      · exact w4 (by rw [q]; rfl)
      · exact w5 (by rw [q]; rfl)
      · exact w6 (by rw [q]; rfl)
      · exact w7 (by rw [q]; rfl)
      · exact w8 (by rw [q]; rfl)
    rw [nc] at ok
    exact ok _ 3 c (p + 1) (F3.tr (mrf.put (by omega))) (fun j a b d => by rw [fI_put b]; exact o3 j a b d) fI_self (by rw [fI_put (by omega), esg]; exact v8) (by rw [fI_put (by omega)]; exact v6) rfl rfl rfl hp
  have j59 : ¬ (c = 58 ∧ tbyte t (p + 1) = 61) → jX5_readSign_59 P s0 l XX l' st Q (iI (c : Int)) s3 := fun n2 => by
    refine tX5_readSign_59 ⟨fun w => ?_, fun w => j98 (fun q => w (by rw [q.1]; rfl)) n2⟩
    have c45 : c = 45 := by rw [iI_eq (by omega) (by omega) (by omega) (by omega)] at w; omega
    rw [v6]
    refine m_byte (by omega) hx3 (by omega) (fun h1 h2 => ⟨fun w2 => ?_, fun w2 => j98 (fun q => w2 (by rw [q.2]; rfl)) n2⟩) (fun ho => ⟨fun w2 => absurd w2 (by decide), fun _ => j98 (fun q => ?_) n2⟩)
    · rw [iI_eq (by omega) (by omega) (by omega) (by omega)] at w2
      have b62 : tbyte t (p + 1) = 62 := by omega
      have e1 : (c == 45 && tbyte t (p + 1) == 62) = true := by rw [c45, b62]; rfl
      have e2 : (c == 58 && tbyte t (p + 1) == 61) = false := by rw [c45]; rfl
      rw [e1, e2] at ok
      rw [v6, iI_suc]
      exact ok _ 2 256 (p + 2) ((F3.tr (mrf.put (by omega))).tr (mrf.put (by omega))) (fun j a b d => by rw [fI_put a, fI_put d]; exact o3 j a b d) (by rw [fI_put (by omega), fI_put (by omega)]; exact v7) (by rw [fI_put (by omega), fI_self]; rfl) fI_self rfl rfl rfl (by omega)
    · have q2 := q.2
      unfold tbyte at q2
      rw [if_neg (by omega)] at q2
      omega
  refine ⟨fun w => ?_, fun w => j59 (fun q => w (by rw [q.1]; rfl))⟩
  have c58 : c = 58 := by rw [iI_eq (by omega) (by omega) (by omega) (by omega)] at w; omega
  refine m_byte (by omega) hx3 (by omega) (fun h1 h2 => ⟨fun w2 => ?_, fun w2 => j59 (fun q => w2 (by rw [q.2]; rfl))⟩) (fun ho => ⟨fun w2 => absurd w2 (by decide), fun _ => j59 (fun q => ?_)⟩)
  · rw [iI_eq (by omega) (by omega) (by omega) (by omega)] at w2
    have b61 : tbyte t (p + 1) = 61 := by omega
    have e1 : (c == 45 && tbyte t (p + 1) == 62) = false := by rw [c58]; rfl
    have e2 : (c == 58 && tbyte t (p + 1) == 61) = true := by rw [c58, b61]; rfl
    have e3 : [92, 33, 58, 46, 59, 61, 40, 41].contains c = true := by rw [c58]; rfl
    rw [e1, e2, e3] at ok
    rw [v6, iI_suc]
    exact ok _ 2 257 (p + 2) ((F3.tr (mrf.put (by omega))).tr (mrf.put (by omega))) (fun j a b d => by rw [fI_put a, fI_put d]; exact o3 j a b d) (by rw [fI_put (by omega), fI_put (by omega)]; exact v7) (by rw [fI_put (by omega), fI_self]; rfl) fI_self rfl rfl rfl (by omega)
  · have q2 := q.2
    unfold tbyte at q2
    rw [if_neg (by omega)] at q2
    omega
theorem sSkip_le : ∀ (n k : Nat), k ≤ t.2 → (sSkip t n k).2 ≤ t.2 := by
  intro n
  induction n with
  | zero => intro k hk; exact hk
  | succ n ih =>
    intro k hk
    unfold sSkip
    split
    · rename_i h1
      split
      · exact ih _ h1
      · split
        · have hle : ∀ (m j : Nat), j ≤ t.2 → sRun t (fun c => c != 125) m j ≤ t.2 := by
            intro m
            induction m with
            | zero => intro j hj; exact hj
            | succ m ihm =>
              intro j hj
              unfold sRun
              split
              · rename_i q; exact ihm _ q.1
              · exact hj
          have h3 := hle t.2 (k + 1) h1
          show (if sRun t (fun c => c != 125) t.2 (k + 1) = t.2 then (true, k) else sSkip t n (sRun t (fun c => c != 125) t.2 (k + 1) + 1)).2 ≤ t.2
          split
          · exact hk
          · exact ih _ (by omega)
        · exact hk
    · exact hk
/-- the next token -/
theorem m_next {a : Nat} (hW : IW P s0 l XX) (hl : 5 ≤ lev) (hx : mTx t st) (h6 : fI st 6 = iI (a : Int)) (ha : a ≤ t.2) (ok : ∀ st', mrf st st' → mTk t st' (sGo t a) → mrb st st' (sGo t a) → Q (.returned none) st') : CQ (wM P s0 l XX) mX5_next lev (.ref P.mo :: []) st Q := by
  obtain ⟨l', rfl⟩ : ∃ l', lev = l' + 1 := ⟨lev - 1, by omega⟩
  have h2 := hx.2.1
  refine tX5_next (tX5_next_2 ⟨fun w => absurd w (by decide), fun _ => m_skip (by omega) (t.2 + 1) a st hx (by omega) ha h6 (fun s1 p e1 e2 e3 e4 e5 => ?_) (fun s1 p b e1 e2 e3 e4 e5 e6 => ?_)⟩)
  · have hx1 := hx.mv e4
    have eG : sGo t a = if t.2 ≤ p then (5, p, 0, p) else if isLet (tbyte t p) then (if 12 < sRun t isMor t.2 p - p then 3 else if kept.contains (tname t p) then 1 else 0, p, 0, sRun t isMor t.2 p) else (if ((tbyte t p == 45 && tbyte t (p + 1) == 62) || [92, 33, 58, 46, 59, 61, 40, 41].contains (tbyte t p)) then 2 else 4, p, if (tbyte t p == 45 && tbyte t (p + 1) == 62) then 256 else if (tbyte t p == 58 && tbyte t (p + 1) == 61) then 257 else tbyte t p, p + if (tbyte t p == 45 && tbyte t (p + 1) == 62) || (tbyte t p == 58 && tbyte t (p + 1) == 61) then 2 else 1) := by
      unfold sGo
      rw [e1]
      rfl
    have F2 : mrf st (mput 9 (iI (p : Int)) s1) := e4.tr (mrf.put (by omega))
    have o2 : ∀ j, j ≠ 6 → j ≠ 9 → fI (mput 9 (iI (p : Int)) s1) j = fI st j := fun j w1 w2 => (fI_put w2).trans (e5 j w1)
    have v6 : fI (mput 9 (iI (p : Int)) s1) 6 = iI (p : Int) := (fI_put (by omega)).trans e3
    have v9 : fI (mput 9 (iI (p : Int)) s1) 9 = iI (p : Int) := fI_self
    have hx2 := hx.mv F2
    refine tX5_next_2 ⟨fun _ => ?_, fun w => absurd rfl w⟩
    rw [e3]
    generalize mput 9 (iI (p : Int)) s1 = s2 at F2 o2 v6 v9 hx2
    refine m_byte (by omega) hx2 (by omega) (fun hp hb => ⟨fun w => ?_, fun _ => ?_⟩) (fun ho => ⟨fun _ => ?_, fun w => absurd rfl w⟩)
    · rw [iI_eq (by omega) (by omega) (by omega) (by omega)] at w; omega
    · rw [if_neg (by omega)] at eG
      have F3 : mrf st (mput 11 (iI (-1)) s2) := F2.tr (mrf.put (by omega))
      have o3 : ∀ j, j ≠ 6 → j ≠ 9 → j ≠ 11 → fI (mput 11 (iI (-1)) s2) j = fI st j := fun j w1 w2 w3 => (fI_put w3).trans (o2 j w1 w2)
      have u6 : fI (mput 11 (iI (-1)) s2) 6 = iI (p : Int) := (fI_put (by omega)).trans v6
      have u9 : fI (mput 11 (iI (-1)) s2) 9 = iI (p : Int) := (fI_put (by omega)).trans v9
      have u11 : fI (mput 11 (iI (-1)) s2) 11 = iI (-1) := fI_self
      have hx3 := hx.mv F3
      generalize mput 11 (iI (-1)) s2 = s3 at F3 o3 u6 u9 u11 hx3
      refine m_letter (b := (tbyte t p : Int)) (by omega) (by omega) ?_
      have e0 : (decide ((0 : Int) ≤ (tbyte t p : Int)) && isLet ((tbyte t p : Int)).toNat) = isLet (tbyte t p) := by
        rw [decide_eq_true (by omega), Int.toNat_natCast]; rfl
      rw [e0]
      cases hL : isLet (tbyte t p) with
      | false =>
        rw [hL, if_neg (by decide)] at eG
        refine ⟨fun _ => ?_, fun w => absurd rfl w⟩
        refine m_sign (by omega) hx3 hp rfl hb u6 (fun s4 tk sg b f1 f2 f3 f4 f5 f6 f7 f8 f9 => ok s4 (F3.tr f1) ?_ ?_)
        · rw [eG]
          refine ⟨by rw [f2 9 (by omega) (by omega) (by omega)]; exact u9, e2, b, f5, f9, ?_⟩
          have g11 : fI s4 11 = iI (-1) := by rw [f2 11 (by omega) (by omega) (by omega)]; exact u11
          cases hb2 : ((tbyte t p == 45 && tbyte t (p + 1) == 62) || [92, 33, 58, 46, 59, 61, 40, 41].contains (tbyte t p)) with
          | true =>
            rw [hb2, if_pos rfl] at f6
            refine Or.inr (Or.inr (Or.inl ⟨rfl, by rw [f3, f6]; rfl, by rw [f4, f7], g11, ?_, f8⟩))
            show (if _ then 256 else if _ then 257 else tbyte t p) ≤ 257
            split
            · omega
            · split <;> omega
          | false =>
            rw [hb2, if_neg (by decide)] at f6
            exact Or.inr (Or.inr (Or.inr (Or.inr (Or.inl ⟨rfl, by rw [f3, f6]; rfl, g11⟩))))
        · have k72 : fI s4 72 = fI st 72 := by rw [f2 72 (by omega) (by omega) (by omega)]; exact o3 72 (by omega) (by omega) (by omega)
          have k73 : fI s4 73 = fI st 73 := by rw [f2 73 (by omega) (by omega) (by omega)]; exact o3 73 (by omega) (by omega) (by omega)
          refine ⟨fun _ => ⟨k72, k73⟩, fun z => ⟨fun q => ?_, fun _ => k72.trans z⟩⟩
          rw [eG] at q
          have q' : (if _ then 2 else 4) = 3 := q
          split at q' <;> omega
      | true =>
        rw [hL, if_pos rfl] at eG
        refine ⟨fun w => absurd w (by decide), fun _ => ?_⟩
        refine m_n193 (by omega) t.2 p s3 hx3 (by omega) e2 u6 (fun s4 e f1 f2 f3 f4 f5 f6 => ?_)
        rw [f1] at eG
        have F5 : mrf st (mput 10 (iI (e : Int)) (mput 7 (iI 1) s4)) := ((F3.tr f5).tr (mrf.put (by omega))).tr (mrf.put (by omega))
        have o5 : ∀ j, j ≠ 6 → j ≠ 7 → j ≠ 9 → j ≠ 10 → j ≠ 11 → fI (mput 10 (iI (e : Int)) (mput 7 (iI 1) s4)) j = fI st j := fun j w1 w2 w3 w4 w5 => by rw [fI_put w4, fI_put w2, f6 j w1]; exact o3 j w1 w3 w5
        have q6 : fI (mput 10 (iI (e : Int)) (mput 7 (iI 1) s4)) 6 = iI (e : Int) := by rw [fI_put (by omega), fI_put (by omega)]; exact f4
        have q7 : fI (mput 10 (iI (e : Int)) (mput 7 (iI 1) s4)) 7 = iI 1 := by rw [fI_put (by omega), fI_self]
        have q9 : fI (mput 10 (iI (e : Int)) (mput 7 (iI 1) s4)) 9 = iI (p : Int) := by rw [fI_put (by omega), fI_put (by omega), f6 9 (by omega)]; exact u9
        have q10 : fI (mput 10 (iI (e : Int)) (mput 7 (iI 1) s4)) 10 = iI (e : Int) := fI_self
        have q11 : fI (mput 10 (iI (e : Int)) (mput 7 (iI 1) s4)) 11 = iI (-1) := by rw [fI_put (by omega), fI_put (by omega), f6 11 (by omega)]; exact u11
        have hx5 := hx.mv F5
        generalize mput 10 (iI (e : Int)) (mput 7 (iI 1) s4) = s5 at F5 o5 q6 q7 q9 q10 q11 hx5
        refine m_n235 (st := s5) (p := p) (e := e) (t := t) hW (by omega) f2 f3 (fun s6 g1 g2 g3 g4 g5 => ok s6 (F5.tr g1) ?_ ?_) 9 0 s5 rfl hx5 mrf.rf (fun _ _ => rfl) q9 q10 q11
        · rw [eG]
          refine ⟨by rw [g2 9 (by omega) (by omega) (by omega)]; exact q9, e2, e, by rw [g2 6 (by omega) (by omega) (by omega)]; exact q6, f3, ?_⟩
          have g7 : fI s6 7 = iI 1 := by rw [g2 7 (by omega) (by omega) (by omega)]; exact q7
          have hln := lwd_le ((List.range (e - p)).map (fun i => tbyte t (p + i))) 9
          by_cases h12 : 12 < e - p
          · rw [if_pos h12]
            refine Or.inr (Or.inr (Or.inr (Or.inl ⟨rfl, g7, ?_⟩)))
            rw [g3]
            have : lwd ((List.range (e - p)).map (fun i => tbyte t (p + i))) 9 = -1 := by
              apply Classical.byContradiction
              intro q
              obtain ⟨k, hk⟩ : ∃ k : Nat, lwd ((List.range (e - p)).map (fun i => tbyte t (p + i))) 9 = (k : Int) := ⟨(lwd ((List.range (e - p)).map (fun i => tbyte t (p + i))) 9).toNat, by omega⟩
              obtain ⟨a1, a2⟩ := lwd_some (Nat.le_refl _) hk
              have hall : ∀ w ∈ kept, w.length ≤ 12 := by decide
              have := hall _ (List.mem_of_getElem? a2)
              rw [List.length_map, List.length_range] at this
              omega
            rw [this]
          · rw [if_neg h12]
            have eN : tname t p = (List.range (e - p)).map (fun i => tbyte t (p + i)) := by
              unfold tname
              rw [f1, show min 12 (e - p) = e - p by omega]
            cases hk : kept.contains (tname t p) with
            | true =>
              have hk' : lwd ((List.range (e - p)).map (fun i => tbyte t (p + i))) 9 ≠ -1 := lwd_cont.mp (by rw [← eN]; exact hk)
              obtain ⟨k, hk2⟩ : ∃ k : Nat, lwd ((List.range (e - p)).map (fun i => tbyte t (p + i))) 9 = (k : Int) := ⟨(lwd ((List.range (e - p)).map (fun i => tbyte t (p + i))) 9).toNat, by omega⟩
              obtain ⟨a1, a2⟩ := lwd_some (Nat.le_refl _) hk2
              exact Or.inr (Or.inl ⟨rfl, g7, ⟨k, a1, by rw [g3, hk2], by rw [a2]; show _ = some (tname t p); rw [eN]⟩, rfl⟩)
            | false =>
              have hk' : lwd ((List.range (e - p)).map (fun i => tbyte t (p + i))) 9 = -1 := by
                apply Classical.byContradiction
                intro q
                rw [eN, lwd_cont.mpr q] at hk
                cases hk
              refine Or.inl ⟨rfl, g7, by rw [g3, hk'], ?_, rfl⟩
              rw [g2 10 (by omega) (by omega) (by omega), q10]
              show iI (e : Int) = iI ((p + (tname t p).length : Nat) : Int)
              rw [eN, List.length_map, List.length_range, show p + (e - p) = e by omega]
        · have k72 : fI s5 72 = fI st 72 := o5 72 (by omega) (by omega) (by omega) (by omega) (by omega)
          have k73 : fI s5 73 = fI st 73 := o5 73 (by omega) (by omega) (by omega) (by omega) (by omega)
          refine ⟨fun z => ?_, fun z => ⟨fun q => ?_, fun q => ?_⟩⟩
          · obtain ⟨y1, y2⟩ := g4 (Or.inr (by rw [k72]; exact z))
            exact ⟨y1.trans k72, y2.trans k73⟩
          · rw [eG] at q ⊢
            have q' : (if 12 < e - p then 3 else if kept.contains (tname t p) then 1 else 0) = 3 := q
            have h12 : 12 < e - p := by
              apply Classical.byContradiction
              intro n
              rw [if_neg n] at q'
              split at q' <;> omega
            exact g5 h12 (k72.trans z)
          · rw [eG] at q
            have q' : (if 12 < e - p then 3 else if kept.contains (tname t p) then 1 else 0) ≠ 3 := q
            have h12 : e - p ≤ 12 := by
              apply Classical.byContradiction
              intro n
              exact q' (if_pos (by omega))
            exact (g4 (Or.inl h12)).1.trans (k72.trans z)
    · rw [if_pos ho] at eG
      have F3 : mrf st (mput 7 (iI 0) (mput 11 (iI (-1)) s2)) := (F2.tr (mrf.put (by omega))).tr (mrf.put (by omega))
      have k72 : fI (mput 7 (iI 0) (mput 11 (iI (-1)) s2)) 72 = fI st 72 := by rw [fI_put (by omega), fI_put (by omega)]; exact o2 72 (by omega) (by omega)
      have k73 : fI (mput 7 (iI 0) (mput 11 (iI (-1)) s2)) 73 = fI st 73 := by rw [fI_put (by omega), fI_put (by omega)]; exact o2 73 (by omega) (by omega)
      refine ok _ F3 ?_ ⟨fun _ => ⟨k72, k73⟩, fun z => ⟨fun q => (by rw [eG] at q; cases q), fun _ => k72.trans z⟩⟩
      rw [eG]
      exact ⟨by rw [fI_put (by omega), fI_put (by omega)]; exact v9, e2, p, by rw [fI_put (by omega), fI_put (by omega)]; exact v6, e2, Or.inr (Or.inr (Or.inr (Or.inr (Or.inr ⟨rfl, fI_self, by rw [fI_put (by omega), fI_self]⟩))))⟩
  · -- an open one
    have eG : sGo t a = (4, p, 0, p) := by
      unfold sGo
      rw [e1]
      rfl
    have F3 : mrf st (mput 11 (iI (-1)) (mput 7 (iI 3) (mput 9 (iI (p : Int)) s1))) := ((e5.tr (mrf.put (by omega))).tr (mrf.put (by omega))).tr (mrf.put (by omega))
    have k72 : fI (mput 11 (iI (-1)) (mput 7 (iI 3) (mput 9 (iI (p : Int)) s1))) 72 = fI st 72 := by rw [fI_put (by omega), fI_put (by omega), fI_put (by omega)]; exact e6 72 (by omega)
    have k73 : fI (mput 11 (iI (-1)) (mput 7 (iI 3) (mput 9 (iI (p : Int)) s1))) 73 = fI st 73 := by rw [fI_put (by omega), fI_put (by omega), fI_put (by omega)]; exact e6 73 (by omega)
    refine ok _ F3 ?_ ⟨fun _ => ⟨k72, k73⟩, fun z => ⟨fun q => (by rw [eG] at q; cases q), fun _ => k72.trans z⟩⟩
    rw [eG]
    exact ⟨by rw [fI_put (by omega), fI_put (by omega), fI_self], e2, b, by rw [fI_put (by omega), fI_put (by omega), fI_put (by omega)]; exact e4, e3, Or.inr (Or.inr (Or.inr (Or.inr (Or.inl ⟨rfl, by rw [fI_put (by omega), fI_self], fI_self⟩))))⟩
end MRN
