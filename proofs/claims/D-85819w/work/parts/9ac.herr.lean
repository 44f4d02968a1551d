/-! THE HOUSE (2): kinds of faults: the machine's have no place -/
def eOK (e : Nat × Int) : Prop := ((12 ≤ e.1 ∧ e.1 < 100) ∧ e.2 = -1) ∨ (e.1 < 12 ∧ 0 ≤ e.2)
def eR {α : Type} (r : JR α) : Prop := ∀ e, r.2 = .error e → eOK e
def eS {α : Type} (r : SR α) : Prop := ∀ e, r.2 = .error e → 12 ≤ e ∧ e < 100
theorem eS.ok {α : Type} {K : KS} {a : α} : eS ((K, .ok a) : SR α) := fun e h => by cases h
theorem eS.er {α : Type} {K : KS} {e : Nat} (he : 12 ≤ e ∧ e < 100) : eS ((K, .error e) : SR α) := fun e' h => by cases h; exact he
theorem eS.bind {α β : Type} {r : SR α} {f : α → KS → SR β} (h : eS r) (hf : ∀ a K, eS (f a K)) : eS (sBind r f) := by
  obtain ⟨K, r⟩ := r
  cases r with
  | ok a => exact hf a K
  | error e => exact fun e' q => by cases q; exact h e rfl
theorem eR.ok {α : Type} {K : KS} {a : α} : eR ((K, .ok a) : JR α) := fun e h => by cases h
theorem eR.er {α : Type} {K : KS} {e : Nat × Int} (he : eOK e) : eR ((K, .error e) : JR α) := fun e' h => by cases h; exact he
theorem eR.bind {α β : Type} {r : JR α} {f : α → KS → JR β} (h : eR r) (hf : ∀ a K, r = (K, .ok a) → eR (f a K)) : eR (jBind r f) := by
  obtain ⟨K, r⟩ := r
  cases r with
  | ok a => exact hf a K rfl
  | error e => exact fun e' q => by cases q; exact h e rfl
theorem eS.j {α : Type} {r : SR α} (h : eS r) : eR (jOf r) := by
  obtain ⟨K, r⟩ := r
  cases r with
  | ok a => exact eR.ok
  | error e => exact eR.er (Or.inl ⟨h e rfl, rfl⟩)
section HE
variable {X : SX} {J : JX}
theorem eS_spend {c : Nat} {K : KS} : eS (sSpend X c K) := by
  unfold sSpend
  split
  · exact eS.er (by omega)
  · split
    · exact eS.er (by omega)
    · exact eS.ok
theorem eS_spendN {c : Nat} : ∀ (n : Nat) (K : KS), eS (sSpendN X c n K) := by
  intro n
  induction n with
  | zero => intro K; exact eS.ok
  | succ n ih => intro K; exact eS_spend.bind (fun _ K => ih K)
theorem eS_head : ∀ (n : Nat) (t r : V) (as : List V) (K : KS), eS (sHead X n t r as K) := by
  intro n
  induction n with
  | zero => intro t r as K; exact eS.ok
  | succ n ih =>
    intro t r as K
    unfold sHead
    split
    · split
      · exact eS.ok
      · exact eS_spend.bind (fun _ K => ih _ _ _ K)
      · exact eS.ok
    · split
      · exact eS.ok
      · exact eS_spend.bind (fun _ K => ih _ _ _ K)
    · split
      · exact eS.ok
      · exact eS_spend.bind (fun _ K => ih _ _ _ K)
    · exact eS_spend.bind (fun _ K => ih _ _ _ K)
    · exact (eS_spendN _ _).bind (fun _ K => ih _ _ _ K)
    · exact eS.ok
theorem eS_hd {v : V} {K : KS} : eS (sHd X v K) := by
  unfold sHd
  split
  · exact eS_head _ _ _ _ _
  · exact eS.ok
theorem eS_all {f : V → V → KS → SR Bool} (hf : ∀ x y K, eS (f x y K)) : ∀ (xs ys : List V) (K : KS), eS (sAll f xs ys K) := by
  intro xs
  induction xs with
  | nil => intro ys K; cases ys <;> exact eS.ok
  | cons x xs ih =>
    intro ys K
    cases ys with
    | nil => exact eS.ok
    | cons y ys => exact (hf x y K).bind (fun b K => by cases b; exact eS.ok; exact ih ys K)
theorem eS_same : ∀ (d : Nat) (a b : V) (K : KS), eS (sSame X d a b K) := by
  intro d
  induction d with
  | zero => intro a b K; exact eS.er (by omega)
  | succ d ih =>
    intro a b K
    unfold sSame
    refine eS_spend.bind (fun _ K => eS_hd.bind (fun x K => eS_hd.bind (fun y K => ?_)))
    split
    · split
      · refine (ih _ _ _).bind (fun r K => ?_)
        split
        · exact ih _ _ _
        · exact eS.ok
      · exact eS.ok
    · split
      · exact eS_all (fun x y K => ih x y K) _ _ _
      · exact eS.ok
    · exact eS.ok
theorem eS_map {f : V → KS → SR V} (hf : ∀ x K, eS (f x K)) : ∀ (xs : List V) (K : KS), eS (sMap f xs K) := by
  intro xs
  induction xs with
  | nil => intro K; exact eS.ok
  | cons x xs ih => intro K; exact (hf x K).bind (fun t K => (ih K).bind (fun ts K => eS.ok))
theorem eS_norm : ∀ (d dep : Nat) (c : V) (K : KS), eS (sNorm X d dep c K) := by
  intro d
  induction d with
  | zero => intro dep c K; exact eS.er (by omega)
  | succ d ih =>
    intro dep c K
    unfold sNorm
    refine eS_spend.bind (fun _ K => eS_hd.bind (fun x K => ?_))
    split
    · exact (ih _ _ _).bind (fun t K => (ih _ _ _).bind (fun u K => eS.ok))
    · dsimp only
      split
      · exact eS.ok
      · exact (eS_map (fun c K => ih dep c K) _ _).bind (fun ps K => eS.ok)
theorem eS_each {f : V → KS → SR Unit} (hf : ∀ x K, eS (f x K)) : ∀ (xs : List V) (K : KS), eS (sEach f xs K) := by
  intro xs
  induction xs with
  | nil => intro K; exact eS.ok
  | cons x xs ih => intro K; exact (hf x _).bind (fun t K => ih K)
theorem eS_tell : ∀ (d : Nat) (c : V) (n : Nat) (p b : Bool) (K : KS), eS (sTell X d c n p b K) := by
  intro d
  induction d with
  | zero => intro c n p b K; exact eS.er (by omega)
  | succ d ih =>
    intro c n p b K
    unfold sTell
    refine eS_spend.bind (fun _ K => eS_hd.bind (fun x K => ?_))
    split
    · exact (ih _ _ _ _ _).bind (fun t K => (ih _ _ _ _ _).bind (fun u K => eS.ok))
    · exact (eS_each (fun c K => ih c n true true K) _ _).bind (fun ps K => eS.ok)
theorem sJudge_tag {n : Nat} {t : V} {sc : SC} {K K' : KS} {a : JA} (h : sJudge X J n t sc K = (K', .ok a)) : 0 ≤ jFrom t := by
  cases n with
  | zero => rw [sJudge] at h; cases h
  | succ n =>
    cases t with
    | tag f x => exact Int.natCast_nonneg f
    | _ => rw [sJudge] at h <;> first | cases h | (intros; contradiction)
theorem eR_ts {fr : Int} {r : JR JA} (h : eR r) (hf : ∀ K a, r = (K, .ok a) → 0 ≤ fr) : eR (jTypeSort fr r) := by
  refine h.bind (fun a K e => ?_)
  split
  · exact eR.ok
  · exact eR.er (Or.inr ⟨by show 8 < 12; omega, hf _ _ e⟩)
theorem eR_parts {at_ : Nat} {sc : SC} {jd : V → KS → JR JA} (hj : ∀ p K, eR (jd p K) ∧ ∀ K' a, jd p K = (K', .ok a) → 0 ≤ jFrom p) : ∀ (ps : V) (a : JA) (K : KS), eR (jParts X (at_ : Int) sc jd ps a K) := by
  intro ps
  induction ps with
  | append p ps _ ih =>
    intro a K
    rw [jParts]
    split
    · refine (hj p K).1.bind (fun c K1 e => ((eS_same _ _ _ _).j).bind (fun same K2 _ => ?_))
      split
      · exact (eS_norm _ _ _ _).j.bind (fun t K _ => (ih _ _).bind (fun z K _ => eR.ok))
      · exact eR.er (Or.inr ⟨by show 11 < 12; omega, (hj p K).2 _ _ e⟩)
    · exact eR.er (Or.inr ⟨by show 10 < 12; omega, Int.natCast_nonneg _⟩)
  | _ => intro a K; rw [jParts] <;> first | exact eR.ok | (intros; contradiction)
theorem eR_judge : ∀ (n : Nat) (t : V) (sc : SC) (K : KS), eR (sJudge X J n t sc K) := by
  intro n
  induction n with
  | zero => intro t sc K; rw [sJudge]; exact eR.er (Or.inl ⟨by show 12 ≤ 99 ∧ 99 < 100; omega, rfl⟩)
  | succ n ih =>
    intro t sc K
    have e99 : ∀ {α : Type} {K : KS}, eR ((K, .error (99, -1)) : JR α) := fun {α K} => eR.er (Or.inl ⟨by show 12 ≤ 99 ∧ 99 < 100; omega, rfl⟩)
    have nn : ∀ (a : Nat), (0 : Int) ≤ (a : Int) := fun a => Int.natCast_nonneg a
    generalize hm : n + 1 = m
    unfold sJudge
    split <;> first | exact e99 | (obtain rfl := Nat.succ.inj hm)
    · split
      · exact eR.ok
      · exact e99
    · split
      · exact eR.ok
      · split
        · exact eR.er (Or.inr ⟨by show 3 < 12; omega, nn _⟩)
        · split
          · exact eR.er (Or.inr ⟨by show 7 < 12; omega, nn _⟩)
          · exact eR.ok
    · refine (eR_ts (ih _ _ _) (fun K a e => sJudge_tag e)).bind (fun a K _ => (eS_norm _ _ _ _).j.bind (fun t K _ => (ih _ _ _).bind (fun c K _ => ?_)))
      split
      · exact eR.er (Or.inr ⟨by show 7 < 12; omega, nn _⟩)
      · dsimp only
        split
        · exact eR.er (Or.inr ⟨by show 9 < 12; omega, nn _⟩)
        · exact eR.ok
    · refine (eR_ts (ih _ _ _) (fun K a e => sJudge_tag e)).bind (fun a K _ => (eS_norm _ _ _ _).j.bind (fun t K _ => (eR_ts (ih _ _ _) (fun K a e => sJudge_tag e)).bind (fun c K _ => ?_)))
      dsimp only
      split
      · exact eR.er (Or.inr ⟨by show 9 < 12; omega, nn _⟩)
      · exact eR.ok
    · exact (ih _ _ _).bind (fun a K _ => (ih _ _ _).bind (fun c K _ => eR.ok))
    · exact (ih _ _ _).bind (fun a K _ => (eR_parts (fun p K => ⟨ih _ _ _, fun K' a e => sJudge_tag e⟩) _ _ _).bind (fun z K _ => eR.ok))
theorem eR_norm {v : V} {K : KS} : eR (hNorm X J v K) := (eR_ts (eR_judge _ _ _ _) (fun K a e => sJudge_tag e)).bind (fun a K _ => (eS_norm _ _ _ _).j.bind (fun n K _ => eR.ok))
theorem eR_fits {v n : V} {K : KS} : eR (hFits X J v n K) := (eR_judge _ _ _ _).bind (fun a K1 e => (eS_same _ _ _ _).j.bind (fun b K _ => by
  split
  · exact eR.ok
  · exact eR.er (Or.inr ⟨by show 11 < 12; omega, sJudge_tag e⟩)))
theorem eR_ask {kd : Nat} {ty tm : Option V} {K : KS} : eR (hAsk X J kd ty tm K) := by
  have e99 : ∀ {α : Type} {K : KS}, eR ((K, .error (99, -1)) : JR α) := fun {α K} => eR.er (Or.inl ⟨by show 12 ≤ 99 ∧ 99 < 100; omega, rfl⟩)
  unfold hAsk
  split
  · exact e99
  · split
    · split
      · exact (eR_judge _ _ _ _).bind (fun a K _ => (eS_tell _ _ _ _ _ _).j.bind (fun _ K _ => eR.ok))
      · exact eR_norm.bind (fun n K _ => eR_fits.bind (fun _ K _ => eR.ok))
    · split
      · exact (eR_judge _ _ _ _).bind (fun a K _ => (eS_tell _ _ _ _ _ _).j.bind (fun _ K _ => eR.ok))
      · split
        · exact (eR_judge _ _ _ _).bind (fun a K _ => by unfold hK6; exact eS_hd.j.bind (fun _ K _ => eR.ok))
        · split
          · exact e99
          · exact (eR_judge _ _ _ _).bind (fun a K _ => (eR_judge _ _ _ _).bind (fun b K _ => (eS_same _ _ _ _).j.bind (fun _ K _ => eR.ok)))
theorem eR_tells {t : TX} {cx : List CN} {x : Nat} {ty tm : Option V} {K : KS} : eR (hTells t X J cx x ty tm K) := by
  unfold hTells
  split
  · exact eR.er (Or.inr ⟨by show 4 < 12; omega, Int.natCast_nonneg _⟩)
  · split
    · exact eR.er (Or.inr ⟨by show 5 < 12; omega, Int.natCast_nonneg _⟩)
    · refine eR.bind ?_ (fun c K _ => eR.ok)
      unfold hTell
      split
      · exact eR_norm.bind (fun n K _ => eR_fits.bind (fun v K _ => eR.ok))
      · exact eR_norm.bind (fun n K _ => eR.ok)
      · exact (eR_judge _ _ _ _).bind (fun a K _ => eR.ok)
      · exact eR.er (Or.inl ⟨by show 12 ≤ 99 ∧ 99 < 100; omega, rfl⟩)
theorem hTab_0 {t : TX} {tb : HT} {cx : List CN} {p x : Nat} {o : Option V × Option V} (h0 : ¬ cx.length ≠ 0) : hTab t tb cx (0, p, [x], o) = match hSo tb (tname t x) with
    | some _ => .error (4, (x : Int))
    | none => if tb.1.length = 8 then .error (5, (x : Int)) else .ok (tb.1 ++ [tname t x], tb.2) := by
  unfold hTab; rw [if_neg h0]; try rfl
theorem hTab_1 {t : TX} {tb : HT} {cx : List CN} {p x y : Nat} {o : Option V × Option V} (h0 : ¬ cx.length ≠ 0) : hTab t tb cx (1, p, [x, y], o) = match hSo tb (tname t x) with
    | none => .error (3, (x : Int))
    | some a => match hSo tb (tname t y) with
      | none => .error (3, (y : Int))
      | some b => if tb.2.1 a = -1 then .ok (tb.1, (fun k => if k = a then (b : Int) else tb.2.1 k), tb.2.2) else .error (4, (x : Int)) := by
  unfold hTab; rw [if_neg h0]; try rfl
theorem hTab_2 {t : TX} {tb : HT} {cx : List CN} {p x y z : Nat} {o : Option V × Option V} (h0 : ¬ cx.length ≠ 0) : hTab t tb cx (2, p, [x, y, z], o) = match hSo tb (tname t x) with
    | none => .error (3, (x : Int))
    | some a => match hSo tb (tname t y) with
      | none => .error (3, (y : Int))
      | some b => match hSo tb (tname t z) with
        | none => .error (3, (z : Int))
        | some c => if tb.2.2 a b = -1 then .ok (tb.1, tb.2.1, fun i j => if i = a ∧ j = b then (c : Int) else tb.2.2 i j) else .error (4, (x : Int)) := by
  unfold hTab; rw [if_neg h0]; try rfl
theorem eR_do {lim : Nat} {t : TX} {tb : HT} {cx : List CN} {s : ST} {K : KS} (hg : stGd s) : eR (sDo lim t tb cx s K) := by
  have nn : ∀ (a : Nat), (0 : Int) ≤ (a : Int) := fun a => Int.natCast_nonneg a
  unfold sDo
  split
  · have hT : ∀ e, hTab t tb cx s = .error e → eOK e := by
      obtain ⟨s1, s2, s3, s4⟩ := s
      by_cases h0 : cx.length ≠ 0
      · intro e h; unfold hTab at h; rw [if_pos h0] at h; cases h; exact Or.inr ⟨by show 6 < 12; omega, nn _⟩
      · have hs : (s1 = 0 ∧ ∃ x, s3 = [x]) ∨ (s1 = 1 ∧ ∃ x y, s3 = [x, y]) ∨ (s1 = 2 ∧ ∃ x y z, s3 = [x, y, z]) := by
          rename_i h2
          have h2' : s1 ≤ 2 := h2
          rcases hg.1 with q | q | q | q | q | q
          · exact Or.inl q
          · exact Or.inr (Or.inl q)
          · exact Or.inr (Or.inr q)
          · exfalso; have : s1 = 3 := q.1; omega
          · exfalso; have : s1 = 4 ∨ s1 = 5 ∨ s1 = 6 := q.1; omega
          · exfalso; have : s1 = 7 := q.1; omega
        have e3 : ∀ (p : Nat), eOK (3, (p : Int)) := fun p => Or.inr ⟨by show 3 < 12; omega, nn _⟩
        have e4 : ∀ (p : Nat), eOK (4, (p : Int)) := fun p => Or.inr ⟨by show 4 < 12; omega, nn _⟩
        have e5 : ∀ (p : Nat), eOK (5, (p : Int)) := fun p => Or.inr ⟨by show 5 < 12; omega, nn _⟩
        rcases hs with ⟨rfl, x, rfl⟩ | ⟨rfl, x, y, rfl⟩ | ⟨rfl, x, y, z, rfl⟩
        · intro e h
          rw [hTab_0 h0] at h
          cases h1 : hSo tb (tname t x) with
          | some a => rw [h1] at h; cases h; exact e4 _
          | none =>
            rw [h1] at h
            dsimp only at h
            split at h
            · cases h; exact e5 _
            · cases h
        · intro e h
          rw [hTab_1 h0] at h
          cases h1 : hSo tb (tname t x) with
          | none => rw [h1] at h; cases h; exact e3 _
          | some a =>
            rw [h1] at h
            dsimp only at h
            cases h2 : hSo tb (tname t y) with
            | none => rw [h2] at h; cases h; exact e3 _
            | some b =>
              rw [h2] at h
              dsimp only at h
              split at h
              · cases h
              · cases h; exact e4 _
        · intro e h
          rw [hTab_2 h0] at h
          cases h1 : hSo tb (tname t x) with
          | none => rw [h1] at h; cases h; exact e3 _
          | some a =>
            rw [h1] at h
            dsimp only at h
            cases h2 : hSo tb (tname t y) with
            | none => rw [h2] at h; cases h; exact e3 _
            | some b =>
              rw [h2] at h
              dsimp only at h
              cases h3 : hSo tb (tname t z) with
              | none => rw [h3] at h; cases h; exact e3 _
              | some c =>
                rw [h3] at h
                dsimp only at h
                split at h
                · cases h
                · cases h; exact e4 _
    cases h : hTab t tb cx s with
    | error e => exact eR.er (hT e h)
    | ok r => exact eR.ok
  · split
    · exact eR_tells.bind (fun a K _ => eR.ok)
    · exact eR_ask.bind (fun a K _ => eR.ok)
end HE
